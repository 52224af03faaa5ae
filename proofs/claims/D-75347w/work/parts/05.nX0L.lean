/-! KrylovLaboratoryLaw -/
set_option maxRecDepth 100000
def RX0 : String := "KrylovLaboratoryLaw"
abbrev cX0_load : ByteArray := method_3_code
def yX0_load : MethodName := ⟨RX0, "load", "(LKrylovLaboratory;I[J)I"⟩
def dkwX0_load_0 : List UInt8 := [44, 3, 42, 27, 182, 0, 7, 133, 80, 167, 0, 6, 78, 4, 172, 3, 172]
abbrev dktX0_load_0 : List UInt8 := dkwX0_load_0 ++ []
theorem dksX0_load_0 : cX0_load.data.toList.drop 0 = dktX0_load_0 := sorry
theorem dX0_load_0 : decode cX0_load 0 = .ok (.aload_n 2, 1) := sorry
theorem dX0_load_1 : decode cX0_load 1 = .ok (.iconst 0, 1) := sorry
theorem dX0_load_2 : decode cX0_load 2 = .ok (.aload_n 0, 1) := sorry
theorem dX0_load_3 : decode cX0_load 3 = .ok (.iload_n 1, 1) := sorry
theorem dX0_load_4 : decode cX0_load 4 = .ok (.invokevirtual 7, 3) := sorry
theorem dX0_load_7 : decode cX0_load 7 = .ok (.i2l, 1) := sorry
theorem dX0_load_8 : decode cX0_load 8 = .ok (.lastore, 1) := sorry
theorem dX0_load_9 : decode cX0_load 9 = .ok (.goto 6, 3) := sorry
theorem dX0_load_12 : decode cX0_load 12 = .ok (.astore_n 3, 1) := sorry
theorem dX0_load_13 : decode cX0_load 13 = .ok (.iconst 1, 1) := sorry
theorem dX0_load_14 : decode cX0_load 14 = .ok (.ireturn, 1) := sorry
theorem dX0_load_15 : decode cX0_load 15 = .ok (.iconst 0, 1) := sorry
theorem dX0_load_16 : decode cX0_load 16 = .ok (.ireturn, 1) := sorry
abbrev cX0_entry : ByteArray := method_4_code
def yX0_entry : MethodName := ⟨RX0, "entry", "(LKrylovLaboratory;II[J)I"⟩
def dkwX0_entry_0 : List UInt8 := [45, 3, 42, 27, 28, 182, 0, 15, 133, 80, 167, 0, 7, 58, 4, 4, 172, 3, 172]
abbrev dktX0_entry_0 : List UInt8 := dkwX0_entry_0 ++ []
theorem dksX0_entry_0 : cX0_entry.data.toList.drop 0 = dktX0_entry_0 := sorry
theorem dX0_entry_0 : decode cX0_entry 0 = .ok (.aload_n 3, 1) := sorry
theorem dX0_entry_1 : decode cX0_entry 1 = .ok (.iconst 0, 1) := sorry
theorem dX0_entry_2 : decode cX0_entry 2 = .ok (.aload_n 0, 1) := sorry
theorem dX0_entry_3 : decode cX0_entry 3 = .ok (.iload_n 1, 1) := sorry
theorem dX0_entry_4 : decode cX0_entry 4 = .ok (.iload_n 2, 1) := sorry
theorem dX0_entry_5 : decode cX0_entry 5 = .ok (.invokevirtual 15, 3) := sorry
theorem dX0_entry_8 : decode cX0_entry 8 = .ok (.i2l, 1) := sorry
theorem dX0_entry_9 : decode cX0_entry 9 = .ok (.lastore, 1) := sorry
theorem dX0_entry_10 : decode cX0_entry 10 = .ok (.goto 7, 3) := sorry
theorem dX0_entry_13 : decode cX0_entry 13 = .ok (.astore 4, 2) := sorry
theorem dX0_entry_15 : decode cX0_entry 15 = .ok (.iconst 1, 1) := sorry
theorem dX0_entry_16 : decode cX0_entry 16 = .ok (.ireturn, 1) := sorry
theorem dX0_entry_17 : decode cX0_entry 17 = .ok (.iconst 0, 1) := sorry
theorem dX0_entry_18 : decode cX0_entry 18 = .ok (.ireturn, 1) := sorry
abbrev cX0_setting : ByteArray := method_5_code
def yX0_setting : MethodName := ⟨RX0, "setting", "(LKrylovLaboratory;I[J)I"⟩
def dkwX0_setting_0 : List UInt8 := [44, 3, 42, 27, 182, 0, 21, 133, 80, 167, 0, 6, 78, 4, 172, 3, 172]
abbrev dktX0_setting_0 : List UInt8 := dkwX0_setting_0 ++ []
theorem dksX0_setting_0 : cX0_setting.data.toList.drop 0 = dktX0_setting_0 := sorry
theorem dX0_setting_0 : decode cX0_setting 0 = .ok (.aload_n 2, 1) := sorry
theorem dX0_setting_1 : decode cX0_setting 1 = .ok (.iconst 0, 1) := sorry
theorem dX0_setting_2 : decode cX0_setting 2 = .ok (.aload_n 0, 1) := sorry
theorem dX0_setting_3 : decode cX0_setting 3 = .ok (.iload_n 1, 1) := sorry
theorem dX0_setting_4 : decode cX0_setting 4 = .ok (.invokevirtual 21, 3) := sorry
theorem dX0_setting_7 : decode cX0_setting 7 = .ok (.i2l, 1) := sorry
theorem dX0_setting_8 : decode cX0_setting 8 = .ok (.lastore, 1) := sorry
theorem dX0_setting_9 : decode cX0_setting 9 = .ok (.goto 6, 3) := sorry
theorem dX0_setting_12 : decode cX0_setting 12 = .ok (.astore_n 3, 1) := sorry
theorem dX0_setting_13 : decode cX0_setting 13 = .ok (.iconst 1, 1) := sorry
theorem dX0_setting_14 : decode cX0_setting 14 = .ok (.ireturn, 1) := sorry
theorem dX0_setting_15 : decode cX0_setting 15 = .ok (.iconst 0, 1) := sorry
theorem dX0_setting_16 : decode cX0_setting 16 = .ok (.ireturn, 1) := sorry
abbrev cX0_basis : ByteArray := method_6_code
def yX0_basis : MethodName := ⟨RX0, "basis", "(LKrylovLaboratory;II[J)I"⟩
def dkwX0_basis_0 : List UInt8 := [45, 3, 42, 27, 28, 182, 0, 24, 133, 80, 167, 0, 7, 58, 4, 4, 172, 3, 172]
abbrev dktX0_basis_0 : List UInt8 := dkwX0_basis_0 ++ []
theorem dksX0_basis_0 : cX0_basis.data.toList.drop 0 = dktX0_basis_0 := sorry
theorem dX0_basis_0 : decode cX0_basis 0 = .ok (.aload_n 3, 1) := sorry
theorem dX0_basis_1 : decode cX0_basis 1 = .ok (.iconst 0, 1) := sorry
theorem dX0_basis_2 : decode cX0_basis 2 = .ok (.aload_n 0, 1) := sorry
theorem dX0_basis_3 : decode cX0_basis 3 = .ok (.iload_n 1, 1) := sorry
theorem dX0_basis_4 : decode cX0_basis 4 = .ok (.iload_n 2, 1) := sorry
theorem dX0_basis_5 : decode cX0_basis 5 = .ok (.invokevirtual 24, 3) := sorry
theorem dX0_basis_8 : decode cX0_basis 8 = .ok (.i2l, 1) := sorry
theorem dX0_basis_9 : decode cX0_basis 9 = .ok (.lastore, 1) := sorry
theorem dX0_basis_10 : decode cX0_basis 10 = .ok (.goto 7, 3) := sorry
theorem dX0_basis_13 : decode cX0_basis 13 = .ok (.astore 4, 2) := sorry
theorem dX0_basis_15 : decode cX0_basis 15 = .ok (.iconst 1, 1) := sorry
theorem dX0_basis_16 : decode cX0_basis 16 = .ok (.ireturn, 1) := sorry
theorem dX0_basis_17 : decode cX0_basis 17 = .ok (.iconst 0, 1) := sorry
theorem dX0_basis_18 : decode cX0_basis 18 = .ok (.ireturn, 1) := sorry
abbrev cX0_alpha : ByteArray := method_7_code
def yX0_alpha : MethodName := ⟨RX0, "alpha", "(LKrylovLaboratory;I[J)I"⟩
def dkwX0_alpha_0 : List UInt8 := [44, 3, 42, 27, 182, 0, 27, 133, 80, 167, 0, 6, 78, 4, 172, 3, 172]
abbrev dktX0_alpha_0 : List UInt8 := dkwX0_alpha_0 ++ []
theorem dksX0_alpha_0 : cX0_alpha.data.toList.drop 0 = dktX0_alpha_0 := sorry
theorem dX0_alpha_0 : decode cX0_alpha 0 = .ok (.aload_n 2, 1) := sorry
theorem dX0_alpha_1 : decode cX0_alpha 1 = .ok (.iconst 0, 1) := sorry
theorem dX0_alpha_2 : decode cX0_alpha 2 = .ok (.aload_n 0, 1) := sorry
theorem dX0_alpha_3 : decode cX0_alpha 3 = .ok (.iload_n 1, 1) := sorry
theorem dX0_alpha_4 : decode cX0_alpha 4 = .ok (.invokevirtual 27, 3) := sorry
theorem dX0_alpha_7 : decode cX0_alpha 7 = .ok (.i2l, 1) := sorry
theorem dX0_alpha_8 : decode cX0_alpha 8 = .ok (.lastore, 1) := sorry
theorem dX0_alpha_9 : decode cX0_alpha 9 = .ok (.goto 6, 3) := sorry
theorem dX0_alpha_12 : decode cX0_alpha 12 = .ok (.astore_n 3, 1) := sorry
theorem dX0_alpha_13 : decode cX0_alpha 13 = .ok (.iconst 1, 1) := sorry
theorem dX0_alpha_14 : decode cX0_alpha 14 = .ok (.ireturn, 1) := sorry
theorem dX0_alpha_15 : decode cX0_alpha 15 = .ok (.iconst 0, 1) := sorry
theorem dX0_alpha_16 : decode cX0_alpha 16 = .ok (.ireturn, 1) := sorry
abbrev cX0_beta : ByteArray := method_8_code
def yX0_beta : MethodName := ⟨RX0, "beta", "(LKrylovLaboratory;I[J)I"⟩
def dkwX0_beta_0 : List UInt8 := [44, 3, 42, 27, 182, 0, 30, 133, 80, 167, 0, 6, 78, 4, 172, 3, 172]
abbrev dktX0_beta_0 : List UInt8 := dkwX0_beta_0 ++ []
theorem dksX0_beta_0 : cX0_beta.data.toList.drop 0 = dktX0_beta_0 := sorry
theorem dX0_beta_0 : decode cX0_beta 0 = .ok (.aload_n 2, 1) := sorry
theorem dX0_beta_1 : decode cX0_beta 1 = .ok (.iconst 0, 1) := sorry
theorem dX0_beta_2 : decode cX0_beta 2 = .ok (.aload_n 0, 1) := sorry
theorem dX0_beta_3 : decode cX0_beta 3 = .ok (.iload_n 1, 1) := sorry
theorem dX0_beta_4 : decode cX0_beta 4 = .ok (.invokevirtual 30, 3) := sorry
theorem dX0_beta_7 : decode cX0_beta 7 = .ok (.i2l, 1) := sorry
theorem dX0_beta_8 : decode cX0_beta 8 = .ok (.lastore, 1) := sorry
theorem dX0_beta_9 : decode cX0_beta 9 = .ok (.goto 6, 3) := sorry
theorem dX0_beta_12 : decode cX0_beta 12 = .ok (.astore_n 3, 1) := sorry
theorem dX0_beta_13 : decode cX0_beta 13 = .ok (.iconst 1, 1) := sorry
theorem dX0_beta_14 : decode cX0_beta 14 = .ok (.ireturn, 1) := sorry
theorem dX0_beta_15 : decode cX0_beta 15 = .ok (.iconst 0, 1) := sorry
theorem dX0_beta_16 : decode cX0_beta 16 = .ok (.ireturn, 1) := sorry
abbrev cX0_estimate : ByteArray := method_9_code
def yX0_estimate : MethodName := ⟨RX0, "estimate", "(LKrylovLaboratory;II[J)I"⟩
def dkwX0_estimate_0 : List UInt8 := [45, 3, 42, 27, 28, 182, 0, 33, 133, 80, 167, 0, 7, 58, 4, 4, 172, 3, 172]
abbrev dktX0_estimate_0 : List UInt8 := dkwX0_estimate_0 ++ []
theorem dksX0_estimate_0 : cX0_estimate.data.toList.drop 0 = dktX0_estimate_0 := sorry
theorem dX0_estimate_0 : decode cX0_estimate 0 = .ok (.aload_n 3, 1) := sorry
theorem dX0_estimate_1 : decode cX0_estimate 1 = .ok (.iconst 0, 1) := sorry
theorem dX0_estimate_2 : decode cX0_estimate 2 = .ok (.aload_n 0, 1) := sorry
theorem dX0_estimate_3 : decode cX0_estimate 3 = .ok (.iload_n 1, 1) := sorry
theorem dX0_estimate_4 : decode cX0_estimate 4 = .ok (.iload_n 2, 1) := sorry
theorem dX0_estimate_5 : decode cX0_estimate 5 = .ok (.invokevirtual 33, 3) := sorry
theorem dX0_estimate_8 : decode cX0_estimate 8 = .ok (.i2l, 1) := sorry
theorem dX0_estimate_9 : decode cX0_estimate 9 = .ok (.lastore, 1) := sorry
theorem dX0_estimate_10 : decode cX0_estimate 10 = .ok (.goto 7, 3) := sorry
theorem dX0_estimate_13 : decode cX0_estimate 13 = .ok (.astore 4, 2) := sorry
theorem dX0_estimate_15 : decode cX0_estimate 15 = .ok (.iconst 1, 1) := sorry
theorem dX0_estimate_16 : decode cX0_estimate 16 = .ok (.ireturn, 1) := sorry
theorem dX0_estimate_17 : decode cX0_estimate 17 = .ok (.iconst 0, 1) := sorry
theorem dX0_estimate_18 : decode cX0_estimate 18 = .ok (.ireturn, 1) := sorry
abbrev cX0_value : ByteArray := method_10_code
def yX0_value : MethodName := ⟨RX0, "value", "(LKrylovLaboratory;I[J)I"⟩
def dkwX0_value_0 : List UInt8 := [44, 3, 42, 27, 182, 0, 36, 133, 80, 167, 0, 6, 78, 4, 172, 3, 172]
abbrev dktX0_value_0 : List UInt8 := dkwX0_value_0 ++ []
theorem dksX0_value_0 : cX0_value.data.toList.drop 0 = dktX0_value_0 := sorry
theorem dX0_value_0 : decode cX0_value 0 = .ok (.aload_n 2, 1) := sorry
theorem dX0_value_1 : decode cX0_value 1 = .ok (.iconst 0, 1) := sorry
theorem dX0_value_2 : decode cX0_value 2 = .ok (.aload_n 0, 1) := sorry
theorem dX0_value_3 : decode cX0_value 3 = .ok (.iload_n 1, 1) := sorry
theorem dX0_value_4 : decode cX0_value 4 = .ok (.invokevirtual 36, 3) := sorry
theorem dX0_value_7 : decode cX0_value 7 = .ok (.i2l, 1) := sorry
theorem dX0_value_8 : decode cX0_value 8 = .ok (.lastore, 1) := sorry
theorem dX0_value_9 : decode cX0_value 9 = .ok (.goto 6, 3) := sorry
theorem dX0_value_12 : decode cX0_value 12 = .ok (.astore_n 3, 1) := sorry
theorem dX0_value_13 : decode cX0_value 13 = .ok (.iconst 1, 1) := sorry
theorem dX0_value_14 : decode cX0_value 14 = .ok (.ireturn, 1) := sorry
theorem dX0_value_15 : decode cX0_value 15 = .ok (.iconst 0, 1) := sorry
theorem dX0_value_16 : decode cX0_value 16 = .ok (.ireturn, 1) := sorry
abbrev cX0_bound : ByteArray := method_11_code
def yX0_bound : MethodName := ⟨RX0, "bound", "(LKrylovLaboratory;I[J)I"⟩
def dkwX0_bound_0 : List UInt8 := [44, 3, 42, 27, 182, 0, 39, 133, 80, 167, 0, 6, 78, 4, 172, 3, 172]
abbrev dktX0_bound_0 : List UInt8 := dkwX0_bound_0 ++ []
theorem dksX0_bound_0 : cX0_bound.data.toList.drop 0 = dktX0_bound_0 := sorry
theorem dX0_bound_0 : decode cX0_bound 0 = .ok (.aload_n 2, 1) := sorry
theorem dX0_bound_1 : decode cX0_bound 1 = .ok (.iconst 0, 1) := sorry
theorem dX0_bound_2 : decode cX0_bound 2 = .ok (.aload_n 0, 1) := sorry
theorem dX0_bound_3 : decode cX0_bound 3 = .ok (.iload_n 1, 1) := sorry
theorem dX0_bound_4 : decode cX0_bound 4 = .ok (.invokevirtual 39, 3) := sorry
theorem dX0_bound_7 : decode cX0_bound 7 = .ok (.i2l, 1) := sorry
theorem dX0_bound_8 : decode cX0_bound 8 = .ok (.lastore, 1) := sorry
theorem dX0_bound_9 : decode cX0_bound 9 = .ok (.goto 6, 3) := sorry
theorem dX0_bound_12 : decode cX0_bound 12 = .ok (.astore_n 3, 1) := sorry
theorem dX0_bound_13 : decode cX0_bound 13 = .ok (.iconst 1, 1) := sorry
theorem dX0_bound_14 : decode cX0_bound 14 = .ok (.ireturn, 1) := sorry
theorem dX0_bound_15 : decode cX0_bound 15 = .ok (.iconst 0, 1) := sorry
theorem dX0_bound_16 : decode cX0_bound 16 = .ok (.ireturn, 1) := sorry
abbrev cX0_ritz : ByteArray := method_12_code
def yX0_ritz : MethodName := ⟨RX0, "ritz", "(LKrylovLaboratory;II[J)I"⟩
def dkwX0_ritz_0 : List UInt8 := [45, 3, 42, 27, 28, 182, 0, 42, 133, 80, 167, 0, 7, 58, 4, 4, 172, 3, 172]
abbrev dktX0_ritz_0 : List UInt8 := dkwX0_ritz_0 ++ []
theorem dksX0_ritz_0 : cX0_ritz.data.toList.drop 0 = dktX0_ritz_0 := sorry
theorem dX0_ritz_0 : decode cX0_ritz 0 = .ok (.aload_n 3, 1) := sorry
theorem dX0_ritz_1 : decode cX0_ritz 1 = .ok (.iconst 0, 1) := sorry
theorem dX0_ritz_2 : decode cX0_ritz 2 = .ok (.aload_n 0, 1) := sorry
theorem dX0_ritz_3 : decode cX0_ritz 3 = .ok (.iload_n 1, 1) := sorry
theorem dX0_ritz_4 : decode cX0_ritz 4 = .ok (.iload_n 2, 1) := sorry
theorem dX0_ritz_5 : decode cX0_ritz 5 = .ok (.invokevirtual 42, 3) := sorry
theorem dX0_ritz_8 : decode cX0_ritz 8 = .ok (.i2l, 1) := sorry
theorem dX0_ritz_9 : decode cX0_ritz 9 = .ok (.lastore, 1) := sorry
theorem dX0_ritz_10 : decode cX0_ritz 10 = .ok (.goto 7, 3) := sorry
theorem dX0_ritz_13 : decode cX0_ritz 13 = .ok (.astore 4, 2) := sorry
theorem dX0_ritz_15 : decode cX0_ritz 15 = .ok (.iconst 1, 1) := sorry
theorem dX0_ritz_16 : decode cX0_ritz 16 = .ok (.ireturn, 1) := sorry
theorem dX0_ritz_17 : decode cX0_ritz 17 = .ok (.iconst 0, 1) := sorry
theorem dX0_ritz_18 : decode cX0_ritz 18 = .ok (.ireturn, 1) := sorry
abbrev cX0_residual : ByteArray := method_13_code
def yX0_residual : MethodName := ⟨RX0, "residual", "(LKrylovLaboratory;I[J)I"⟩
def dkwX0_residual_0 : List UInt8 := [44, 3, 42, 27, 182, 0, 45, 133, 80, 167, 0, 6, 78, 4, 172, 3, 172]
abbrev dktX0_residual_0 : List UInt8 := dkwX0_residual_0 ++ []
theorem dksX0_residual_0 : cX0_residual.data.toList.drop 0 = dktX0_residual_0 := sorry
theorem dX0_residual_0 : decode cX0_residual 0 = .ok (.aload_n 2, 1) := sorry
theorem dX0_residual_1 : decode cX0_residual 1 = .ok (.iconst 0, 1) := sorry
theorem dX0_residual_2 : decode cX0_residual 2 = .ok (.aload_n 0, 1) := sorry
theorem dX0_residual_3 : decode cX0_residual 3 = .ok (.iload_n 1, 1) := sorry
theorem dX0_residual_4 : decode cX0_residual 4 = .ok (.invokevirtual 45, 3) := sorry
theorem dX0_residual_7 : decode cX0_residual 7 = .ok (.i2l, 1) := sorry
theorem dX0_residual_8 : decode cX0_residual 8 = .ok (.lastore, 1) := sorry
theorem dX0_residual_9 : decode cX0_residual 9 = .ok (.goto 6, 3) := sorry
theorem dX0_residual_12 : decode cX0_residual 12 = .ok (.astore_n 3, 1) := sorry
theorem dX0_residual_13 : decode cX0_residual 13 = .ok (.iconst 1, 1) := sorry
theorem dX0_residual_14 : decode cX0_residual 14 = .ok (.ireturn, 1) := sorry
theorem dX0_residual_15 : decode cX0_residual 15 = .ok (.iconst 0, 1) := sorry
theorem dX0_residual_16 : decode cX0_residual 16 = .ok (.ireturn, 1) := sorry
abbrev cX0_locked : ByteArray := method_14_code
def yX0_locked : MethodName := ⟨RX0, "locked", "(LKrylovLaboratory;II[J)I"⟩
def dkwX0_locked_0 : List UInt8 := [45, 3, 42, 27, 28, 182, 0, 48, 133, 80, 167, 0, 7, 58, 4, 4, 172, 3, 172]
abbrev dktX0_locked_0 : List UInt8 := dkwX0_locked_0 ++ []
theorem dksX0_locked_0 : cX0_locked.data.toList.drop 0 = dktX0_locked_0 := sorry
theorem dX0_locked_0 : decode cX0_locked 0 = .ok (.aload_n 3, 1) := sorry
theorem dX0_locked_1 : decode cX0_locked 1 = .ok (.iconst 0, 1) := sorry
theorem dX0_locked_2 : decode cX0_locked 2 = .ok (.aload_n 0, 1) := sorry
theorem dX0_locked_3 : decode cX0_locked 3 = .ok (.iload_n 1, 1) := sorry
theorem dX0_locked_4 : decode cX0_locked 4 = .ok (.iload_n 2, 1) := sorry
theorem dX0_locked_5 : decode cX0_locked 5 = .ok (.invokevirtual 48, 3) := sorry
theorem dX0_locked_8 : decode cX0_locked 8 = .ok (.i2l, 1) := sorry
theorem dX0_locked_9 : decode cX0_locked 9 = .ok (.lastore, 1) := sorry
theorem dX0_locked_10 : decode cX0_locked 10 = .ok (.goto 7, 3) := sorry
theorem dX0_locked_13 : decode cX0_locked 13 = .ok (.astore 4, 2) := sorry
theorem dX0_locked_15 : decode cX0_locked 15 = .ok (.iconst 1, 1) := sorry
theorem dX0_locked_16 : decode cX0_locked 16 = .ok (.ireturn, 1) := sorry
theorem dX0_locked_17 : decode cX0_locked 17 = .ok (.iconst 0, 1) := sorry
theorem dX0_locked_18 : decode cX0_locked 18 = .ok (.ireturn, 1) := sorry
abbrev cX0_lockedVector : ByteArray := method_15_code
def yX0_lockedVector : MethodName := ⟨RX0, "lockedVector", "(LKrylovLaboratory;II[J)I"⟩
def dkwX0_lockedVector_0 : List UInt8 := [45, 3, 42, 27, 28, 182, 0, 51, 133, 80, 167, 0, 7, 58, 4, 4, 172, 3, 172]
abbrev dktX0_lockedVector_0 : List UInt8 := dkwX0_lockedVector_0 ++ []
theorem dksX0_lockedVector_0 : cX0_lockedVector.data.toList.drop 0 = dktX0_lockedVector_0 := sorry
theorem dX0_lockedVector_0 : decode cX0_lockedVector 0 = .ok (.aload_n 3, 1) := sorry
theorem dX0_lockedVector_1 : decode cX0_lockedVector 1 = .ok (.iconst 0, 1) := sorry
theorem dX0_lockedVector_2 : decode cX0_lockedVector 2 = .ok (.aload_n 0, 1) := sorry
theorem dX0_lockedVector_3 : decode cX0_lockedVector 3 = .ok (.iload_n 1, 1) := sorry
theorem dX0_lockedVector_4 : decode cX0_lockedVector 4 = .ok (.iload_n 2, 1) := sorry
theorem dX0_lockedVector_5 : decode cX0_lockedVector 5 = .ok (.invokevirtual 51, 3) := sorry
theorem dX0_lockedVector_8 : decode cX0_lockedVector 8 = .ok (.i2l, 1) := sorry
theorem dX0_lockedVector_9 : decode cX0_lockedVector 9 = .ok (.lastore, 1) := sorry
theorem dX0_lockedVector_10 : decode cX0_lockedVector 10 = .ok (.goto 7, 3) := sorry
theorem dX0_lockedVector_13 : decode cX0_lockedVector 13 = .ok (.astore 4, 2) := sorry
theorem dX0_lockedVector_15 : decode cX0_lockedVector 15 = .ok (.iconst 1, 1) := sorry
theorem dX0_lockedVector_16 : decode cX0_lockedVector 16 = .ok (.ireturn, 1) := sorry
theorem dX0_lockedVector_17 : decode cX0_lockedVector 17 = .ok (.iconst 0, 1) := sorry
theorem dX0_lockedVector_18 : decode cX0_lockedVector 18 = .ok (.ireturn, 1) := sorry
abbrev cX0_firstBroken : ByteArray := method_16_code
def yX0_firstBroken : MethodName := ⟨RX0, "firstBroken", "(LKrylovLaboratory;I[J)I"⟩
def dkwX0_firstBroken_0 : List UInt8 := [44, 3, 42, 27, 182, 0, 54, 133, 80, 167, 0, 6, 78, 4, 172, 3, 172]
abbrev dktX0_firstBroken_0 : List UInt8 := dkwX0_firstBroken_0 ++ []
theorem dksX0_firstBroken_0 : cX0_firstBroken.data.toList.drop 0 = dktX0_firstBroken_0 := sorry
theorem dX0_firstBroken_0 : decode cX0_firstBroken 0 = .ok (.aload_n 2, 1) := sorry
theorem dX0_firstBroken_1 : decode cX0_firstBroken 1 = .ok (.iconst 0, 1) := sorry
theorem dX0_firstBroken_2 : decode cX0_firstBroken 2 = .ok (.aload_n 0, 1) := sorry
theorem dX0_firstBroken_3 : decode cX0_firstBroken 3 = .ok (.iload_n 1, 1) := sorry
theorem dX0_firstBroken_4 : decode cX0_firstBroken 4 = .ok (.invokevirtual 54, 3) := sorry
theorem dX0_firstBroken_7 : decode cX0_firstBroken 7 = .ok (.i2l, 1) := sorry
theorem dX0_firstBroken_8 : decode cX0_firstBroken 8 = .ok (.lastore, 1) := sorry
theorem dX0_firstBroken_9 : decode cX0_firstBroken 9 = .ok (.goto 6, 3) := sorry
theorem dX0_firstBroken_12 : decode cX0_firstBroken 12 = .ok (.astore_n 3, 1) := sorry
theorem dX0_firstBroken_13 : decode cX0_firstBroken 13 = .ok (.iconst 1, 1) := sorry
theorem dX0_firstBroken_14 : decode cX0_firstBroken 14 = .ok (.ireturn, 1) := sorry
theorem dX0_firstBroken_15 : decode cX0_firstBroken 15 = .ok (.iconst 0, 1) := sorry
theorem dX0_firstBroken_16 : decode cX0_firstBroken 16 = .ok (.ireturn, 1) := sorry
abbrev cX0_step : ByteArray := method_17_code
def yX0_step : MethodName := ⟨RX0, "step", "(LKrylovLaboratory;I[J)I"⟩
def dkwX0_step_0 : List UInt8 := [44, 3, 42, 27, 182, 0, 57, 133, 80, 167, 0, 6, 78, 4, 172, 3, 172]
abbrev dktX0_step_0 : List UInt8 := dkwX0_step_0 ++ []
theorem dksX0_step_0 : cX0_step.data.toList.drop 0 = dktX0_step_0 := sorry
theorem dX0_step_0 : decode cX0_step 0 = .ok (.aload_n 2, 1) := sorry
theorem dX0_step_1 : decode cX0_step 1 = .ok (.iconst 0, 1) := sorry
theorem dX0_step_2 : decode cX0_step 2 = .ok (.aload_n 0, 1) := sorry
theorem dX0_step_3 : decode cX0_step 3 = .ok (.iload_n 1, 1) := sorry
theorem dX0_step_4 : decode cX0_step 4 = .ok (.invokevirtual 57, 3) := sorry
theorem dX0_step_7 : decode cX0_step 7 = .ok (.i2l, 1) := sorry
theorem dX0_step_8 : decode cX0_step 8 = .ok (.lastore, 1) := sorry
theorem dX0_step_9 : decode cX0_step 9 = .ok (.goto 6, 3) := sorry
theorem dX0_step_12 : decode cX0_step 12 = .ok (.astore_n 3, 1) := sorry
theorem dX0_step_13 : decode cX0_step 13 = .ok (.iconst 1, 1) := sorry
theorem dX0_step_14 : decode cX0_step 14 = .ok (.ireturn, 1) := sorry
theorem dX0_step_15 : decode cX0_step 15 = .ok (.iconst 0, 1) := sorry
theorem dX0_step_16 : decode cX0_step 16 = .ok (.ireturn, 1) := sorry
abbrev cX0_lock : ByteArray := method_18_code
def yX0_lock : MethodName := ⟨RX0, "lock", "(LKrylovLaboratory;I[J)I"⟩
def dkwX0_lock_0 : List UInt8 := [44, 3, 42, 27, 182, 0, 60, 133, 80, 167, 0, 6, 78, 4, 172, 3, 172]
abbrev dktX0_lock_0 : List UInt8 := dkwX0_lock_0 ++ []
theorem dksX0_lock_0 : cX0_lock.data.toList.drop 0 = dktX0_lock_0 := sorry
theorem dX0_lock_0 : decode cX0_lock 0 = .ok (.aload_n 2, 1) := sorry
theorem dX0_lock_1 : decode cX0_lock 1 = .ok (.iconst 0, 1) := sorry
theorem dX0_lock_2 : decode cX0_lock 2 = .ok (.aload_n 0, 1) := sorry
theorem dX0_lock_3 : decode cX0_lock 3 = .ok (.iload_n 1, 1) := sorry
theorem dX0_lock_4 : decode cX0_lock 4 = .ok (.invokevirtual 60, 3) := sorry
theorem dX0_lock_7 : decode cX0_lock 7 = .ok (.i2l, 1) := sorry
theorem dX0_lock_8 : decode cX0_lock 8 = .ok (.lastore, 1) := sorry
theorem dX0_lock_9 : decode cX0_lock 9 = .ok (.goto 6, 3) := sorry
theorem dX0_lock_12 : decode cX0_lock 12 = .ok (.astore_n 3, 1) := sorry
theorem dX0_lock_13 : decode cX0_lock 13 = .ok (.iconst 1, 1) := sorry
theorem dX0_lock_14 : decode cX0_lock 14 = .ok (.ireturn, 1) := sorry
theorem dX0_lock_15 : decode cX0_lock 15 = .ok (.iconst 0, 1) := sorry
theorem dX0_lock_16 : decode cX0_lock 16 = .ok (.ireturn, 1) := sorry
abbrev cX0_unlock : ByteArray := method_19_code
def yX0_unlock : MethodName := ⟨RX0, "unlock", "(LKrylovLaboratory;I[J)I"⟩
def dkwX0_unlock_0 : List UInt8 := [44, 3, 42, 27, 182, 0, 63, 133, 80, 167, 0, 6, 78, 4, 172, 3, 172]
abbrev dktX0_unlock_0 : List UInt8 := dkwX0_unlock_0 ++ []
theorem dksX0_unlock_0 : cX0_unlock.data.toList.drop 0 = dktX0_unlock_0 := sorry
theorem dX0_unlock_0 : decode cX0_unlock 0 = .ok (.aload_n 2, 1) := sorry
theorem dX0_unlock_1 : decode cX0_unlock 1 = .ok (.iconst 0, 1) := sorry
theorem dX0_unlock_2 : decode cX0_unlock 2 = .ok (.aload_n 0, 1) := sorry
theorem dX0_unlock_3 : decode cX0_unlock 3 = .ok (.iload_n 1, 1) := sorry
theorem dX0_unlock_4 : decode cX0_unlock 4 = .ok (.invokevirtual 63, 3) := sorry
theorem dX0_unlock_7 : decode cX0_unlock 7 = .ok (.i2l, 1) := sorry
theorem dX0_unlock_8 : decode cX0_unlock 8 = .ok (.lastore, 1) := sorry
theorem dX0_unlock_9 : decode cX0_unlock 9 = .ok (.goto 6, 3) := sorry
theorem dX0_unlock_12 : decode cX0_unlock 12 = .ok (.astore_n 3, 1) := sorry
theorem dX0_unlock_13 : decode cX0_unlock 13 = .ok (.iconst 1, 1) := sorry
theorem dX0_unlock_14 : decode cX0_unlock 14 = .ok (.ireturn, 1) := sorry
theorem dX0_unlock_15 : decode cX0_unlock 15 = .ok (.iconst 0, 1) := sorry
theorem dX0_unlock_16 : decode cX0_unlock 16 = .ok (.ireturn, 1) := sorry
abbrev cX0_drop : ByteArray := method_20_code
def yX0_drop : MethodName := ⟨RX0, "drop", "(LKrylovLaboratory;I[J)I"⟩
def dkwX0_drop_0 : List UInt8 := [44, 3, 42, 27, 182, 0, 66, 133, 80, 167, 0, 6, 78, 4, 172, 3, 172]
abbrev dktX0_drop_0 : List UInt8 := dkwX0_drop_0 ++ []
theorem dksX0_drop_0 : cX0_drop.data.toList.drop 0 = dktX0_drop_0 := sorry
theorem dX0_drop_0 : decode cX0_drop 0 = .ok (.aload_n 2, 1) := sorry
theorem dX0_drop_1 : decode cX0_drop 1 = .ok (.iconst 0, 1) := sorry
theorem dX0_drop_2 : decode cX0_drop 2 = .ok (.aload_n 0, 1) := sorry
theorem dX0_drop_3 : decode cX0_drop 3 = .ok (.iload_n 1, 1) := sorry
theorem dX0_drop_4 : decode cX0_drop 4 = .ok (.invokevirtual 66, 3) := sorry
theorem dX0_drop_7 : decode cX0_drop 7 = .ok (.i2l, 1) := sorry
theorem dX0_drop_8 : decode cX0_drop 8 = .ok (.lastore, 1) := sorry
theorem dX0_drop_9 : decode cX0_drop 9 = .ok (.goto 6, 3) := sorry
theorem dX0_drop_12 : decode cX0_drop 12 = .ok (.astore_n 3, 1) := sorry
theorem dX0_drop_13 : decode cX0_drop 13 = .ok (.iconst 1, 1) := sorry
theorem dX0_drop_14 : decode cX0_drop 14 = .ok (.ireturn, 1) := sorry
theorem dX0_drop_15 : decode cX0_drop 15 = .ok (.iconst 0, 1) := sorry
theorem dX0_drop_16 : decode cX0_drop 16 = .ok (.ireturn, 1) := sorry
abbrev cX0_restart : ByteArray := method_21_code
def yX0_restart : MethodName := ⟨RX0, "restart", "(LKrylovLaboratory;I[J)I"⟩
def dkwX0_restart_0 : List UInt8 := [44, 3, 42, 27, 182, 0, 69, 133, 80, 167, 0, 6, 78, 4, 172, 3, 172]
abbrev dktX0_restart_0 : List UInt8 := dkwX0_restart_0 ++ []
theorem dksX0_restart_0 : cX0_restart.data.toList.drop 0 = dktX0_restart_0 := sorry
theorem dX0_restart_0 : decode cX0_restart 0 = .ok (.aload_n 2, 1) := sorry
theorem dX0_restart_1 : decode cX0_restart 1 = .ok (.iconst 0, 1) := sorry
theorem dX0_restart_2 : decode cX0_restart 2 = .ok (.aload_n 0, 1) := sorry
theorem dX0_restart_3 : decode cX0_restart 3 = .ok (.iload_n 1, 1) := sorry
theorem dX0_restart_4 : decode cX0_restart 4 = .ok (.invokevirtual 69, 3) := sorry
theorem dX0_restart_7 : decode cX0_restart 7 = .ok (.i2l, 1) := sorry
theorem dX0_restart_8 : decode cX0_restart 8 = .ok (.lastore, 1) := sorry
theorem dX0_restart_9 : decode cX0_restart 9 = .ok (.goto 6, 3) := sorry
theorem dX0_restart_12 : decode cX0_restart 12 = .ok (.astore_n 3, 1) := sorry
theorem dX0_restart_13 : decode cX0_restart 13 = .ok (.iconst 1, 1) := sorry
theorem dX0_restart_14 : decode cX0_restart 14 = .ok (.ireturn, 1) := sorry
theorem dX0_restart_15 : decode cX0_restart 15 = .ok (.iconst 0, 1) := sorry
theorem dX0_restart_16 : decode cX0_restart 16 = .ok (.ireturn, 1) := sorry
abbrev cX0_sweep : ByteArray := method_22_code
def yX0_sweep : MethodName := ⟨RX0, "sweep", "(LKrylovLaboratory;I[J)I"⟩
def dkwX0_sweep_0 : List UInt8 := [44, 3, 42, 27, 182, 0, 72, 133, 80, 167, 0, 6, 78, 4, 172, 3, 172]
abbrev dktX0_sweep_0 : List UInt8 := dkwX0_sweep_0 ++ []
theorem dksX0_sweep_0 : cX0_sweep.data.toList.drop 0 = dktX0_sweep_0 := sorry
theorem dX0_sweep_0 : decode cX0_sweep 0 = .ok (.aload_n 2, 1) := sorry
theorem dX0_sweep_1 : decode cX0_sweep 1 = .ok (.iconst 0, 1) := sorry
theorem dX0_sweep_2 : decode cX0_sweep 2 = .ok (.aload_n 0, 1) := sorry
theorem dX0_sweep_3 : decode cX0_sweep 3 = .ok (.iload_n 1, 1) := sorry
theorem dX0_sweep_4 : decode cX0_sweep 4 = .ok (.invokevirtual 72, 3) := sorry
theorem dX0_sweep_7 : decode cX0_sweep 7 = .ok (.i2l, 1) := sorry
theorem dX0_sweep_8 : decode cX0_sweep 8 = .ok (.lastore, 1) := sorry
theorem dX0_sweep_9 : decode cX0_sweep 9 = .ok (.goto 6, 3) := sorry
theorem dX0_sweep_12 : decode cX0_sweep 12 = .ok (.astore_n 3, 1) := sorry
theorem dX0_sweep_13 : decode cX0_sweep 13 = .ok (.iconst 1, 1) := sorry
theorem dX0_sweep_14 : decode cX0_sweep 14 = .ok (.ireturn, 1) := sorry
theorem dX0_sweep_15 : decode cX0_sweep 15 = .ok (.iconst 0, 1) := sorry
theorem dX0_sweep_16 : decode cX0_sweep 16 = .ok (.ireturn, 1) := sorry
abbrev cX0_setEntry : ByteArray := method_23_code
def yX0_setEntry : MethodName := ⟨RX0, "setEntry", "(LKrylovLaboratory;III[J)I"⟩
def dkwX0_setEntry_1 : List UInt8 := [172]
abbrev dktX0_setEntry_1 : List UInt8 := dkwX0_setEntry_1 ++ []
def dkwX0_setEntry_0 : List UInt8 := [25, 4, 3, 42, 27, 28, 29, 182, 0, 75, 133, 80, 167, 0, 11, 58, 5, 4, 172, 58, 5, 5, 172, 3]
abbrev dktX0_setEntry_0 : List UInt8 := dkwX0_setEntry_0 ++ dktX0_setEntry_1
theorem dksX0_setEntry_0 : cX0_setEntry.data.toList.drop 0 = dktX0_setEntry_0 := sorry
theorem dksX0_setEntry_1 : cX0_setEntry.data.toList.drop 24 = dktX0_setEntry_1 := sorry
theorem dX0_setEntry_0 : decode cX0_setEntry 0 = .ok (.aload 4, 2) := sorry
theorem dX0_setEntry_2 : decode cX0_setEntry 2 = .ok (.iconst 0, 1) := sorry
theorem dX0_setEntry_3 : decode cX0_setEntry 3 = .ok (.aload_n 0, 1) := sorry
theorem dX0_setEntry_4 : decode cX0_setEntry 4 = .ok (.iload_n 1, 1) := sorry
theorem dX0_setEntry_5 : decode cX0_setEntry 5 = .ok (.iload_n 2, 1) := sorry
theorem dX0_setEntry_6 : decode cX0_setEntry 6 = .ok (.iload_n 3, 1) := sorry
theorem dX0_setEntry_7 : decode cX0_setEntry 7 = .ok (.invokevirtual 75, 3) := sorry
theorem dX0_setEntry_10 : decode cX0_setEntry 10 = .ok (.i2l, 1) := sorry
theorem dX0_setEntry_11 : decode cX0_setEntry 11 = .ok (.lastore, 1) := sorry
theorem dX0_setEntry_12 : decode cX0_setEntry 12 = .ok (.goto 11, 3) := sorry
theorem dX0_setEntry_15 : decode cX0_setEntry 15 = .ok (.astore 5, 2) := sorry
theorem dX0_setEntry_17 : decode cX0_setEntry 17 = .ok (.iconst 1, 1) := sorry
theorem dX0_setEntry_18 : decode cX0_setEntry 18 = .ok (.ireturn, 1) := sorry
theorem dX0_setEntry_19 : decode cX0_setEntry 19 = .ok (.astore 5, 2) := sorry
theorem dX0_setEntry_21 : decode cX0_setEntry 21 = .ok (.iconst 2, 1) := sorry
theorem dX0_setEntry_22 : decode cX0_setEntry 22 = .ok (.ireturn, 1) := sorry
theorem dX0_setEntry_23 : decode cX0_setEntry 23 = .ok (.iconst 0, 1) := sorry
theorem dX0_setEntry_24 : decode cX0_setEntry 24 = .ok (.ireturn, 1) := sorry
abbrev cX0_setMode : ByteArray := method_24_code
def yX0_setMode : MethodName := ⟨RX0, "setMode", "(LKrylovLaboratory;I[J)I"⟩
def dkwX0_setMode_0 : List UInt8 := [44, 3, 42, 27, 182, 0, 79, 133, 80, 167, 0, 6, 78, 4, 172, 3, 172]
abbrev dktX0_setMode_0 : List UInt8 := dkwX0_setMode_0 ++ []
theorem dksX0_setMode_0 : cX0_setMode.data.toList.drop 0 = dktX0_setMode_0 := sorry
theorem dX0_setMode_0 : decode cX0_setMode 0 = .ok (.aload_n 2, 1) := sorry
theorem dX0_setMode_1 : decode cX0_setMode 1 = .ok (.iconst 0, 1) := sorry
theorem dX0_setMode_2 : decode cX0_setMode 2 = .ok (.aload_n 0, 1) := sorry
theorem dX0_setMode_3 : decode cX0_setMode 3 = .ok (.iload_n 1, 1) := sorry
theorem dX0_setMode_4 : decode cX0_setMode 4 = .ok (.invokevirtual 79, 3) := sorry
theorem dX0_setMode_7 : decode cX0_setMode 7 = .ok (.i2l, 1) := sorry
theorem dX0_setMode_8 : decode cX0_setMode 8 = .ok (.lastore, 1) := sorry
theorem dX0_setMode_9 : decode cX0_setMode 9 = .ok (.goto 6, 3) := sorry
theorem dX0_setMode_12 : decode cX0_setMode 12 = .ok (.astore_n 3, 1) := sorry
theorem dX0_setMode_13 : decode cX0_setMode 13 = .ok (.iconst 1, 1) := sorry
theorem dX0_setMode_14 : decode cX0_setMode 14 = .ok (.ireturn, 1) := sorry
theorem dX0_setMode_15 : decode cX0_setMode 15 = .ok (.iconst 0, 1) := sorry
theorem dX0_setMode_16 : decode cX0_setMode 16 = .ok (.ireturn, 1) := sorry
abbrev cX0_setThreshold : ByteArray := method_25_code
def yX0_setThreshold : MethodName := ⟨RX0, "setThreshold", "(LKrylovLaboratory;I[J)I"⟩
def dkwX0_setThreshold_0 : List UInt8 := [44, 3, 42, 27, 182, 0, 82, 133, 80, 167, 0, 6, 78, 4, 172, 3, 172]
abbrev dktX0_setThreshold_0 : List UInt8 := dkwX0_setThreshold_0 ++ []
theorem dksX0_setThreshold_0 : cX0_setThreshold.data.toList.drop 0 = dktX0_setThreshold_0 := sorry
theorem dX0_setThreshold_0 : decode cX0_setThreshold 0 = .ok (.aload_n 2, 1) := sorry
theorem dX0_setThreshold_1 : decode cX0_setThreshold 1 = .ok (.iconst 0, 1) := sorry
theorem dX0_setThreshold_2 : decode cX0_setThreshold 2 = .ok (.aload_n 0, 1) := sorry
theorem dX0_setThreshold_3 : decode cX0_setThreshold 3 = .ok (.iload_n 1, 1) := sorry
theorem dX0_setThreshold_4 : decode cX0_setThreshold 4 = .ok (.invokevirtual 82, 3) := sorry
theorem dX0_setThreshold_7 : decode cX0_setThreshold 7 = .ok (.i2l, 1) := sorry
theorem dX0_setThreshold_8 : decode cX0_setThreshold 8 = .ok (.lastore, 1) := sorry
theorem dX0_setThreshold_9 : decode cX0_setThreshold 9 = .ok (.goto 6, 3) := sorry
theorem dX0_setThreshold_12 : decode cX0_setThreshold 12 = .ok (.astore_n 3, 1) := sorry
theorem dX0_setThreshold_13 : decode cX0_setThreshold 13 = .ok (.iconst 1, 1) := sorry
theorem dX0_setThreshold_14 : decode cX0_setThreshold 14 = .ok (.ireturn, 1) := sorry
theorem dX0_setThreshold_15 : decode cX0_setThreshold 15 = .ok (.iconst 0, 1) := sorry
theorem dX0_setThreshold_16 : decode cX0_setThreshold 16 = .ok (.ireturn, 1) := sorry
abbrev cX0_setTolerance : ByteArray := method_26_code
def yX0_setTolerance : MethodName := ⟨RX0, "setTolerance", "(LKrylovLaboratory;I[J)I"⟩
def dkwX0_setTolerance_0 : List UInt8 := [44, 3, 42, 27, 182, 0, 85, 133, 80, 167, 0, 6, 78, 4, 172, 3, 172]
abbrev dktX0_setTolerance_0 : List UInt8 := dkwX0_setTolerance_0 ++ []
theorem dksX0_setTolerance_0 : cX0_setTolerance.data.toList.drop 0 = dktX0_setTolerance_0 := sorry
theorem dX0_setTolerance_0 : decode cX0_setTolerance 0 = .ok (.aload_n 2, 1) := sorry
theorem dX0_setTolerance_1 : decode cX0_setTolerance 1 = .ok (.iconst 0, 1) := sorry
theorem dX0_setTolerance_2 : decode cX0_setTolerance 2 = .ok (.aload_n 0, 1) := sorry
theorem dX0_setTolerance_3 : decode cX0_setTolerance 3 = .ok (.iload_n 1, 1) := sorry
theorem dX0_setTolerance_4 : decode cX0_setTolerance 4 = .ok (.invokevirtual 85, 3) := sorry
theorem dX0_setTolerance_7 : decode cX0_setTolerance 7 = .ok (.i2l, 1) := sorry
theorem dX0_setTolerance_8 : decode cX0_setTolerance 8 = .ok (.lastore, 1) := sorry
theorem dX0_setTolerance_9 : decode cX0_setTolerance 9 = .ok (.goto 6, 3) := sorry
theorem dX0_setTolerance_12 : decode cX0_setTolerance 12 = .ok (.astore_n 3, 1) := sorry
theorem dX0_setTolerance_13 : decode cX0_setTolerance 13 = .ok (.iconst 1, 1) := sorry
theorem dX0_setTolerance_14 : decode cX0_setTolerance 14 = .ok (.ireturn, 1) := sorry
theorem dX0_setTolerance_15 : decode cX0_setTolerance 15 = .ok (.iconst 0, 1) := sorry
theorem dX0_setTolerance_16 : decode cX0_setTolerance 16 = .ok (.ireturn, 1) := sorry
abbrev cX0_format : ByteArray := method_27_code
def yX0_format : MethodName := ⟨RX0, "format", "(LKrylovLaboratory;I[J)I"⟩
def dkwX0_format_0 : List UInt8 := [44, 3, 42, 27, 182, 0, 88, 133, 80, 167, 0, 6, 78, 4, 172, 3, 172]
abbrev dktX0_format_0 : List UInt8 := dkwX0_format_0 ++ []
theorem dksX0_format_0 : cX0_format.data.toList.drop 0 = dktX0_format_0 := sorry
theorem dX0_format_0 : decode cX0_format 0 = .ok (.aload_n 2, 1) := sorry
theorem dX0_format_1 : decode cX0_format 1 = .ok (.iconst 0, 1) := sorry
theorem dX0_format_2 : decode cX0_format 2 = .ok (.aload_n 0, 1) := sorry
theorem dX0_format_3 : decode cX0_format 3 = .ok (.iload_n 1, 1) := sorry
theorem dX0_format_4 : decode cX0_format 4 = .ok (.invokevirtual 88, 3) := sorry
theorem dX0_format_7 : decode cX0_format 7 = .ok (.i2l, 1) := sorry
theorem dX0_format_8 : decode cX0_format 8 = .ok (.lastore, 1) := sorry
theorem dX0_format_9 : decode cX0_format 9 = .ok (.goto 6, 3) := sorry
theorem dX0_format_12 : decode cX0_format 12 = .ok (.astore_n 3, 1) := sorry
theorem dX0_format_13 : decode cX0_format 13 = .ok (.iconst 1, 1) := sorry
theorem dX0_format_14 : decode cX0_format 14 = .ok (.ireturn, 1) := sorry
theorem dX0_format_15 : decode cX0_format 15 = .ok (.iconst 0, 1) := sorry
theorem dX0_format_16 : decode cX0_format 16 = .ok (.ireturn, 1) := sorry
abbrev cX0_query : ByteArray := method_28_code
def yX0_query : MethodName := ⟨RX0, "query", "(LKrylovLaboratory;I[J)I"⟩
def dkwX0_query_0 : List UInt8 := [44, 3, 42, 27, 182, 0, 91, 133, 80, 167, 0, 6, 78, 4, 172, 3, 172]
abbrev dktX0_query_0 : List UInt8 := dkwX0_query_0 ++ []
theorem dksX0_query_0 : cX0_query.data.toList.drop 0 = dktX0_query_0 := sorry
theorem dX0_query_0 : decode cX0_query 0 = .ok (.aload_n 2, 1) := sorry
theorem dX0_query_1 : decode cX0_query 1 = .ok (.iconst 0, 1) := sorry
theorem dX0_query_2 : decode cX0_query 2 = .ok (.aload_n 0, 1) := sorry
theorem dX0_query_3 : decode cX0_query 3 = .ok (.iload_n 1, 1) := sorry
theorem dX0_query_4 : decode cX0_query 4 = .ok (.invokevirtual 91, 3) := sorry
theorem dX0_query_7 : decode cX0_query 7 = .ok (.i2l, 1) := sorry
theorem dX0_query_8 : decode cX0_query 8 = .ok (.lastore, 1) := sorry
theorem dX0_query_9 : decode cX0_query 9 = .ok (.goto 6, 3) := sorry
theorem dX0_query_12 : decode cX0_query 12 = .ok (.astore_n 3, 1) := sorry
theorem dX0_query_13 : decode cX0_query 13 = .ok (.iconst 1, 1) := sorry
theorem dX0_query_14 : decode cX0_query 14 = .ok (.ireturn, 1) := sorry
theorem dX0_query_15 : decode cX0_query 15 = .ok (.iconst 0, 1) := sorry
theorem dX0_query_16 : decode cX0_query 16 = .ok (.ireturn, 1) := sorry
theorem q129 : (Jvm.Cond.initialized "KrylovLaboratoryLaw") ∈ lw_all := sorry
theorem q187 : (Jvm.Cond.classLink "KrylovLaboratoryLaw" (8 : Nat) "KrylovLaboratory") ∈ lw_all := sorry
theorem q189 : (Jvm.Cond.methodLink "KrylovLaboratoryLaw" (94 : Nat) ({ cls := "KrylovLaboratory", name := "<init>", desc := "()V" } : Jvm.MethodName)) ∈ lw_all := sorry
theorem q1144 : (Jvm.Cond.methodLink "KrylovLaboratoryLaw" (98 : Nat) ({ cls := "KrylovLaboratory", name := "feed", desc := "(IIIII)I" } : Jvm.MethodName)) ∈ lw_all := sorry
theorem q1152 : (Jvm.Cond.methodLink "KrylovLaboratoryLaw" (113 : Nat) ({ cls := "KrylovLaboratory", name := "errorPosition", desc := "()I" } : Jvm.MethodName)) ∈ lw_all := sorry
theorem q1156 : (Jvm.Cond.methodLink "KrylovLaboratoryLaw" (117 : Nat) ({ cls := "KrylovLaboratory", name := "order", desc := "()I" } : Jvm.MethodName)) ∈ lw_all := sorry
theorem q1161 : (Jvm.Cond.methodLink "KrylovLaboratoryLaw" (128 : Nat) ({ cls := "KrylovLaboratory", name := "steps", desc := "()I" } : Jvm.MethodName)) ∈ lw_all := sorry
theorem q1165 : (Jvm.Cond.methodLink "KrylovLaboratoryLaw" (132 : Nat) ({ cls := "KrylovLaboratory", name := "isClosed", desc := "()Z" } : Jvm.MethodName)) ∈ lw_all := sorry
theorem q1169 : (Jvm.Cond.methodLink "KrylovLaboratoryLaw" (149 : Nat) ({ cls := "KrylovLaboratory", name := "loss", desc := "()I" } : Jvm.MethodName)) ∈ lw_all := sorry
theorem q1187 : (Jvm.Cond.methodLink "KrylovLaboratoryLaw" (165 : Nat) ({ cls := "KrylovLaboratory", name := "countBelow", desc := "(I)I" } : Jvm.MethodName)) ∈ lw_all := sorry
theorem q1200 : (Jvm.Cond.methodLink "KrylovLaboratoryLaw" (169 : Nat) ({ cls := "KrylovLaboratory", name := "nearest", desc := "(I)I" } : Jvm.MethodName)) ∈ lw_all := sorry
theorem q1214 : (Jvm.Cond.methodLink "KrylovLaboratoryLaw" (173 : Nat) ({ cls := "KrylovLaboratory", name := "lockedCount", desc := "()I" } : Jvm.MethodName)) ∈ lw_all := sorry
theorem q1219 : (Jvm.Cond.methodLink "KrylovLaboratoryLaw" (186 : Nat) ({ cls := "KrylovLaboratory", name := "total", desc := "(I)I" } : Jvm.MethodName)) ∈ lw_all := sorry
theorem q1227 : (Jvm.Cond.methodLink "KrylovLaboratoryLaw" (190 : Nat) ({ cls := "KrylovLaboratory", name := "convergesIn", desc := "()I" } : Jvm.MethodName)) ∈ lw_all := sorry
theorem q1429 : (Jvm.Cond.methodLink "KrylovLaboratoryLaw" (194 : Nat) ({ cls := "KrylovLaboratory", name := "traceGap", desc := "()J" } : Jvm.MethodName)) ∈ lw_all := sorry
theorem q1444 : (Jvm.Cond.methodLink "KrylovLaboratoryLaw" (199 : Nat) ({ cls := "KrylovLaboratory", name := "meanBound", desc := "()D" } : Jvm.MethodName)) ∈ lw_all := sorry
theorem q1448 : (Jvm.Cond.methodLink "KrylovLaboratoryLaw" (242 : Nat) ({ cls := "KrylovLaboratory", name := "undoCount", desc := "()I" } : Jvm.MethodName)) ∈ lw_all := sorry
theorem q1459 : (Jvm.Cond.methodLink "KrylovLaboratoryLaw" (246 : Nat) ({ cls := "KrylovLaboratory", name := "undo", desc := "()I" } : Jvm.MethodName)) ∈ lw_all := sorry
theorem q1483 : (Jvm.Cond.methodLink "KrylovLaboratoryLaw" (250 : Nat) ({ cls := "KrylovLaboratory", name := "saveSnapshot", desc := "()V" } : Jvm.MethodName)) ∈ lw_all := sorry
theorem q1487 : (Jvm.Cond.methodLink "KrylovLaboratoryLaw" (254 : Nat) ({ cls := "KrylovLaboratory", name := "restoreSnapshot", desc := "()Z" } : Jvm.MethodName)) ∈ lw_all := sorry
theorem q1498 : (Jvm.Cond.methodLink "KrylovLaboratoryLaw" (238 : Nat) ({ cls := "KrylovLaboratory", name := "formattedByte", desc := "(I)I" } : Jvm.MethodName)) ∈ lw_all := sorry
theorem q1525 : (Jvm.Cond.methodLink "KrylovLaboratoryLaw" (103 : Nat) ({ cls := "KrylovLaboratoryLaw", name := "load", desc := "(LKrylovLaboratory;I[J)I" } : Jvm.MethodName)) ∈ lw_all := lw_g (lw_at lw_m6 196 rfl) rfl
theorem q1526 : (Jvm.Cond.static ({ cls := "KrylovLaboratoryLaw", name := "load", desc := "(LKrylovLaboratory;I[J)I" } : Jvm.MethodName)) ∈ lw_all := lw_g (lw_at lw_m6 197 rfl) rfl
theorem q1527 : (Jvm.Cond.codeWith ({ cls := "KrylovLaboratoryLaw", name := "load", desc := "(LKrylovLaboratory;I[J)I" } : Jvm.MethodName) method_3_code (4 : Nat) (Option.some Jvm.ClassFile.FieldType.int) [((0 : Nat), (9 : Nat), (12 : Nat), (13 : Nat))]) ∈ lw_all := lw_g (lw_at lw_m6 198 rfl) rfl
theorem q1528 : (Jvm.Cond.classLink "KrylovLaboratoryLaw" (13 : Nat) "java/lang/IllegalArgumentException") ∈ lw_all := sorry
theorem q1529 : (Jvm.Cond.methodLink "KrylovLaboratoryLaw" (7 : Nat) ({ cls := "KrylovLaboratory", name := "load", desc := "(I)I" } : Jvm.MethodName)) ∈ lw_all := sorry
theorem q1843 : (Jvm.Cond.methodLink "KrylovLaboratoryLaw" (121 : Nat) ({ cls := "KrylovLaboratoryLaw", name := "entry", desc := "(LKrylovLaboratory;II[J)I" } : Jvm.MethodName)) ∈ lw_all := lw_g (lw_at lw_m8 34 rfl) rfl
theorem q1844 : (Jvm.Cond.static ({ cls := "KrylovLaboratoryLaw", name := "entry", desc := "(LKrylovLaboratory;II[J)I" } : Jvm.MethodName)) ∈ lw_all := lw_g (lw_at lw_m8 35 rfl) rfl
theorem q1845 : (Jvm.Cond.codeWith ({ cls := "KrylovLaboratoryLaw", name := "entry", desc := "(LKrylovLaboratory;II[J)I" } : Jvm.MethodName) method_4_code (5 : Nat) (Option.some Jvm.ClassFile.FieldType.int) [((0 : Nat), (10 : Nat), (13 : Nat), (19 : Nat))]) ∈ lw_all := lw_g (lw_at lw_m8 36 rfl) rfl
theorem q1846 : (Jvm.Cond.classLink "KrylovLaboratoryLaw" (19 : Nat) "java/util/NoSuchElementException") ∈ lw_all := sorry
theorem q1847 : (Jvm.Cond.methodLink "KrylovLaboratoryLaw" (15 : Nat) ({ cls := "KrylovLaboratory", name := "entry", desc := "(II)I" } : Jvm.MethodName)) ∈ lw_all := sorry
theorem q1861 : (Jvm.Cond.methodLink "KrylovLaboratoryLaw" (125 : Nat) ({ cls := "KrylovLaboratoryLaw", name := "setting", desc := "(LKrylovLaboratory;I[J)I" } : Jvm.MethodName)) ∈ lw_all := lw_g (lw_at lw_m8 52 rfl) rfl
theorem q1862 : (Jvm.Cond.static ({ cls := "KrylovLaboratoryLaw", name := "setting", desc := "(LKrylovLaboratory;I[J)I" } : Jvm.MethodName)) ∈ lw_all := lw_g (lw_at lw_m8 53 rfl) rfl
theorem q1863 : (Jvm.Cond.codeWith ({ cls := "KrylovLaboratoryLaw", name := "setting", desc := "(LKrylovLaboratory;I[J)I" } : Jvm.MethodName) method_5_code (4 : Nat) (Option.some Jvm.ClassFile.FieldType.int) [((0 : Nat), (9 : Nat), (12 : Nat), (19 : Nat))]) ∈ lw_all := lw_g (lw_at lw_m8 54 rfl) rfl
theorem q1864 : (Jvm.Cond.methodLink "KrylovLaboratoryLaw" (21 : Nat) ({ cls := "KrylovLaboratory", name := "setting", desc := "(I)I" } : Jvm.MethodName)) ∈ lw_all := sorry
theorem q1868 : (Jvm.Cond.methodLink "KrylovLaboratoryLaw" (137 : Nat) ({ cls := "KrylovLaboratoryLaw", name := "basis", desc := "(LKrylovLaboratory;II[J)I" } : Jvm.MethodName)) ∈ lw_all := lw_g (lw_at lw_m8 59 rfl) rfl
theorem q1869 : (Jvm.Cond.static ({ cls := "KrylovLaboratoryLaw", name := "basis", desc := "(LKrylovLaboratory;II[J)I" } : Jvm.MethodName)) ∈ lw_all := lw_g (lw_at lw_m8 60 rfl) rfl
theorem q1870 : (Jvm.Cond.codeWith ({ cls := "KrylovLaboratoryLaw", name := "basis", desc := "(LKrylovLaboratory;II[J)I" } : Jvm.MethodName) method_6_code (5 : Nat) (Option.some Jvm.ClassFile.FieldType.int) [((0 : Nat), (10 : Nat), (13 : Nat), (19 : Nat))]) ∈ lw_all := lw_g (lw_at lw_m8 61 rfl) rfl
theorem q1871 : (Jvm.Cond.methodLink "KrylovLaboratoryLaw" (24 : Nat) ({ cls := "KrylovLaboratory", name := "basis", desc := "(II)I" } : Jvm.MethodName)) ∈ lw_all := sorry
theorem q1886 : (Jvm.Cond.methodLink "KrylovLaboratoryLaw" (140 : Nat) ({ cls := "KrylovLaboratoryLaw", name := "alpha", desc := "(LKrylovLaboratory;I[J)I" } : Jvm.MethodName)) ∈ lw_all := lw_g (lw_at lw_m8 77 rfl) rfl
theorem q1887 : (Jvm.Cond.static ({ cls := "KrylovLaboratoryLaw", name := "alpha", desc := "(LKrylovLaboratory;I[J)I" } : Jvm.MethodName)) ∈ lw_all := lw_g (lw_at lw_m8 78 rfl) rfl
theorem q1888 : (Jvm.Cond.codeWith ({ cls := "KrylovLaboratoryLaw", name := "alpha", desc := "(LKrylovLaboratory;I[J)I" } : Jvm.MethodName) method_7_code (4 : Nat) (Option.some Jvm.ClassFile.FieldType.int) [((0 : Nat), (9 : Nat), (12 : Nat), (19 : Nat))]) ∈ lw_all := lw_g (lw_at lw_m8 79 rfl) rfl
theorem q1889 : (Jvm.Cond.methodLink "KrylovLaboratoryLaw" (27 : Nat) ({ cls := "KrylovLaboratory", name := "alpha", desc := "(I)I" } : Jvm.MethodName)) ∈ lw_all := sorry
theorem q1897 : (Jvm.Cond.methodLink "KrylovLaboratoryLaw" (143 : Nat) ({ cls := "KrylovLaboratoryLaw", name := "beta", desc := "(LKrylovLaboratory;I[J)I" } : Jvm.MethodName)) ∈ lw_all := lw_g (lw_at lw_m8 88 rfl) rfl
theorem q1898 : (Jvm.Cond.static ({ cls := "KrylovLaboratoryLaw", name := "beta", desc := "(LKrylovLaboratory;I[J)I" } : Jvm.MethodName)) ∈ lw_all := lw_g (lw_at lw_m8 89 rfl) rfl
theorem q1899 : (Jvm.Cond.codeWith ({ cls := "KrylovLaboratoryLaw", name := "beta", desc := "(LKrylovLaboratory;I[J)I" } : Jvm.MethodName) method_8_code (4 : Nat) (Option.some Jvm.ClassFile.FieldType.int) [((0 : Nat), (9 : Nat), (12 : Nat), (19 : Nat))]) ∈ lw_all := lw_g (lw_at lw_m8 90 rfl) rfl
theorem q1900 : (Jvm.Cond.methodLink "KrylovLaboratoryLaw" (30 : Nat) ({ cls := "KrylovLaboratory", name := "beta", desc := "(I)I" } : Jvm.MethodName)) ∈ lw_all := sorry
theorem q1904 : (Jvm.Cond.methodLink "KrylovLaboratoryLaw" (146 : Nat) ({ cls := "KrylovLaboratoryLaw", name := "estimate", desc := "(LKrylovLaboratory;II[J)I" } : Jvm.MethodName)) ∈ lw_all := lw_g (lw_at lw_m8 95 rfl) rfl
theorem q1905 : (Jvm.Cond.static ({ cls := "KrylovLaboratoryLaw", name := "estimate", desc := "(LKrylovLaboratory;II[J)I" } : Jvm.MethodName)) ∈ lw_all := lw_g (lw_at lw_m8 96 rfl) rfl
theorem q1906 : (Jvm.Cond.codeWith ({ cls := "KrylovLaboratoryLaw", name := "estimate", desc := "(LKrylovLaboratory;II[J)I" } : Jvm.MethodName) method_9_code (5 : Nat) (Option.some Jvm.ClassFile.FieldType.int) [((0 : Nat), (10 : Nat), (13 : Nat), (19 : Nat))]) ∈ lw_all := lw_g (lw_at lw_m8 97 rfl) rfl
theorem q1907 : (Jvm.Cond.methodLink "KrylovLaboratoryLaw" (33 : Nat) ({ cls := "KrylovLaboratory", name := "estimate", desc := "(II)I" } : Jvm.MethodName)) ∈ lw_all := sorry
theorem q1911 : (Jvm.Cond.methodLink "KrylovLaboratoryLaw" (153 : Nat) ({ cls := "KrylovLaboratoryLaw", name := "value", desc := "(LKrylovLaboratory;I[J)I" } : Jvm.MethodName)) ∈ lw_all := lw_g (lw_at lw_m8 102 rfl) rfl
theorem q1912 : (Jvm.Cond.static ({ cls := "KrylovLaboratoryLaw", name := "value", desc := "(LKrylovLaboratory;I[J)I" } : Jvm.MethodName)) ∈ lw_all := lw_g (lw_at lw_m8 103 rfl) rfl
theorem q1913 : (Jvm.Cond.codeWith ({ cls := "KrylovLaboratoryLaw", name := "value", desc := "(LKrylovLaboratory;I[J)I" } : Jvm.MethodName) method_10_code (4 : Nat) (Option.some Jvm.ClassFile.FieldType.int) [((0 : Nat), (9 : Nat), (12 : Nat), (19 : Nat))]) ∈ lw_all := lw_g (lw_at lw_m8 104 rfl) rfl
theorem q1914 : (Jvm.Cond.methodLink "KrylovLaboratoryLaw" (36 : Nat) ({ cls := "KrylovLaboratory", name := "value", desc := "(I)I" } : Jvm.MethodName)) ∈ lw_all := sorry
theorem q1918 : (Jvm.Cond.methodLink "KrylovLaboratoryLaw" (156 : Nat) ({ cls := "KrylovLaboratoryLaw", name := "bound", desc := "(LKrylovLaboratory;I[J)I" } : Jvm.MethodName)) ∈ lw_all := lw_g (lw_at lw_m8 109 rfl) rfl
theorem q1919 : (Jvm.Cond.static ({ cls := "KrylovLaboratoryLaw", name := "bound", desc := "(LKrylovLaboratory;I[J)I" } : Jvm.MethodName)) ∈ lw_all := lw_g (lw_at lw_m8 110 rfl) rfl
theorem q1920 : (Jvm.Cond.codeWith ({ cls := "KrylovLaboratoryLaw", name := "bound", desc := "(LKrylovLaboratory;I[J)I" } : Jvm.MethodName) method_11_code (4 : Nat) (Option.some Jvm.ClassFile.FieldType.int) [((0 : Nat), (9 : Nat), (12 : Nat), (19 : Nat))]) ∈ lw_all := lw_g (lw_at lw_m8 111 rfl) rfl
theorem q1921 : (Jvm.Cond.methodLink "KrylovLaboratoryLaw" (39 : Nat) ({ cls := "KrylovLaboratory", name := "bound", desc := "(I)I" } : Jvm.MethodName)) ∈ lw_all := sorry
theorem q1925 : (Jvm.Cond.methodLink "KrylovLaboratoryLaw" (159 : Nat) ({ cls := "KrylovLaboratoryLaw", name := "ritz", desc := "(LKrylovLaboratory;II[J)I" } : Jvm.MethodName)) ∈ lw_all := lw_g (lw_at lw_m8 116 rfl) rfl
theorem q1926 : (Jvm.Cond.static ({ cls := "KrylovLaboratoryLaw", name := "ritz", desc := "(LKrylovLaboratory;II[J)I" } : Jvm.MethodName)) ∈ lw_all := lw_g (lw_at lw_m8 117 rfl) rfl
theorem q1927 : (Jvm.Cond.codeWith ({ cls := "KrylovLaboratoryLaw", name := "ritz", desc := "(LKrylovLaboratory;II[J)I" } : Jvm.MethodName) method_12_code (5 : Nat) (Option.some Jvm.ClassFile.FieldType.int) [((0 : Nat), (10 : Nat), (13 : Nat), (19 : Nat))]) ∈ lw_all := lw_g (lw_at lw_m8 118 rfl) rfl
theorem q1928 : (Jvm.Cond.methodLink "KrylovLaboratoryLaw" (42 : Nat) ({ cls := "KrylovLaboratory", name := "ritz", desc := "(II)I" } : Jvm.MethodName)) ∈ lw_all := sorry
theorem q1940 : (Jvm.Cond.methodLink "KrylovLaboratoryLaw" (162 : Nat) ({ cls := "KrylovLaboratoryLaw", name := "residual", desc := "(LKrylovLaboratory;I[J)I" } : Jvm.MethodName)) ∈ lw_all := lw_g (lw_at lw_m8 131 rfl) rfl
theorem q1941 : (Jvm.Cond.static ({ cls := "KrylovLaboratoryLaw", name := "residual", desc := "(LKrylovLaboratory;I[J)I" } : Jvm.MethodName)) ∈ lw_all := lw_g (lw_at lw_m8 132 rfl) rfl
theorem q1942 : (Jvm.Cond.codeWith ({ cls := "KrylovLaboratoryLaw", name := "residual", desc := "(LKrylovLaboratory;I[J)I" } : Jvm.MethodName) method_13_code (4 : Nat) (Option.some Jvm.ClassFile.FieldType.int) [((0 : Nat), (9 : Nat), (12 : Nat), (19 : Nat))]) ∈ lw_all := lw_g (lw_at lw_m8 133 rfl) rfl
theorem q1943 : (Jvm.Cond.methodLink "KrylovLaboratoryLaw" (45 : Nat) ({ cls := "KrylovLaboratory", name := "residual", desc := "(I)I" } : Jvm.MethodName)) ∈ lw_all := sorry
theorem q1954 : (Jvm.Cond.methodLink "KrylovLaboratoryLaw" (177 : Nat) ({ cls := "KrylovLaboratoryLaw", name := "locked", desc := "(LKrylovLaboratory;II[J)I" } : Jvm.MethodName)) ∈ lw_all := lw_g (lw_at lw_m8 145 rfl) rfl
theorem q1955 : (Jvm.Cond.static ({ cls := "KrylovLaboratoryLaw", name := "locked", desc := "(LKrylovLaboratory;II[J)I" } : Jvm.MethodName)) ∈ lw_all := lw_g (lw_at lw_m8 146 rfl) rfl
theorem q1956 : (Jvm.Cond.codeWith ({ cls := "KrylovLaboratoryLaw", name := "locked", desc := "(LKrylovLaboratory;II[J)I" } : Jvm.MethodName) method_14_code (5 : Nat) (Option.some Jvm.ClassFile.FieldType.int) [((0 : Nat), (10 : Nat), (13 : Nat), (19 : Nat))]) ∈ lw_all := lw_g (lw_at lw_m8 147 rfl) rfl
theorem q1957 : (Jvm.Cond.methodLink "KrylovLaboratoryLaw" (48 : Nat) ({ cls := "KrylovLaboratory", name := "locked", desc := "(II)I" } : Jvm.MethodName)) ∈ lw_all := sorry
theorem q1972 : (Jvm.Cond.methodLink "KrylovLaboratoryLaw" (180 : Nat) ({ cls := "KrylovLaboratoryLaw", name := "lockedVector", desc := "(LKrylovLaboratory;II[J)I" } : Jvm.MethodName)) ∈ lw_all := lw_g (lw_at lw_m8 163 rfl) rfl
theorem q1973 : (Jvm.Cond.static ({ cls := "KrylovLaboratoryLaw", name := "lockedVector", desc := "(LKrylovLaboratory;II[J)I" } : Jvm.MethodName)) ∈ lw_all := lw_g (lw_at lw_m8 164 rfl) rfl
theorem q1974 : (Jvm.Cond.codeWith ({ cls := "KrylovLaboratoryLaw", name := "lockedVector", desc := "(LKrylovLaboratory;II[J)I" } : Jvm.MethodName) method_15_code (5 : Nat) (Option.some Jvm.ClassFile.FieldType.int) [((0 : Nat), (10 : Nat), (13 : Nat), (19 : Nat))]) ∈ lw_all := lw_g (lw_at lw_m8 165 rfl) rfl
theorem q1975 : (Jvm.Cond.methodLink "KrylovLaboratoryLaw" (51 : Nat) ({ cls := "KrylovLaboratory", name := "lockedVector", desc := "(II)I" } : Jvm.MethodName)) ∈ lw_all := sorry
theorem q1979 : (Jvm.Cond.methodLink "KrylovLaboratoryLaw" (183 : Nat) ({ cls := "KrylovLaboratoryLaw", name := "firstBroken", desc := "(LKrylovLaboratory;I[J)I" } : Jvm.MethodName)) ∈ lw_all := lw_g (lw_at lw_m8 170 rfl) rfl
theorem q1980 : (Jvm.Cond.static ({ cls := "KrylovLaboratoryLaw", name := "firstBroken", desc := "(LKrylovLaboratory;I[J)I" } : Jvm.MethodName)) ∈ lw_all := lw_g (lw_at lw_m8 171 rfl) rfl
theorem q1981 : (Jvm.Cond.codeWith ({ cls := "KrylovLaboratoryLaw", name := "firstBroken", desc := "(LKrylovLaboratory;I[J)I" } : Jvm.MethodName) method_16_code (4 : Nat) (Option.some Jvm.ClassFile.FieldType.int) [((0 : Nat), (9 : Nat), (12 : Nat), (13 : Nat))]) ∈ lw_all := lw_g (lw_at lw_m8 172 rfl) rfl
theorem q1982 : (Jvm.Cond.methodLink "KrylovLaboratoryLaw" (54 : Nat) ({ cls := "KrylovLaboratory", name := "firstBroken", desc := "(I)I" } : Jvm.MethodName)) ∈ lw_all := sorry
theorem q1991 : (Jvm.Cond.methodLink "KrylovLaboratoryLaw" (204 : Nat) ({ cls := "KrylovLaboratoryLaw", name := "step", desc := "(LKrylovLaboratory;I[J)I" } : Jvm.MethodName)) ∈ lw_all := lw_g (lw_at lw_m8 182 rfl) rfl
theorem q1992 : (Jvm.Cond.static ({ cls := "KrylovLaboratoryLaw", name := "step", desc := "(LKrylovLaboratory;I[J)I" } : Jvm.MethodName)) ∈ lw_all := lw_g (lw_at lw_m8 183 rfl) rfl
theorem q1993 : (Jvm.Cond.codeWith ({ cls := "KrylovLaboratoryLaw", name := "step", desc := "(LKrylovLaboratory;I[J)I" } : Jvm.MethodName) method_17_code (4 : Nat) (Option.some Jvm.ClassFile.FieldType.int) [((0 : Nat), (9 : Nat), (12 : Nat), (13 : Nat))]) ∈ lw_all := lw_g (lw_at lw_m8 184 rfl) rfl
theorem q1994 : (Jvm.Cond.methodLink "KrylovLaboratoryLaw" (57 : Nat) ({ cls := "KrylovLaboratory", name := "step", desc := "(I)I" } : Jvm.MethodName)) ∈ lw_all := sorry
theorem q2036 : (Jvm.Cond.methodLink "KrylovLaboratoryLaw" (207 : Nat) ({ cls := "KrylovLaboratoryLaw", name := "lock", desc := "(LKrylovLaboratory;I[J)I" } : Jvm.MethodName)) ∈ lw_all := lw_g (lw_at lw_m8 227 rfl) rfl
theorem q2037 : (Jvm.Cond.static ({ cls := "KrylovLaboratoryLaw", name := "lock", desc := "(LKrylovLaboratory;I[J)I" } : Jvm.MethodName)) ∈ lw_all := lw_g (lw_at lw_m8 228 rfl) rfl
theorem q2038 : (Jvm.Cond.codeWith ({ cls := "KrylovLaboratoryLaw", name := "lock", desc := "(LKrylovLaboratory;I[J)I" } : Jvm.MethodName) method_18_code (4 : Nat) (Option.some Jvm.ClassFile.FieldType.int) [((0 : Nat), (9 : Nat), (12 : Nat), (19 : Nat))]) ∈ lw_all := lw_g (lw_at lw_m8 229 rfl) rfl
theorem q2039 : (Jvm.Cond.methodLink "KrylovLaboratoryLaw" (60 : Nat) ({ cls := "KrylovLaboratory", name := "lock", desc := "(I)I" } : Jvm.MethodName)) ∈ lw_all := sorry
theorem q2072 : (Jvm.Cond.methodLink "KrylovLaboratoryLaw" (210 : Nat) ({ cls := "KrylovLaboratoryLaw", name := "unlock", desc := "(LKrylovLaboratory;I[J)I" } : Jvm.MethodName)) ∈ lw_all := lw_g (lw_at lw_m9 23 rfl) rfl
theorem q2073 : (Jvm.Cond.static ({ cls := "KrylovLaboratoryLaw", name := "unlock", desc := "(LKrylovLaboratory;I[J)I" } : Jvm.MethodName)) ∈ lw_all := lw_g (lw_at lw_m9 24 rfl) rfl
theorem q2074 : (Jvm.Cond.codeWith ({ cls := "KrylovLaboratoryLaw", name := "unlock", desc := "(LKrylovLaboratory;I[J)I" } : Jvm.MethodName) method_19_code (4 : Nat) (Option.some Jvm.ClassFile.FieldType.int) [((0 : Nat), (9 : Nat), (12 : Nat), (19 : Nat))]) ∈ lw_all := lw_g (lw_at lw_m9 25 rfl) rfl
theorem q2075 : (Jvm.Cond.methodLink "KrylovLaboratoryLaw" (63 : Nat) ({ cls := "KrylovLaboratory", name := "unlock", desc := "(I)I" } : Jvm.MethodName)) ∈ lw_all := sorry
theorem q2087 : (Jvm.Cond.methodLink "KrylovLaboratoryLaw" (213 : Nat) ({ cls := "KrylovLaboratoryLaw", name := "drop", desc := "(LKrylovLaboratory;I[J)I" } : Jvm.MethodName)) ∈ lw_all := lw_g (lw_at lw_m9 38 rfl) rfl
theorem q2088 : (Jvm.Cond.static ({ cls := "KrylovLaboratoryLaw", name := "drop", desc := "(LKrylovLaboratory;I[J)I" } : Jvm.MethodName)) ∈ lw_all := lw_g (lw_at lw_m9 39 rfl) rfl
theorem q2089 : (Jvm.Cond.codeWith ({ cls := "KrylovLaboratoryLaw", name := "drop", desc := "(LKrylovLaboratory;I[J)I" } : Jvm.MethodName) method_20_code (4 : Nat) (Option.some Jvm.ClassFile.FieldType.int) [((0 : Nat), (9 : Nat), (12 : Nat), (13 : Nat))]) ∈ lw_all := lw_g (lw_at lw_m9 40 rfl) rfl
theorem q2090 : (Jvm.Cond.methodLink "KrylovLaboratoryLaw" (66 : Nat) ({ cls := "KrylovLaboratory", name := "drop", desc := "(I)I" } : Jvm.MethodName)) ∈ lw_all := sorry
theorem q2167 : (Jvm.Cond.methodLink "KrylovLaboratoryLaw" (216 : Nat) ({ cls := "KrylovLaboratoryLaw", name := "restart", desc := "(LKrylovLaboratory;I[J)I" } : Jvm.MethodName)) ∈ lw_all := lw_g (lw_at lw_m9 118 rfl) rfl
theorem q2168 : (Jvm.Cond.static ({ cls := "KrylovLaboratoryLaw", name := "restart", desc := "(LKrylovLaboratory;I[J)I" } : Jvm.MethodName)) ∈ lw_all := lw_g (lw_at lw_m9 119 rfl) rfl
theorem q2169 : (Jvm.Cond.codeWith ({ cls := "KrylovLaboratoryLaw", name := "restart", desc := "(LKrylovLaboratory;I[J)I" } : Jvm.MethodName) method_21_code (4 : Nat) (Option.some Jvm.ClassFile.FieldType.int) [((0 : Nat), (9 : Nat), (12 : Nat), (13 : Nat))]) ∈ lw_all := lw_g (lw_at lw_m9 120 rfl) rfl
theorem q2170 : (Jvm.Cond.methodLink "KrylovLaboratoryLaw" (69 : Nat) ({ cls := "KrylovLaboratory", name := "restart", desc := "(I)I" } : Jvm.MethodName)) ∈ lw_all := sorry
theorem q2195 : (Jvm.Cond.methodLink "KrylovLaboratoryLaw" (219 : Nat) ({ cls := "KrylovLaboratoryLaw", name := "sweep", desc := "(LKrylovLaboratory;I[J)I" } : Jvm.MethodName)) ∈ lw_all := lw_g (lw_at lw_m9 146 rfl) rfl
theorem q2196 : (Jvm.Cond.static ({ cls := "KrylovLaboratoryLaw", name := "sweep", desc := "(LKrylovLaboratory;I[J)I" } : Jvm.MethodName)) ∈ lw_all := lw_g (lw_at lw_m9 147 rfl) rfl
theorem q2197 : (Jvm.Cond.codeWith ({ cls := "KrylovLaboratoryLaw", name := "sweep", desc := "(LKrylovLaboratory;I[J)I" } : Jvm.MethodName) method_22_code (4 : Nat) (Option.some Jvm.ClassFile.FieldType.int) [((0 : Nat), (9 : Nat), (12 : Nat), (13 : Nat))]) ∈ lw_all := lw_g (lw_at lw_m9 148 rfl) rfl
theorem q2198 : (Jvm.Cond.methodLink "KrylovLaboratoryLaw" (72 : Nat) ({ cls := "KrylovLaboratory", name := "sweep", desc := "(I)I" } : Jvm.MethodName)) ∈ lw_all := sorry
theorem q2215 : (Jvm.Cond.methodLink "KrylovLaboratoryLaw" (222 : Nat) ({ cls := "KrylovLaboratoryLaw", name := "setEntry", desc := "(LKrylovLaboratory;III[J)I" } : Jvm.MethodName)) ∈ lw_all := lw_g (lw_at lw_m9 166 rfl) rfl
theorem q2216 : (Jvm.Cond.static ({ cls := "KrylovLaboratoryLaw", name := "setEntry", desc := "(LKrylovLaboratory;III[J)I" } : Jvm.MethodName)) ∈ lw_all := lw_g (lw_at lw_m9 167 rfl) rfl
theorem q2217 : (Jvm.Cond.codeWith ({ cls := "KrylovLaboratoryLaw", name := "setEntry", desc := "(LKrylovLaboratory;III[J)I" } : Jvm.MethodName) method_23_code (6 : Nat) (Option.some Jvm.ClassFile.FieldType.int) [((0 : Nat), (12 : Nat), (15 : Nat), (19 : Nat)), ((0 : Nat), (12 : Nat), (19 : Nat), (13 : Nat))]) ∈ lw_all := lw_g (lw_at lw_m9 168 rfl) rfl
theorem q2218 : (Jvm.Cond.methodLink "KrylovLaboratoryLaw" (75 : Nat) ({ cls := "KrylovLaboratory", name := "setEntry", desc := "(III)I" } : Jvm.MethodName)) ∈ lw_all := sorry
theorem q2226 : (Jvm.Cond.methodLink "KrylovLaboratoryLaw" (226 : Nat) ({ cls := "KrylovLaboratoryLaw", name := "setMode", desc := "(LKrylovLaboratory;I[J)I" } : Jvm.MethodName)) ∈ lw_all := lw_g (lw_at lw_m9 177 rfl) rfl
theorem q2227 : (Jvm.Cond.static ({ cls := "KrylovLaboratoryLaw", name := "setMode", desc := "(LKrylovLaboratory;I[J)I" } : Jvm.MethodName)) ∈ lw_all := lw_g (lw_at lw_m9 178 rfl) rfl
theorem q2228 : (Jvm.Cond.codeWith ({ cls := "KrylovLaboratoryLaw", name := "setMode", desc := "(LKrylovLaboratory;I[J)I" } : Jvm.MethodName) method_24_code (4 : Nat) (Option.some Jvm.ClassFile.FieldType.int) [((0 : Nat), (9 : Nat), (12 : Nat), (13 : Nat))]) ∈ lw_all := lw_g (lw_at lw_m9 179 rfl) rfl
theorem q2229 : (Jvm.Cond.methodLink "KrylovLaboratoryLaw" (79 : Nat) ({ cls := "KrylovLaboratory", name := "setMode", desc := "(I)I" } : Jvm.MethodName)) ∈ lw_all := sorry
theorem q2233 : (Jvm.Cond.methodLink "KrylovLaboratoryLaw" (229 : Nat) ({ cls := "KrylovLaboratoryLaw", name := "setThreshold", desc := "(LKrylovLaboratory;I[J)I" } : Jvm.MethodName)) ∈ lw_all := lw_g (lw_at lw_m9 184 rfl) rfl
theorem q2234 : (Jvm.Cond.static ({ cls := "KrylovLaboratoryLaw", name := "setThreshold", desc := "(LKrylovLaboratory;I[J)I" } : Jvm.MethodName)) ∈ lw_all := lw_g (lw_at lw_m9 185 rfl) rfl
theorem q2235 : (Jvm.Cond.codeWith ({ cls := "KrylovLaboratoryLaw", name := "setThreshold", desc := "(LKrylovLaboratory;I[J)I" } : Jvm.MethodName) method_25_code (4 : Nat) (Option.some Jvm.ClassFile.FieldType.int) [((0 : Nat), (9 : Nat), (12 : Nat), (13 : Nat))]) ∈ lw_all := lw_g (lw_at lw_m9 186 rfl) rfl
theorem q2236 : (Jvm.Cond.methodLink "KrylovLaboratoryLaw" (82 : Nat) ({ cls := "KrylovLaboratory", name := "setThreshold", desc := "(I)I" } : Jvm.MethodName)) ∈ lw_all := sorry
theorem q2241 : (Jvm.Cond.methodLink "KrylovLaboratoryLaw" (232 : Nat) ({ cls := "KrylovLaboratoryLaw", name := "setTolerance", desc := "(LKrylovLaboratory;I[J)I" } : Jvm.MethodName)) ∈ lw_all := lw_g (lw_at lw_m9 192 rfl) rfl
theorem q2242 : (Jvm.Cond.static ({ cls := "KrylovLaboratoryLaw", name := "setTolerance", desc := "(LKrylovLaboratory;I[J)I" } : Jvm.MethodName)) ∈ lw_all := lw_g (lw_at lw_m9 193 rfl) rfl
theorem q2243 : (Jvm.Cond.codeWith ({ cls := "KrylovLaboratoryLaw", name := "setTolerance", desc := "(LKrylovLaboratory;I[J)I" } : Jvm.MethodName) method_26_code (4 : Nat) (Option.some Jvm.ClassFile.FieldType.int) [((0 : Nat), (9 : Nat), (12 : Nat), (13 : Nat))]) ∈ lw_all := lw_g (lw_at lw_m9 194 rfl) rfl
theorem q2244 : (Jvm.Cond.methodLink "KrylovLaboratoryLaw" (85 : Nat) ({ cls := "KrylovLaboratory", name := "setTolerance", desc := "(I)I" } : Jvm.MethodName)) ∈ lw_all := sorry
theorem q2248 : (Jvm.Cond.methodLink "KrylovLaboratoryLaw" (235 : Nat) ({ cls := "KrylovLaboratoryLaw", name := "format", desc := "(LKrylovLaboratory;I[J)I" } : Jvm.MethodName)) ∈ lw_all := lw_g (lw_at lw_m9 199 rfl) rfl
theorem q2249 : (Jvm.Cond.static ({ cls := "KrylovLaboratoryLaw", name := "format", desc := "(LKrylovLaboratory;I[J)I" } : Jvm.MethodName)) ∈ lw_all := lw_g (lw_at lw_m9 200 rfl) rfl
theorem q2250 : (Jvm.Cond.codeWith ({ cls := "KrylovLaboratoryLaw", name := "format", desc := "(LKrylovLaboratory;I[J)I" } : Jvm.MethodName) method_27_code (4 : Nat) (Option.some Jvm.ClassFile.FieldType.int) [((0 : Nat), (9 : Nat), (12 : Nat), (19 : Nat))]) ∈ lw_all := lw_g (lw_at lw_m9 201 rfl) rfl
theorem q2251 : (Jvm.Cond.methodLink "KrylovLaboratoryLaw" (88 : Nat) ({ cls := "KrylovLaboratory", name := "format", desc := "(I)I" } : Jvm.MethodName)) ∈ lw_all := sorry
theorem q2291 : (Jvm.Cond.methodLink "KrylovLaboratoryLaw" (258 : Nat) ({ cls := "KrylovLaboratoryLaw", name := "query", desc := "(LKrylovLaboratory;I[J)I" } : Jvm.MethodName)) ∈ lw_all := lw_g (lw_at lw_m10 2 rfl) rfl
theorem q2292 : (Jvm.Cond.static ({ cls := "KrylovLaboratoryLaw", name := "query", desc := "(LKrylovLaboratory;I[J)I" } : Jvm.MethodName)) ∈ lw_all := lw_g (lw_at lw_m10 3 rfl) rfl
theorem q2293 : (Jvm.Cond.codeWith ({ cls := "KrylovLaboratoryLaw", name := "query", desc := "(LKrylovLaboratory;I[J)I" } : Jvm.MethodName) method_28_code (4 : Nat) (Option.some Jvm.ClassFile.FieldType.int) [((0 : Nat), (9 : Nat), (12 : Nat), (13 : Nat))]) ∈ lw_all := lw_g (lw_at lw_m10 4 rfl) rfl
theorem q2294 : (Jvm.Cond.methodLink "KrylovLaboratoryLaw" (91 : Nat) ({ cls := "KrylovLaboratory", name := "query", desc := "(I)I" } : Jvm.MethodName)) ∈ lw_all := sorry
theorem q2525 : (Jvm.Cond.classLink "KrylovLaboratoryLaw" (95 : Nat) "KrylovLaboratoryModel") ∈ lw_all := sorry
theorem q2527 : (Jvm.Cond.methodLink "KrylovLaboratoryLaw" (97 : Nat) ({ cls := "KrylovLaboratoryModel", name := "<init>", desc := "()V" } : Jvm.MethodName)) ∈ lw_all := sorry
theorem q2688 : (Jvm.Cond.methodLink "KrylovLaboratoryLaw" (109 : Nat) ({ cls := "KrylovLaboratoryModel", name := "thrown", desc := "()I" } : Jvm.MethodName)) ∈ lw_all := sorry
theorem q2692 : (Jvm.Cond.methodLink "KrylovLaboratoryLaw" (120 : Nat) ({ cls := "KrylovLaboratoryModel", name := "order", desc := "()I" } : Jvm.MethodName)) ∈ lw_all := sorry
theorem q2696 : (Jvm.Cond.methodLink "KrylovLaboratoryLaw" (124 : Nat) ({ cls := "KrylovLaboratoryModel", name := "entry", desc := "(II)I" } : Jvm.MethodName)) ∈ lw_all := sorry
theorem q2711 : (Jvm.Cond.methodLink "KrylovLaboratoryLaw" (127 : Nat) ({ cls := "KrylovLaboratoryModel", name := "setting", desc := "(I)I" } : Jvm.MethodName)) ∈ lw_all := sorry
theorem q2715 : (Jvm.Cond.methodLink "KrylovLaboratoryLaw" (131 : Nat) ({ cls := "KrylovLaboratoryModel", name := "steps", desc := "()I" } : Jvm.MethodName)) ∈ lw_all := sorry
theorem q2723 : (Jvm.Cond.methodLink "KrylovLaboratoryLaw" (136 : Nat) ({ cls := "KrylovLaboratoryModel", name := "isClosed", desc := "()Z" } : Jvm.MethodName)) ∈ lw_all := sorry
theorem q2727 : (Jvm.Cond.methodLink "KrylovLaboratoryLaw" (139 : Nat) ({ cls := "KrylovLaboratoryModel", name := "basis", desc := "(II)I" } : Jvm.MethodName)) ∈ lw_all := sorry
theorem q2742 : (Jvm.Cond.methodLink "KrylovLaboratoryLaw" (142 : Nat) ({ cls := "KrylovLaboratoryModel", name := "alpha", desc := "(I)I" } : Jvm.MethodName)) ∈ lw_all := sorry
theorem q2750 : (Jvm.Cond.methodLink "KrylovLaboratoryLaw" (145 : Nat) ({ cls := "KrylovLaboratoryModel", name := "beta", desc := "(I)I" } : Jvm.MethodName)) ∈ lw_all := sorry
theorem q2754 : (Jvm.Cond.methodLink "KrylovLaboratoryLaw" (148 : Nat) ({ cls := "KrylovLaboratoryModel", name := "estimate", desc := "(II)I" } : Jvm.MethodName)) ∈ lw_all := sorry
theorem q2762 : (Jvm.Cond.methodLink "KrylovLaboratoryLaw" (152 : Nat) ({ cls := "KrylovLaboratoryModel", name := "loss", desc := "()I" } : Jvm.MethodName)) ∈ lw_all := sorry
theorem q2768 : (Jvm.Cond.methodLink "KrylovLaboratoryLaw" (155 : Nat) ({ cls := "KrylovLaboratoryModel", name := "value", desc := "(I)I" } : Jvm.MethodName)) ∈ lw_all := sorry
theorem q2783 : (Jvm.Cond.methodLink "KrylovLaboratoryLaw" (158 : Nat) ({ cls := "KrylovLaboratoryModel", name := "bound", desc := "(I)I" } : Jvm.MethodName)) ∈ lw_all := sorry
theorem q2804 : (Jvm.Cond.methodLink "KrylovLaboratoryLaw" (161 : Nat) ({ cls := "KrylovLaboratoryModel", name := "ritz", desc := "(II)I" } : Jvm.MethodName)) ∈ lw_all := sorry
theorem q2812 : (Jvm.Cond.methodLink "KrylovLaboratoryLaw" (164 : Nat) ({ cls := "KrylovLaboratoryModel", name := "residual", desc := "(I)I" } : Jvm.MethodName)) ∈ lw_all := sorry
theorem q2824 : (Jvm.Cond.methodLink "KrylovLaboratoryLaw" (168 : Nat) ({ cls := "KrylovLaboratoryModel", name := "countBelow", desc := "(I)I" } : Jvm.MethodName)) ∈ lw_all := sorry
theorem q2828 : (Jvm.Cond.methodLink "KrylovLaboratoryLaw" (172 : Nat) ({ cls := "KrylovLaboratoryModel", name := "nearest", desc := "(I)I" } : Jvm.MethodName)) ∈ lw_all := sorry
theorem q2832 : (Jvm.Cond.methodLink "KrylovLaboratoryLaw" (176 : Nat) ({ cls := "KrylovLaboratoryModel", name := "lockedCount", desc := "()I" } : Jvm.MethodName)) ∈ lw_all := sorry
theorem q2836 : (Jvm.Cond.methodLink "KrylovLaboratoryLaw" (179 : Nat) ({ cls := "KrylovLaboratoryModel", name := "locked", desc := "(II)I" } : Jvm.MethodName)) ∈ lw_all := sorry
theorem q2852 : (Jvm.Cond.methodLink "KrylovLaboratoryLaw" (182 : Nat) ({ cls := "KrylovLaboratoryModel", name := "lockedVector", desc := "(II)I" } : Jvm.MethodName)) ∈ lw_all := sorry
theorem q2856 : (Jvm.Cond.methodLink "KrylovLaboratoryLaw" (185 : Nat) ({ cls := "KrylovLaboratoryModel", name := "firstBroken", desc := "(I)I" } : Jvm.MethodName)) ∈ lw_all := sorry
theorem q2864 : (Jvm.Cond.methodLink "KrylovLaboratoryLaw" (209 : Nat) ({ cls := "KrylovLaboratoryModel", name := "lock", desc := "(I)I" } : Jvm.MethodName)) ∈ lw_all := sorry
theorem q2883 : (Jvm.Cond.methodLink "KrylovLaboratoryLaw" (212 : Nat) ({ cls := "KrylovLaboratoryModel", name := "unlock", desc := "(I)I" } : Jvm.MethodName)) ∈ lw_all := sorry
theorem q2891 : (Jvm.Cond.methodLink "KrylovLaboratoryLaw" (215 : Nat) ({ cls := "KrylovLaboratoryModel", name := "drop", desc := "(I)I" } : Jvm.MethodName)) ∈ lw_all := sorry
theorem q2895 : (Jvm.Cond.methodLink "KrylovLaboratoryLaw" (189 : Nat) ({ cls := "KrylovLaboratoryModel", name := "total", desc := "(I)I" } : Jvm.MethodName)) ∈ lw_all := sorry
theorem q2900 : (Jvm.Cond.methodLink "KrylovLaboratoryLaw" (193 : Nat) ({ cls := "KrylovLaboratoryModel", name := "convergesIn", desc := "()I" } : Jvm.MethodName)) ∈ lw_all := sorry
theorem q2936 : (Jvm.Cond.methodLink "KrylovLaboratoryLaw" (198 : Nat) ({ cls := "KrylovLaboratoryModel", name := "traceGap", desc := "()J" } : Jvm.MethodName)) ∈ lw_all := sorry
theorem q2940 : (Jvm.Cond.methodLink "KrylovLaboratoryLaw" (203 : Nat) ({ cls := "KrylovLaboratoryModel", name := "meanBound", desc := "()D" } : Jvm.MethodName)) ∈ lw_all := sorry
theorem q2944 : (Jvm.Cond.methodLink "KrylovLaboratoryLaw" (206 : Nat) ({ cls := "KrylovLaboratoryModel", name := "step", desc := "(I)I" } : Jvm.MethodName)) ∈ lw_all := sorry
theorem q2953 : (Jvm.Cond.methodLink "KrylovLaboratoryLaw" (218 : Nat) ({ cls := "KrylovLaboratoryModel", name := "restart", desc := "(I)I" } : Jvm.MethodName)) ∈ lw_all := sorry
theorem q2965 : (Jvm.Cond.methodLink "KrylovLaboratoryLaw" (221 : Nat) ({ cls := "KrylovLaboratoryModel", name := "sweep", desc := "(I)I" } : Jvm.MethodName)) ∈ lw_all := sorry
theorem q2974 : (Jvm.Cond.methodLink "KrylovLaboratoryLaw" (225 : Nat) ({ cls := "KrylovLaboratoryModel", name := "setEntry", desc := "(III)I" } : Jvm.MethodName)) ∈ lw_all := sorry
theorem q2983 : (Jvm.Cond.methodLink "KrylovLaboratoryLaw" (228 : Nat) ({ cls := "KrylovLaboratoryModel", name := "setMode", desc := "(I)I" } : Jvm.MethodName)) ∈ lw_all := sorry
theorem q2991 : (Jvm.Cond.methodLink "KrylovLaboratoryLaw" (231 : Nat) ({ cls := "KrylovLaboratoryModel", name := "setThreshold", desc := "(I)I" } : Jvm.MethodName)) ∈ lw_all := sorry
theorem q2996 : (Jvm.Cond.methodLink "KrylovLaboratoryLaw" (234 : Nat) ({ cls := "KrylovLaboratoryModel", name := "setTolerance", desc := "(I)I" } : Jvm.MethodName)) ∈ lw_all := sorry
theorem q3000 : (Jvm.Cond.methodLink "KrylovLaboratoryLaw" (237 : Nat) ({ cls := "KrylovLaboratoryModel", name := "format", desc := "(I)I" } : Jvm.MethodName)) ∈ lw_all := sorry
theorem q3015 : (Jvm.Cond.methodLink "KrylovLaboratoryLaw" (241 : Nat) ({ cls := "KrylovLaboratoryModel", name := "formattedByte", desc := "(I)I" } : Jvm.MethodName)) ∈ lw_all := sorry
theorem q3019 : (Jvm.Cond.methodLink "KrylovLaboratoryLaw" (245 : Nat) ({ cls := "KrylovLaboratoryModel", name := "undoCount", desc := "()I" } : Jvm.MethodName)) ∈ lw_all := sorry
theorem q3023 : (Jvm.Cond.methodLink "KrylovLaboratoryLaw" (249 : Nat) ({ cls := "KrylovLaboratoryModel", name := "undo", desc := "()I" } : Jvm.MethodName)) ∈ lw_all := sorry
theorem q3027 : (Jvm.Cond.methodLink "KrylovLaboratoryLaw" (253 : Nat) ({ cls := "KrylovLaboratoryModel", name := "saveSnapshot", desc := "()V" } : Jvm.MethodName)) ∈ lw_all := sorry
theorem q3031 : (Jvm.Cond.methodLink "KrylovLaboratoryLaw" (257 : Nat) ({ cls := "KrylovLaboratoryModel", name := "restoreSnapshot", desc := "()Z" } : Jvm.MethodName)) ∈ lw_all := sorry
theorem q3035 : (Jvm.Cond.methodLink "KrylovLaboratoryLaw" (102 : Nat) ({ cls := "KrylovLaboratoryModel", name := "feed", desc := "(IIIII)I" } : Jvm.MethodName)) ∈ lw_all := sorry
theorem q3039 : (Jvm.Cond.methodLink "KrylovLaboratoryLaw" (116 : Nat) ({ cls := "KrylovLaboratoryModel", name := "errorPosition", desc := "()I" } : Jvm.MethodName)) ∈ lw_all := sorry
theorem q3043 : (Jvm.Cond.methodLink "KrylovLaboratoryLaw" (108 : Nat) ({ cls := "KrylovLaboratoryModel", name := "load", desc := "(I)I" } : Jvm.MethodName)) ∈ lw_all := sorry
theorem q3152 : (Jvm.Cond.methodLink "KrylovLaboratoryLaw" (260 : Nat) ({ cls := "KrylovLaboratoryModel", name := "query", desc := "(I)I" } : Jvm.MethodName)) ∈ lw_all := sorry
/-! the law's own entry -/
set_option maxRecDepth 100000
abbrev cL_law : ByteArray := code
def dkwL_law_85 : List UInt8 := [167, 0, 3, 132, 4, 6, 167, 247, 171, 4, 172]
abbrev dktL_law_85 : List UInt8 := dkwL_law_85 ++ []
def dkwL_law_84 : List UInt8 := [159, 0, 5, 3, 172, 21, 5, 154, 0, 15, 45, 3, 47, 21, 6, 133, 148, 153, 0, 5, 3, 172]
abbrev dktL_law_84 : List UInt8 := dkwL_law_84 ++ dktL_law_85
def dkwL_law_83 : List UInt8 := [184, 1, 2, 54, 5, 44, 42, 21, 4, 4, 96, 46, 182, 1, 4, 54, 6, 44, 182, 0, 109, 21, 5]
abbrev dktL_law_83 : List UInt8 := dkwL_law_83 ++ dktL_law_84
def dkwL_law_82 : List UInt8 := [167, 0, 72, 43, 182, 0, 254, 44, 182, 1, 1, 159, 0, 61, 3, 172, 43, 42, 21, 4, 4, 96, 46, 45]
abbrev dktL_law_82 : List UInt8 := dkwL_law_82 ++ dktL_law_83
def dkwL_law_81 : List UInt8 := [3, 172, 43, 182, 0, 246, 44, 182, 0, 249, 159, 0, 85, 3, 172, 43, 182, 0, 250, 44, 182, 0, 253]
abbrev dktL_law_81 : List UInt8 := dkwL_law_81 ++ dktL_law_82
def dkwL_law_80 : List UInt8 := [21, 4, 4, 96, 46, 182, 0, 241, 159, 0, 111, 3, 172, 43, 182, 0, 242, 44, 182, 0, 245, 159, 0, 98]
abbrev dktL_law_80 : List UInt8 := dkwL_law_80 ++ dktL_law_81
def dkwL_law_79 : List UInt8 := [21, 6, 133, 148, 153, 0, 5, 3, 172, 167, 0, 134, 43, 42, 21, 4, 4, 96, 46, 182, 0, 238, 44, 42]
abbrev dktL_law_79 : List UInt8 := dkwL_law_79 ++ dktL_law_80
def dkwL_law_78 : List UInt8 := [182, 0, 237, 54, 6, 44, 182, 0, 109, 21, 5, 159, 0, 5, 3, 172, 21, 5, 154, 0, 15, 45, 3, 47]
abbrev dktL_law_78 : List UInt8 := dkwL_law_78 ++ dktL_law_79
def dkwL_law_77 : List UInt8 := [167, 0, 190, 43, 42, 21, 4, 4, 96, 46, 45, 184, 0, 235, 54, 5, 44, 42, 21, 4, 4, 96, 46]
abbrev dktL_law_77 : List UInt8 := dkwL_law_77 ++ dktL_law_78
def dkwL_law_76 : List UInt8 := [21, 5, 159, 0, 5, 3, 172, 21, 5, 154, 0, 15, 45, 3, 47, 21, 6, 133, 148, 153, 0, 5, 3, 172]
abbrev dktL_law_76 : List UInt8 := dkwL_law_76 ++ dktL_law_77
def dkwL_law_75 : List UInt8 := [46, 45, 184, 0, 232, 54, 5, 44, 42, 21, 4, 4, 96, 46, 182, 0, 234, 54, 6, 44, 182, 0, 109]
abbrev dktL_law_75 : List UInt8 := dkwL_law_75 ++ dktL_law_76
def dkwL_law_74 : List UInt8 := [154, 0, 15, 45, 3, 47, 21, 6, 133, 148, 153, 0, 5, 3, 172, 167, 0, 246, 43, 42, 21, 4, 4, 96]
abbrev dktL_law_74 : List UInt8 := dkwL_law_74 ++ dktL_law_75
def dkwL_law_73 : List UInt8 := [21, 4, 4, 96, 46, 182, 0, 231, 54, 6, 44, 182, 0, 109, 21, 5, 159, 0, 5, 3, 172, 21, 5]
abbrev dktL_law_73 : List UInt8 := dkwL_law_73 ++ dktL_law_74
def dkwL_law_72 : List UInt8 := [153, 0, 5, 3, 172, 167, 1, 46, 43, 42, 21, 4, 4, 96, 46, 45, 184, 0, 229, 54, 5, 44, 42]
abbrev dktL_law_72 : List UInt8 := dkwL_law_72 ++ dktL_law_73
def dkwL_law_71 : List UInt8 := [182, 0, 109, 21, 5, 159, 0, 5, 3, 172, 21, 5, 154, 0, 15, 45, 3, 47, 21, 6, 133, 148]
abbrev dktL_law_71 : List UInt8 := dkwL_law_71 ++ dktL_law_72
def dkwL_law_70 : List UInt8 := [4, 96, 46, 45, 184, 0, 226, 54, 5, 44, 42, 21, 4, 4, 96, 46, 182, 0, 228, 54, 6, 44]
abbrev dktL_law_70 : List UInt8 := dkwL_law_70 ++ dktL_law_71
def dkwL_law_69 : List UInt8 := [21, 5, 154, 0, 15, 45, 3, 47, 21, 6, 133, 148, 153, 0, 5, 3, 172, 167, 1, 102, 43, 42, 21, 4]
abbrev dktL_law_69 : List UInt8 := dkwL_law_69 ++ dktL_law_70
def dkwL_law_68 : List UInt8 := [96, 46, 42, 21, 4, 6, 96, 46, 182, 0, 225, 54, 6, 44, 182, 0, 109, 21, 5, 159, 0, 5, 3, 172]
abbrev dktL_law_68 : List UInt8 := dkwL_law_68 ++ dktL_law_69
def dkwL_law_67 : List UInt8 := [46, 42, 21, 4, 6, 96, 46, 45, 184, 0, 222, 54, 5, 44, 42, 21, 4, 4, 96, 46, 42, 21, 4, 5]
abbrev dktL_law_67 : List UInt8 := dkwL_law_67 ++ dktL_law_68
def dkwL_law_66 : List UInt8 := [21, 6, 133, 148, 153, 0, 5, 3, 172, 167, 1, 182, 43, 42, 21, 4, 4, 96, 46, 42, 21, 4, 5, 96]
abbrev dktL_law_66 : List UInt8 := dkwL_law_66 ++ dktL_law_67
def dkwL_law_65 : List UInt8 := [182, 0, 221, 54, 6, 44, 182, 0, 109, 21, 5, 159, 0, 5, 3, 172, 21, 5, 154, 0, 15, 45, 3, 47]
abbrev dktL_law_65 : List UInt8 := dkwL_law_65 ++ dktL_law_66
def dkwL_law_64 : List UInt8 := [167, 1, 238, 43, 42, 21, 4, 4, 96, 46, 45, 184, 0, 219, 54, 5, 44, 42, 21, 4, 4, 96, 46]
abbrev dktL_law_64 : List UInt8 := dkwL_law_64 ++ dktL_law_65
def dkwL_law_63 : List UInt8 := [21, 5, 159, 0, 5, 3, 172, 21, 5, 154, 0, 15, 45, 3, 47, 21, 6, 133, 148, 153, 0, 5, 3, 172]
abbrev dktL_law_63 : List UInt8 := dkwL_law_63 ++ dktL_law_64
def dkwL_law_62 : List UInt8 := [46, 45, 184, 0, 216, 54, 5, 44, 42, 21, 4, 4, 96, 46, 182, 0, 218, 54, 6, 44, 182, 0, 109]
abbrev dktL_law_62 : List UInt8 := dkwL_law_62 ++ dktL_law_63
def dkwL_law_61 : List UInt8 := [154, 0, 15, 45, 3, 47, 21, 6, 133, 148, 153, 0, 5, 3, 172, 167, 2, 38, 43, 42, 21, 4, 4, 96]
abbrev dktL_law_61 : List UInt8 := dkwL_law_61 ++ dktL_law_62
def dkwL_law_60 : List UInt8 := [21, 4, 4, 96, 46, 182, 0, 215, 54, 6, 44, 182, 0, 109, 21, 5, 159, 0, 5, 3, 172, 21, 5]
abbrev dktL_law_60 : List UInt8 := dkwL_law_60 ++ dktL_law_61
def dkwL_law_59 : List UInt8 := [153, 0, 5, 3, 172, 167, 2, 94, 43, 42, 21, 4, 4, 96, 46, 45, 184, 0, 213, 54, 5, 44, 42]
abbrev dktL_law_59 : List UInt8 := dkwL_law_59 ++ dktL_law_60
def dkwL_law_58 : List UInt8 := [182, 0, 109, 21, 5, 159, 0, 5, 3, 172, 21, 5, 154, 0, 15, 45, 3, 47, 21, 6, 133, 148]
abbrev dktL_law_58 : List UInt8 := dkwL_law_58 ++ dktL_law_59
def dkwL_law_57 : List UInt8 := [21, 4, 4, 96, 46, 45, 184, 0, 210, 54, 5, 44, 42, 21, 4, 4, 96, 46, 182, 0, 212, 54, 6, 44]
abbrev dktL_law_57 : List UInt8 := dkwL_law_57 ++ dktL_law_58
def dkwL_law_56 : List UInt8 := [172, 21, 5, 154, 0, 15, 45, 3, 47, 21, 6, 133, 148, 153, 0, 5, 3, 172, 167, 2, 150, 43, 42]
abbrev dktL_law_56 : List UInt8 := dkwL_law_56 ++ dktL_law_57
def dkwL_law_55 : List UInt8 := [54, 5, 44, 42, 21, 4, 4, 96, 46, 182, 0, 209, 54, 6, 44, 182, 0, 109, 21, 5, 159, 0, 5, 3]
abbrev dktL_law_55 : List UInt8 := dkwL_law_55 ++ dktL_law_56
def dkwL_law_54 : List UInt8 := [21, 6, 133, 148, 153, 0, 5, 3, 172, 167, 2, 206, 43, 42, 21, 4, 4, 96, 46, 45, 184, 0, 207]
abbrev dktL_law_54 : List UInt8 := dkwL_law_54 ++ dktL_law_55
def dkwL_law_53 : List UInt8 := [182, 0, 206, 54, 6, 44, 182, 0, 109, 21, 5, 159, 0, 5, 3, 172, 21, 5, 154, 0, 15, 45, 3, 47]
abbrev dktL_law_53 : List UInt8 := dkwL_law_53 ++ dktL_law_54
def dkwL_law_52 : List UInt8 := [167, 3, 6, 43, 42, 21, 4, 4, 96, 46, 45, 184, 0, 204, 54, 5, 44, 42, 21, 4, 4, 96, 46]
abbrev dktL_law_52 : List UInt8 := dkwL_law_52 ++ dktL_law_53
def dkwL_law_51 : List UInt8 := [24, 7, 151, 153, 0, 21, 24, 5, 24, 5, 151, 153, 0, 11, 24, 7, 24, 7, 151, 154, 0, 5, 3, 172]
abbrev dktL_law_51 : List UInt8 := dkwL_law_51 ++ dktL_law_52
def dkwL_law_50 : List UInt8 := [182, 0, 198, 148, 153, 3, 49, 3, 172, 43, 182, 0, 199, 57, 5, 44, 182, 0, 203, 57, 7, 24, 5]
abbrev dktL_law_50 : List UInt8 := dkwL_law_50 ++ dktL_law_51
def dkwL_law_49 : List UInt8 := [159, 3, 76, 3, 172, 43, 182, 0, 190, 44, 182, 0, 193, 159, 3, 63, 3, 172, 43, 182, 0, 194, 44]
abbrev dktL_law_49 : List UInt8 := dkwL_law_49 ++ dktL_law_50
def dkwL_law_48 : List UInt8 := [167, 3, 99, 43, 42, 21, 4, 4, 96, 46, 182, 0, 186, 44, 42, 21, 4, 4, 96, 46, 182, 0, 189]
abbrev dktL_law_48 : List UInt8 := dkwL_law_48 ++ dktL_law_49
def dkwL_law_47 : List UInt8 := [159, 0, 5, 3, 172, 21, 5, 154, 0, 15, 45, 3, 47, 21, 6, 133, 148, 153, 0, 5, 3, 172]
abbrev dktL_law_47 : List UInt8 := dkwL_law_47 ++ dktL_law_48
def dkwL_law_46 : List UInt8 := [184, 0, 183, 54, 5, 44, 42, 21, 4, 4, 96, 46, 182, 0, 185, 54, 6, 44, 182, 0, 109, 21, 5]
abbrev dktL_law_46 : List UInt8 := dkwL_law_46 ++ dktL_law_47
def dkwL_law_45 : List UInt8 := [3, 47, 21, 6, 133, 148, 153, 0, 5, 3, 172, 167, 3, 155, 43, 42, 21, 4, 4, 96, 46, 45]
abbrev dktL_law_45 : List UInt8 := dkwL_law_45 ++ dktL_law_46
def dkwL_law_44 : List UInt8 := [96, 46, 182, 0, 182, 54, 6, 44, 182, 0, 109, 21, 5, 159, 0, 5, 3, 172, 21, 5, 154, 0, 15, 45]
abbrev dktL_law_44 : List UInt8 := dkwL_law_44 ++ dktL_law_45
def dkwL_law_43 : List UInt8 := [46, 42, 21, 4, 5, 96, 46, 45, 184, 0, 180, 54, 5, 44, 42, 21, 4, 4, 96, 46, 42, 21, 4, 5]
abbrev dktL_law_43 : List UInt8 := dkwL_law_43 ++ dktL_law_44
def dkwL_law_42 : List UInt8 := [154, 0, 15, 45, 3, 47, 21, 6, 133, 148, 153, 0, 5, 3, 172, 167, 3, 223, 43, 42, 21, 4, 4, 96]
abbrev dktL_law_42 : List UInt8 := dkwL_law_42 ++ dktL_law_43
def dkwL_law_41 : List UInt8 := [42, 21, 4, 5, 96, 46, 182, 0, 179, 54, 6, 44, 182, 0, 109, 21, 5, 159, 0, 5, 3, 172, 21, 5]
abbrev dktL_law_41 : List UInt8 := dkwL_law_41 ++ dktL_law_42
def dkwL_law_40 : List UInt8 := [21, 4, 4, 96, 46, 42, 21, 4, 5, 96, 46, 45, 184, 0, 177, 54, 5, 44, 42, 21, 4, 4, 96, 46]
abbrev dktL_law_40 : List UInt8 := dkwL_law_40 ++ dktL_law_41
def dkwL_law_39 : List UInt8 := [182, 0, 172, 159, 4, 50, 3, 172, 43, 182, 0, 173, 44, 182, 0, 176, 159, 4, 37, 3, 172, 43, 42]
abbrev dktL_law_39 : List UInt8 := dkwL_law_39 ++ dktL_law_40
def dkwL_law_38 : List UInt8 := [159, 4, 75, 3, 172, 43, 42, 21, 4, 4, 96, 46, 182, 0, 169, 44, 42, 21, 4, 4, 96, 46]
abbrev dktL_law_38 : List UInt8 := dkwL_law_38 ++ dktL_law_39
def dkwL_law_37 : List UInt8 := [167, 4, 98, 43, 42, 21, 4, 4, 96, 46, 182, 0, 165, 44, 42, 21, 4, 4, 96, 46, 182, 0, 168]
abbrev dktL_law_37 : List UInt8 := dkwL_law_37 ++ dktL_law_38
def dkwL_law_36 : List UInt8 := [159, 0, 5, 3, 172, 21, 5, 154, 0, 15, 45, 3, 47, 21, 6, 133, 148, 153, 0, 5, 3, 172]
abbrev dktL_law_36 : List UInt8 := dkwL_law_36 ++ dktL_law_37
def dkwL_law_35 : List UInt8 := [184, 0, 162, 54, 5, 44, 42, 21, 4, 4, 96, 46, 182, 0, 164, 54, 6, 44, 182, 0, 109, 21, 5]
abbrev dktL_law_35 : List UInt8 := dkwL_law_35 ++ dktL_law_36
def dkwL_law_34 : List UInt8 := [3, 47, 21, 6, 133, 148, 153, 0, 5, 3, 172, 167, 4, 154, 43, 42, 21, 4, 4, 96, 46, 45]
abbrev dktL_law_34 : List UInt8 := dkwL_law_34 ++ dktL_law_35
def dkwL_law_33 : List UInt8 := [96, 46, 182, 0, 161, 54, 6, 44, 182, 0, 109, 21, 5, 159, 0, 5, 3, 172, 21, 5, 154, 0, 15, 45]
abbrev dktL_law_33 : List UInt8 := dkwL_law_33 ++ dktL_law_34
def dkwL_law_32 : List UInt8 := [46, 42, 21, 4, 5, 96, 46, 45, 184, 0, 159, 54, 5, 44, 42, 21, 4, 4, 96, 46, 42, 21, 4, 5]
abbrev dktL_law_32 : List UInt8 := dkwL_law_32 ++ dktL_law_33
def dkwL_law_31 : List UInt8 := [154, 0, 15, 45, 3, 47, 21, 6, 133, 148, 153, 0, 5, 3, 172, 167, 4, 222, 43, 42, 21, 4, 4, 96]
abbrev dktL_law_31 : List UInt8 := dkwL_law_31 ++ dktL_law_32
def dkwL_law_30 : List UInt8 := [21, 4, 4, 96, 46, 182, 0, 158, 54, 6, 44, 182, 0, 109, 21, 5, 159, 0, 5, 3, 172, 21, 5]
abbrev dktL_law_30 : List UInt8 := dkwL_law_30 ++ dktL_law_31
def dkwL_law_29 : List UInt8 := [153, 0, 5, 3, 172, 167, 5, 22, 43, 42, 21, 4, 4, 96, 46, 45, 184, 0, 156, 54, 5, 44, 42]
abbrev dktL_law_29 : List UInt8 := dkwL_law_29 ++ dktL_law_30
def dkwL_law_28 : List UInt8 := [182, 0, 109, 21, 5, 159, 0, 5, 3, 172, 21, 5, 154, 0, 15, 45, 3, 47, 21, 6, 133, 148]
abbrev dktL_law_28 : List UInt8 := dkwL_law_28 ++ dktL_law_29
def dkwL_law_27 : List UInt8 := [21, 4, 4, 96, 46, 45, 184, 0, 153, 54, 5, 44, 42, 21, 4, 4, 96, 46, 182, 0, 155, 54, 6, 44]
abbrev dktL_law_27 : List UInt8 := dkwL_law_27 ++ dktL_law_28
def dkwL_law_26 : List UInt8 := [148, 153, 0, 5, 3, 172, 167, 5, 91, 43, 182, 0, 149, 44, 182, 0, 152, 159, 5, 80, 3, 172, 43, 42]
abbrev dktL_law_26 : List UInt8 := dkwL_law_26 ++ dktL_law_27
def dkwL_law_25 : List UInt8 := [54, 6, 44, 182, 0, 109, 21, 5, 159, 0, 5, 3, 172, 21, 5, 154, 0, 15, 45, 3, 47, 21, 6, 133]
abbrev dktL_law_25 : List UInt8 := dkwL_law_25 ++ dktL_law_26
def dkwL_law_24 : List UInt8 := [46, 45, 184, 0, 146, 54, 5, 44, 42, 21, 4, 4, 96, 46, 42, 21, 4, 5, 96, 46, 182, 0, 148]
abbrev dktL_law_24 : List UInt8 := dkwL_law_24 ++ dktL_law_25
def dkwL_law_23 : List UInt8 := [21, 6, 133, 148, 153, 0, 5, 3, 172, 167, 5, 159, 43, 42, 21, 4, 4, 96, 46, 42, 21, 4, 5, 96]
abbrev dktL_law_23 : List UInt8 := dkwL_law_23 ++ dktL_law_24
def dkwL_law_22 : List UInt8 := [182, 0, 145, 54, 6, 44, 182, 0, 109, 21, 5, 159, 0, 5, 3, 172, 21, 5, 154, 0, 15, 45, 3, 47]
abbrev dktL_law_22 : List UInt8 := dkwL_law_22 ++ dktL_law_23
def dkwL_law_21 : List UInt8 := [167, 5, 215, 43, 42, 21, 4, 4, 96, 46, 45, 184, 0, 143, 54, 5, 44, 42, 21, 4, 4, 96, 46]
abbrev dktL_law_21 : List UInt8 := dkwL_law_21 ++ dktL_law_22
def dkwL_law_20 : List UInt8 := [21, 5, 159, 0, 5, 3, 172, 21, 5, 154, 0, 15, 45, 3, 47, 21, 6, 133, 148, 153, 0, 5, 3, 172]
abbrev dktL_law_20 : List UInt8 := dkwL_law_20 ++ dktL_law_21
def dkwL_law_19 : List UInt8 := [46, 45, 184, 0, 140, 54, 5, 44, 42, 21, 4, 4, 96, 46, 182, 0, 142, 54, 6, 44, 182, 0, 109]
abbrev dktL_law_19 : List UInt8 := dkwL_law_19 ++ dktL_law_20
def dkwL_law_18 : List UInt8 := [154, 0, 15, 45, 3, 47, 21, 6, 133, 148, 153, 0, 5, 3, 172, 167, 6, 15, 43, 42, 21, 4, 4, 96]
abbrev dktL_law_18 : List UInt8 := dkwL_law_18 ++ dktL_law_19
def dkwL_law_17 : List UInt8 := [42, 21, 4, 5, 96, 46, 182, 0, 139, 54, 6, 44, 182, 0, 109, 21, 5, 159, 0, 5, 3, 172, 21, 5]
abbrev dktL_law_17 : List UInt8 := dkwL_law_17 ++ dktL_law_18
def dkwL_law_16 : List UInt8 := [21, 4, 4, 96, 46, 42, 21, 4, 5, 96, 46, 45, 184, 0, 137, 54, 5, 44, 42, 21, 4, 4, 96, 46]
abbrev dktL_law_16 : List UInt8 := dkwL_law_16 ++ dktL_law_17
def dkwL_law_15 : List UInt8 := [182, 0, 131, 159, 6, 98, 3, 172, 43, 182, 0, 132, 44, 182, 0, 136, 159, 6, 85, 3, 172, 43, 42]
abbrev dktL_law_15 : List UInt8 := dkwL_law_15 ++ dktL_law_16
def dkwL_law_14 : List UInt8 := [154, 0, 15, 45, 3, 47, 21, 6, 133, 148, 153, 0, 5, 3, 172, 167, 6, 109, 43, 182, 0, 128, 44]
abbrev dktL_law_14 : List UInt8 := dkwL_law_14 ++ dktL_law_15
def dkwL_law_13 : List UInt8 := [21, 4, 4, 96, 46, 182, 0, 127, 54, 6, 44, 182, 0, 109, 21, 5, 159, 0, 5, 3, 172, 21, 5]
abbrev dktL_law_13 : List UInt8 := dkwL_law_13 ++ dktL_law_14
def dkwL_law_12 : List UInt8 := [148, 153, 0, 5, 3, 172, 167, 6, 165, 43, 42, 21, 4, 4, 96, 46, 45, 184, 0, 125, 54, 5, 44, 42]
abbrev dktL_law_12 : List UInt8 := dkwL_law_12 ++ dktL_law_13
def dkwL_law_11 : List UInt8 := [54, 6, 44, 182, 0, 109, 21, 5, 159, 0, 5, 3, 172, 21, 5, 154, 0, 15, 45, 3, 47, 21, 6, 133]
abbrev dktL_law_11 : List UInt8 := dkwL_law_11 ++ dktL_law_12
def dkwL_law_10 : List UInt8 := [46, 45, 184, 0, 121, 54, 5, 44, 42, 21, 4, 4, 96, 46, 42, 21, 4, 5, 96, 46, 182, 0, 124]
abbrev dktL_law_10 : List UInt8 := dkwL_law_10 ++ dktL_law_11
def dkwL_law_9 : List UInt8 := [182, 0, 117, 44, 182, 0, 120, 159, 6, 235, 3, 172, 43, 42, 21, 4, 4, 96, 46, 42, 21, 4, 5, 96]
abbrev dktL_law_9 : List UInt8 := dkwL_law_9 ++ dktL_law_10
def dkwL_law_8 : List UInt8 := [148, 153, 0, 5, 3, 172, 167, 7, 3, 43, 182, 0, 113, 44, 182, 0, 116, 159, 6, 248, 3, 172, 43]
abbrev dktL_law_8 : List UInt8 := dkwL_law_8 ++ dktL_law_9
def dkwL_law_7 : List UInt8 := [54, 6, 44, 182, 0, 109, 21, 5, 159, 0, 5, 3, 172, 21, 5, 154, 0, 15, 45, 3, 47, 21, 6, 133]
abbrev dktL_law_7 : List UInt8 := dkwL_law_7 ++ dktL_law_8
def dkwL_law_6 : List UInt8 := [172, 43, 42, 21, 4, 4, 96, 46, 45, 184, 0, 103, 54, 5, 44, 42, 21, 4, 4, 96, 46, 182, 0, 108]
abbrev dktL_law_6 : List UInt8 := dkwL_law_6 ++ dktL_law_7
def dkwL_law_5 : List UInt8 := [21, 4, 6, 96, 46, 42, 21, 4, 7, 96, 46, 42, 21, 4, 8, 96, 46, 182, 0, 102, 159, 7, 61, 3]
abbrev dktL_law_5 : List UInt8 := dkwL_law_5 ++ dktL_law_6
def dkwL_law_4 : List UInt8 := [46, 42, 21, 4, 8, 96, 46, 182, 0, 98, 44, 42, 21, 4, 4, 96, 46, 42, 21, 4, 5, 96, 46, 42]
abbrev dktL_law_4 : List UInt8 := dkwL_law_4 ++ dktL_law_5
def dkwL_law_3 : List UInt8 := [43, 42, 21, 4, 4, 96, 46, 42, 21, 4, 5, 96, 46, 42, 21, 4, 6, 96, 46, 42, 21, 4, 7, 96]
abbrev dktL_law_3 : List UInt8 := dkwL_law_3 ++ dktL_law_4
def dkwL_law_2 : List UInt8 := [170, 0, 0, 0, 0, 0, 8, 65, 0, 0, 0, 0, 0, 0, 0, 43, 0, 0, 0, 192, 0, 0, 1, 9, 0, 0, 1, 65, 0, 0, 1, 78, 0, 0, 1, 91, 0, 0, 1, 159, 0, 0, 1, 215, 0, 0, 1, 228, 0, 0, 1, 241, 0, 0, 2, 53, 0, 0, 2, 109, 0, 0, 2, 165, 0, 0, 2, 233, 0, 0, 2, 246, 0, 0, 3, 46, 0, 0, 3, 102, 0, 0, 3, 170, 0, 0, 3, 226, 0, 0, 3, 251, 0, 0, 4, 20, 0, 0, 4, 33, 0, 0, 4, 101, 0, 0, 4, 169, 0, 0, 4, 225, 0, 0, 4, 250, 0, 0, 5, 7, 0, 0, 5, 21, 0, 0, 5, 62, 0, 0, 5, 118, 0, 0, 5, 174, 0, 0, 5, 230, 0, 0, 6, 30, 0, 0, 6, 86, 0, 0, 6, 142, 0, 0, 6, 222, 0, 0, 7, 22, 0, 0, 7, 78, 0, 0, 7, 134, 0, 0, 7, 190, 0, 0, 7, 215, 0, 0, 7, 228, 0, 0, 7, 241, 0, 0, 7, 252, 0, 0, 8, 9]
abbrev dktL_law_2 : List UInt8 := dkwL_law_2 ++ dktL_law_3
def dkwL_law_1 : List UInt8 := [21, 4, 42, 190, 16, 6, 100, 163, 8, 81, 42, 21, 4, 46, 16, 63, 126]
abbrev dktL_law_1 : List UInt8 := dkwL_law_1 ++ dktL_law_2
def dkwL_law_0 : List UInt8 := [187, 0, 8, 89, 183, 0, 94, 76, 187, 0, 95, 89, 183, 0, 97, 77, 4, 188, 11, 78, 3, 54, 4]
abbrev dktL_law_0 : List UInt8 := dkwL_law_0 ++ dktL_law_1
theorem dksL_law_0 : cL_law.data.toList.drop 0 = dktL_law_0 := sorry
theorem dksL_law_1 : cL_law.data.toList.drop 23 = dktL_law_1 := sorry
theorem dksL_law_2 : cL_law.data.toList.drop 40 = dktL_law_2 := sorry
theorem dksL_law_3 : cL_law.data.toList.drop 232 = dktL_law_3 := sorry
theorem dksL_law_4 : cL_law.data.toList.drop 256 = dktL_law_4 := sorry
theorem dksL_law_5 : cL_law.data.toList.drop 280 = dktL_law_5 := sorry
theorem dksL_law_6 : cL_law.data.toList.drop 304 = dktL_law_6 := sorry
theorem dksL_law_7 : cL_law.data.toList.drop 328 = dktL_law_7 := sorry
theorem dksL_law_8 : cL_law.data.toList.drop 352 = dktL_law_8 := sorry
theorem dksL_law_9 : cL_law.data.toList.drop 375 = dktL_law_9 := sorry
theorem dksL_law_10 : cL_law.data.toList.drop 399 = dktL_law_10 := sorry
theorem dksL_law_11 : cL_law.data.toList.drop 422 = dktL_law_11 := sorry
theorem dksL_law_12 : cL_law.data.toList.drop 446 = dktL_law_12 := sorry
theorem dksL_law_13 : cL_law.data.toList.drop 470 = dktL_law_13 := sorry
theorem dksL_law_14 : cL_law.data.toList.drop 493 = dktL_law_14 := sorry
theorem dksL_law_15 : cL_law.data.toList.drop 516 = dktL_law_15 := sorry
theorem dksL_law_16 : cL_law.data.toList.drop 539 = dktL_law_16 := sorry
theorem dksL_law_17 : cL_law.data.toList.drop 563 = dktL_law_17 := sorry
theorem dksL_law_18 : cL_law.data.toList.drop 587 = dktL_law_18 := sorry
theorem dksL_law_19 : cL_law.data.toList.drop 611 = dktL_law_19 := sorry
theorem dksL_law_20 : cL_law.data.toList.drop 634 = dktL_law_20 := sorry
theorem dksL_law_21 : cL_law.data.toList.drop 658 = dktL_law_21 := sorry
theorem dksL_law_22 : cL_law.data.toList.drop 681 = dktL_law_22 := sorry
theorem dksL_law_23 : cL_law.data.toList.drop 705 = dktL_law_23 := sorry
theorem dksL_law_24 : cL_law.data.toList.drop 729 = dktL_law_24 := sorry
theorem dksL_law_25 : cL_law.data.toList.drop 752 = dktL_law_25 := sorry
theorem dksL_law_26 : cL_law.data.toList.drop 776 = dktL_law_26 := sorry
theorem dksL_law_27 : cL_law.data.toList.drop 800 = dktL_law_27 := sorry
theorem dksL_law_28 : cL_law.data.toList.drop 824 = dktL_law_28 := sorry
theorem dksL_law_29 : cL_law.data.toList.drop 846 = dktL_law_29 := sorry
theorem dksL_law_30 : cL_law.data.toList.drop 869 = dktL_law_30 := sorry
theorem dksL_law_31 : cL_law.data.toList.drop 892 = dktL_law_31 := sorry
theorem dksL_law_32 : cL_law.data.toList.drop 916 = dktL_law_32 := sorry
theorem dksL_law_33 : cL_law.data.toList.drop 940 = dktL_law_33 := sorry
theorem dksL_law_34 : cL_law.data.toList.drop 964 = dktL_law_34 := sorry
theorem dksL_law_35 : cL_law.data.toList.drop 986 = dktL_law_35 := sorry
theorem dksL_law_36 : cL_law.data.toList.drop 1009 = dktL_law_36 := sorry
theorem dksL_law_37 : cL_law.data.toList.drop 1031 = dktL_law_37 := sorry
theorem dksL_law_38 : cL_law.data.toList.drop 1054 = dktL_law_38 := sorry
theorem dksL_law_39 : cL_law.data.toList.drop 1076 = dktL_law_39 := sorry
theorem dksL_law_40 : cL_law.data.toList.drop 1099 = dktL_law_40 := sorry
theorem dksL_law_41 : cL_law.data.toList.drop 1123 = dktL_law_41 := sorry
theorem dksL_law_42 : cL_law.data.toList.drop 1147 = dktL_law_42 := sorry
theorem dksL_law_43 : cL_law.data.toList.drop 1171 = dktL_law_43 := sorry
theorem dksL_law_44 : cL_law.data.toList.drop 1195 = dktL_law_44 := sorry
theorem dksL_law_45 : cL_law.data.toList.drop 1219 = dktL_law_45 := sorry
theorem dksL_law_46 : cL_law.data.toList.drop 1241 = dktL_law_46 := sorry
theorem dksL_law_47 : cL_law.data.toList.drop 1264 = dktL_law_47 := sorry
theorem dksL_law_48 : cL_law.data.toList.drop 1286 = dktL_law_48 := sorry
theorem dksL_law_49 : cL_law.data.toList.drop 1309 = dktL_law_49 := sorry
theorem dksL_law_50 : cL_law.data.toList.drop 1332 = dktL_law_50 := sorry
theorem dksL_law_51 : cL_law.data.toList.drop 1355 = dktL_law_51 := sorry
theorem dksL_law_52 : cL_law.data.toList.drop 1379 = dktL_law_52 := sorry
theorem dksL_law_53 : cL_law.data.toList.drop 1402 = dktL_law_53 := sorry
theorem dksL_law_54 : cL_law.data.toList.drop 1426 = dktL_law_54 := sorry
theorem dksL_law_55 : cL_law.data.toList.drop 1449 = dktL_law_55 := sorry
theorem dksL_law_56 : cL_law.data.toList.drop 1473 = dktL_law_56 := sorry
theorem dksL_law_57 : cL_law.data.toList.drop 1496 = dktL_law_57 := sorry
theorem dksL_law_58 : cL_law.data.toList.drop 1520 = dktL_law_58 := sorry
theorem dksL_law_59 : cL_law.data.toList.drop 1542 = dktL_law_59 := sorry
theorem dksL_law_60 : cL_law.data.toList.drop 1565 = dktL_law_60 := sorry
theorem dksL_law_61 : cL_law.data.toList.drop 1588 = dktL_law_61 := sorry
theorem dksL_law_62 : cL_law.data.toList.drop 1612 = dktL_law_62 := sorry
theorem dksL_law_63 : cL_law.data.toList.drop 1635 = dktL_law_63 := sorry
theorem dksL_law_64 : cL_law.data.toList.drop 1659 = dktL_law_64 := sorry
theorem dksL_law_65 : cL_law.data.toList.drop 1682 = dktL_law_65 := sorry
theorem dksL_law_66 : cL_law.data.toList.drop 1706 = dktL_law_66 := sorry
theorem dksL_law_67 : cL_law.data.toList.drop 1730 = dktL_law_67 := sorry
theorem dksL_law_68 : cL_law.data.toList.drop 1754 = dktL_law_68 := sorry
theorem dksL_law_69 : cL_law.data.toList.drop 1778 = dktL_law_69 := sorry
theorem dksL_law_70 : cL_law.data.toList.drop 1802 = dktL_law_70 := sorry
theorem dksL_law_71 : cL_law.data.toList.drop 1824 = dktL_law_71 := sorry
theorem dksL_law_72 : cL_law.data.toList.drop 1846 = dktL_law_72 := sorry
theorem dksL_law_73 : cL_law.data.toList.drop 1869 = dktL_law_73 := sorry
theorem dksL_law_74 : cL_law.data.toList.drop 1892 = dktL_law_74 := sorry
theorem dksL_law_75 : cL_law.data.toList.drop 1916 = dktL_law_75 := sorry
theorem dksL_law_76 : cL_law.data.toList.drop 1939 = dktL_law_76 := sorry
theorem dksL_law_77 : cL_law.data.toList.drop 1963 = dktL_law_77 := sorry
theorem dksL_law_78 : cL_law.data.toList.drop 1986 = dktL_law_78 := sorry
theorem dksL_law_79 : cL_law.data.toList.drop 2010 = dktL_law_79 := sorry
theorem dksL_law_80 : cL_law.data.toList.drop 2034 = dktL_law_80 := sorry
theorem dksL_law_81 : cL_law.data.toList.drop 2058 = dktL_law_81 := sorry
theorem dksL_law_82 : cL_law.data.toList.drop 2081 = dktL_law_82 := sorry
theorem dksL_law_83 : cL_law.data.toList.drop 2105 = dktL_law_83 := sorry
theorem dksL_law_84 : cL_law.data.toList.drop 2128 = dktL_law_84 := sorry
theorem dksL_law_85 : cL_law.data.toList.drop 2150 = dktL_law_85 := sorry
theorem dL_law_0 : decode cL_law 0 = .ok (.new 8, 3) := sorry
theorem dL_law_3 : decode cL_law 3 = .ok (.dup, 1) := sorry
theorem dL_law_4 : decode cL_law 4 = .ok (.invokespecial 94, 3) := sorry
theorem dL_law_7 : decode cL_law 7 = .ok (.astore_n 1, 1) := sorry
theorem dL_law_8 : decode cL_law 8 = .ok (.new 95, 3) := sorry
theorem dL_law_11 : decode cL_law 11 = .ok (.dup, 1) := sorry
theorem dL_law_12 : decode cL_law 12 = .ok (.invokespecial 97, 3) := sorry
theorem dL_law_15 : decode cL_law 15 = .ok (.astore_n 2, 1) := sorry
theorem dL_law_16 : decode cL_law 16 = .ok (.iconst 1, 1) := sorry
theorem dL_law_17 : decode cL_law 17 = .ok (.newarray .long, 2) := sorry
theorem dL_law_19 : decode cL_law 19 = .ok (.astore_n 3, 1) := sorry
theorem dL_law_20 : decode cL_law 20 = .ok (.iconst 0, 1) := sorry
theorem dL_law_21 : decode cL_law 21 = .ok (.istore 4, 2) := sorry
theorem dL_law_23 : decode cL_law 23 = .ok (.iload 4, 2) := sorry
theorem dL_law_25 : decode cL_law 25 = .ok (.aload_n 0, 1) := sorry
theorem dL_law_26 : decode cL_law 26 = .ok (.arraylength, 1) := sorry
theorem dL_law_27 : decode cL_law 27 = .ok (.bipush 6, 2) := sorry
theorem dL_law_29 : decode cL_law 29 = .ok (.isub, 1) := sorry
theorem dL_law_30 : decode cL_law 30 = .ok (.if_icmp .gt 2129, 3) := sorry
theorem dL_law_33 : decode cL_law 33 = .ok (.aload_n 0, 1) := sorry
theorem dL_law_34 : decode cL_law 34 = .ok (.iload 4, 2) := sorry
theorem dL_law_36 : decode cL_law 36 = .ok (.iaload, 1) := sorry
theorem dL_law_37 : decode cL_law 37 = .ok (.bipush 63, 2) := sorry
theorem dL_law_39 : decode cL_law 39 = .ok (.iand, 1) := sorry
theorem dL_law_40 : decode cL_law 40 = .ok (.tableswitch 2113 0 43 #[192, 265, 321, 334, 347, 415, 471, 484, 497, 565, 621, 677, 745, 758, 814, 870, 938, 994, 1019, 1044, 1057, 1125, 1193, 1249, 1274, 1287, 1301, 1342, 1398, 1454, 1510, 1566, 1622, 1678, 1758, 1814, 1870, 1926, 1982, 2007, 2020, 2033, 2044, 2057], 192) := sorry
theorem dL_law_232 : decode cL_law 232 = .ok (.aload_n 1, 1) := sorry
theorem dL_law_233 : decode cL_law 233 = .ok (.aload_n 0, 1) := sorry
theorem dL_law_234 : decode cL_law 234 = .ok (.iload 4, 2) := sorry
theorem dL_law_236 : decode cL_law 236 = .ok (.iconst 1, 1) := sorry
theorem dL_law_237 : decode cL_law 237 = .ok (.iadd, 1) := sorry
theorem dL_law_238 : decode cL_law 238 = .ok (.iaload, 1) := sorry
theorem dL_law_239 : decode cL_law 239 = .ok (.aload_n 0, 1) := sorry
theorem dL_law_240 : decode cL_law 240 = .ok (.iload 4, 2) := sorry
theorem dL_law_242 : decode cL_law 242 = .ok (.iconst 2, 1) := sorry
theorem dL_law_243 : decode cL_law 243 = .ok (.iadd, 1) := sorry
theorem dL_law_244 : decode cL_law 244 = .ok (.iaload, 1) := sorry
theorem dL_law_245 : decode cL_law 245 = .ok (.aload_n 0, 1) := sorry
theorem dL_law_246 : decode cL_law 246 = .ok (.iload 4, 2) := sorry
theorem dL_law_248 : decode cL_law 248 = .ok (.iconst 3, 1) := sorry
theorem dL_law_249 : decode cL_law 249 = .ok (.iadd, 1) := sorry
theorem dL_law_250 : decode cL_law 250 = .ok (.iaload, 1) := sorry
theorem dL_law_251 : decode cL_law 251 = .ok (.aload_n 0, 1) := sorry
theorem dL_law_252 : decode cL_law 252 = .ok (.iload 4, 2) := sorry
theorem dL_law_254 : decode cL_law 254 = .ok (.iconst 4, 1) := sorry
theorem dL_law_255 : decode cL_law 255 = .ok (.iadd, 1) := sorry
theorem dL_law_256 : decode cL_law 256 = .ok (.iaload, 1) := sorry
theorem dL_law_257 : decode cL_law 257 = .ok (.aload_n 0, 1) := sorry
theorem dL_law_258 : decode cL_law 258 = .ok (.iload 4, 2) := sorry
theorem dL_law_260 : decode cL_law 260 = .ok (.iconst 5, 1) := sorry
theorem dL_law_261 : decode cL_law 261 = .ok (.iadd, 1) := sorry
theorem dL_law_262 : decode cL_law 262 = .ok (.iaload, 1) := sorry
theorem dL_law_263 : decode cL_law 263 = .ok (.invokevirtual 98, 3) := sorry
theorem dL_law_266 : decode cL_law 266 = .ok (.aload_n 2, 1) := sorry
theorem dL_law_267 : decode cL_law 267 = .ok (.aload_n 0, 1) := sorry
theorem dL_law_268 : decode cL_law 268 = .ok (.iload 4, 2) := sorry
theorem dL_law_270 : decode cL_law 270 = .ok (.iconst 1, 1) := sorry
theorem dL_law_271 : decode cL_law 271 = .ok (.iadd, 1) := sorry
theorem dL_law_272 : decode cL_law 272 = .ok (.iaload, 1) := sorry
theorem dL_law_273 : decode cL_law 273 = .ok (.aload_n 0, 1) := sorry
theorem dL_law_274 : decode cL_law 274 = .ok (.iload 4, 2) := sorry
theorem dL_law_276 : decode cL_law 276 = .ok (.iconst 2, 1) := sorry
theorem dL_law_277 : decode cL_law 277 = .ok (.iadd, 1) := sorry
theorem dL_law_278 : decode cL_law 278 = .ok (.iaload, 1) := sorry
theorem dL_law_279 : decode cL_law 279 = .ok (.aload_n 0, 1) := sorry
theorem dL_law_280 : decode cL_law 280 = .ok (.iload 4, 2) := sorry
theorem dL_law_282 : decode cL_law 282 = .ok (.iconst 3, 1) := sorry
theorem dL_law_283 : decode cL_law 283 = .ok (.iadd, 1) := sorry
theorem dL_law_284 : decode cL_law 284 = .ok (.iaload, 1) := sorry
theorem dL_law_285 : decode cL_law 285 = .ok (.aload_n 0, 1) := sorry
theorem dL_law_286 : decode cL_law 286 = .ok (.iload 4, 2) := sorry
theorem dL_law_288 : decode cL_law 288 = .ok (.iconst 4, 1) := sorry
theorem dL_law_289 : decode cL_law 289 = .ok (.iadd, 1) := sorry
theorem dL_law_290 : decode cL_law 290 = .ok (.iaload, 1) := sorry
theorem dL_law_291 : decode cL_law 291 = .ok (.aload_n 0, 1) := sorry
theorem dL_law_292 : decode cL_law 292 = .ok (.iload 4, 2) := sorry
theorem dL_law_294 : decode cL_law 294 = .ok (.iconst 5, 1) := sorry
theorem dL_law_295 : decode cL_law 295 = .ok (.iadd, 1) := sorry
theorem dL_law_296 : decode cL_law 296 = .ok (.iaload, 1) := sorry
theorem dL_law_297 : decode cL_law 297 = .ok (.invokevirtual 102, 3) := sorry
theorem dL_law_300 : decode cL_law 300 = .ok (.if_icmp .eq 1853, 3) := sorry
theorem dL_law_303 : decode cL_law 303 = .ok (.iconst 0, 1) := sorry
theorem dL_law_304 : decode cL_law 304 = .ok (.ireturn, 1) := sorry
theorem dL_law_305 : decode cL_law 305 = .ok (.aload_n 1, 1) := sorry
theorem dL_law_306 : decode cL_law 306 = .ok (.aload_n 0, 1) := sorry
theorem dL_law_307 : decode cL_law 307 = .ok (.iload 4, 2) := sorry
theorem dL_law_309 : decode cL_law 309 = .ok (.iconst 1, 1) := sorry
theorem dL_law_310 : decode cL_law 310 = .ok (.iadd, 1) := sorry
theorem dL_law_311 : decode cL_law 311 = .ok (.iaload, 1) := sorry
theorem dL_law_312 : decode cL_law 312 = .ok (.aload_n 3, 1) := sorry
theorem dL_law_313 : decode cL_law 313 = .ok (.invokestatic 103, 3) := sorry
theorem dL_law_316 : decode cL_law 316 = .ok (.istore 5, 2) := sorry
theorem dL_law_318 : decode cL_law 318 = .ok (.aload_n 2, 1) := sorry
theorem dL_law_319 : decode cL_law 319 = .ok (.aload_n 0, 1) := sorry
theorem dL_law_320 : decode cL_law 320 = .ok (.iload 4, 2) := sorry
theorem dL_law_322 : decode cL_law 322 = .ok (.iconst 1, 1) := sorry
theorem dL_law_323 : decode cL_law 323 = .ok (.iadd, 1) := sorry
theorem dL_law_324 : decode cL_law 324 = .ok (.iaload, 1) := sorry
theorem dL_law_325 : decode cL_law 325 = .ok (.invokevirtual 108, 3) := sorry
theorem dL_law_328 : decode cL_law 328 = .ok (.istore 6, 2) := sorry
theorem dL_law_330 : decode cL_law 330 = .ok (.aload_n 2, 1) := sorry
theorem dL_law_331 : decode cL_law 331 = .ok (.invokevirtual 109, 3) := sorry
theorem dL_law_334 : decode cL_law 334 = .ok (.iload 5, 2) := sorry
theorem dL_law_336 : decode cL_law 336 = .ok (.if_icmp .eq 5, 3) := sorry
theorem dL_law_339 : decode cL_law 339 = .ok (.iconst 0, 1) := sorry
theorem dL_law_340 : decode cL_law 340 = .ok (.ireturn, 1) := sorry
theorem dL_law_341 : decode cL_law 341 = .ok (.iload 5, 2) := sorry
theorem dL_law_343 : decode cL_law 343 = .ok (.ifCond .ne 15, 3) := sorry
theorem dL_law_346 : decode cL_law 346 = .ok (.aload_n 3, 1) := sorry
theorem dL_law_347 : decode cL_law 347 = .ok (.iconst 0, 1) := sorry
theorem dL_law_348 : decode cL_law 348 = .ok (.laload, 1) := sorry
theorem dL_law_349 : decode cL_law 349 = .ok (.iload 6, 2) := sorry
theorem dL_law_351 : decode cL_law 351 = .ok (.i2l, 1) := sorry
theorem dL_law_352 : decode cL_law 352 = .ok (.lcmp, 1) := sorry
theorem dL_law_353 : decode cL_law 353 = .ok (.ifCond .eq 5, 3) := sorry
theorem dL_law_356 : decode cL_law 356 = .ok (.iconst 0, 1) := sorry
theorem dL_law_357 : decode cL_law 357 = .ok (.ireturn, 1) := sorry
theorem dL_law_358 : decode cL_law 358 = .ok (.goto 1795, 3) := sorry
theorem dL_law_361 : decode cL_law 361 = .ok (.aload_n 1, 1) := sorry
theorem dL_law_362 : decode cL_law 362 = .ok (.invokevirtual 113, 3) := sorry
theorem dL_law_365 : decode cL_law 365 = .ok (.aload_n 2, 1) := sorry
theorem dL_law_366 : decode cL_law 366 = .ok (.invokevirtual 116, 3) := sorry
theorem dL_law_369 : decode cL_law 369 = .ok (.if_icmp .eq 1784, 3) := sorry
theorem dL_law_372 : decode cL_law 372 = .ok (.iconst 0, 1) := sorry
theorem dL_law_373 : decode cL_law 373 = .ok (.ireturn, 1) := sorry
theorem dL_law_374 : decode cL_law 374 = .ok (.aload_n 1, 1) := sorry
theorem dL_law_375 : decode cL_law 375 = .ok (.invokevirtual 117, 3) := sorry
theorem dL_law_378 : decode cL_law 378 = .ok (.aload_n 2, 1) := sorry
theorem dL_law_379 : decode cL_law 379 = .ok (.invokevirtual 120, 3) := sorry
theorem dL_law_382 : decode cL_law 382 = .ok (.if_icmp .eq 1771, 3) := sorry
theorem dL_law_385 : decode cL_law 385 = .ok (.iconst 0, 1) := sorry
theorem dL_law_386 : decode cL_law 386 = .ok (.ireturn, 1) := sorry
theorem dL_law_387 : decode cL_law 387 = .ok (.aload_n 1, 1) := sorry
theorem dL_law_388 : decode cL_law 388 = .ok (.aload_n 0, 1) := sorry
theorem dL_law_389 : decode cL_law 389 = .ok (.iload 4, 2) := sorry
theorem dL_law_391 : decode cL_law 391 = .ok (.iconst 1, 1) := sorry
theorem dL_law_392 : decode cL_law 392 = .ok (.iadd, 1) := sorry
theorem dL_law_393 : decode cL_law 393 = .ok (.iaload, 1) := sorry
theorem dL_law_394 : decode cL_law 394 = .ok (.aload_n 0, 1) := sorry
theorem dL_law_395 : decode cL_law 395 = .ok (.iload 4, 2) := sorry
theorem dL_law_397 : decode cL_law 397 = .ok (.iconst 2, 1) := sorry
theorem dL_law_398 : decode cL_law 398 = .ok (.iadd, 1) := sorry
theorem dL_law_399 : decode cL_law 399 = .ok (.iaload, 1) := sorry
theorem dL_law_400 : decode cL_law 400 = .ok (.aload_n 3, 1) := sorry
theorem dL_law_401 : decode cL_law 401 = .ok (.invokestatic 121, 3) := sorry
theorem dL_law_404 : decode cL_law 404 = .ok (.istore 5, 2) := sorry
theorem dL_law_406 : decode cL_law 406 = .ok (.aload_n 2, 1) := sorry
theorem dL_law_407 : decode cL_law 407 = .ok (.aload_n 0, 1) := sorry
theorem dL_law_408 : decode cL_law 408 = .ok (.iload 4, 2) := sorry
theorem dL_law_410 : decode cL_law 410 = .ok (.iconst 1, 1) := sorry
theorem dL_law_411 : decode cL_law 411 = .ok (.iadd, 1) := sorry
theorem dL_law_412 : decode cL_law 412 = .ok (.iaload, 1) := sorry
theorem dL_law_413 : decode cL_law 413 = .ok (.aload_n 0, 1) := sorry
theorem dL_law_414 : decode cL_law 414 = .ok (.iload 4, 2) := sorry
theorem dL_law_416 : decode cL_law 416 = .ok (.iconst 2, 1) := sorry
theorem dL_law_417 : decode cL_law 417 = .ok (.iadd, 1) := sorry
theorem dL_law_418 : decode cL_law 418 = .ok (.iaload, 1) := sorry
theorem dL_law_419 : decode cL_law 419 = .ok (.invokevirtual 124, 3) := sorry
theorem dL_law_422 : decode cL_law 422 = .ok (.istore 6, 2) := sorry
theorem dL_law_424 : decode cL_law 424 = .ok (.aload_n 2, 1) := sorry
theorem dL_law_425 : decode cL_law 425 = .ok (.invokevirtual 109, 3) := sorry
theorem dL_law_428 : decode cL_law 428 = .ok (.iload 5, 2) := sorry
theorem dL_law_430 : decode cL_law 430 = .ok (.if_icmp .eq 5, 3) := sorry
theorem dL_law_433 : decode cL_law 433 = .ok (.iconst 0, 1) := sorry
theorem dL_law_434 : decode cL_law 434 = .ok (.ireturn, 1) := sorry
theorem dL_law_435 : decode cL_law 435 = .ok (.iload 5, 2) := sorry
theorem dL_law_437 : decode cL_law 437 = .ok (.ifCond .ne 15, 3) := sorry
theorem dL_law_440 : decode cL_law 440 = .ok (.aload_n 3, 1) := sorry
theorem dL_law_441 : decode cL_law 441 = .ok (.iconst 0, 1) := sorry
theorem dL_law_442 : decode cL_law 442 = .ok (.laload, 1) := sorry
theorem dL_law_443 : decode cL_law 443 = .ok (.iload 6, 2) := sorry
theorem dL_law_445 : decode cL_law 445 = .ok (.i2l, 1) := sorry
theorem dL_law_446 : decode cL_law 446 = .ok (.lcmp, 1) := sorry
theorem dL_law_447 : decode cL_law 447 = .ok (.ifCond .eq 5, 3) := sorry
theorem dL_law_450 : decode cL_law 450 = .ok (.iconst 0, 1) := sorry
theorem dL_law_451 : decode cL_law 451 = .ok (.ireturn, 1) := sorry
theorem dL_law_452 : decode cL_law 452 = .ok (.goto 1701, 3) := sorry
theorem dL_law_455 : decode cL_law 455 = .ok (.aload_n 1, 1) := sorry
theorem dL_law_456 : decode cL_law 456 = .ok (.aload_n 0, 1) := sorry
theorem dL_law_457 : decode cL_law 457 = .ok (.iload 4, 2) := sorry
theorem dL_law_459 : decode cL_law 459 = .ok (.iconst 1, 1) := sorry
theorem dL_law_460 : decode cL_law 460 = .ok (.iadd, 1) := sorry
theorem dL_law_461 : decode cL_law 461 = .ok (.iaload, 1) := sorry
theorem dL_law_462 : decode cL_law 462 = .ok (.aload_n 3, 1) := sorry
theorem dL_law_463 : decode cL_law 463 = .ok (.invokestatic 125, 3) := sorry
theorem dL_law_466 : decode cL_law 466 = .ok (.istore 5, 2) := sorry
theorem dL_law_468 : decode cL_law 468 = .ok (.aload_n 2, 1) := sorry
theorem dL_law_469 : decode cL_law 469 = .ok (.aload_n 0, 1) := sorry
theorem dL_law_470 : decode cL_law 470 = .ok (.iload 4, 2) := sorry
theorem dL_law_472 : decode cL_law 472 = .ok (.iconst 1, 1) := sorry
theorem dL_law_473 : decode cL_law 473 = .ok (.iadd, 1) := sorry
theorem dL_law_474 : decode cL_law 474 = .ok (.iaload, 1) := sorry
theorem dL_law_475 : decode cL_law 475 = .ok (.invokevirtual 127, 3) := sorry
theorem dL_law_478 : decode cL_law 478 = .ok (.istore 6, 2) := sorry
theorem dL_law_480 : decode cL_law 480 = .ok (.aload_n 2, 1) := sorry
theorem dL_law_481 : decode cL_law 481 = .ok (.invokevirtual 109, 3) := sorry
theorem dL_law_484 : decode cL_law 484 = .ok (.iload 5, 2) := sorry
theorem dL_law_486 : decode cL_law 486 = .ok (.if_icmp .eq 5, 3) := sorry
theorem dL_law_489 : decode cL_law 489 = .ok (.iconst 0, 1) := sorry
theorem dL_law_490 : decode cL_law 490 = .ok (.ireturn, 1) := sorry
theorem dL_law_491 : decode cL_law 491 = .ok (.iload 5, 2) := sorry
theorem dL_law_493 : decode cL_law 493 = .ok (.ifCond .ne 15, 3) := sorry
theorem dL_law_496 : decode cL_law 496 = .ok (.aload_n 3, 1) := sorry
theorem dL_law_497 : decode cL_law 497 = .ok (.iconst 0, 1) := sorry
theorem dL_law_498 : decode cL_law 498 = .ok (.laload, 1) := sorry
theorem dL_law_499 : decode cL_law 499 = .ok (.iload 6, 2) := sorry
theorem dL_law_501 : decode cL_law 501 = .ok (.i2l, 1) := sorry
theorem dL_law_502 : decode cL_law 502 = .ok (.lcmp, 1) := sorry
theorem dL_law_503 : decode cL_law 503 = .ok (.ifCond .eq 5, 3) := sorry
theorem dL_law_506 : decode cL_law 506 = .ok (.iconst 0, 1) := sorry
theorem dL_law_507 : decode cL_law 507 = .ok (.ireturn, 1) := sorry
theorem dL_law_508 : decode cL_law 508 = .ok (.goto 1645, 3) := sorry
theorem dL_law_511 : decode cL_law 511 = .ok (.aload_n 1, 1) := sorry
theorem dL_law_512 : decode cL_law 512 = .ok (.invokevirtual 128, 3) := sorry
theorem dL_law_515 : decode cL_law 515 = .ok (.aload_n 2, 1) := sorry
theorem dL_law_516 : decode cL_law 516 = .ok (.invokevirtual 131, 3) := sorry
theorem dL_law_519 : decode cL_law 519 = .ok (.if_icmp .eq 1634, 3) := sorry
theorem dL_law_522 : decode cL_law 522 = .ok (.iconst 0, 1) := sorry
theorem dL_law_523 : decode cL_law 523 = .ok (.ireturn, 1) := sorry
theorem dL_law_524 : decode cL_law 524 = .ok (.aload_n 1, 1) := sorry
theorem dL_law_525 : decode cL_law 525 = .ok (.invokevirtual 132, 3) := sorry
theorem dL_law_528 : decode cL_law 528 = .ok (.aload_n 2, 1) := sorry
theorem dL_law_529 : decode cL_law 529 = .ok (.invokevirtual 136, 3) := sorry
theorem dL_law_532 : decode cL_law 532 = .ok (.if_icmp .eq 1621, 3) := sorry
theorem dL_law_535 : decode cL_law 535 = .ok (.iconst 0, 1) := sorry
theorem dL_law_536 : decode cL_law 536 = .ok (.ireturn, 1) := sorry
theorem dL_law_537 : decode cL_law 537 = .ok (.aload_n 1, 1) := sorry
theorem dL_law_538 : decode cL_law 538 = .ok (.aload_n 0, 1) := sorry
theorem dL_law_539 : decode cL_law 539 = .ok (.iload 4, 2) := sorry
theorem dL_law_541 : decode cL_law 541 = .ok (.iconst 1, 1) := sorry
theorem dL_law_542 : decode cL_law 542 = .ok (.iadd, 1) := sorry
theorem dL_law_543 : decode cL_law 543 = .ok (.iaload, 1) := sorry
theorem dL_law_544 : decode cL_law 544 = .ok (.aload_n 0, 1) := sorry
theorem dL_law_545 : decode cL_law 545 = .ok (.iload 4, 2) := sorry
theorem dL_law_547 : decode cL_law 547 = .ok (.iconst 2, 1) := sorry
theorem dL_law_548 : decode cL_law 548 = .ok (.iadd, 1) := sorry
theorem dL_law_549 : decode cL_law 549 = .ok (.iaload, 1) := sorry
theorem dL_law_550 : decode cL_law 550 = .ok (.aload_n 3, 1) := sorry
theorem dL_law_551 : decode cL_law 551 = .ok (.invokestatic 137, 3) := sorry
theorem dL_law_554 : decode cL_law 554 = .ok (.istore 5, 2) := sorry
theorem dL_law_556 : decode cL_law 556 = .ok (.aload_n 2, 1) := sorry
theorem dL_law_557 : decode cL_law 557 = .ok (.aload_n 0, 1) := sorry
theorem dL_law_558 : decode cL_law 558 = .ok (.iload 4, 2) := sorry
theorem dL_law_560 : decode cL_law 560 = .ok (.iconst 1, 1) := sorry
theorem dL_law_561 : decode cL_law 561 = .ok (.iadd, 1) := sorry
theorem dL_law_562 : decode cL_law 562 = .ok (.iaload, 1) := sorry
theorem dL_law_563 : decode cL_law 563 = .ok (.aload_n 0, 1) := sorry
theorem dL_law_564 : decode cL_law 564 = .ok (.iload 4, 2) := sorry
theorem dL_law_566 : decode cL_law 566 = .ok (.iconst 2, 1) := sorry
theorem dL_law_567 : decode cL_law 567 = .ok (.iadd, 1) := sorry
theorem dL_law_568 : decode cL_law 568 = .ok (.iaload, 1) := sorry
theorem dL_law_569 : decode cL_law 569 = .ok (.invokevirtual 139, 3) := sorry
theorem dL_law_572 : decode cL_law 572 = .ok (.istore 6, 2) := sorry
theorem dL_law_574 : decode cL_law 574 = .ok (.aload_n 2, 1) := sorry
theorem dL_law_575 : decode cL_law 575 = .ok (.invokevirtual 109, 3) := sorry
theorem dL_law_578 : decode cL_law 578 = .ok (.iload 5, 2) := sorry
theorem dL_law_580 : decode cL_law 580 = .ok (.if_icmp .eq 5, 3) := sorry
theorem dL_law_583 : decode cL_law 583 = .ok (.iconst 0, 1) := sorry
theorem dL_law_584 : decode cL_law 584 = .ok (.ireturn, 1) := sorry
theorem dL_law_585 : decode cL_law 585 = .ok (.iload 5, 2) := sorry
theorem dL_law_587 : decode cL_law 587 = .ok (.ifCond .ne 15, 3) := sorry
theorem dL_law_590 : decode cL_law 590 = .ok (.aload_n 3, 1) := sorry
theorem dL_law_591 : decode cL_law 591 = .ok (.iconst 0, 1) := sorry
theorem dL_law_592 : decode cL_law 592 = .ok (.laload, 1) := sorry
theorem dL_law_593 : decode cL_law 593 = .ok (.iload 6, 2) := sorry
theorem dL_law_595 : decode cL_law 595 = .ok (.i2l, 1) := sorry
theorem dL_law_596 : decode cL_law 596 = .ok (.lcmp, 1) := sorry
theorem dL_law_597 : decode cL_law 597 = .ok (.ifCond .eq 5, 3) := sorry
theorem dL_law_600 : decode cL_law 600 = .ok (.iconst 0, 1) := sorry
theorem dL_law_601 : decode cL_law 601 = .ok (.ireturn, 1) := sorry
theorem dL_law_602 : decode cL_law 602 = .ok (.goto 1551, 3) := sorry
theorem dL_law_605 : decode cL_law 605 = .ok (.aload_n 1, 1) := sorry
theorem dL_law_606 : decode cL_law 606 = .ok (.aload_n 0, 1) := sorry
theorem dL_law_607 : decode cL_law 607 = .ok (.iload 4, 2) := sorry
theorem dL_law_609 : decode cL_law 609 = .ok (.iconst 1, 1) := sorry
theorem dL_law_610 : decode cL_law 610 = .ok (.iadd, 1) := sorry
theorem dL_law_611 : decode cL_law 611 = .ok (.iaload, 1) := sorry
theorem dL_law_612 : decode cL_law 612 = .ok (.aload_n 3, 1) := sorry
theorem dL_law_613 : decode cL_law 613 = .ok (.invokestatic 140, 3) := sorry
theorem dL_law_616 : decode cL_law 616 = .ok (.istore 5, 2) := sorry
theorem dL_law_618 : decode cL_law 618 = .ok (.aload_n 2, 1) := sorry
theorem dL_law_619 : decode cL_law 619 = .ok (.aload_n 0, 1) := sorry
theorem dL_law_620 : decode cL_law 620 = .ok (.iload 4, 2) := sorry
theorem dL_law_622 : decode cL_law 622 = .ok (.iconst 1, 1) := sorry
theorem dL_law_623 : decode cL_law 623 = .ok (.iadd, 1) := sorry
theorem dL_law_624 : decode cL_law 624 = .ok (.iaload, 1) := sorry
theorem dL_law_625 : decode cL_law 625 = .ok (.invokevirtual 142, 3) := sorry
theorem dL_law_628 : decode cL_law 628 = .ok (.istore 6, 2) := sorry
theorem dL_law_630 : decode cL_law 630 = .ok (.aload_n 2, 1) := sorry
theorem dL_law_631 : decode cL_law 631 = .ok (.invokevirtual 109, 3) := sorry
theorem dL_law_634 : decode cL_law 634 = .ok (.iload 5, 2) := sorry
theorem dL_law_636 : decode cL_law 636 = .ok (.if_icmp .eq 5, 3) := sorry
theorem dL_law_639 : decode cL_law 639 = .ok (.iconst 0, 1) := sorry
theorem dL_law_640 : decode cL_law 640 = .ok (.ireturn, 1) := sorry
theorem dL_law_641 : decode cL_law 641 = .ok (.iload 5, 2) := sorry
theorem dL_law_643 : decode cL_law 643 = .ok (.ifCond .ne 15, 3) := sorry
theorem dL_law_646 : decode cL_law 646 = .ok (.aload_n 3, 1) := sorry
theorem dL_law_647 : decode cL_law 647 = .ok (.iconst 0, 1) := sorry
theorem dL_law_648 : decode cL_law 648 = .ok (.laload, 1) := sorry
theorem dL_law_649 : decode cL_law 649 = .ok (.iload 6, 2) := sorry
theorem dL_law_651 : decode cL_law 651 = .ok (.i2l, 1) := sorry
theorem dL_law_652 : decode cL_law 652 = .ok (.lcmp, 1) := sorry
theorem dL_law_653 : decode cL_law 653 = .ok (.ifCond .eq 5, 3) := sorry
theorem dL_law_656 : decode cL_law 656 = .ok (.iconst 0, 1) := sorry
theorem dL_law_657 : decode cL_law 657 = .ok (.ireturn, 1) := sorry
theorem dL_law_658 : decode cL_law 658 = .ok (.goto 1495, 3) := sorry
theorem dL_law_661 : decode cL_law 661 = .ok (.aload_n 1, 1) := sorry
theorem dL_law_662 : decode cL_law 662 = .ok (.aload_n 0, 1) := sorry
theorem dL_law_663 : decode cL_law 663 = .ok (.iload 4, 2) := sorry
theorem dL_law_665 : decode cL_law 665 = .ok (.iconst 1, 1) := sorry
theorem dL_law_666 : decode cL_law 666 = .ok (.iadd, 1) := sorry
theorem dL_law_667 : decode cL_law 667 = .ok (.iaload, 1) := sorry
theorem dL_law_668 : decode cL_law 668 = .ok (.aload_n 3, 1) := sorry
theorem dL_law_669 : decode cL_law 669 = .ok (.invokestatic 143, 3) := sorry
theorem dL_law_672 : decode cL_law 672 = .ok (.istore 5, 2) := sorry
theorem dL_law_674 : decode cL_law 674 = .ok (.aload_n 2, 1) := sorry
theorem dL_law_675 : decode cL_law 675 = .ok (.aload_n 0, 1) := sorry
theorem dL_law_676 : decode cL_law 676 = .ok (.iload 4, 2) := sorry
theorem dL_law_678 : decode cL_law 678 = .ok (.iconst 1, 1) := sorry
theorem dL_law_679 : decode cL_law 679 = .ok (.iadd, 1) := sorry
theorem dL_law_680 : decode cL_law 680 = .ok (.iaload, 1) := sorry
theorem dL_law_681 : decode cL_law 681 = .ok (.invokevirtual 145, 3) := sorry
theorem dL_law_684 : decode cL_law 684 = .ok (.istore 6, 2) := sorry
theorem dL_law_686 : decode cL_law 686 = .ok (.aload_n 2, 1) := sorry
theorem dL_law_687 : decode cL_law 687 = .ok (.invokevirtual 109, 3) := sorry
theorem dL_law_690 : decode cL_law 690 = .ok (.iload 5, 2) := sorry
theorem dL_law_692 : decode cL_law 692 = .ok (.if_icmp .eq 5, 3) := sorry
theorem dL_law_695 : decode cL_law 695 = .ok (.iconst 0, 1) := sorry
theorem dL_law_696 : decode cL_law 696 = .ok (.ireturn, 1) := sorry
theorem dL_law_697 : decode cL_law 697 = .ok (.iload 5, 2) := sorry
theorem dL_law_699 : decode cL_law 699 = .ok (.ifCond .ne 15, 3) := sorry
theorem dL_law_702 : decode cL_law 702 = .ok (.aload_n 3, 1) := sorry
theorem dL_law_703 : decode cL_law 703 = .ok (.iconst 0, 1) := sorry
theorem dL_law_704 : decode cL_law 704 = .ok (.laload, 1) := sorry
theorem dL_law_705 : decode cL_law 705 = .ok (.iload 6, 2) := sorry
theorem dL_law_707 : decode cL_law 707 = .ok (.i2l, 1) := sorry
theorem dL_law_708 : decode cL_law 708 = .ok (.lcmp, 1) := sorry
theorem dL_law_709 : decode cL_law 709 = .ok (.ifCond .eq 5, 3) := sorry
theorem dL_law_712 : decode cL_law 712 = .ok (.iconst 0, 1) := sorry
theorem dL_law_713 : decode cL_law 713 = .ok (.ireturn, 1) := sorry
theorem dL_law_714 : decode cL_law 714 = .ok (.goto 1439, 3) := sorry
theorem dL_law_717 : decode cL_law 717 = .ok (.aload_n 1, 1) := sorry
theorem dL_law_718 : decode cL_law 718 = .ok (.aload_n 0, 1) := sorry
theorem dL_law_719 : decode cL_law 719 = .ok (.iload 4, 2) := sorry
theorem dL_law_721 : decode cL_law 721 = .ok (.iconst 1, 1) := sorry
theorem dL_law_722 : decode cL_law 722 = .ok (.iadd, 1) := sorry
theorem dL_law_723 : decode cL_law 723 = .ok (.iaload, 1) := sorry
theorem dL_law_724 : decode cL_law 724 = .ok (.aload_n 0, 1) := sorry
theorem dL_law_725 : decode cL_law 725 = .ok (.iload 4, 2) := sorry
theorem dL_law_727 : decode cL_law 727 = .ok (.iconst 2, 1) := sorry
theorem dL_law_728 : decode cL_law 728 = .ok (.iadd, 1) := sorry
theorem dL_law_729 : decode cL_law 729 = .ok (.iaload, 1) := sorry
theorem dL_law_730 : decode cL_law 730 = .ok (.aload_n 3, 1) := sorry
theorem dL_law_731 : decode cL_law 731 = .ok (.invokestatic 146, 3) := sorry
theorem dL_law_734 : decode cL_law 734 = .ok (.istore 5, 2) := sorry
theorem dL_law_736 : decode cL_law 736 = .ok (.aload_n 2, 1) := sorry
theorem dL_law_737 : decode cL_law 737 = .ok (.aload_n 0, 1) := sorry
theorem dL_law_738 : decode cL_law 738 = .ok (.iload 4, 2) := sorry
theorem dL_law_740 : decode cL_law 740 = .ok (.iconst 1, 1) := sorry
theorem dL_law_741 : decode cL_law 741 = .ok (.iadd, 1) := sorry
theorem dL_law_742 : decode cL_law 742 = .ok (.iaload, 1) := sorry
theorem dL_law_743 : decode cL_law 743 = .ok (.aload_n 0, 1) := sorry
theorem dL_law_744 : decode cL_law 744 = .ok (.iload 4, 2) := sorry
theorem dL_law_746 : decode cL_law 746 = .ok (.iconst 2, 1) := sorry
theorem dL_law_747 : decode cL_law 747 = .ok (.iadd, 1) := sorry
theorem dL_law_748 : decode cL_law 748 = .ok (.iaload, 1) := sorry
theorem dL_law_749 : decode cL_law 749 = .ok (.invokevirtual 148, 3) := sorry
theorem dL_law_752 : decode cL_law 752 = .ok (.istore 6, 2) := sorry
theorem dL_law_754 : decode cL_law 754 = .ok (.aload_n 2, 1) := sorry
theorem dL_law_755 : decode cL_law 755 = .ok (.invokevirtual 109, 3) := sorry
theorem dL_law_758 : decode cL_law 758 = .ok (.iload 5, 2) := sorry
theorem dL_law_760 : decode cL_law 760 = .ok (.if_icmp .eq 5, 3) := sorry
theorem dL_law_763 : decode cL_law 763 = .ok (.iconst 0, 1) := sorry
theorem dL_law_764 : decode cL_law 764 = .ok (.ireturn, 1) := sorry
theorem dL_law_765 : decode cL_law 765 = .ok (.iload 5, 2) := sorry
theorem dL_law_767 : decode cL_law 767 = .ok (.ifCond .ne 15, 3) := sorry
theorem dL_law_770 : decode cL_law 770 = .ok (.aload_n 3, 1) := sorry
theorem dL_law_771 : decode cL_law 771 = .ok (.iconst 0, 1) := sorry
theorem dL_law_772 : decode cL_law 772 = .ok (.laload, 1) := sorry
theorem dL_law_773 : decode cL_law 773 = .ok (.iload 6, 2) := sorry
theorem dL_law_775 : decode cL_law 775 = .ok (.i2l, 1) := sorry
theorem dL_law_776 : decode cL_law 776 = .ok (.lcmp, 1) := sorry
theorem dL_law_777 : decode cL_law 777 = .ok (.ifCond .eq 5, 3) := sorry
theorem dL_law_780 : decode cL_law 780 = .ok (.iconst 0, 1) := sorry
theorem dL_law_781 : decode cL_law 781 = .ok (.ireturn, 1) := sorry
theorem dL_law_782 : decode cL_law 782 = .ok (.goto 1371, 3) := sorry
theorem dL_law_785 : decode cL_law 785 = .ok (.aload_n 1, 1) := sorry
theorem dL_law_786 : decode cL_law 786 = .ok (.invokevirtual 149, 3) := sorry
theorem dL_law_789 : decode cL_law 789 = .ok (.aload_n 2, 1) := sorry
theorem dL_law_790 : decode cL_law 790 = .ok (.invokevirtual 152, 3) := sorry
theorem dL_law_793 : decode cL_law 793 = .ok (.if_icmp .eq 1360, 3) := sorry
theorem dL_law_796 : decode cL_law 796 = .ok (.iconst 0, 1) := sorry
theorem dL_law_797 : decode cL_law 797 = .ok (.ireturn, 1) := sorry
theorem dL_law_798 : decode cL_law 798 = .ok (.aload_n 1, 1) := sorry
theorem dL_law_799 : decode cL_law 799 = .ok (.aload_n 0, 1) := sorry
theorem dL_law_800 : decode cL_law 800 = .ok (.iload 4, 2) := sorry
theorem dL_law_802 : decode cL_law 802 = .ok (.iconst 1, 1) := sorry
theorem dL_law_803 : decode cL_law 803 = .ok (.iadd, 1) := sorry
theorem dL_law_804 : decode cL_law 804 = .ok (.iaload, 1) := sorry
theorem dL_law_805 : decode cL_law 805 = .ok (.aload_n 3, 1) := sorry
theorem dL_law_806 : decode cL_law 806 = .ok (.invokestatic 153, 3) := sorry
theorem dL_law_809 : decode cL_law 809 = .ok (.istore 5, 2) := sorry
theorem dL_law_811 : decode cL_law 811 = .ok (.aload_n 2, 1) := sorry
theorem dL_law_812 : decode cL_law 812 = .ok (.aload_n 0, 1) := sorry
theorem dL_law_813 : decode cL_law 813 = .ok (.iload 4, 2) := sorry
theorem dL_law_815 : decode cL_law 815 = .ok (.iconst 1, 1) := sorry
theorem dL_law_816 : decode cL_law 816 = .ok (.iadd, 1) := sorry
theorem dL_law_817 : decode cL_law 817 = .ok (.iaload, 1) := sorry
theorem dL_law_818 : decode cL_law 818 = .ok (.invokevirtual 155, 3) := sorry
theorem dL_law_821 : decode cL_law 821 = .ok (.istore 6, 2) := sorry
theorem dL_law_823 : decode cL_law 823 = .ok (.aload_n 2, 1) := sorry
theorem dL_law_824 : decode cL_law 824 = .ok (.invokevirtual 109, 3) := sorry
theorem dL_law_827 : decode cL_law 827 = .ok (.iload 5, 2) := sorry
theorem dL_law_829 : decode cL_law 829 = .ok (.if_icmp .eq 5, 3) := sorry
theorem dL_law_832 : decode cL_law 832 = .ok (.iconst 0, 1) := sorry
theorem dL_law_833 : decode cL_law 833 = .ok (.ireturn, 1) := sorry
theorem dL_law_834 : decode cL_law 834 = .ok (.iload 5, 2) := sorry
theorem dL_law_836 : decode cL_law 836 = .ok (.ifCond .ne 15, 3) := sorry
theorem dL_law_839 : decode cL_law 839 = .ok (.aload_n 3, 1) := sorry
theorem dL_law_840 : decode cL_law 840 = .ok (.iconst 0, 1) := sorry
theorem dL_law_841 : decode cL_law 841 = .ok (.laload, 1) := sorry
theorem dL_law_842 : decode cL_law 842 = .ok (.iload 6, 2) := sorry
theorem dL_law_844 : decode cL_law 844 = .ok (.i2l, 1) := sorry
theorem dL_law_845 : decode cL_law 845 = .ok (.lcmp, 1) := sorry
theorem dL_law_846 : decode cL_law 846 = .ok (.ifCond .eq 5, 3) := sorry
theorem dL_law_849 : decode cL_law 849 = .ok (.iconst 0, 1) := sorry
theorem dL_law_850 : decode cL_law 850 = .ok (.ireturn, 1) := sorry
theorem dL_law_851 : decode cL_law 851 = .ok (.goto 1302, 3) := sorry
theorem dL_law_854 : decode cL_law 854 = .ok (.aload_n 1, 1) := sorry
theorem dL_law_855 : decode cL_law 855 = .ok (.aload_n 0, 1) := sorry
theorem dL_law_856 : decode cL_law 856 = .ok (.iload 4, 2) := sorry
theorem dL_law_858 : decode cL_law 858 = .ok (.iconst 1, 1) := sorry
theorem dL_law_859 : decode cL_law 859 = .ok (.iadd, 1) := sorry
theorem dL_law_860 : decode cL_law 860 = .ok (.iaload, 1) := sorry
theorem dL_law_861 : decode cL_law 861 = .ok (.aload_n 3, 1) := sorry
theorem dL_law_862 : decode cL_law 862 = .ok (.invokestatic 156, 3) := sorry
theorem dL_law_865 : decode cL_law 865 = .ok (.istore 5, 2) := sorry
theorem dL_law_867 : decode cL_law 867 = .ok (.aload_n 2, 1) := sorry
theorem dL_law_868 : decode cL_law 868 = .ok (.aload_n 0, 1) := sorry
theorem dL_law_869 : decode cL_law 869 = .ok (.iload 4, 2) := sorry
theorem dL_law_871 : decode cL_law 871 = .ok (.iconst 1, 1) := sorry
theorem dL_law_872 : decode cL_law 872 = .ok (.iadd, 1) := sorry
theorem dL_law_873 : decode cL_law 873 = .ok (.iaload, 1) := sorry
theorem dL_law_874 : decode cL_law 874 = .ok (.invokevirtual 158, 3) := sorry
theorem dL_law_877 : decode cL_law 877 = .ok (.istore 6, 2) := sorry
theorem dL_law_879 : decode cL_law 879 = .ok (.aload_n 2, 1) := sorry
theorem dL_law_880 : decode cL_law 880 = .ok (.invokevirtual 109, 3) := sorry
theorem dL_law_883 : decode cL_law 883 = .ok (.iload 5, 2) := sorry
theorem dL_law_885 : decode cL_law 885 = .ok (.if_icmp .eq 5, 3) := sorry
theorem dL_law_888 : decode cL_law 888 = .ok (.iconst 0, 1) := sorry
theorem dL_law_889 : decode cL_law 889 = .ok (.ireturn, 1) := sorry
theorem dL_law_890 : decode cL_law 890 = .ok (.iload 5, 2) := sorry
theorem dL_law_892 : decode cL_law 892 = .ok (.ifCond .ne 15, 3) := sorry
theorem dL_law_895 : decode cL_law 895 = .ok (.aload_n 3, 1) := sorry
theorem dL_law_896 : decode cL_law 896 = .ok (.iconst 0, 1) := sorry
theorem dL_law_897 : decode cL_law 897 = .ok (.laload, 1) := sorry
theorem dL_law_898 : decode cL_law 898 = .ok (.iload 6, 2) := sorry
theorem dL_law_900 : decode cL_law 900 = .ok (.i2l, 1) := sorry
theorem dL_law_901 : decode cL_law 901 = .ok (.lcmp, 1) := sorry
theorem dL_law_902 : decode cL_law 902 = .ok (.ifCond .eq 5, 3) := sorry
theorem dL_law_905 : decode cL_law 905 = .ok (.iconst 0, 1) := sorry
theorem dL_law_906 : decode cL_law 906 = .ok (.ireturn, 1) := sorry
theorem dL_law_907 : decode cL_law 907 = .ok (.goto 1246, 3) := sorry
theorem dL_law_910 : decode cL_law 910 = .ok (.aload_n 1, 1) := sorry
theorem dL_law_911 : decode cL_law 911 = .ok (.aload_n 0, 1) := sorry
theorem dL_law_912 : decode cL_law 912 = .ok (.iload 4, 2) := sorry
theorem dL_law_914 : decode cL_law 914 = .ok (.iconst 1, 1) := sorry
theorem dL_law_915 : decode cL_law 915 = .ok (.iadd, 1) := sorry
theorem dL_law_916 : decode cL_law 916 = .ok (.iaload, 1) := sorry
theorem dL_law_917 : decode cL_law 917 = .ok (.aload_n 0, 1) := sorry
theorem dL_law_918 : decode cL_law 918 = .ok (.iload 4, 2) := sorry
theorem dL_law_920 : decode cL_law 920 = .ok (.iconst 2, 1) := sorry
theorem dL_law_921 : decode cL_law 921 = .ok (.iadd, 1) := sorry
theorem dL_law_922 : decode cL_law 922 = .ok (.iaload, 1) := sorry
theorem dL_law_923 : decode cL_law 923 = .ok (.aload_n 3, 1) := sorry
theorem dL_law_924 : decode cL_law 924 = .ok (.invokestatic 159, 3) := sorry
theorem dL_law_927 : decode cL_law 927 = .ok (.istore 5, 2) := sorry
theorem dL_law_929 : decode cL_law 929 = .ok (.aload_n 2, 1) := sorry
theorem dL_law_930 : decode cL_law 930 = .ok (.aload_n 0, 1) := sorry
theorem dL_law_931 : decode cL_law 931 = .ok (.iload 4, 2) := sorry
theorem dL_law_933 : decode cL_law 933 = .ok (.iconst 1, 1) := sorry
theorem dL_law_934 : decode cL_law 934 = .ok (.iadd, 1) := sorry
theorem dL_law_935 : decode cL_law 935 = .ok (.iaload, 1) := sorry
theorem dL_law_936 : decode cL_law 936 = .ok (.aload_n 0, 1) := sorry
theorem dL_law_937 : decode cL_law 937 = .ok (.iload 4, 2) := sorry
theorem dL_law_939 : decode cL_law 939 = .ok (.iconst 2, 1) := sorry
theorem dL_law_940 : decode cL_law 940 = .ok (.iadd, 1) := sorry
theorem dL_law_941 : decode cL_law 941 = .ok (.iaload, 1) := sorry
theorem dL_law_942 : decode cL_law 942 = .ok (.invokevirtual 161, 3) := sorry
theorem dL_law_945 : decode cL_law 945 = .ok (.istore 6, 2) := sorry
theorem dL_law_947 : decode cL_law 947 = .ok (.aload_n 2, 1) := sorry
theorem dL_law_948 : decode cL_law 948 = .ok (.invokevirtual 109, 3) := sorry
theorem dL_law_951 : decode cL_law 951 = .ok (.iload 5, 2) := sorry
theorem dL_law_953 : decode cL_law 953 = .ok (.if_icmp .eq 5, 3) := sorry
theorem dL_law_956 : decode cL_law 956 = .ok (.iconst 0, 1) := sorry
theorem dL_law_957 : decode cL_law 957 = .ok (.ireturn, 1) := sorry
theorem dL_law_958 : decode cL_law 958 = .ok (.iload 5, 2) := sorry
theorem dL_law_960 : decode cL_law 960 = .ok (.ifCond .ne 15, 3) := sorry
theorem dL_law_963 : decode cL_law 963 = .ok (.aload_n 3, 1) := sorry
theorem dL_law_964 : decode cL_law 964 = .ok (.iconst 0, 1) := sorry
theorem dL_law_965 : decode cL_law 965 = .ok (.laload, 1) := sorry
theorem dL_law_966 : decode cL_law 966 = .ok (.iload 6, 2) := sorry
theorem dL_law_968 : decode cL_law 968 = .ok (.i2l, 1) := sorry
theorem dL_law_969 : decode cL_law 969 = .ok (.lcmp, 1) := sorry
theorem dL_law_970 : decode cL_law 970 = .ok (.ifCond .eq 5, 3) := sorry
theorem dL_law_973 : decode cL_law 973 = .ok (.iconst 0, 1) := sorry
theorem dL_law_974 : decode cL_law 974 = .ok (.ireturn, 1) := sorry
theorem dL_law_975 : decode cL_law 975 = .ok (.goto 1178, 3) := sorry
theorem dL_law_978 : decode cL_law 978 = .ok (.aload_n 1, 1) := sorry
theorem dL_law_979 : decode cL_law 979 = .ok (.aload_n 0, 1) := sorry
theorem dL_law_980 : decode cL_law 980 = .ok (.iload 4, 2) := sorry
theorem dL_law_982 : decode cL_law 982 = .ok (.iconst 1, 1) := sorry
theorem dL_law_983 : decode cL_law 983 = .ok (.iadd, 1) := sorry
theorem dL_law_984 : decode cL_law 984 = .ok (.iaload, 1) := sorry
theorem dL_law_985 : decode cL_law 985 = .ok (.aload_n 3, 1) := sorry
theorem dL_law_986 : decode cL_law 986 = .ok (.invokestatic 162, 3) := sorry
theorem dL_law_989 : decode cL_law 989 = .ok (.istore 5, 2) := sorry
theorem dL_law_991 : decode cL_law 991 = .ok (.aload_n 2, 1) := sorry
theorem dL_law_992 : decode cL_law 992 = .ok (.aload_n 0, 1) := sorry
theorem dL_law_993 : decode cL_law 993 = .ok (.iload 4, 2) := sorry
theorem dL_law_995 : decode cL_law 995 = .ok (.iconst 1, 1) := sorry
theorem dL_law_996 : decode cL_law 996 = .ok (.iadd, 1) := sorry
theorem dL_law_997 : decode cL_law 997 = .ok (.iaload, 1) := sorry
theorem dL_law_998 : decode cL_law 998 = .ok (.invokevirtual 164, 3) := sorry
theorem dL_law_1001 : decode cL_law 1001 = .ok (.istore 6, 2) := sorry
theorem dL_law_1003 : decode cL_law 1003 = .ok (.aload_n 2, 1) := sorry
theorem dL_law_1004 : decode cL_law 1004 = .ok (.invokevirtual 109, 3) := sorry
theorem dL_law_1007 : decode cL_law 1007 = .ok (.iload 5, 2) := sorry
theorem dL_law_1009 : decode cL_law 1009 = .ok (.if_icmp .eq 5, 3) := sorry
theorem dL_law_1012 : decode cL_law 1012 = .ok (.iconst 0, 1) := sorry
theorem dL_law_1013 : decode cL_law 1013 = .ok (.ireturn, 1) := sorry
theorem dL_law_1014 : decode cL_law 1014 = .ok (.iload 5, 2) := sorry
theorem dL_law_1016 : decode cL_law 1016 = .ok (.ifCond .ne 15, 3) := sorry
theorem dL_law_1019 : decode cL_law 1019 = .ok (.aload_n 3, 1) := sorry
theorem dL_law_1020 : decode cL_law 1020 = .ok (.iconst 0, 1) := sorry
theorem dL_law_1021 : decode cL_law 1021 = .ok (.laload, 1) := sorry
theorem dL_law_1022 : decode cL_law 1022 = .ok (.iload 6, 2) := sorry
theorem dL_law_1024 : decode cL_law 1024 = .ok (.i2l, 1) := sorry
theorem dL_law_1025 : decode cL_law 1025 = .ok (.lcmp, 1) := sorry
theorem dL_law_1026 : decode cL_law 1026 = .ok (.ifCond .eq 5, 3) := sorry
theorem dL_law_1029 : decode cL_law 1029 = .ok (.iconst 0, 1) := sorry
theorem dL_law_1030 : decode cL_law 1030 = .ok (.ireturn, 1) := sorry
theorem dL_law_1031 : decode cL_law 1031 = .ok (.goto 1122, 3) := sorry
theorem dL_law_1034 : decode cL_law 1034 = .ok (.aload_n 1, 1) := sorry
theorem dL_law_1035 : decode cL_law 1035 = .ok (.aload_n 0, 1) := sorry
theorem dL_law_1036 : decode cL_law 1036 = .ok (.iload 4, 2) := sorry
theorem dL_law_1038 : decode cL_law 1038 = .ok (.iconst 1, 1) := sorry
theorem dL_law_1039 : decode cL_law 1039 = .ok (.iadd, 1) := sorry
theorem dL_law_1040 : decode cL_law 1040 = .ok (.iaload, 1) := sorry
theorem dL_law_1041 : decode cL_law 1041 = .ok (.invokevirtual 165, 3) := sorry
theorem dL_law_1044 : decode cL_law 1044 = .ok (.aload_n 2, 1) := sorry
theorem dL_law_1045 : decode cL_law 1045 = .ok (.aload_n 0, 1) := sorry
theorem dL_law_1046 : decode cL_law 1046 = .ok (.iload 4, 2) := sorry
theorem dL_law_1048 : decode cL_law 1048 = .ok (.iconst 1, 1) := sorry
theorem dL_law_1049 : decode cL_law 1049 = .ok (.iadd, 1) := sorry
theorem dL_law_1050 : decode cL_law 1050 = .ok (.iaload, 1) := sorry
theorem dL_law_1051 : decode cL_law 1051 = .ok (.invokevirtual 168, 3) := sorry
theorem dL_law_1054 : decode cL_law 1054 = .ok (.if_icmp .eq 1099, 3) := sorry
theorem dL_law_1057 : decode cL_law 1057 = .ok (.iconst 0, 1) := sorry
theorem dL_law_1058 : decode cL_law 1058 = .ok (.ireturn, 1) := sorry
theorem dL_law_1059 : decode cL_law 1059 = .ok (.aload_n 1, 1) := sorry
theorem dL_law_1060 : decode cL_law 1060 = .ok (.aload_n 0, 1) := sorry
theorem dL_law_1061 : decode cL_law 1061 = .ok (.iload 4, 2) := sorry
theorem dL_law_1063 : decode cL_law 1063 = .ok (.iconst 1, 1) := sorry
theorem dL_law_1064 : decode cL_law 1064 = .ok (.iadd, 1) := sorry
theorem dL_law_1065 : decode cL_law 1065 = .ok (.iaload, 1) := sorry
theorem dL_law_1066 : decode cL_law 1066 = .ok (.invokevirtual 169, 3) := sorry
theorem dL_law_1069 : decode cL_law 1069 = .ok (.aload_n 2, 1) := sorry
theorem dL_law_1070 : decode cL_law 1070 = .ok (.aload_n 0, 1) := sorry
theorem dL_law_1071 : decode cL_law 1071 = .ok (.iload 4, 2) := sorry
theorem dL_law_1073 : decode cL_law 1073 = .ok (.iconst 1, 1) := sorry
theorem dL_law_1074 : decode cL_law 1074 = .ok (.iadd, 1) := sorry
theorem dL_law_1075 : decode cL_law 1075 = .ok (.iaload, 1) := sorry
theorem dL_law_1076 : decode cL_law 1076 = .ok (.invokevirtual 172, 3) := sorry
theorem dL_law_1079 : decode cL_law 1079 = .ok (.if_icmp .eq 1074, 3) := sorry
theorem dL_law_1082 : decode cL_law 1082 = .ok (.iconst 0, 1) := sorry
theorem dL_law_1083 : decode cL_law 1083 = .ok (.ireturn, 1) := sorry
theorem dL_law_1084 : decode cL_law 1084 = .ok (.aload_n 1, 1) := sorry
theorem dL_law_1085 : decode cL_law 1085 = .ok (.invokevirtual 173, 3) := sorry
theorem dL_law_1088 : decode cL_law 1088 = .ok (.aload_n 2, 1) := sorry
theorem dL_law_1089 : decode cL_law 1089 = .ok (.invokevirtual 176, 3) := sorry
theorem dL_law_1092 : decode cL_law 1092 = .ok (.if_icmp .eq 1061, 3) := sorry
theorem dL_law_1095 : decode cL_law 1095 = .ok (.iconst 0, 1) := sorry
theorem dL_law_1096 : decode cL_law 1096 = .ok (.ireturn, 1) := sorry
theorem dL_law_1097 : decode cL_law 1097 = .ok (.aload_n 1, 1) := sorry
theorem dL_law_1098 : decode cL_law 1098 = .ok (.aload_n 0, 1) := sorry
theorem dL_law_1099 : decode cL_law 1099 = .ok (.iload 4, 2) := sorry
theorem dL_law_1101 : decode cL_law 1101 = .ok (.iconst 1, 1) := sorry
theorem dL_law_1102 : decode cL_law 1102 = .ok (.iadd, 1) := sorry
theorem dL_law_1103 : decode cL_law 1103 = .ok (.iaload, 1) := sorry
theorem dL_law_1104 : decode cL_law 1104 = .ok (.aload_n 0, 1) := sorry
theorem dL_law_1105 : decode cL_law 1105 = .ok (.iload 4, 2) := sorry
theorem dL_law_1107 : decode cL_law 1107 = .ok (.iconst 2, 1) := sorry
theorem dL_law_1108 : decode cL_law 1108 = .ok (.iadd, 1) := sorry
theorem dL_law_1109 : decode cL_law 1109 = .ok (.iaload, 1) := sorry
theorem dL_law_1110 : decode cL_law 1110 = .ok (.aload_n 3, 1) := sorry
theorem dL_law_1111 : decode cL_law 1111 = .ok (.invokestatic 177, 3) := sorry
theorem dL_law_1114 : decode cL_law 1114 = .ok (.istore 5, 2) := sorry
theorem dL_law_1116 : decode cL_law 1116 = .ok (.aload_n 2, 1) := sorry
theorem dL_law_1117 : decode cL_law 1117 = .ok (.aload_n 0, 1) := sorry
theorem dL_law_1118 : decode cL_law 1118 = .ok (.iload 4, 2) := sorry
theorem dL_law_1120 : decode cL_law 1120 = .ok (.iconst 1, 1) := sorry
theorem dL_law_1121 : decode cL_law 1121 = .ok (.iadd, 1) := sorry
theorem dL_law_1122 : decode cL_law 1122 = .ok (.iaload, 1) := sorry
theorem dL_law_1123 : decode cL_law 1123 = .ok (.aload_n 0, 1) := sorry
theorem dL_law_1124 : decode cL_law 1124 = .ok (.iload 4, 2) := sorry
theorem dL_law_1126 : decode cL_law 1126 = .ok (.iconst 2, 1) := sorry
theorem dL_law_1127 : decode cL_law 1127 = .ok (.iadd, 1) := sorry
theorem dL_law_1128 : decode cL_law 1128 = .ok (.iaload, 1) := sorry
theorem dL_law_1129 : decode cL_law 1129 = .ok (.invokevirtual 179, 3) := sorry
theorem dL_law_1132 : decode cL_law 1132 = .ok (.istore 6, 2) := sorry
theorem dL_law_1134 : decode cL_law 1134 = .ok (.aload_n 2, 1) := sorry
theorem dL_law_1135 : decode cL_law 1135 = .ok (.invokevirtual 109, 3) := sorry
theorem dL_law_1138 : decode cL_law 1138 = .ok (.iload 5, 2) := sorry
theorem dL_law_1140 : decode cL_law 1140 = .ok (.if_icmp .eq 5, 3) := sorry
theorem dL_law_1143 : decode cL_law 1143 = .ok (.iconst 0, 1) := sorry
theorem dL_law_1144 : decode cL_law 1144 = .ok (.ireturn, 1) := sorry
theorem dL_law_1145 : decode cL_law 1145 = .ok (.iload 5, 2) := sorry
theorem dL_law_1147 : decode cL_law 1147 = .ok (.ifCond .ne 15, 3) := sorry
theorem dL_law_1150 : decode cL_law 1150 = .ok (.aload_n 3, 1) := sorry
theorem dL_law_1151 : decode cL_law 1151 = .ok (.iconst 0, 1) := sorry
theorem dL_law_1152 : decode cL_law 1152 = .ok (.laload, 1) := sorry
theorem dL_law_1153 : decode cL_law 1153 = .ok (.iload 6, 2) := sorry
theorem dL_law_1155 : decode cL_law 1155 = .ok (.i2l, 1) := sorry
theorem dL_law_1156 : decode cL_law 1156 = .ok (.lcmp, 1) := sorry
theorem dL_law_1157 : decode cL_law 1157 = .ok (.ifCond .eq 5, 3) := sorry
theorem dL_law_1160 : decode cL_law 1160 = .ok (.iconst 0, 1) := sorry
theorem dL_law_1161 : decode cL_law 1161 = .ok (.ireturn, 1) := sorry
theorem dL_law_1162 : decode cL_law 1162 = .ok (.goto 991, 3) := sorry
theorem dL_law_1165 : decode cL_law 1165 = .ok (.aload_n 1, 1) := sorry
theorem dL_law_1166 : decode cL_law 1166 = .ok (.aload_n 0, 1) := sorry
theorem dL_law_1167 : decode cL_law 1167 = .ok (.iload 4, 2) := sorry
theorem dL_law_1169 : decode cL_law 1169 = .ok (.iconst 1, 1) := sorry
theorem dL_law_1170 : decode cL_law 1170 = .ok (.iadd, 1) := sorry
theorem dL_law_1171 : decode cL_law 1171 = .ok (.iaload, 1) := sorry
theorem dL_law_1172 : decode cL_law 1172 = .ok (.aload_n 0, 1) := sorry
theorem dL_law_1173 : decode cL_law 1173 = .ok (.iload 4, 2) := sorry
theorem dL_law_1175 : decode cL_law 1175 = .ok (.iconst 2, 1) := sorry
theorem dL_law_1176 : decode cL_law 1176 = .ok (.iadd, 1) := sorry
theorem dL_law_1177 : decode cL_law 1177 = .ok (.iaload, 1) := sorry
theorem dL_law_1178 : decode cL_law 1178 = .ok (.aload_n 3, 1) := sorry
theorem dL_law_1179 : decode cL_law 1179 = .ok (.invokestatic 180, 3) := sorry
theorem dL_law_1182 : decode cL_law 1182 = .ok (.istore 5, 2) := sorry
theorem dL_law_1184 : decode cL_law 1184 = .ok (.aload_n 2, 1) := sorry
theorem dL_law_1185 : decode cL_law 1185 = .ok (.aload_n 0, 1) := sorry
theorem dL_law_1186 : decode cL_law 1186 = .ok (.iload 4, 2) := sorry
theorem dL_law_1188 : decode cL_law 1188 = .ok (.iconst 1, 1) := sorry
theorem dL_law_1189 : decode cL_law 1189 = .ok (.iadd, 1) := sorry
theorem dL_law_1190 : decode cL_law 1190 = .ok (.iaload, 1) := sorry
theorem dL_law_1191 : decode cL_law 1191 = .ok (.aload_n 0, 1) := sorry
theorem dL_law_1192 : decode cL_law 1192 = .ok (.iload 4, 2) := sorry
theorem dL_law_1194 : decode cL_law 1194 = .ok (.iconst 2, 1) := sorry
theorem dL_law_1195 : decode cL_law 1195 = .ok (.iadd, 1) := sorry
theorem dL_law_1196 : decode cL_law 1196 = .ok (.iaload, 1) := sorry
theorem dL_law_1197 : decode cL_law 1197 = .ok (.invokevirtual 182, 3) := sorry
theorem dL_law_1200 : decode cL_law 1200 = .ok (.istore 6, 2) := sorry
theorem dL_law_1202 : decode cL_law 1202 = .ok (.aload_n 2, 1) := sorry
theorem dL_law_1203 : decode cL_law 1203 = .ok (.invokevirtual 109, 3) := sorry
theorem dL_law_1206 : decode cL_law 1206 = .ok (.iload 5, 2) := sorry
theorem dL_law_1208 : decode cL_law 1208 = .ok (.if_icmp .eq 5, 3) := sorry
theorem dL_law_1211 : decode cL_law 1211 = .ok (.iconst 0, 1) := sorry
theorem dL_law_1212 : decode cL_law 1212 = .ok (.ireturn, 1) := sorry
theorem dL_law_1213 : decode cL_law 1213 = .ok (.iload 5, 2) := sorry
theorem dL_law_1215 : decode cL_law 1215 = .ok (.ifCond .ne 15, 3) := sorry
theorem dL_law_1218 : decode cL_law 1218 = .ok (.aload_n 3, 1) := sorry
theorem dL_law_1219 : decode cL_law 1219 = .ok (.iconst 0, 1) := sorry
theorem dL_law_1220 : decode cL_law 1220 = .ok (.laload, 1) := sorry
theorem dL_law_1221 : decode cL_law 1221 = .ok (.iload 6, 2) := sorry
theorem dL_law_1223 : decode cL_law 1223 = .ok (.i2l, 1) := sorry
theorem dL_law_1224 : decode cL_law 1224 = .ok (.lcmp, 1) := sorry
theorem dL_law_1225 : decode cL_law 1225 = .ok (.ifCond .eq 5, 3) := sorry
theorem dL_law_1228 : decode cL_law 1228 = .ok (.iconst 0, 1) := sorry
theorem dL_law_1229 : decode cL_law 1229 = .ok (.ireturn, 1) := sorry
theorem dL_law_1230 : decode cL_law 1230 = .ok (.goto 923, 3) := sorry
theorem dL_law_1233 : decode cL_law 1233 = .ok (.aload_n 1, 1) := sorry
theorem dL_law_1234 : decode cL_law 1234 = .ok (.aload_n 0, 1) := sorry
theorem dL_law_1235 : decode cL_law 1235 = .ok (.iload 4, 2) := sorry
theorem dL_law_1237 : decode cL_law 1237 = .ok (.iconst 1, 1) := sorry
theorem dL_law_1238 : decode cL_law 1238 = .ok (.iadd, 1) := sorry
theorem dL_law_1239 : decode cL_law 1239 = .ok (.iaload, 1) := sorry
theorem dL_law_1240 : decode cL_law 1240 = .ok (.aload_n 3, 1) := sorry
theorem dL_law_1241 : decode cL_law 1241 = .ok (.invokestatic 183, 3) := sorry
theorem dL_law_1244 : decode cL_law 1244 = .ok (.istore 5, 2) := sorry
theorem dL_law_1246 : decode cL_law 1246 = .ok (.aload_n 2, 1) := sorry
theorem dL_law_1247 : decode cL_law 1247 = .ok (.aload_n 0, 1) := sorry
theorem dL_law_1248 : decode cL_law 1248 = .ok (.iload 4, 2) := sorry
theorem dL_law_1250 : decode cL_law 1250 = .ok (.iconst 1, 1) := sorry
theorem dL_law_1251 : decode cL_law 1251 = .ok (.iadd, 1) := sorry
theorem dL_law_1252 : decode cL_law 1252 = .ok (.iaload, 1) := sorry
theorem dL_law_1253 : decode cL_law 1253 = .ok (.invokevirtual 185, 3) := sorry
theorem dL_law_1256 : decode cL_law 1256 = .ok (.istore 6, 2) := sorry
theorem dL_law_1258 : decode cL_law 1258 = .ok (.aload_n 2, 1) := sorry
theorem dL_law_1259 : decode cL_law 1259 = .ok (.invokevirtual 109, 3) := sorry
theorem dL_law_1262 : decode cL_law 1262 = .ok (.iload 5, 2) := sorry
theorem dL_law_1264 : decode cL_law 1264 = .ok (.if_icmp .eq 5, 3) := sorry
theorem dL_law_1267 : decode cL_law 1267 = .ok (.iconst 0, 1) := sorry
theorem dL_law_1268 : decode cL_law 1268 = .ok (.ireturn, 1) := sorry
theorem dL_law_1269 : decode cL_law 1269 = .ok (.iload 5, 2) := sorry
theorem dL_law_1271 : decode cL_law 1271 = .ok (.ifCond .ne 15, 3) := sorry
theorem dL_law_1274 : decode cL_law 1274 = .ok (.aload_n 3, 1) := sorry
theorem dL_law_1275 : decode cL_law 1275 = .ok (.iconst 0, 1) := sorry
theorem dL_law_1276 : decode cL_law 1276 = .ok (.laload, 1) := sorry
theorem dL_law_1277 : decode cL_law 1277 = .ok (.iload 6, 2) := sorry
theorem dL_law_1279 : decode cL_law 1279 = .ok (.i2l, 1) := sorry
theorem dL_law_1280 : decode cL_law 1280 = .ok (.lcmp, 1) := sorry
theorem dL_law_1281 : decode cL_law 1281 = .ok (.ifCond .eq 5, 3) := sorry
theorem dL_law_1284 : decode cL_law 1284 = .ok (.iconst 0, 1) := sorry
theorem dL_law_1285 : decode cL_law 1285 = .ok (.ireturn, 1) := sorry
theorem dL_law_1286 : decode cL_law 1286 = .ok (.goto 867, 3) := sorry
theorem dL_law_1289 : decode cL_law 1289 = .ok (.aload_n 1, 1) := sorry
theorem dL_law_1290 : decode cL_law 1290 = .ok (.aload_n 0, 1) := sorry
theorem dL_law_1291 : decode cL_law 1291 = .ok (.iload 4, 2) := sorry
theorem dL_law_1293 : decode cL_law 1293 = .ok (.iconst 1, 1) := sorry
theorem dL_law_1294 : decode cL_law 1294 = .ok (.iadd, 1) := sorry
theorem dL_law_1295 : decode cL_law 1295 = .ok (.iaload, 1) := sorry
theorem dL_law_1296 : decode cL_law 1296 = .ok (.invokevirtual 186, 3) := sorry
theorem dL_law_1299 : decode cL_law 1299 = .ok (.aload_n 2, 1) := sorry
theorem dL_law_1300 : decode cL_law 1300 = .ok (.aload_n 0, 1) := sorry
theorem dL_law_1301 : decode cL_law 1301 = .ok (.iload 4, 2) := sorry
theorem dL_law_1303 : decode cL_law 1303 = .ok (.iconst 1, 1) := sorry
theorem dL_law_1304 : decode cL_law 1304 = .ok (.iadd, 1) := sorry
theorem dL_law_1305 : decode cL_law 1305 = .ok (.iaload, 1) := sorry
theorem dL_law_1306 : decode cL_law 1306 = .ok (.invokevirtual 189, 3) := sorry
theorem dL_law_1309 : decode cL_law 1309 = .ok (.if_icmp .eq 844, 3) := sorry
theorem dL_law_1312 : decode cL_law 1312 = .ok (.iconst 0, 1) := sorry
theorem dL_law_1313 : decode cL_law 1313 = .ok (.ireturn, 1) := sorry
theorem dL_law_1314 : decode cL_law 1314 = .ok (.aload_n 1, 1) := sorry
theorem dL_law_1315 : decode cL_law 1315 = .ok (.invokevirtual 190, 3) := sorry
theorem dL_law_1318 : decode cL_law 1318 = .ok (.aload_n 2, 1) := sorry
theorem dL_law_1319 : decode cL_law 1319 = .ok (.invokevirtual 193, 3) := sorry
theorem dL_law_1322 : decode cL_law 1322 = .ok (.if_icmp .eq 831, 3) := sorry
theorem dL_law_1325 : decode cL_law 1325 = .ok (.iconst 0, 1) := sorry
theorem dL_law_1326 : decode cL_law 1326 = .ok (.ireturn, 1) := sorry
theorem dL_law_1327 : decode cL_law 1327 = .ok (.aload_n 1, 1) := sorry
theorem dL_law_1328 : decode cL_law 1328 = .ok (.invokevirtual 194, 3) := sorry
theorem dL_law_1331 : decode cL_law 1331 = .ok (.aload_n 2, 1) := sorry
theorem dL_law_1332 : decode cL_law 1332 = .ok (.invokevirtual 198, 3) := sorry
theorem dL_law_1335 : decode cL_law 1335 = .ok (.lcmp, 1) := sorry
theorem dL_law_1336 : decode cL_law 1336 = .ok (.ifCond .eq 817, 3) := sorry
theorem dL_law_1339 : decode cL_law 1339 = .ok (.iconst 0, 1) := sorry
theorem dL_law_1340 : decode cL_law 1340 = .ok (.ireturn, 1) := sorry
theorem dL_law_1341 : decode cL_law 1341 = .ok (.aload_n 1, 1) := sorry
theorem dL_law_1342 : decode cL_law 1342 = .ok (.invokevirtual 199, 3) := sorry
theorem dL_law_1345 : decode cL_law 1345 = .ok (.dstore 5, 2) := sorry
theorem dL_law_1347 : decode cL_law 1347 = .ok (.aload_n 2, 1) := sorry
theorem dL_law_1348 : decode cL_law 1348 = .ok (.invokevirtual 203, 3) := sorry
theorem dL_law_1351 : decode cL_law 1351 = .ok (.dstore 7, 2) := sorry
theorem dL_law_1353 : decode cL_law 1353 = .ok (.dload 5, 2) := sorry
theorem dL_law_1355 : decode cL_law 1355 = .ok (.dload 7, 2) := sorry
theorem dL_law_1357 : decode cL_law 1357 = .ok (.dcmp .l, 1) := sorry
theorem dL_law_1358 : decode cL_law 1358 = .ok (.ifCond .eq 21, 3) := sorry
theorem dL_law_1361 : decode cL_law 1361 = .ok (.dload 5, 2) := sorry
theorem dL_law_1363 : decode cL_law 1363 = .ok (.dload 5, 2) := sorry
theorem dL_law_1365 : decode cL_law 1365 = .ok (.dcmp .l, 1) := sorry
theorem dL_law_1366 : decode cL_law 1366 = .ok (.ifCond .eq 11, 3) := sorry
theorem dL_law_1369 : decode cL_law 1369 = .ok (.dload 7, 2) := sorry
theorem dL_law_1371 : decode cL_law 1371 = .ok (.dload 7, 2) := sorry
theorem dL_law_1373 : decode cL_law 1373 = .ok (.dcmp .l, 1) := sorry
theorem dL_law_1374 : decode cL_law 1374 = .ok (.ifCond .ne 5, 3) := sorry
theorem dL_law_1377 : decode cL_law 1377 = .ok (.iconst 0, 1) := sorry
theorem dL_law_1378 : decode cL_law 1378 = .ok (.ireturn, 1) := sorry
theorem dL_law_1379 : decode cL_law 1379 = .ok (.goto 774, 3) := sorry
theorem dL_law_1382 : decode cL_law 1382 = .ok (.aload_n 1, 1) := sorry
theorem dL_law_1383 : decode cL_law 1383 = .ok (.aload_n 0, 1) := sorry
theorem dL_law_1384 : decode cL_law 1384 = .ok (.iload 4, 2) := sorry
theorem dL_law_1386 : decode cL_law 1386 = .ok (.iconst 1, 1) := sorry
theorem dL_law_1387 : decode cL_law 1387 = .ok (.iadd, 1) := sorry
theorem dL_law_1388 : decode cL_law 1388 = .ok (.iaload, 1) := sorry
theorem dL_law_1389 : decode cL_law 1389 = .ok (.aload_n 3, 1) := sorry
theorem dL_law_1390 : decode cL_law 1390 = .ok (.invokestatic 204, 3) := sorry
theorem dL_law_1393 : decode cL_law 1393 = .ok (.istore 5, 2) := sorry
theorem dL_law_1395 : decode cL_law 1395 = .ok (.aload_n 2, 1) := sorry
theorem dL_law_1396 : decode cL_law 1396 = .ok (.aload_n 0, 1) := sorry
theorem dL_law_1397 : decode cL_law 1397 = .ok (.iload 4, 2) := sorry
theorem dL_law_1399 : decode cL_law 1399 = .ok (.iconst 1, 1) := sorry
theorem dL_law_1400 : decode cL_law 1400 = .ok (.iadd, 1) := sorry
theorem dL_law_1401 : decode cL_law 1401 = .ok (.iaload, 1) := sorry
theorem dL_law_1402 : decode cL_law 1402 = .ok (.invokevirtual 206, 3) := sorry
theorem dL_law_1405 : decode cL_law 1405 = .ok (.istore 6, 2) := sorry
theorem dL_law_1407 : decode cL_law 1407 = .ok (.aload_n 2, 1) := sorry
theorem dL_law_1408 : decode cL_law 1408 = .ok (.invokevirtual 109, 3) := sorry
theorem dL_law_1411 : decode cL_law 1411 = .ok (.iload 5, 2) := sorry
theorem dL_law_1413 : decode cL_law 1413 = .ok (.if_icmp .eq 5, 3) := sorry
theorem dL_law_1416 : decode cL_law 1416 = .ok (.iconst 0, 1) := sorry
theorem dL_law_1417 : decode cL_law 1417 = .ok (.ireturn, 1) := sorry
theorem dL_law_1418 : decode cL_law 1418 = .ok (.iload 5, 2) := sorry
theorem dL_law_1420 : decode cL_law 1420 = .ok (.ifCond .ne 15, 3) := sorry
theorem dL_law_1423 : decode cL_law 1423 = .ok (.aload_n 3, 1) := sorry
theorem dL_law_1424 : decode cL_law 1424 = .ok (.iconst 0, 1) := sorry
theorem dL_law_1425 : decode cL_law 1425 = .ok (.laload, 1) := sorry
theorem dL_law_1426 : decode cL_law 1426 = .ok (.iload 6, 2) := sorry
theorem dL_law_1428 : decode cL_law 1428 = .ok (.i2l, 1) := sorry
theorem dL_law_1429 : decode cL_law 1429 = .ok (.lcmp, 1) := sorry
theorem dL_law_1430 : decode cL_law 1430 = .ok (.ifCond .eq 5, 3) := sorry
theorem dL_law_1433 : decode cL_law 1433 = .ok (.iconst 0, 1) := sorry
theorem dL_law_1434 : decode cL_law 1434 = .ok (.ireturn, 1) := sorry
theorem dL_law_1435 : decode cL_law 1435 = .ok (.goto 718, 3) := sorry
theorem dL_law_1438 : decode cL_law 1438 = .ok (.aload_n 1, 1) := sorry
theorem dL_law_1439 : decode cL_law 1439 = .ok (.aload_n 0, 1) := sorry
theorem dL_law_1440 : decode cL_law 1440 = .ok (.iload 4, 2) := sorry
theorem dL_law_1442 : decode cL_law 1442 = .ok (.iconst 1, 1) := sorry
theorem dL_law_1443 : decode cL_law 1443 = .ok (.iadd, 1) := sorry
theorem dL_law_1444 : decode cL_law 1444 = .ok (.iaload, 1) := sorry
theorem dL_law_1445 : decode cL_law 1445 = .ok (.aload_n 3, 1) := sorry
theorem dL_law_1446 : decode cL_law 1446 = .ok (.invokestatic 207, 3) := sorry
theorem dL_law_1449 : decode cL_law 1449 = .ok (.istore 5, 2) := sorry
theorem dL_law_1451 : decode cL_law 1451 = .ok (.aload_n 2, 1) := sorry
theorem dL_law_1452 : decode cL_law 1452 = .ok (.aload_n 0, 1) := sorry
theorem dL_law_1453 : decode cL_law 1453 = .ok (.iload 4, 2) := sorry
theorem dL_law_1455 : decode cL_law 1455 = .ok (.iconst 1, 1) := sorry
theorem dL_law_1456 : decode cL_law 1456 = .ok (.iadd, 1) := sorry
theorem dL_law_1457 : decode cL_law 1457 = .ok (.iaload, 1) := sorry
theorem dL_law_1458 : decode cL_law 1458 = .ok (.invokevirtual 209, 3) := sorry
theorem dL_law_1461 : decode cL_law 1461 = .ok (.istore 6, 2) := sorry
theorem dL_law_1463 : decode cL_law 1463 = .ok (.aload_n 2, 1) := sorry
theorem dL_law_1464 : decode cL_law 1464 = .ok (.invokevirtual 109, 3) := sorry
theorem dL_law_1467 : decode cL_law 1467 = .ok (.iload 5, 2) := sorry
theorem dL_law_1469 : decode cL_law 1469 = .ok (.if_icmp .eq 5, 3) := sorry
theorem dL_law_1472 : decode cL_law 1472 = .ok (.iconst 0, 1) := sorry
theorem dL_law_1473 : decode cL_law 1473 = .ok (.ireturn, 1) := sorry
theorem dL_law_1474 : decode cL_law 1474 = .ok (.iload 5, 2) := sorry
theorem dL_law_1476 : decode cL_law 1476 = .ok (.ifCond .ne 15, 3) := sorry
theorem dL_law_1479 : decode cL_law 1479 = .ok (.aload_n 3, 1) := sorry
theorem dL_law_1480 : decode cL_law 1480 = .ok (.iconst 0, 1) := sorry
theorem dL_law_1481 : decode cL_law 1481 = .ok (.laload, 1) := sorry
theorem dL_law_1482 : decode cL_law 1482 = .ok (.iload 6, 2) := sorry
theorem dL_law_1484 : decode cL_law 1484 = .ok (.i2l, 1) := sorry
theorem dL_law_1485 : decode cL_law 1485 = .ok (.lcmp, 1) := sorry
theorem dL_law_1486 : decode cL_law 1486 = .ok (.ifCond .eq 5, 3) := sorry
theorem dL_law_1489 : decode cL_law 1489 = .ok (.iconst 0, 1) := sorry
theorem dL_law_1490 : decode cL_law 1490 = .ok (.ireturn, 1) := sorry
theorem dL_law_1491 : decode cL_law 1491 = .ok (.goto 662, 3) := sorry
theorem dL_law_1494 : decode cL_law 1494 = .ok (.aload_n 1, 1) := sorry
theorem dL_law_1495 : decode cL_law 1495 = .ok (.aload_n 0, 1) := sorry
theorem dL_law_1496 : decode cL_law 1496 = .ok (.iload 4, 2) := sorry
theorem dL_law_1498 : decode cL_law 1498 = .ok (.iconst 1, 1) := sorry
theorem dL_law_1499 : decode cL_law 1499 = .ok (.iadd, 1) := sorry
theorem dL_law_1500 : decode cL_law 1500 = .ok (.iaload, 1) := sorry
theorem dL_law_1501 : decode cL_law 1501 = .ok (.aload_n 3, 1) := sorry
theorem dL_law_1502 : decode cL_law 1502 = .ok (.invokestatic 210, 3) := sorry
theorem dL_law_1505 : decode cL_law 1505 = .ok (.istore 5, 2) := sorry
theorem dL_law_1507 : decode cL_law 1507 = .ok (.aload_n 2, 1) := sorry
theorem dL_law_1508 : decode cL_law 1508 = .ok (.aload_n 0, 1) := sorry
theorem dL_law_1509 : decode cL_law 1509 = .ok (.iload 4, 2) := sorry
theorem dL_law_1511 : decode cL_law 1511 = .ok (.iconst 1, 1) := sorry
theorem dL_law_1512 : decode cL_law 1512 = .ok (.iadd, 1) := sorry
theorem dL_law_1513 : decode cL_law 1513 = .ok (.iaload, 1) := sorry
theorem dL_law_1514 : decode cL_law 1514 = .ok (.invokevirtual 212, 3) := sorry
theorem dL_law_1517 : decode cL_law 1517 = .ok (.istore 6, 2) := sorry
theorem dL_law_1519 : decode cL_law 1519 = .ok (.aload_n 2, 1) := sorry
theorem dL_law_1520 : decode cL_law 1520 = .ok (.invokevirtual 109, 3) := sorry
theorem dL_law_1523 : decode cL_law 1523 = .ok (.iload 5, 2) := sorry
theorem dL_law_1525 : decode cL_law 1525 = .ok (.if_icmp .eq 5, 3) := sorry
theorem dL_law_1528 : decode cL_law 1528 = .ok (.iconst 0, 1) := sorry
theorem dL_law_1529 : decode cL_law 1529 = .ok (.ireturn, 1) := sorry
theorem dL_law_1530 : decode cL_law 1530 = .ok (.iload 5, 2) := sorry
theorem dL_law_1532 : decode cL_law 1532 = .ok (.ifCond .ne 15, 3) := sorry
theorem dL_law_1535 : decode cL_law 1535 = .ok (.aload_n 3, 1) := sorry
theorem dL_law_1536 : decode cL_law 1536 = .ok (.iconst 0, 1) := sorry
theorem dL_law_1537 : decode cL_law 1537 = .ok (.laload, 1) := sorry
theorem dL_law_1538 : decode cL_law 1538 = .ok (.iload 6, 2) := sorry
theorem dL_law_1540 : decode cL_law 1540 = .ok (.i2l, 1) := sorry
theorem dL_law_1541 : decode cL_law 1541 = .ok (.lcmp, 1) := sorry
theorem dL_law_1542 : decode cL_law 1542 = .ok (.ifCond .eq 5, 3) := sorry
theorem dL_law_1545 : decode cL_law 1545 = .ok (.iconst 0, 1) := sorry
theorem dL_law_1546 : decode cL_law 1546 = .ok (.ireturn, 1) := sorry
theorem dL_law_1547 : decode cL_law 1547 = .ok (.goto 606, 3) := sorry
theorem dL_law_1550 : decode cL_law 1550 = .ok (.aload_n 1, 1) := sorry
theorem dL_law_1551 : decode cL_law 1551 = .ok (.aload_n 0, 1) := sorry
theorem dL_law_1552 : decode cL_law 1552 = .ok (.iload 4, 2) := sorry
theorem dL_law_1554 : decode cL_law 1554 = .ok (.iconst 1, 1) := sorry
theorem dL_law_1555 : decode cL_law 1555 = .ok (.iadd, 1) := sorry
theorem dL_law_1556 : decode cL_law 1556 = .ok (.iaload, 1) := sorry
theorem dL_law_1557 : decode cL_law 1557 = .ok (.aload_n 3, 1) := sorry
theorem dL_law_1558 : decode cL_law 1558 = .ok (.invokestatic 213, 3) := sorry
theorem dL_law_1561 : decode cL_law 1561 = .ok (.istore 5, 2) := sorry
theorem dL_law_1563 : decode cL_law 1563 = .ok (.aload_n 2, 1) := sorry
theorem dL_law_1564 : decode cL_law 1564 = .ok (.aload_n 0, 1) := sorry
theorem dL_law_1565 : decode cL_law 1565 = .ok (.iload 4, 2) := sorry
theorem dL_law_1567 : decode cL_law 1567 = .ok (.iconst 1, 1) := sorry
theorem dL_law_1568 : decode cL_law 1568 = .ok (.iadd, 1) := sorry
theorem dL_law_1569 : decode cL_law 1569 = .ok (.iaload, 1) := sorry
theorem dL_law_1570 : decode cL_law 1570 = .ok (.invokevirtual 215, 3) := sorry
theorem dL_law_1573 : decode cL_law 1573 = .ok (.istore 6, 2) := sorry
theorem dL_law_1575 : decode cL_law 1575 = .ok (.aload_n 2, 1) := sorry
theorem dL_law_1576 : decode cL_law 1576 = .ok (.invokevirtual 109, 3) := sorry
theorem dL_law_1579 : decode cL_law 1579 = .ok (.iload 5, 2) := sorry
theorem dL_law_1581 : decode cL_law 1581 = .ok (.if_icmp .eq 5, 3) := sorry
theorem dL_law_1584 : decode cL_law 1584 = .ok (.iconst 0, 1) := sorry
theorem dL_law_1585 : decode cL_law 1585 = .ok (.ireturn, 1) := sorry
theorem dL_law_1586 : decode cL_law 1586 = .ok (.iload 5, 2) := sorry
theorem dL_law_1588 : decode cL_law 1588 = .ok (.ifCond .ne 15, 3) := sorry
theorem dL_law_1591 : decode cL_law 1591 = .ok (.aload_n 3, 1) := sorry
theorem dL_law_1592 : decode cL_law 1592 = .ok (.iconst 0, 1) := sorry
theorem dL_law_1593 : decode cL_law 1593 = .ok (.laload, 1) := sorry
theorem dL_law_1594 : decode cL_law 1594 = .ok (.iload 6, 2) := sorry
theorem dL_law_1596 : decode cL_law 1596 = .ok (.i2l, 1) := sorry
theorem dL_law_1597 : decode cL_law 1597 = .ok (.lcmp, 1) := sorry
theorem dL_law_1598 : decode cL_law 1598 = .ok (.ifCond .eq 5, 3) := sorry
theorem dL_law_1601 : decode cL_law 1601 = .ok (.iconst 0, 1) := sorry
theorem dL_law_1602 : decode cL_law 1602 = .ok (.ireturn, 1) := sorry
theorem dL_law_1603 : decode cL_law 1603 = .ok (.goto 550, 3) := sorry
theorem dL_law_1606 : decode cL_law 1606 = .ok (.aload_n 1, 1) := sorry
theorem dL_law_1607 : decode cL_law 1607 = .ok (.aload_n 0, 1) := sorry
theorem dL_law_1608 : decode cL_law 1608 = .ok (.iload 4, 2) := sorry
theorem dL_law_1610 : decode cL_law 1610 = .ok (.iconst 1, 1) := sorry
theorem dL_law_1611 : decode cL_law 1611 = .ok (.iadd, 1) := sorry
theorem dL_law_1612 : decode cL_law 1612 = .ok (.iaload, 1) := sorry
theorem dL_law_1613 : decode cL_law 1613 = .ok (.aload_n 3, 1) := sorry
theorem dL_law_1614 : decode cL_law 1614 = .ok (.invokestatic 216, 3) := sorry
theorem dL_law_1617 : decode cL_law 1617 = .ok (.istore 5, 2) := sorry
theorem dL_law_1619 : decode cL_law 1619 = .ok (.aload_n 2, 1) := sorry
theorem dL_law_1620 : decode cL_law 1620 = .ok (.aload_n 0, 1) := sorry
theorem dL_law_1621 : decode cL_law 1621 = .ok (.iload 4, 2) := sorry
theorem dL_law_1623 : decode cL_law 1623 = .ok (.iconst 1, 1) := sorry
theorem dL_law_1624 : decode cL_law 1624 = .ok (.iadd, 1) := sorry
theorem dL_law_1625 : decode cL_law 1625 = .ok (.iaload, 1) := sorry
theorem dL_law_1626 : decode cL_law 1626 = .ok (.invokevirtual 218, 3) := sorry
theorem dL_law_1629 : decode cL_law 1629 = .ok (.istore 6, 2) := sorry
theorem dL_law_1631 : decode cL_law 1631 = .ok (.aload_n 2, 1) := sorry
theorem dL_law_1632 : decode cL_law 1632 = .ok (.invokevirtual 109, 3) := sorry
theorem dL_law_1635 : decode cL_law 1635 = .ok (.iload 5, 2) := sorry
theorem dL_law_1637 : decode cL_law 1637 = .ok (.if_icmp .eq 5, 3) := sorry
theorem dL_law_1640 : decode cL_law 1640 = .ok (.iconst 0, 1) := sorry
theorem dL_law_1641 : decode cL_law 1641 = .ok (.ireturn, 1) := sorry
theorem dL_law_1642 : decode cL_law 1642 = .ok (.iload 5, 2) := sorry
theorem dL_law_1644 : decode cL_law 1644 = .ok (.ifCond .ne 15, 3) := sorry
theorem dL_law_1647 : decode cL_law 1647 = .ok (.aload_n 3, 1) := sorry
theorem dL_law_1648 : decode cL_law 1648 = .ok (.iconst 0, 1) := sorry
theorem dL_law_1649 : decode cL_law 1649 = .ok (.laload, 1) := sorry
theorem dL_law_1650 : decode cL_law 1650 = .ok (.iload 6, 2) := sorry
theorem dL_law_1652 : decode cL_law 1652 = .ok (.i2l, 1) := sorry
theorem dL_law_1653 : decode cL_law 1653 = .ok (.lcmp, 1) := sorry
theorem dL_law_1654 : decode cL_law 1654 = .ok (.ifCond .eq 5, 3) := sorry
theorem dL_law_1657 : decode cL_law 1657 = .ok (.iconst 0, 1) := sorry
theorem dL_law_1658 : decode cL_law 1658 = .ok (.ireturn, 1) := sorry
theorem dL_law_1659 : decode cL_law 1659 = .ok (.goto 494, 3) := sorry
theorem dL_law_1662 : decode cL_law 1662 = .ok (.aload_n 1, 1) := sorry
theorem dL_law_1663 : decode cL_law 1663 = .ok (.aload_n 0, 1) := sorry
theorem dL_law_1664 : decode cL_law 1664 = .ok (.iload 4, 2) := sorry
theorem dL_law_1666 : decode cL_law 1666 = .ok (.iconst 1, 1) := sorry
theorem dL_law_1667 : decode cL_law 1667 = .ok (.iadd, 1) := sorry
theorem dL_law_1668 : decode cL_law 1668 = .ok (.iaload, 1) := sorry
theorem dL_law_1669 : decode cL_law 1669 = .ok (.aload_n 3, 1) := sorry
theorem dL_law_1670 : decode cL_law 1670 = .ok (.invokestatic 219, 3) := sorry
theorem dL_law_1673 : decode cL_law 1673 = .ok (.istore 5, 2) := sorry
theorem dL_law_1675 : decode cL_law 1675 = .ok (.aload_n 2, 1) := sorry
theorem dL_law_1676 : decode cL_law 1676 = .ok (.aload_n 0, 1) := sorry
theorem dL_law_1677 : decode cL_law 1677 = .ok (.iload 4, 2) := sorry
theorem dL_law_1679 : decode cL_law 1679 = .ok (.iconst 1, 1) := sorry
theorem dL_law_1680 : decode cL_law 1680 = .ok (.iadd, 1) := sorry
theorem dL_law_1681 : decode cL_law 1681 = .ok (.iaload, 1) := sorry
theorem dL_law_1682 : decode cL_law 1682 = .ok (.invokevirtual 221, 3) := sorry
theorem dL_law_1685 : decode cL_law 1685 = .ok (.istore 6, 2) := sorry
theorem dL_law_1687 : decode cL_law 1687 = .ok (.aload_n 2, 1) := sorry
theorem dL_law_1688 : decode cL_law 1688 = .ok (.invokevirtual 109, 3) := sorry
theorem dL_law_1691 : decode cL_law 1691 = .ok (.iload 5, 2) := sorry
theorem dL_law_1693 : decode cL_law 1693 = .ok (.if_icmp .eq 5, 3) := sorry
theorem dL_law_1696 : decode cL_law 1696 = .ok (.iconst 0, 1) := sorry
theorem dL_law_1697 : decode cL_law 1697 = .ok (.ireturn, 1) := sorry
theorem dL_law_1698 : decode cL_law 1698 = .ok (.iload 5, 2) := sorry
theorem dL_law_1700 : decode cL_law 1700 = .ok (.ifCond .ne 15, 3) := sorry
theorem dL_law_1703 : decode cL_law 1703 = .ok (.aload_n 3, 1) := sorry
theorem dL_law_1704 : decode cL_law 1704 = .ok (.iconst 0, 1) := sorry
theorem dL_law_1705 : decode cL_law 1705 = .ok (.laload, 1) := sorry
theorem dL_law_1706 : decode cL_law 1706 = .ok (.iload 6, 2) := sorry
theorem dL_law_1708 : decode cL_law 1708 = .ok (.i2l, 1) := sorry
theorem dL_law_1709 : decode cL_law 1709 = .ok (.lcmp, 1) := sorry
theorem dL_law_1710 : decode cL_law 1710 = .ok (.ifCond .eq 5, 3) := sorry
theorem dL_law_1713 : decode cL_law 1713 = .ok (.iconst 0, 1) := sorry
theorem dL_law_1714 : decode cL_law 1714 = .ok (.ireturn, 1) := sorry
theorem dL_law_1715 : decode cL_law 1715 = .ok (.goto 438, 3) := sorry
theorem dL_law_1718 : decode cL_law 1718 = .ok (.aload_n 1, 1) := sorry
theorem dL_law_1719 : decode cL_law 1719 = .ok (.aload_n 0, 1) := sorry
theorem dL_law_1720 : decode cL_law 1720 = .ok (.iload 4, 2) := sorry
theorem dL_law_1722 : decode cL_law 1722 = .ok (.iconst 1, 1) := sorry
theorem dL_law_1723 : decode cL_law 1723 = .ok (.iadd, 1) := sorry
theorem dL_law_1724 : decode cL_law 1724 = .ok (.iaload, 1) := sorry
theorem dL_law_1725 : decode cL_law 1725 = .ok (.aload_n 0, 1) := sorry
theorem dL_law_1726 : decode cL_law 1726 = .ok (.iload 4, 2) := sorry
theorem dL_law_1728 : decode cL_law 1728 = .ok (.iconst 2, 1) := sorry
theorem dL_law_1729 : decode cL_law 1729 = .ok (.iadd, 1) := sorry
theorem dL_law_1730 : decode cL_law 1730 = .ok (.iaload, 1) := sorry
theorem dL_law_1731 : decode cL_law 1731 = .ok (.aload_n 0, 1) := sorry
theorem dL_law_1732 : decode cL_law 1732 = .ok (.iload 4, 2) := sorry
theorem dL_law_1734 : decode cL_law 1734 = .ok (.iconst 3, 1) := sorry
theorem dL_law_1735 : decode cL_law 1735 = .ok (.iadd, 1) := sorry
theorem dL_law_1736 : decode cL_law 1736 = .ok (.iaload, 1) := sorry
theorem dL_law_1737 : decode cL_law 1737 = .ok (.aload_n 3, 1) := sorry
theorem dL_law_1738 : decode cL_law 1738 = .ok (.invokestatic 222, 3) := sorry
theorem dL_law_1741 : decode cL_law 1741 = .ok (.istore 5, 2) := sorry
theorem dL_law_1743 : decode cL_law 1743 = .ok (.aload_n 2, 1) := sorry
theorem dL_law_1744 : decode cL_law 1744 = .ok (.aload_n 0, 1) := sorry
theorem dL_law_1745 : decode cL_law 1745 = .ok (.iload 4, 2) := sorry
theorem dL_law_1747 : decode cL_law 1747 = .ok (.iconst 1, 1) := sorry
theorem dL_law_1748 : decode cL_law 1748 = .ok (.iadd, 1) := sorry
theorem dL_law_1749 : decode cL_law 1749 = .ok (.iaload, 1) := sorry
theorem dL_law_1750 : decode cL_law 1750 = .ok (.aload_n 0, 1) := sorry
theorem dL_law_1751 : decode cL_law 1751 = .ok (.iload 4, 2) := sorry
theorem dL_law_1753 : decode cL_law 1753 = .ok (.iconst 2, 1) := sorry
theorem dL_law_1754 : decode cL_law 1754 = .ok (.iadd, 1) := sorry
theorem dL_law_1755 : decode cL_law 1755 = .ok (.iaload, 1) := sorry
theorem dL_law_1756 : decode cL_law 1756 = .ok (.aload_n 0, 1) := sorry
theorem dL_law_1757 : decode cL_law 1757 = .ok (.iload 4, 2) := sorry
theorem dL_law_1759 : decode cL_law 1759 = .ok (.iconst 3, 1) := sorry
theorem dL_law_1760 : decode cL_law 1760 = .ok (.iadd, 1) := sorry
theorem dL_law_1761 : decode cL_law 1761 = .ok (.iaload, 1) := sorry
theorem dL_law_1762 : decode cL_law 1762 = .ok (.invokevirtual 225, 3) := sorry
theorem dL_law_1765 : decode cL_law 1765 = .ok (.istore 6, 2) := sorry
theorem dL_law_1767 : decode cL_law 1767 = .ok (.aload_n 2, 1) := sorry
theorem dL_law_1768 : decode cL_law 1768 = .ok (.invokevirtual 109, 3) := sorry
theorem dL_law_1771 : decode cL_law 1771 = .ok (.iload 5, 2) := sorry
theorem dL_law_1773 : decode cL_law 1773 = .ok (.if_icmp .eq 5, 3) := sorry
theorem dL_law_1776 : decode cL_law 1776 = .ok (.iconst 0, 1) := sorry
theorem dL_law_1777 : decode cL_law 1777 = .ok (.ireturn, 1) := sorry
theorem dL_law_1778 : decode cL_law 1778 = .ok (.iload 5, 2) := sorry
theorem dL_law_1780 : decode cL_law 1780 = .ok (.ifCond .ne 15, 3) := sorry
theorem dL_law_1783 : decode cL_law 1783 = .ok (.aload_n 3, 1) := sorry
theorem dL_law_1784 : decode cL_law 1784 = .ok (.iconst 0, 1) := sorry
theorem dL_law_1785 : decode cL_law 1785 = .ok (.laload, 1) := sorry
theorem dL_law_1786 : decode cL_law 1786 = .ok (.iload 6, 2) := sorry
theorem dL_law_1788 : decode cL_law 1788 = .ok (.i2l, 1) := sorry
theorem dL_law_1789 : decode cL_law 1789 = .ok (.lcmp, 1) := sorry
theorem dL_law_1790 : decode cL_law 1790 = .ok (.ifCond .eq 5, 3) := sorry
theorem dL_law_1793 : decode cL_law 1793 = .ok (.iconst 0, 1) := sorry
theorem dL_law_1794 : decode cL_law 1794 = .ok (.ireturn, 1) := sorry
theorem dL_law_1795 : decode cL_law 1795 = .ok (.goto 358, 3) := sorry
theorem dL_law_1798 : decode cL_law 1798 = .ok (.aload_n 1, 1) := sorry
theorem dL_law_1799 : decode cL_law 1799 = .ok (.aload_n 0, 1) := sorry
theorem dL_law_1800 : decode cL_law 1800 = .ok (.iload 4, 2) := sorry
theorem dL_law_1802 : decode cL_law 1802 = .ok (.iconst 1, 1) := sorry
theorem dL_law_1803 : decode cL_law 1803 = .ok (.iadd, 1) := sorry
theorem dL_law_1804 : decode cL_law 1804 = .ok (.iaload, 1) := sorry
theorem dL_law_1805 : decode cL_law 1805 = .ok (.aload_n 3, 1) := sorry
theorem dL_law_1806 : decode cL_law 1806 = .ok (.invokestatic 226, 3) := sorry
theorem dL_law_1809 : decode cL_law 1809 = .ok (.istore 5, 2) := sorry
theorem dL_law_1811 : decode cL_law 1811 = .ok (.aload_n 2, 1) := sorry
theorem dL_law_1812 : decode cL_law 1812 = .ok (.aload_n 0, 1) := sorry
theorem dL_law_1813 : decode cL_law 1813 = .ok (.iload 4, 2) := sorry
theorem dL_law_1815 : decode cL_law 1815 = .ok (.iconst 1, 1) := sorry
theorem dL_law_1816 : decode cL_law 1816 = .ok (.iadd, 1) := sorry
theorem dL_law_1817 : decode cL_law 1817 = .ok (.iaload, 1) := sorry
theorem dL_law_1818 : decode cL_law 1818 = .ok (.invokevirtual 228, 3) := sorry
theorem dL_law_1821 : decode cL_law 1821 = .ok (.istore 6, 2) := sorry
theorem dL_law_1823 : decode cL_law 1823 = .ok (.aload_n 2, 1) := sorry
theorem dL_law_1824 : decode cL_law 1824 = .ok (.invokevirtual 109, 3) := sorry
theorem dL_law_1827 : decode cL_law 1827 = .ok (.iload 5, 2) := sorry
theorem dL_law_1829 : decode cL_law 1829 = .ok (.if_icmp .eq 5, 3) := sorry
theorem dL_law_1832 : decode cL_law 1832 = .ok (.iconst 0, 1) := sorry
theorem dL_law_1833 : decode cL_law 1833 = .ok (.ireturn, 1) := sorry
theorem dL_law_1834 : decode cL_law 1834 = .ok (.iload 5, 2) := sorry
theorem dL_law_1836 : decode cL_law 1836 = .ok (.ifCond .ne 15, 3) := sorry
theorem dL_law_1839 : decode cL_law 1839 = .ok (.aload_n 3, 1) := sorry
theorem dL_law_1840 : decode cL_law 1840 = .ok (.iconst 0, 1) := sorry
theorem dL_law_1841 : decode cL_law 1841 = .ok (.laload, 1) := sorry
theorem dL_law_1842 : decode cL_law 1842 = .ok (.iload 6, 2) := sorry
theorem dL_law_1844 : decode cL_law 1844 = .ok (.i2l, 1) := sorry
theorem dL_law_1845 : decode cL_law 1845 = .ok (.lcmp, 1) := sorry
theorem dL_law_1846 : decode cL_law 1846 = .ok (.ifCond .eq 5, 3) := sorry
theorem dL_law_1849 : decode cL_law 1849 = .ok (.iconst 0, 1) := sorry
theorem dL_law_1850 : decode cL_law 1850 = .ok (.ireturn, 1) := sorry
theorem dL_law_1851 : decode cL_law 1851 = .ok (.goto 302, 3) := sorry
theorem dL_law_1854 : decode cL_law 1854 = .ok (.aload_n 1, 1) := sorry
theorem dL_law_1855 : decode cL_law 1855 = .ok (.aload_n 0, 1) := sorry
theorem dL_law_1856 : decode cL_law 1856 = .ok (.iload 4, 2) := sorry
theorem dL_law_1858 : decode cL_law 1858 = .ok (.iconst 1, 1) := sorry
theorem dL_law_1859 : decode cL_law 1859 = .ok (.iadd, 1) := sorry
theorem dL_law_1860 : decode cL_law 1860 = .ok (.iaload, 1) := sorry
theorem dL_law_1861 : decode cL_law 1861 = .ok (.aload_n 3, 1) := sorry
theorem dL_law_1862 : decode cL_law 1862 = .ok (.invokestatic 229, 3) := sorry
theorem dL_law_1865 : decode cL_law 1865 = .ok (.istore 5, 2) := sorry
theorem dL_law_1867 : decode cL_law 1867 = .ok (.aload_n 2, 1) := sorry
theorem dL_law_1868 : decode cL_law 1868 = .ok (.aload_n 0, 1) := sorry
theorem dL_law_1869 : decode cL_law 1869 = .ok (.iload 4, 2) := sorry
theorem dL_law_1871 : decode cL_law 1871 = .ok (.iconst 1, 1) := sorry
theorem dL_law_1872 : decode cL_law 1872 = .ok (.iadd, 1) := sorry
theorem dL_law_1873 : decode cL_law 1873 = .ok (.iaload, 1) := sorry
theorem dL_law_1874 : decode cL_law 1874 = .ok (.invokevirtual 231, 3) := sorry
theorem dL_law_1877 : decode cL_law 1877 = .ok (.istore 6, 2) := sorry
theorem dL_law_1879 : decode cL_law 1879 = .ok (.aload_n 2, 1) := sorry
theorem dL_law_1880 : decode cL_law 1880 = .ok (.invokevirtual 109, 3) := sorry
theorem dL_law_1883 : decode cL_law 1883 = .ok (.iload 5, 2) := sorry
theorem dL_law_1885 : decode cL_law 1885 = .ok (.if_icmp .eq 5, 3) := sorry
theorem dL_law_1888 : decode cL_law 1888 = .ok (.iconst 0, 1) := sorry
theorem dL_law_1889 : decode cL_law 1889 = .ok (.ireturn, 1) := sorry
theorem dL_law_1890 : decode cL_law 1890 = .ok (.iload 5, 2) := sorry
theorem dL_law_1892 : decode cL_law 1892 = .ok (.ifCond .ne 15, 3) := sorry
theorem dL_law_1895 : decode cL_law 1895 = .ok (.aload_n 3, 1) := sorry
theorem dL_law_1896 : decode cL_law 1896 = .ok (.iconst 0, 1) := sorry
theorem dL_law_1897 : decode cL_law 1897 = .ok (.laload, 1) := sorry
theorem dL_law_1898 : decode cL_law 1898 = .ok (.iload 6, 2) := sorry
theorem dL_law_1900 : decode cL_law 1900 = .ok (.i2l, 1) := sorry
theorem dL_law_1901 : decode cL_law 1901 = .ok (.lcmp, 1) := sorry
theorem dL_law_1902 : decode cL_law 1902 = .ok (.ifCond .eq 5, 3) := sorry
theorem dL_law_1905 : decode cL_law 1905 = .ok (.iconst 0, 1) := sorry
theorem dL_law_1906 : decode cL_law 1906 = .ok (.ireturn, 1) := sorry
theorem dL_law_1907 : decode cL_law 1907 = .ok (.goto 246, 3) := sorry
theorem dL_law_1910 : decode cL_law 1910 = .ok (.aload_n 1, 1) := sorry
theorem dL_law_1911 : decode cL_law 1911 = .ok (.aload_n 0, 1) := sorry
theorem dL_law_1912 : decode cL_law 1912 = .ok (.iload 4, 2) := sorry
theorem dL_law_1914 : decode cL_law 1914 = .ok (.iconst 1, 1) := sorry
theorem dL_law_1915 : decode cL_law 1915 = .ok (.iadd, 1) := sorry
theorem dL_law_1916 : decode cL_law 1916 = .ok (.iaload, 1) := sorry
theorem dL_law_1917 : decode cL_law 1917 = .ok (.aload_n 3, 1) := sorry
theorem dL_law_1918 : decode cL_law 1918 = .ok (.invokestatic 232, 3) := sorry
theorem dL_law_1921 : decode cL_law 1921 = .ok (.istore 5, 2) := sorry
theorem dL_law_1923 : decode cL_law 1923 = .ok (.aload_n 2, 1) := sorry
theorem dL_law_1924 : decode cL_law 1924 = .ok (.aload_n 0, 1) := sorry
theorem dL_law_1925 : decode cL_law 1925 = .ok (.iload 4, 2) := sorry
theorem dL_law_1927 : decode cL_law 1927 = .ok (.iconst 1, 1) := sorry
theorem dL_law_1928 : decode cL_law 1928 = .ok (.iadd, 1) := sorry
theorem dL_law_1929 : decode cL_law 1929 = .ok (.iaload, 1) := sorry
theorem dL_law_1930 : decode cL_law 1930 = .ok (.invokevirtual 234, 3) := sorry
theorem dL_law_1933 : decode cL_law 1933 = .ok (.istore 6, 2) := sorry
theorem dL_law_1935 : decode cL_law 1935 = .ok (.aload_n 2, 1) := sorry
theorem dL_law_1936 : decode cL_law 1936 = .ok (.invokevirtual 109, 3) := sorry
theorem dL_law_1939 : decode cL_law 1939 = .ok (.iload 5, 2) := sorry
theorem dL_law_1941 : decode cL_law 1941 = .ok (.if_icmp .eq 5, 3) := sorry
theorem dL_law_1944 : decode cL_law 1944 = .ok (.iconst 0, 1) := sorry
theorem dL_law_1945 : decode cL_law 1945 = .ok (.ireturn, 1) := sorry
theorem dL_law_1946 : decode cL_law 1946 = .ok (.iload 5, 2) := sorry
theorem dL_law_1948 : decode cL_law 1948 = .ok (.ifCond .ne 15, 3) := sorry
theorem dL_law_1951 : decode cL_law 1951 = .ok (.aload_n 3, 1) := sorry
theorem dL_law_1952 : decode cL_law 1952 = .ok (.iconst 0, 1) := sorry
theorem dL_law_1953 : decode cL_law 1953 = .ok (.laload, 1) := sorry
theorem dL_law_1954 : decode cL_law 1954 = .ok (.iload 6, 2) := sorry
theorem dL_law_1956 : decode cL_law 1956 = .ok (.i2l, 1) := sorry
theorem dL_law_1957 : decode cL_law 1957 = .ok (.lcmp, 1) := sorry
theorem dL_law_1958 : decode cL_law 1958 = .ok (.ifCond .eq 5, 3) := sorry
theorem dL_law_1961 : decode cL_law 1961 = .ok (.iconst 0, 1) := sorry
theorem dL_law_1962 : decode cL_law 1962 = .ok (.ireturn, 1) := sorry
theorem dL_law_1963 : decode cL_law 1963 = .ok (.goto 190, 3) := sorry
theorem dL_law_1966 : decode cL_law 1966 = .ok (.aload_n 1, 1) := sorry
theorem dL_law_1967 : decode cL_law 1967 = .ok (.aload_n 0, 1) := sorry
theorem dL_law_1968 : decode cL_law 1968 = .ok (.iload 4, 2) := sorry
theorem dL_law_1970 : decode cL_law 1970 = .ok (.iconst 1, 1) := sorry
theorem dL_law_1971 : decode cL_law 1971 = .ok (.iadd, 1) := sorry
theorem dL_law_1972 : decode cL_law 1972 = .ok (.iaload, 1) := sorry
theorem dL_law_1973 : decode cL_law 1973 = .ok (.aload_n 3, 1) := sorry
theorem dL_law_1974 : decode cL_law 1974 = .ok (.invokestatic 235, 3) := sorry
theorem dL_law_1977 : decode cL_law 1977 = .ok (.istore 5, 2) := sorry
theorem dL_law_1979 : decode cL_law 1979 = .ok (.aload_n 2, 1) := sorry
theorem dL_law_1980 : decode cL_law 1980 = .ok (.aload_n 0, 1) := sorry
theorem dL_law_1981 : decode cL_law 1981 = .ok (.iload 4, 2) := sorry
theorem dL_law_1983 : decode cL_law 1983 = .ok (.iconst 1, 1) := sorry
theorem dL_law_1984 : decode cL_law 1984 = .ok (.iadd, 1) := sorry
theorem dL_law_1985 : decode cL_law 1985 = .ok (.iaload, 1) := sorry
theorem dL_law_1986 : decode cL_law 1986 = .ok (.invokevirtual 237, 3) := sorry
theorem dL_law_1989 : decode cL_law 1989 = .ok (.istore 6, 2) := sorry
theorem dL_law_1991 : decode cL_law 1991 = .ok (.aload_n 2, 1) := sorry
theorem dL_law_1992 : decode cL_law 1992 = .ok (.invokevirtual 109, 3) := sorry
theorem dL_law_1995 : decode cL_law 1995 = .ok (.iload 5, 2) := sorry
theorem dL_law_1997 : decode cL_law 1997 = .ok (.if_icmp .eq 5, 3) := sorry
theorem dL_law_2000 : decode cL_law 2000 = .ok (.iconst 0, 1) := sorry
theorem dL_law_2001 : decode cL_law 2001 = .ok (.ireturn, 1) := sorry
theorem dL_law_2002 : decode cL_law 2002 = .ok (.iload 5, 2) := sorry
theorem dL_law_2004 : decode cL_law 2004 = .ok (.ifCond .ne 15, 3) := sorry
theorem dL_law_2007 : decode cL_law 2007 = .ok (.aload_n 3, 1) := sorry
theorem dL_law_2008 : decode cL_law 2008 = .ok (.iconst 0, 1) := sorry
theorem dL_law_2009 : decode cL_law 2009 = .ok (.laload, 1) := sorry
theorem dL_law_2010 : decode cL_law 2010 = .ok (.iload 6, 2) := sorry
theorem dL_law_2012 : decode cL_law 2012 = .ok (.i2l, 1) := sorry
theorem dL_law_2013 : decode cL_law 2013 = .ok (.lcmp, 1) := sorry
theorem dL_law_2014 : decode cL_law 2014 = .ok (.ifCond .eq 5, 3) := sorry
theorem dL_law_2017 : decode cL_law 2017 = .ok (.iconst 0, 1) := sorry
theorem dL_law_2018 : decode cL_law 2018 = .ok (.ireturn, 1) := sorry
theorem dL_law_2019 : decode cL_law 2019 = .ok (.goto 134, 3) := sorry
theorem dL_law_2022 : decode cL_law 2022 = .ok (.aload_n 1, 1) := sorry
theorem dL_law_2023 : decode cL_law 2023 = .ok (.aload_n 0, 1) := sorry
theorem dL_law_2024 : decode cL_law 2024 = .ok (.iload 4, 2) := sorry
theorem dL_law_2026 : decode cL_law 2026 = .ok (.iconst 1, 1) := sorry
theorem dL_law_2027 : decode cL_law 2027 = .ok (.iadd, 1) := sorry
theorem dL_law_2028 : decode cL_law 2028 = .ok (.iaload, 1) := sorry
theorem dL_law_2029 : decode cL_law 2029 = .ok (.invokevirtual 238, 3) := sorry
theorem dL_law_2032 : decode cL_law 2032 = .ok (.aload_n 2, 1) := sorry
theorem dL_law_2033 : decode cL_law 2033 = .ok (.aload_n 0, 1) := sorry
theorem dL_law_2034 : decode cL_law 2034 = .ok (.iload 4, 2) := sorry
theorem dL_law_2036 : decode cL_law 2036 = .ok (.iconst 1, 1) := sorry
theorem dL_law_2037 : decode cL_law 2037 = .ok (.iadd, 1) := sorry
theorem dL_law_2038 : decode cL_law 2038 = .ok (.iaload, 1) := sorry
theorem dL_law_2039 : decode cL_law 2039 = .ok (.invokevirtual 241, 3) := sorry
theorem dL_law_2042 : decode cL_law 2042 = .ok (.if_icmp .eq 111, 3) := sorry
theorem dL_law_2045 : decode cL_law 2045 = .ok (.iconst 0, 1) := sorry
theorem dL_law_2046 : decode cL_law 2046 = .ok (.ireturn, 1) := sorry
theorem dL_law_2047 : decode cL_law 2047 = .ok (.aload_n 1, 1) := sorry
theorem dL_law_2048 : decode cL_law 2048 = .ok (.invokevirtual 242, 3) := sorry
theorem dL_law_2051 : decode cL_law 2051 = .ok (.aload_n 2, 1) := sorry
theorem dL_law_2052 : decode cL_law 2052 = .ok (.invokevirtual 245, 3) := sorry
theorem dL_law_2055 : decode cL_law 2055 = .ok (.if_icmp .eq 98, 3) := sorry
theorem dL_law_2058 : decode cL_law 2058 = .ok (.iconst 0, 1) := sorry
theorem dL_law_2059 : decode cL_law 2059 = .ok (.ireturn, 1) := sorry
theorem dL_law_2060 : decode cL_law 2060 = .ok (.aload_n 1, 1) := sorry
theorem dL_law_2061 : decode cL_law 2061 = .ok (.invokevirtual 246, 3) := sorry
theorem dL_law_2064 : decode cL_law 2064 = .ok (.aload_n 2, 1) := sorry
theorem dL_law_2065 : decode cL_law 2065 = .ok (.invokevirtual 249, 3) := sorry
theorem dL_law_2068 : decode cL_law 2068 = .ok (.if_icmp .eq 85, 3) := sorry
theorem dL_law_2071 : decode cL_law 2071 = .ok (.iconst 0, 1) := sorry
theorem dL_law_2072 : decode cL_law 2072 = .ok (.ireturn, 1) := sorry
theorem dL_law_2073 : decode cL_law 2073 = .ok (.aload_n 1, 1) := sorry
theorem dL_law_2074 : decode cL_law 2074 = .ok (.invokevirtual 250, 3) := sorry
theorem dL_law_2077 : decode cL_law 2077 = .ok (.aload_n 2, 1) := sorry
theorem dL_law_2078 : decode cL_law 2078 = .ok (.invokevirtual 253, 3) := sorry
theorem dL_law_2081 : decode cL_law 2081 = .ok (.goto 72, 3) := sorry
theorem dL_law_2084 : decode cL_law 2084 = .ok (.aload_n 1, 1) := sorry
theorem dL_law_2085 : decode cL_law 2085 = .ok (.invokevirtual 254, 3) := sorry
theorem dL_law_2088 : decode cL_law 2088 = .ok (.aload_n 2, 1) := sorry
theorem dL_law_2089 : decode cL_law 2089 = .ok (.invokevirtual 257, 3) := sorry
theorem dL_law_2092 : decode cL_law 2092 = .ok (.if_icmp .eq 61, 3) := sorry
theorem dL_law_2095 : decode cL_law 2095 = .ok (.iconst 0, 1) := sorry
theorem dL_law_2096 : decode cL_law 2096 = .ok (.ireturn, 1) := sorry
theorem dL_law_2097 : decode cL_law 2097 = .ok (.aload_n 1, 1) := sorry
theorem dL_law_2098 : decode cL_law 2098 = .ok (.aload_n 0, 1) := sorry
theorem dL_law_2099 : decode cL_law 2099 = .ok (.iload 4, 2) := sorry
theorem dL_law_2101 : decode cL_law 2101 = .ok (.iconst 1, 1) := sorry
theorem dL_law_2102 : decode cL_law 2102 = .ok (.iadd, 1) := sorry
theorem dL_law_2103 : decode cL_law 2103 = .ok (.iaload, 1) := sorry
theorem dL_law_2104 : decode cL_law 2104 = .ok (.aload_n 3, 1) := sorry
theorem dL_law_2105 : decode cL_law 2105 = .ok (.invokestatic 258, 3) := sorry
theorem dL_law_2108 : decode cL_law 2108 = .ok (.istore 5, 2) := sorry
theorem dL_law_2110 : decode cL_law 2110 = .ok (.aload_n 2, 1) := sorry
theorem dL_law_2111 : decode cL_law 2111 = .ok (.aload_n 0, 1) := sorry
theorem dL_law_2112 : decode cL_law 2112 = .ok (.iload 4, 2) := sorry
theorem dL_law_2114 : decode cL_law 2114 = .ok (.iconst 1, 1) := sorry
theorem dL_law_2115 : decode cL_law 2115 = .ok (.iadd, 1) := sorry
theorem dL_law_2116 : decode cL_law 2116 = .ok (.iaload, 1) := sorry
theorem dL_law_2117 : decode cL_law 2117 = .ok (.invokevirtual 260, 3) := sorry
theorem dL_law_2120 : decode cL_law 2120 = .ok (.istore 6, 2) := sorry
theorem dL_law_2122 : decode cL_law 2122 = .ok (.aload_n 2, 1) := sorry
theorem dL_law_2123 : decode cL_law 2123 = .ok (.invokevirtual 109, 3) := sorry
theorem dL_law_2126 : decode cL_law 2126 = .ok (.iload 5, 2) := sorry
theorem dL_law_2128 : decode cL_law 2128 = .ok (.if_icmp .eq 5, 3) := sorry
theorem dL_law_2131 : decode cL_law 2131 = .ok (.iconst 0, 1) := sorry
theorem dL_law_2132 : decode cL_law 2132 = .ok (.ireturn, 1) := sorry
theorem dL_law_2133 : decode cL_law 2133 = .ok (.iload 5, 2) := sorry
theorem dL_law_2135 : decode cL_law 2135 = .ok (.ifCond .ne 15, 3) := sorry
theorem dL_law_2138 : decode cL_law 2138 = .ok (.aload_n 3, 1) := sorry
theorem dL_law_2139 : decode cL_law 2139 = .ok (.iconst 0, 1) := sorry
theorem dL_law_2140 : decode cL_law 2140 = .ok (.laload, 1) := sorry
theorem dL_law_2141 : decode cL_law 2141 = .ok (.iload 6, 2) := sorry
theorem dL_law_2143 : decode cL_law 2143 = .ok (.i2l, 1) := sorry
theorem dL_law_2144 : decode cL_law 2144 = .ok (.lcmp, 1) := sorry
theorem dL_law_2145 : decode cL_law 2145 = .ok (.ifCond .eq 5, 3) := sorry
theorem dL_law_2148 : decode cL_law 2148 = .ok (.iconst 0, 1) := sorry
theorem dL_law_2149 : decode cL_law 2149 = .ok (.ireturn, 1) := sorry
theorem dL_law_2150 : decode cL_law 2150 = .ok (.goto 3, 3) := sorry
theorem dL_law_2153 : decode cL_law 2153 = .ok (.iinc 4 6, 3) := sorry
theorem dL_law_2156 : decode cL_law 2156 = .ok (.goto (-2133), 3) := sorry
theorem dL_law_2159 : decode cL_law 2159 = .ok (.iconst 1, 1) := sorry
theorem dL_law_2160 : decode cL_law 2160 = .ok (.ireturn, 1) := sorry
