/-! KrylovLaboratory -/
set_option maxRecDepth 100000
def RX1 : String := "KrylovLaboratory"
def TX1 : u_T := fun k => match k with
  | 0 => ("KrylovLaboratory", "now", "LKrylovLaboratory$State;", false)
  | 1 => ("KrylovLaboratory", "snapshot", "LKrylovLaboratory$State;", false)
  | 2 => ("KrylovLaboratory", "history", "Ljava/util/ArrayDeque;", true)
  | 3 => ("KrylovLaboratory", "names", "Ljava/util/List;", true)
  | 4 => ("KrylovLaboratory", "buffer", "[B", true)
  | 5 => ("KrylovLaboratory", "buffered", "I", false)
  | 6 => ("KrylovLaboratory", "errorAt", "I", false)
  | _ => ("KrylovLaboratory", "formatted", "Ljava/lang/String;", false)
def tyX1 : Nat → FieldType := fun k => match k with
  | 0 => .object "KrylovLaboratory$State"
  | 1 => .object "KrylovLaboratory$State"
  | 2 => .object "java/util/ArrayDeque"
  | 3 => .object "java/util/List"
  | 4 => .array .byte
  | 5 => .int
  | 6 => .int
  | _ => .object "java/lang/String"
abbrev wsX10 : List Cond := u_ws RX1 TX1 8
theorem nmX1 : ∀ a, a < 8 → ∀ b, b < 8 → a ≠ b → (TX1 a).2.1 ≠ (TX1 b).2.1 := sorry
theorem tyX1_ok : ∀ k, k < 8 → parseFieldDescriptor (TX1 k).2.2.1 = some (tyX1 k) := sorry
abbrev cX1_init : ByteArray := prog_1_method_9_code
def yX1_init : MethodName := ⟨RX1, "<init>", "()V"⟩
def dkwX1_init_2 : List UInt8 := [17, 2, 88, 188, 8, 181, 0, 76, 42, 2, 181, 0, 80, 42, 18, 84, 181, 0, 86, 177]
abbrev dktX1_init_2 : List UInt8 := dkwX1_init_2 ++ []
def dkwX1_init_1 : List UInt8 := [183, 0, 57, 181, 0, 58, 42, 18, 62, 18, 64, 18, 66, 18, 68, 18, 70, 184, 0, 72, 181, 0, 29, 42]
abbrev dktX1_init_1 : List UInt8 := dkwX1_init_1 ++ dktX1_init_2
def dkwX1_init_0 : List UInt8 := [42, 183, 0, 41, 42, 187, 0, 24, 89, 5, 183, 0, 44, 184, 0, 47, 181, 0, 51, 42, 187, 0, 55, 89]
abbrev dktX1_init_0 : List UInt8 := dkwX1_init_0 ++ dktX1_init_1
theorem dksX1_init_0 : cX1_init.data.toList.drop 0 = dktX1_init_0 := sorry
theorem dksX1_init_1 : cX1_init.data.toList.drop 24 = dktX1_init_1 := sorry
theorem dksX1_init_2 : cX1_init.data.toList.drop 48 = dktX1_init_2 := sorry
theorem dX1_init_0 : decode cX1_init 0 = .ok (.aload_n 0, 1) := sorry
theorem dX1_init_1 : decode cX1_init 1 = .ok (.invokespecial 41, 3) := sorry
theorem dX1_init_4 : decode cX1_init 4 = .ok (.aload_n 0, 1) := sorry
theorem dX1_init_5 : decode cX1_init 5 = .ok (.new 24, 3) := sorry
theorem dX1_init_8 : decode cX1_init 8 = .ok (.dup, 1) := sorry
theorem dX1_init_9 : decode cX1_init 9 = .ok (.iconst 2, 1) := sorry
theorem dX1_init_10 : decode cX1_init 10 = .ok (.invokespecial 44, 3) := sorry
theorem dX1_init_13 : decode cX1_init 13 = .ok (.invokestatic 47, 3) := sorry
theorem dX1_init_16 : decode cX1_init 16 = .ok (.putfield 51, 3) := sorry
theorem dX1_init_19 : decode cX1_init 19 = .ok (.aload_n 0, 1) := sorry
theorem dX1_init_20 : decode cX1_init 20 = .ok (.new 55, 3) := sorry
theorem dX1_init_23 : decode cX1_init 23 = .ok (.dup, 1) := sorry
theorem dX1_init_24 : decode cX1_init 24 = .ok (.invokespecial 57, 3) := sorry
theorem dX1_init_27 : decode cX1_init 27 = .ok (.putfield 58, 3) := sorry
theorem dX1_init_30 : decode cX1_init 30 = .ok (.aload_n 0, 1) := sorry
theorem dX1_init_31 : decode cX1_init 31 = .ok (.ldc 62, 2) := sorry
theorem dX1_init_33 : decode cX1_init 33 = .ok (.ldc 64, 2) := sorry
theorem dX1_init_35 : decode cX1_init 35 = .ok (.ldc 66, 2) := sorry
theorem dX1_init_37 : decode cX1_init 37 = .ok (.ldc 68, 2) := sorry
theorem dX1_init_39 : decode cX1_init 39 = .ok (.ldc 70, 2) := sorry
theorem dX1_init_41 : decode cX1_init 41 = .ok (.invokestatic 72, 3) := sorry
theorem dX1_init_44 : decode cX1_init 44 = .ok (.putfield 29, 3) := sorry
theorem dX1_init_47 : decode cX1_init 47 = .ok (.aload_n 0, 1) := sorry
theorem dX1_init_48 : decode cX1_init 48 = .ok (.sipush 600, 3) := sorry
theorem dX1_init_51 : decode cX1_init 51 = .ok (.newarray .byte, 2) := sorry
theorem dX1_init_53 : decode cX1_init 53 = .ok (.putfield 76, 3) := sorry
theorem dX1_init_56 : decode cX1_init 56 = .ok (.aload_n 0, 1) := sorry
theorem dX1_init_57 : decode cX1_init 57 = .ok (.iconst (-1), 1) := sorry
theorem dX1_init_58 : decode cX1_init 58 = .ok (.putfield 80, 3) := sorry
theorem dX1_init_61 : decode cX1_init 61 = .ok (.aload_n 0, 1) := sorry
theorem dX1_init_62 : decode cX1_init 62 = .ok (.ldc 84, 2) := sorry
theorem dX1_init_64 : decode cX1_init 64 = .ok (.putfield 86, 3) := sorry
theorem dX1_init_67 : decode cX1_init 67 = .ok (.return_, 1) := sorry
abbrev cX1_begun : ByteArray := prog_1_method_7_code
def yX1_begun : MethodName := ⟨RX1, "begun", "(LKrylovLaboratory$State;)LKrylovLaboratory$State;"⟩
def dkwX1_begun_0 : List UInt8 := [42, 182, 0, 23, 60, 42, 176]
abbrev dktX1_begun_0 : List UInt8 := dkwX1_begun_0 ++ []
theorem dksX1_begun_0 : cX1_begun.data.toList.drop 0 = dktX1_begun_0 := sorry
theorem dX1_begun_0 : decode cX1_begun 0 = .ok (.aload_n 0, 1) := sorry
theorem dX1_begun_1 : decode cX1_begun 1 = .ok (.invokevirtual 23, 3) := sorry
theorem dX1_begun_4 : decode cX1_begun 4 = .ok (.istore_n 1, 1) := sorry
theorem dX1_begun_5 : decode cX1_begun 5 = .ok (.aload_n 0, 1) := sorry
theorem dX1_begun_6 : decode cX1_begun 6 = .ok (.areturn, 1) := sorry
abbrev cX1_root : ByteArray := prog_1_method_6_code
def yX1_root : MethodName := ⟨RX1, "root", "(J)J"⟩
def dkwX1_root_2 : List UInt8 := [55, 4, 167, 255, 213, 32, 173]
abbrev dktX1_root_2 : List UInt8 := dkwX1_root_2 ++ []
def dkwX1_root_1 : List UInt8 := [109, 97, 55, 6, 22, 6, 22, 6, 105, 30, 148, 157, 0, 9, 22, 6, 65, 167, 0, 9, 22, 6, 10, 101]
abbrev dktX1_root_1 : List UInt8 := dkwX1_root_1 ++ dktX1_root_2
def dkwX1_root_0 : List UInt8 := [9, 65, 20, 0, 19, 55, 4, 32, 22, 4, 148, 156, 0, 42, 32, 22, 4, 32, 101, 10, 97, 20, 0, 21]
abbrev dktX1_root_0 : List UInt8 := dkwX1_root_0 ++ dktX1_root_1
theorem dksX1_root_0 : cX1_root.data.toList.drop 0 = dktX1_root_0 := sorry
theorem dksX1_root_1 : cX1_root.data.toList.drop 24 = dktX1_root_1 := sorry
theorem dksX1_root_2 : cX1_root.data.toList.drop 48 = dktX1_root_2 := sorry
theorem dX1_root_0 : decode cX1_root 0 = .ok (.lconst 0, 1) := sorry
theorem dX1_root_1 : decode cX1_root 1 = .ok (.lstore_n 2, 1) := sorry
theorem dX1_root_2 : decode cX1_root 2 = .ok (.ldc2_w 19, 3) := sorry
theorem dX1_root_5 : decode cX1_root 5 = .ok (.lstore 4, 2) := sorry
theorem dX1_root_7 : decode cX1_root 7 = .ok (.lload_n 2, 1) := sorry
theorem dX1_root_8 : decode cX1_root 8 = .ok (.lload 4, 2) := sorry
theorem dX1_root_10 : decode cX1_root 10 = .ok (.lcmp, 1) := sorry
theorem dX1_root_11 : decode cX1_root 11 = .ok (.ifCond .ge 42, 3) := sorry
theorem dX1_root_14 : decode cX1_root 14 = .ok (.lload_n 2, 1) := sorry
theorem dX1_root_15 : decode cX1_root 15 = .ok (.lload 4, 2) := sorry
theorem dX1_root_17 : decode cX1_root 17 = .ok (.lload_n 2, 1) := sorry
theorem dX1_root_18 : decode cX1_root 18 = .ok (.lsub, 1) := sorry
theorem dX1_root_19 : decode cX1_root 19 = .ok (.lconst 1, 1) := sorry
theorem dX1_root_20 : decode cX1_root 20 = .ok (.ladd, 1) := sorry
theorem dX1_root_21 : decode cX1_root 21 = .ok (.ldc2_w 21, 3) := sorry
theorem dX1_root_24 : decode cX1_root 24 = .ok (.ldiv, 1) := sorry
theorem dX1_root_25 : decode cX1_root 25 = .ok (.ladd, 1) := sorry
theorem dX1_root_26 : decode cX1_root 26 = .ok (.lstore 6, 2) := sorry
theorem dX1_root_28 : decode cX1_root 28 = .ok (.lload 6, 2) := sorry
theorem dX1_root_30 : decode cX1_root 30 = .ok (.lload 6, 2) := sorry
theorem dX1_root_32 : decode cX1_root 32 = .ok (.lmul, 1) := sorry
theorem dX1_root_33 : decode cX1_root 33 = .ok (.lload_n 0, 1) := sorry
theorem dX1_root_34 : decode cX1_root 34 = .ok (.lcmp, 1) := sorry
theorem dX1_root_35 : decode cX1_root 35 = .ok (.ifCond .gt 9, 3) := sorry
theorem dX1_root_38 : decode cX1_root 38 = .ok (.lload 6, 2) := sorry
theorem dX1_root_40 : decode cX1_root 40 = .ok (.lstore_n 2, 1) := sorry
theorem dX1_root_41 : decode cX1_root 41 = .ok (.goto 9, 3) := sorry
theorem dX1_root_44 : decode cX1_root 44 = .ok (.lload 6, 2) := sorry
theorem dX1_root_46 : decode cX1_root 46 = .ok (.lconst 1, 1) := sorry
theorem dX1_root_47 : decode cX1_root 47 = .ok (.lsub, 1) := sorry
theorem dX1_root_48 : decode cX1_root 48 = .ok (.lstore 4, 2) := sorry
theorem dX1_root_50 : decode cX1_root 50 = .ok (.goto (-43), 3) := sorry
theorem dX1_root_53 : decode cX1_root 53 = .ok (.lload_n 2, 1) := sorry
theorem dX1_root_54 : decode cX1_root 54 = .ok (.lreturn, 1) := sorry
abbrev cX1_feed : ByteArray := prog_1_method_10_code
def yX1_feed : MethodName := ⟨RX1, "feed", "(IIIII)I"⟩
def dkwX1_feed_2 : List UInt8 := [172]
abbrev dktX1_feed_2 : List UInt8 := dkwX1_feed_2 ++ []
def dkwX1_feed_1 : List UInt8 := [182, 0, 93, 42, 29, 182, 0, 93, 42, 21, 4, 182, 0, 93, 42, 21, 5, 182, 0, 93, 42, 180, 0, 90]
abbrev dktX1_feed_1 : List UInt8 := dkwX1_feed_1 ++ dktX1_feed_2
def dkwX1_feed_0 : List UInt8 := [42, 180, 0, 90, 16, 20, 96, 17, 2, 88, 164, 0, 5, 2, 172, 42, 27, 182, 0, 93, 42, 28]
abbrev dktX1_feed_0 : List UInt8 := dkwX1_feed_0 ++ dktX1_feed_1
theorem dksX1_feed_0 : cX1_feed.data.toList.drop 0 = dktX1_feed_0 := sorry
theorem dksX1_feed_1 : cX1_feed.data.toList.drop 22 = dktX1_feed_1 := sorry
theorem dksX1_feed_2 : cX1_feed.data.toList.drop 46 = dktX1_feed_2 := sorry
theorem dX1_feed_0 : decode cX1_feed 0 = .ok (.aload_n 0, 1) := sorry
theorem dX1_feed_1 : decode cX1_feed 1 = .ok (.getfield 90, 3) := sorry
theorem dX1_feed_4 : decode cX1_feed 4 = .ok (.bipush 20, 2) := sorry
theorem dX1_feed_6 : decode cX1_feed 6 = .ok (.iadd, 1) := sorry
theorem dX1_feed_7 : decode cX1_feed 7 = .ok (.sipush 600, 3) := sorry
theorem dX1_feed_10 : decode cX1_feed 10 = .ok (.if_icmp .le 5, 3) := sorry
theorem dX1_feed_13 : decode cX1_feed 13 = .ok (.iconst (-1), 1) := sorry
theorem dX1_feed_14 : decode cX1_feed 14 = .ok (.ireturn, 1) := sorry
theorem dX1_feed_15 : decode cX1_feed 15 = .ok (.aload_n 0, 1) := sorry
theorem dX1_feed_16 : decode cX1_feed 16 = .ok (.iload_n 1, 1) := sorry
theorem dX1_feed_17 : decode cX1_feed 17 = .ok (.invokevirtual 93, 3) := sorry
theorem dX1_feed_20 : decode cX1_feed 20 = .ok (.aload_n 0, 1) := sorry
theorem dX1_feed_21 : decode cX1_feed 21 = .ok (.iload_n 2, 1) := sorry
theorem dX1_feed_22 : decode cX1_feed 22 = .ok (.invokevirtual 93, 3) := sorry
theorem dX1_feed_25 : decode cX1_feed 25 = .ok (.aload_n 0, 1) := sorry
theorem dX1_feed_26 : decode cX1_feed 26 = .ok (.iload_n 3, 1) := sorry
theorem dX1_feed_27 : decode cX1_feed 27 = .ok (.invokevirtual 93, 3) := sorry
theorem dX1_feed_30 : decode cX1_feed 30 = .ok (.aload_n 0, 1) := sorry
theorem dX1_feed_31 : decode cX1_feed 31 = .ok (.iload 4, 2) := sorry
theorem dX1_feed_33 : decode cX1_feed 33 = .ok (.invokevirtual 93, 3) := sorry
theorem dX1_feed_36 : decode cX1_feed 36 = .ok (.aload_n 0, 1) := sorry
theorem dX1_feed_37 : decode cX1_feed 37 = .ok (.iload 5, 2) := sorry
theorem dX1_feed_39 : decode cX1_feed 39 = .ok (.invokevirtual 93, 3) := sorry
theorem dX1_feed_42 : decode cX1_feed 42 = .ok (.aload_n 0, 1) := sorry
theorem dX1_feed_43 : decode cX1_feed 43 = .ok (.getfield 90, 3) := sorry
theorem dX1_feed_46 : decode cX1_feed 46 = .ok (.ireturn, 1) := sorry
abbrev cX1_append : ByteArray := prog_1_method_11_code
def yX1_append : MethodName := ⟨RX1, "append", "(I)V"⟩
def dkwX1_append_1 : List UInt8 := [180, 0, 90, 4, 96, 181, 0, 90, 132, 2, 248, 167, 255, 226, 177]
abbrev dktX1_append_1 : List UInt8 := dkwX1_append_1 ++ []
def dkwX1_append_0 : List UInt8 := [16, 24, 61, 28, 155, 0, 32, 42, 180, 0, 76, 42, 180, 0, 90, 27, 28, 122, 145, 84, 42, 89]
abbrev dktX1_append_0 : List UInt8 := dkwX1_append_0 ++ dktX1_append_1
theorem dksX1_append_0 : cX1_append.data.toList.drop 0 = dktX1_append_0 := sorry
theorem dksX1_append_1 : cX1_append.data.toList.drop 22 = dktX1_append_1 := sorry
theorem dX1_append_0 : decode cX1_append 0 = .ok (.bipush 24, 2) := sorry
theorem dX1_append_2 : decode cX1_append 2 = .ok (.istore_n 2, 1) := sorry
theorem dX1_append_3 : decode cX1_append 3 = .ok (.iload_n 2, 1) := sorry
theorem dX1_append_4 : decode cX1_append 4 = .ok (.ifCond .lt 32, 3) := sorry
theorem dX1_append_7 : decode cX1_append 7 = .ok (.aload_n 0, 1) := sorry
theorem dX1_append_8 : decode cX1_append 8 = .ok (.getfield 76, 3) := sorry
theorem dX1_append_11 : decode cX1_append 11 = .ok (.aload_n 0, 1) := sorry
theorem dX1_append_12 : decode cX1_append 12 = .ok (.getfield 90, 3) := sorry
theorem dX1_append_15 : decode cX1_append 15 = .ok (.iload_n 1, 1) := sorry
theorem dX1_append_16 : decode cX1_append 16 = .ok (.iload_n 2, 1) := sorry
theorem dX1_append_17 : decode cX1_append 17 = .ok (.ishr, 1) := sorry
theorem dX1_append_18 : decode cX1_append 18 = .ok (.i2b, 1) := sorry
theorem dX1_append_19 : decode cX1_append 19 = .ok (.bastore, 1) := sorry
theorem dX1_append_20 : decode cX1_append 20 = .ok (.aload_n 0, 1) := sorry
theorem dX1_append_21 : decode cX1_append 21 = .ok (.dup, 1) := sorry
theorem dX1_append_22 : decode cX1_append 22 = .ok (.getfield 90, 3) := sorry
theorem dX1_append_25 : decode cX1_append 25 = .ok (.iconst 1, 1) := sorry
theorem dX1_append_26 : decode cX1_append 26 = .ok (.iadd, 1) := sorry
theorem dX1_append_27 : decode cX1_append 27 = .ok (.putfield 90, 3) := sorry
theorem dX1_append_30 : decode cX1_append 30 = .ok (.iinc 2 (-8), 3) := sorry
theorem dX1_append_33 : decode cX1_append 33 = .ok (.goto (-30), 3) := sorry
theorem dX1_append_36 : decode cX1_append 36 = .ok (.return_, 1) := sorry
abbrev cX1_errorPosition : ByteArray := prog_1_method_15_code
def yX1_errorPosition : MethodName := ⟨RX1, "errorPosition", "()I"⟩
theorem dX1_errorPosition_0 : decode cX1_errorPosition 0 = .ok (.aload_n 0, 1) := sorry
theorem dX1_errorPosition_1 : decode cX1_errorPosition 1 = .ok (.getfield 80, 3) := sorry
theorem dX1_errorPosition_4 : decode cX1_errorPosition 4 = .ok (.ireturn, 1) := sorry
abbrev cX1_order : ByteArray := prog_1_method_16_code
def yX1_order : MethodName := ⟨RX1, "order", "()I"⟩
def dkwX1_order_0 : List UInt8 := [42, 180, 0, 51, 182, 0, 138, 172]
abbrev dktX1_order_0 : List UInt8 := dkwX1_order_0 ++ []
theorem dksX1_order_0 : cX1_order.data.toList.drop 0 = dktX1_order_0 := sorry
theorem dX1_order_0 : decode cX1_order 0 = .ok (.aload_n 0, 1) := sorry
theorem dX1_order_1 : decode cX1_order 1 = .ok (.getfield 51, 3) := sorry
theorem dX1_order_4 : decode cX1_order 4 = .ok (.invokevirtual 138, 3) := sorry
theorem dX1_order_7 : decode cX1_order 7 = .ok (.ireturn, 1) := sorry
abbrev cX1_steps : ByteArray := prog_1_method_20_code
def yX1_steps : MethodName := ⟨RX1, "steps", "()I"⟩
def dkwX1_steps_0 : List UInt8 := [42, 180, 0, 51, 180, 0, 167, 180, 0, 171, 172]
abbrev dktX1_steps_0 : List UInt8 := dkwX1_steps_0 ++ []
theorem dksX1_steps_0 : cX1_steps.data.toList.drop 0 = dktX1_steps_0 := sorry
theorem dX1_steps_0 : decode cX1_steps 0 = .ok (.aload_n 0, 1) := sorry
theorem dX1_steps_1 : decode cX1_steps 1 = .ok (.getfield 51, 3) := sorry
theorem dX1_steps_4 : decode cX1_steps 4 = .ok (.getfield 167, 3) := sorry
theorem dX1_steps_7 : decode cX1_steps 7 = .ok (.getfield 171, 3) := sorry
theorem dX1_steps_10 : decode cX1_steps 10 = .ok (.ireturn, 1) := sorry
abbrev cX1_isClosed : ByteArray := prog_1_method_21_code
def yX1_isClosed : MethodName := ⟨RX1, "isClosed", "()Z"⟩
def dkwX1_isClosed_0 : List UInt8 := [42, 180, 0, 51, 180, 0, 167, 180, 0, 176, 172]
abbrev dktX1_isClosed_0 : List UInt8 := dkwX1_isClosed_0 ++ []
theorem dksX1_isClosed_0 : cX1_isClosed.data.toList.drop 0 = dktX1_isClosed_0 := sorry
theorem dX1_isClosed_0 : decode cX1_isClosed 0 = .ok (.aload_n 0, 1) := sorry
theorem dX1_isClosed_1 : decode cX1_isClosed 1 = .ok (.getfield 51, 3) := sorry
theorem dX1_isClosed_4 : decode cX1_isClosed 4 = .ok (.getfield 167, 3) := sorry
theorem dX1_isClosed_7 : decode cX1_isClosed 7 = .ok (.getfield 176, 3) := sorry
theorem dX1_isClosed_10 : decode cX1_isClosed 10 = .ok (.ireturn, 1) := sorry
abbrev cX1_loss : ByteArray := prog_1_method_29_code
def yX1_loss : MethodName := ⟨RX1, "loss", "()I"⟩
def dkwX1_loss_0 : List UInt8 := [42, 180, 0, 51, 180, 0, 167, 182, 0, 221, 136, 172]
abbrev dktX1_loss_0 : List UInt8 := dkwX1_loss_0 ++ []
theorem dksX1_loss_0 : cX1_loss.data.toList.drop 0 = dktX1_loss_0 := sorry
theorem dX1_loss_0 : decode cX1_loss 0 = .ok (.aload_n 0, 1) := sorry
theorem dX1_loss_1 : decode cX1_loss 1 = .ok (.getfield 51, 3) := sorry
theorem dX1_loss_4 : decode cX1_loss 4 = .ok (.getfield 167, 3) := sorry
theorem dX1_loss_7 : decode cX1_loss 7 = .ok (.invokevirtual 221, 3) := sorry
theorem dX1_loss_10 : decode cX1_loss 10 = .ok (.l2i, 1) := sorry
theorem dX1_loss_11 : decode cX1_loss 11 = .ok (.ireturn, 1) := sorry
abbrev cX1_countBelow : ByteArray := prog_1_method_34_code
def yX1_countBelow : MethodName := ⟨RX1, "countBelow", "(I)I"⟩
def dkwX1_countBelow_0 : List UInt8 := [42, 180, 0, 51, 180, 0, 167, 27, 133, 182, 0, 238, 172]
abbrev dktX1_countBelow_0 : List UInt8 := dkwX1_countBelow_0 ++ []
theorem dksX1_countBelow_0 : cX1_countBelow.data.toList.drop 0 = dktX1_countBelow_0 := sorry
theorem dX1_countBelow_0 : decode cX1_countBelow 0 = .ok (.aload_n 0, 1) := sorry
theorem dX1_countBelow_1 : decode cX1_countBelow 1 = .ok (.getfield 51, 3) := sorry
theorem dX1_countBelow_4 : decode cX1_countBelow 4 = .ok (.getfield 167, 3) := sorry
theorem dX1_countBelow_7 : decode cX1_countBelow 7 = .ok (.iload_n 1, 1) := sorry
theorem dX1_countBelow_8 : decode cX1_countBelow 8 = .ok (.i2l, 1) := sorry
theorem dX1_countBelow_9 : decode cX1_countBelow 9 = .ok (.invokevirtual 238, 3) := sorry
theorem dX1_countBelow_12 : decode cX1_countBelow 12 = .ok (.ireturn, 1) := sorry
abbrev cX1_asInt : ByteArray := prog_1_method_2_code
def yX1_asInt : MethodName := ⟨RX1, "asInt", "(Z)I"⟩
def dkwX1_asInt_0 : List UInt8 := [26, 153, 0, 7, 4, 167, 0, 4, 3, 172]
abbrev dktX1_asInt_0 : List UInt8 := dkwX1_asInt_0 ++ []
theorem dksX1_asInt_0 : cX1_asInt.data.toList.drop 0 = dktX1_asInt_0 := sorry
theorem dX1_asInt_0 : decode cX1_asInt 0 = .ok (.iload_n 0, 1) := sorry
theorem dX1_asInt_1 : decode cX1_asInt 1 = .ok (.ifCond .eq 7, 3) := sorry
theorem dX1_asInt_4 : decode cX1_asInt 4 = .ok (.iconst 1, 1) := sorry
theorem dX1_asInt_5 : decode cX1_asInt 5 = .ok (.goto 4, 3) := sorry
theorem dX1_asInt_8 : decode cX1_asInt 8 = .ok (.iconst 0, 1) := sorry
theorem dX1_asInt_9 : decode cX1_asInt 9 = .ok (.ireturn, 1) := sorry
abbrev cX1_nearest : ByteArray := prog_1_method_35_code
def yX1_nearest : MethodName := ⟨RX1, "nearest", "(I)I"⟩
def dkwX1_nearest_2 : List UInt8 := [155, 0, 6, 167, 0, 9, 21, 5, 61, 22, 6, 66, 132, 5, 1, 167, 255, 203, 28, 172]
abbrev dktX1_nearest_2 : List UInt8 := dkwX1_nearest_2 ++ []
def dkwX1_nearest_1 : List UInt8 := [21, 5, 182, 0, 225, 27, 133, 101, 184, 0, 242, 55, 6, 28, 2, 159, 0, 13, 22, 6, 33, 148]
abbrev dktX1_nearest_1 : List UInt8 := dkwX1_nearest_1 ++ dktX1_nearest_2
def dkwX1_nearest_0 : List UInt8 := [2, 61, 9, 66, 3, 54, 5, 21, 5, 42, 182, 0, 206, 162, 0, 50, 42, 180, 0, 51, 180, 0, 167]
abbrev dktX1_nearest_0 : List UInt8 := dkwX1_nearest_0 ++ dktX1_nearest_1
theorem dksX1_nearest_0 : cX1_nearest.data.toList.drop 0 = dktX1_nearest_0 := sorry
theorem dksX1_nearest_1 : cX1_nearest.data.toList.drop 23 = dktX1_nearest_1 := sorry
theorem dksX1_nearest_2 : cX1_nearest.data.toList.drop 45 = dktX1_nearest_2 := sorry
theorem dX1_nearest_0 : decode cX1_nearest 0 = .ok (.iconst (-1), 1) := sorry
theorem dX1_nearest_1 : decode cX1_nearest 1 = .ok (.istore_n 2, 1) := sorry
theorem dX1_nearest_2 : decode cX1_nearest 2 = .ok (.lconst 0, 1) := sorry
theorem dX1_nearest_3 : decode cX1_nearest 3 = .ok (.lstore_n 3, 1) := sorry
theorem dX1_nearest_4 : decode cX1_nearest 4 = .ok (.iconst 0, 1) := sorry
theorem dX1_nearest_5 : decode cX1_nearest 5 = .ok (.istore 5, 2) := sorry
theorem dX1_nearest_7 : decode cX1_nearest 7 = .ok (.iload 5, 2) := sorry
theorem dX1_nearest_9 : decode cX1_nearest 9 = .ok (.aload_n 0, 1) := sorry
theorem dX1_nearest_10 : decode cX1_nearest 10 = .ok (.invokevirtual 206, 3) := sorry
theorem dX1_nearest_13 : decode cX1_nearest 13 = .ok (.if_icmp .ge 50, 3) := sorry
theorem dX1_nearest_16 : decode cX1_nearest 16 = .ok (.aload_n 0, 1) := sorry
theorem dX1_nearest_17 : decode cX1_nearest 17 = .ok (.getfield 51, 3) := sorry
theorem dX1_nearest_20 : decode cX1_nearest 20 = .ok (.getfield 167, 3) := sorry
theorem dX1_nearest_23 : decode cX1_nearest 23 = .ok (.iload 5, 2) := sorry
theorem dX1_nearest_25 : decode cX1_nearest 25 = .ok (.invokevirtual 225, 3) := sorry
theorem dX1_nearest_28 : decode cX1_nearest 28 = .ok (.iload_n 1, 1) := sorry
theorem dX1_nearest_29 : decode cX1_nearest 29 = .ok (.i2l, 1) := sorry
theorem dX1_nearest_30 : decode cX1_nearest 30 = .ok (.lsub, 1) := sorry
theorem dX1_nearest_31 : decode cX1_nearest 31 = .ok (.invokestatic 242, 3) := sorry
theorem dX1_nearest_34 : decode cX1_nearest 34 = .ok (.lstore 6, 2) := sorry
theorem dX1_nearest_36 : decode cX1_nearest 36 = .ok (.iload_n 2, 1) := sorry
theorem dX1_nearest_37 : decode cX1_nearest 37 = .ok (.iconst (-1), 1) := sorry
theorem dX1_nearest_38 : decode cX1_nearest 38 = .ok (.if_icmp .eq 13, 3) := sorry
theorem dX1_nearest_41 : decode cX1_nearest 41 = .ok (.lload 6, 2) := sorry
theorem dX1_nearest_43 : decode cX1_nearest 43 = .ok (.lload_n 3, 1) := sorry
theorem dX1_nearest_44 : decode cX1_nearest 44 = .ok (.lcmp, 1) := sorry
theorem dX1_nearest_45 : decode cX1_nearest 45 = .ok (.ifCond .lt 6, 3) := sorry
theorem dX1_nearest_48 : decode cX1_nearest 48 = .ok (.goto 9, 3) := sorry
theorem dX1_nearest_51 : decode cX1_nearest 51 = .ok (.iload 5, 2) := sorry
theorem dX1_nearest_53 : decode cX1_nearest 53 = .ok (.istore_n 2, 1) := sorry
theorem dX1_nearest_54 : decode cX1_nearest 54 = .ok (.lload 6, 2) := sorry
theorem dX1_nearest_56 : decode cX1_nearest 56 = .ok (.lstore_n 3, 1) := sorry
theorem dX1_nearest_57 : decode cX1_nearest 57 = .ok (.iinc 5 1, 3) := sorry
theorem dX1_nearest_60 : decode cX1_nearest 60 = .ok (.goto (-53), 3) := sorry
theorem dX1_nearest_63 : decode cX1_nearest 63 = .ok (.iload_n 2, 1) := sorry
theorem dX1_nearest_64 : decode cX1_nearest 64 = .ok (.ireturn, 1) := sorry
abbrev cX1_lockedCount : ByteArray := prog_1_method_36_code
def yX1_lockedCount : MethodName := ⟨RX1, "lockedCount", "()I"⟩
def dkwX1_lockedCount_0 : List UInt8 := [42, 180, 0, 51, 180, 0, 246, 182, 0, 249, 172]
abbrev dktX1_lockedCount_0 : List UInt8 := dkwX1_lockedCount_0 ++ []
theorem dksX1_lockedCount_0 : cX1_lockedCount.data.toList.drop 0 = dktX1_lockedCount_0 := sorry
theorem dX1_lockedCount_0 : decode cX1_lockedCount 0 = .ok (.aload_n 0, 1) := sorry
theorem dX1_lockedCount_1 : decode cX1_lockedCount 1 = .ok (.getfield 51, 3) := sorry
theorem dX1_lockedCount_4 : decode cX1_lockedCount 4 = .ok (.getfield 246, 3) := sorry
theorem dX1_lockedCount_7 : decode cX1_lockedCount 7 = .ok (.invokevirtual 249, 3) := sorry
theorem dX1_lockedCount_10 : decode cX1_lockedCount 10 = .ok (.ireturn, 1) := sorry
abbrev cX1_total : ByteArray := prog_1_method_41_code
def yX1_total : MethodName := ⟨RX1, "total", "(I)I"⟩
def dkwX1_total_1 : List UInt8 := [2, 172]
abbrev dktX1_total_1 : List UInt8 := dkwX1_total_1 ++ []
def dkwX1_total_0 : List UInt8 := [27, 133, 9, 20, 1, 35, 184, 0, 99, 153, 0, 15, 42, 180, 0, 51, 180, 1, 37, 27, 46, 167, 0, 4]
abbrev dktX1_total_0 : List UInt8 := dkwX1_total_0 ++ dktX1_total_1
theorem dksX1_total_0 : cX1_total.data.toList.drop 0 = dktX1_total_0 := sorry
theorem dksX1_total_1 : cX1_total.data.toList.drop 24 = dktX1_total_1 := sorry
theorem dX1_total_0 : decode cX1_total 0 = .ok (.iload_n 1, 1) := sorry
theorem dX1_total_1 : decode cX1_total 1 = .ok (.i2l, 1) := sorry
theorem dX1_total_2 : decode cX1_total 2 = .ok (.lconst 0, 1) := sorry
theorem dX1_total_3 : decode cX1_total 3 = .ok (.ldc2_w 291, 3) := sorry
theorem dX1_total_6 : decode cX1_total 6 = .ok (.invokestatic 99, 3) := sorry
theorem dX1_total_9 : decode cX1_total 9 = .ok (.ifCond .eq 15, 3) := sorry
theorem dX1_total_12 : decode cX1_total 12 = .ok (.aload_n 0, 1) := sorry
theorem dX1_total_13 : decode cX1_total 13 = .ok (.getfield 51, 3) := sorry
theorem dX1_total_16 : decode cX1_total 16 = .ok (.getfield 293, 3) := sorry
theorem dX1_total_19 : decode cX1_total 19 = .ok (.iload_n 1, 1) := sorry
theorem dX1_total_20 : decode cX1_total 20 = .ok (.iaload, 1) := sorry
theorem dX1_total_21 : decode cX1_total 21 = .ok (.goto 4, 3) := sorry
theorem dX1_total_24 : decode cX1_total 24 = .ok (.iconst (-1), 1) := sorry
theorem dX1_total_25 : decode cX1_total 25 = .ok (.ireturn, 1) := sorry
abbrev cX1_isIn : ByteArray := prog_1_method_1_code
def yX1_isIn : MethodName := ⟨RX1, "isIn", "(JJJ)Z"⟩
def dkwX1_isIn_0 : List UInt8 := [30, 32, 148, 155, 0, 14, 30, 22, 4, 148, 157, 0, 7, 4, 167, 0, 4, 3, 172]
abbrev dktX1_isIn_0 : List UInt8 := dkwX1_isIn_0 ++ []
theorem dksX1_isIn_0 : cX1_isIn.data.toList.drop 0 = dktX1_isIn_0 := sorry
theorem dX1_isIn_0 : decode cX1_isIn 0 = .ok (.lload_n 0, 1) := sorry
theorem dX1_isIn_1 : decode cX1_isIn 1 = .ok (.lload_n 2, 1) := sorry
theorem dX1_isIn_2 : decode cX1_isIn 2 = .ok (.lcmp, 1) := sorry
theorem dX1_isIn_3 : decode cX1_isIn 3 = .ok (.ifCond .lt 14, 3) := sorry
theorem dX1_isIn_6 : decode cX1_isIn 6 = .ok (.lload_n 0, 1) := sorry
theorem dX1_isIn_7 : decode cX1_isIn 7 = .ok (.lload 4, 2) := sorry
theorem dX1_isIn_9 : decode cX1_isIn 9 = .ok (.lcmp, 1) := sorry
theorem dX1_isIn_10 : decode cX1_isIn 10 = .ok (.ifCond .gt 7, 3) := sorry
theorem dX1_isIn_13 : decode cX1_isIn 13 = .ok (.iconst 1, 1) := sorry
theorem dX1_isIn_14 : decode cX1_isIn 14 = .ok (.goto 4, 3) := sorry
theorem dX1_isIn_17 : decode cX1_isIn 17 = .ok (.iconst 0, 1) := sorry
theorem dX1_isIn_18 : decode cX1_isIn 18 = .ok (.ireturn, 1) := sorry
abbrev cX1_convergesIn : ByteArray := prog_1_method_43_code
def yX1_convergesIn : MethodName := ⟨RX1, "convergesIn", "()I"⟩
def dkwX1_convergesIn_1 : List UInt8 := [182, 1, 48, 154, 0, 5, 2, 172, 43, 182, 1, 51, 132, 2, 1, 167, 255, 233, 28, 172]
abbrev dktX1_convergesIn_1 : List UInt8 := dkwX1_convergesIn_1 ++ []
def dkwX1_convergesIn_0 : List UInt8 := [187, 0, 24, 89, 42, 180, 0, 51, 183, 1, 41, 76, 3, 61, 43, 184, 1, 44, 154, 0, 22, 43]
abbrev dktX1_convergesIn_0 : List UInt8 := dkwX1_convergesIn_0 ++ dktX1_convergesIn_1
theorem dksX1_convergesIn_0 : cX1_convergesIn.data.toList.drop 0 = dktX1_convergesIn_0 := sorry
theorem dksX1_convergesIn_1 : cX1_convergesIn.data.toList.drop 22 = dktX1_convergesIn_1 := sorry
theorem dX1_convergesIn_0 : decode cX1_convergesIn 0 = .ok (.new 24, 3) := sorry
theorem dX1_convergesIn_3 : decode cX1_convergesIn 3 = .ok (.dup, 1) := sorry
theorem dX1_convergesIn_4 : decode cX1_convergesIn 4 = .ok (.aload_n 0, 1) := sorry
theorem dX1_convergesIn_5 : decode cX1_convergesIn 5 = .ok (.getfield 51, 3) := sorry
theorem dX1_convergesIn_8 : decode cX1_convergesIn 8 = .ok (.invokespecial 297, 3) := sorry
theorem dX1_convergesIn_11 : decode cX1_convergesIn 11 = .ok (.astore_n 1, 1) := sorry
theorem dX1_convergesIn_12 : decode cX1_convergesIn 12 = .ok (.iconst 0, 1) := sorry
theorem dX1_convergesIn_13 : decode cX1_convergesIn 13 = .ok (.istore_n 2, 1) := sorry
theorem dX1_convergesIn_14 : decode cX1_convergesIn 14 = .ok (.aload_n 1, 1) := sorry
theorem dX1_convergesIn_15 : decode cX1_convergesIn 15 = .ok (.invokestatic 300, 3) := sorry
theorem dX1_convergesIn_18 : decode cX1_convergesIn 18 = .ok (.ifCond .ne 22, 3) := sorry
theorem dX1_convergesIn_21 : decode cX1_convergesIn 21 = .ok (.aload_n 1, 1) := sorry
theorem dX1_convergesIn_22 : decode cX1_convergesIn 22 = .ok (.invokevirtual 304, 3) := sorry
theorem dX1_convergesIn_25 : decode cX1_convergesIn 25 = .ok (.ifCond .ne 5, 3) := sorry
theorem dX1_convergesIn_28 : decode cX1_convergesIn 28 = .ok (.iconst (-1), 1) := sorry
theorem dX1_convergesIn_29 : decode cX1_convergesIn 29 = .ok (.ireturn, 1) := sorry
theorem dX1_convergesIn_30 : decode cX1_convergesIn 30 = .ok (.aload_n 1, 1) := sorry
theorem dX1_convergesIn_31 : decode cX1_convergesIn 31 = .ok (.invokevirtual 307, 3) := sorry
theorem dX1_convergesIn_34 : decode cX1_convergesIn 34 = .ok (.iinc 2 1, 3) := sorry
theorem dX1_convergesIn_37 : decode cX1_convergesIn 37 = .ok (.goto (-23), 3) := sorry
theorem dX1_convergesIn_40 : decode cX1_convergesIn 40 = .ok (.iload_n 2, 1) := sorry
theorem dX1_convergesIn_41 : decode cX1_convergesIn 41 = .ok (.ireturn, 1) := sorry
abbrev cX1_hasConverged : ByteArray := prog_1_method_42_code
def yX1_hasConverged : MethodName := ⟨RX1, "hasConverged", "(LKrylovLaboratory$State;)Z"⟩
def dkwX1_hasConverged_1 : List UInt8 := [180, 0, 164, 133, 148, 157, 0, 5, 4, 172, 132, 1, 1, 167, 255, 223, 3, 172]
abbrev dktX1_hasConverged_1 : List UInt8 := dkwX1_hasConverged_1 ++ []
def dkwX1_hasConverged_0 : List UInt8 := [3, 60, 27, 42, 180, 0, 167, 180, 0, 171, 162, 0, 28, 42, 180, 0, 167, 27, 182, 0, 229, 42]
abbrev dktX1_hasConverged_0 : List UInt8 := dkwX1_hasConverged_0 ++ dktX1_hasConverged_1
theorem dksX1_hasConverged_0 : cX1_hasConverged.data.toList.drop 0 = dktX1_hasConverged_0 := sorry
theorem dksX1_hasConverged_1 : cX1_hasConverged.data.toList.drop 22 = dktX1_hasConverged_1 := sorry
theorem dX1_hasConverged_0 : decode cX1_hasConverged 0 = .ok (.iconst 0, 1) := sorry
theorem dX1_hasConverged_1 : decode cX1_hasConverged 1 = .ok (.istore_n 1, 1) := sorry
theorem dX1_hasConverged_2 : decode cX1_hasConverged 2 = .ok (.iload_n 1, 1) := sorry
theorem dX1_hasConverged_3 : decode cX1_hasConverged 3 = .ok (.aload_n 0, 1) := sorry
theorem dX1_hasConverged_4 : decode cX1_hasConverged 4 = .ok (.getfield 167, 3) := sorry
theorem dX1_hasConverged_7 : decode cX1_hasConverged 7 = .ok (.getfield 171, 3) := sorry
theorem dX1_hasConverged_10 : decode cX1_hasConverged 10 = .ok (.if_icmp .ge 28, 3) := sorry
theorem dX1_hasConverged_13 : decode cX1_hasConverged 13 = .ok (.aload_n 0, 1) := sorry
theorem dX1_hasConverged_14 : decode cX1_hasConverged 14 = .ok (.getfield 167, 3) := sorry
theorem dX1_hasConverged_17 : decode cX1_hasConverged 17 = .ok (.iload_n 1, 1) := sorry
theorem dX1_hasConverged_18 : decode cX1_hasConverged 18 = .ok (.invokevirtual 229, 3) := sorry
theorem dX1_hasConverged_21 : decode cX1_hasConverged 21 = .ok (.aload_n 0, 1) := sorry
theorem dX1_hasConverged_22 : decode cX1_hasConverged 22 = .ok (.getfield 164, 3) := sorry
theorem dX1_hasConverged_25 : decode cX1_hasConverged 25 = .ok (.i2l, 1) := sorry
theorem dX1_hasConverged_26 : decode cX1_hasConverged 26 = .ok (.lcmp, 1) := sorry
theorem dX1_hasConverged_27 : decode cX1_hasConverged 27 = .ok (.ifCond .gt 5, 3) := sorry
theorem dX1_hasConverged_30 : decode cX1_hasConverged 30 = .ok (.iconst 1, 1) := sorry
theorem dX1_hasConverged_31 : decode cX1_hasConverged 31 = .ok (.ireturn, 1) := sorry
theorem dX1_hasConverged_32 : decode cX1_hasConverged 32 = .ok (.iinc 1 1, 3) := sorry
theorem dX1_hasConverged_35 : decode cX1_hasConverged 35 = .ok (.goto (-33), 3) := sorry
theorem dX1_hasConverged_38 : decode cX1_hasConverged 38 = .ok (.iconst 0, 1) := sorry
theorem dX1_hasConverged_39 : decode cX1_hasConverged 39 = .ok (.ireturn, 1) := sorry
abbrev cX1_bounded : ByteArray := prog_1_method_3_code
def yX1_bounded : MethodName := ⟨RX1, "bounded", "(JJ)J"⟩
def dkwX1_bounded_0 : List UInt8 := [32, 117, 32, 30, 184, 0, 1, 184, 0, 7, 173]
abbrev dktX1_bounded_0 : List UInt8 := dkwX1_bounded_0 ++ []
theorem dksX1_bounded_0 : cX1_bounded.data.toList.drop 0 = dktX1_bounded_0 := sorry
theorem dX1_bounded_0 : decode cX1_bounded 0 = .ok (.lload_n 2, 1) := sorry
theorem dX1_bounded_1 : decode cX1_bounded 1 = .ok (.lneg, 1) := sorry
theorem dX1_bounded_2 : decode cX1_bounded 2 = .ok (.lload_n 2, 1) := sorry
theorem dX1_bounded_3 : decode cX1_bounded 3 = .ok (.lload_n 0, 1) := sorry
theorem dX1_bounded_4 : decode cX1_bounded 4 = .ok (.invokestatic 1, 3) := sorry
theorem dX1_bounded_7 : decode cX1_bounded 7 = .ok (.invokestatic 7, 3) := sorry
theorem dX1_bounded_10 : decode cX1_bounded 10 = .ok (.lreturn, 1) := sorry
abbrev cX1_traceGap : ByteArray := prog_1_method_44_code
def yX1_traceGap : MethodName := ⟨RX1, "traceGap", "()J"⟩
def dkwX1_traceGap_3 : List UInt8 := [180, 0, 51, 180, 0, 167, 29, 182, 0, 225, 97, 64, 132, 3, 1, 167, 255, 231, 31, 173]
abbrev dktX1_traceGap_3 : List UInt8 := dkwX1_traceGap_3 ++ []
def dkwX1_traceGap_2 : List UInt8 := [31, 25, 4, 180, 1, 6, 97, 64, 167, 255, 228, 3, 62, 29, 42, 182, 0, 206, 162, 0, 23, 31, 42]
abbrev dktX1_traceGap_2 : List UInt8 := dkwX1_traceGap_2 ++ dktX1_traceGap_3
def dkwX1_traceGap_1 : List UInt8 := [182, 1, 18, 78, 45, 185, 1, 22, 1, 0, 153, 0, 25, 45, 185, 1, 27, 1, 0, 192, 1, 0, 58, 4]
abbrev dktX1_traceGap_1 : List UInt8 := dkwX1_traceGap_1 ++ dktX1_traceGap_2
def dkwX1_traceGap_0 : List UInt8 := [20, 1, 54, 42, 180, 0, 51, 180, 0, 149, 182, 1, 56, 105, 64, 42, 180, 0, 51, 180, 0, 246]
abbrev dktX1_traceGap_0 : List UInt8 := dkwX1_traceGap_0 ++ dktX1_traceGap_1
theorem dksX1_traceGap_0 : cX1_traceGap.data.toList.drop 0 = dktX1_traceGap_0 := sorry
theorem dksX1_traceGap_1 : cX1_traceGap.data.toList.drop 22 = dktX1_traceGap_1 := sorry
theorem dksX1_traceGap_2 : cX1_traceGap.data.toList.drop 46 = dktX1_traceGap_2 := sorry
theorem dksX1_traceGap_3 : cX1_traceGap.data.toList.drop 69 = dktX1_traceGap_3 := sorry
theorem dX1_traceGap_0 : decode cX1_traceGap 0 = .ok (.ldc2_w 310, 3) := sorry
theorem dX1_traceGap_3 : decode cX1_traceGap 3 = .ok (.aload_n 0, 1) := sorry
theorem dX1_traceGap_4 : decode cX1_traceGap 4 = .ok (.getfield 51, 3) := sorry
theorem dX1_traceGap_7 : decode cX1_traceGap 7 = .ok (.getfield 149, 3) := sorry
theorem dX1_traceGap_10 : decode cX1_traceGap 10 = .ok (.invokevirtual 312, 3) := sorry
theorem dX1_traceGap_13 : decode cX1_traceGap 13 = .ok (.lmul, 1) := sorry
theorem dX1_traceGap_14 : decode cX1_traceGap 14 = .ok (.lstore_n 1, 1) := sorry
theorem dX1_traceGap_15 : decode cX1_traceGap 15 = .ok (.aload_n 0, 1) := sorry
theorem dX1_traceGap_16 : decode cX1_traceGap 16 = .ok (.getfield 51, 3) := sorry
theorem dX1_traceGap_19 : decode cX1_traceGap 19 = .ok (.getfield 246, 3) := sorry
theorem dX1_traceGap_22 : decode cX1_traceGap 22 = .ok (.invokevirtual 274, 3) := sorry
theorem dX1_traceGap_25 : decode cX1_traceGap 25 = .ok (.astore_n 3, 1) := sorry
theorem dX1_traceGap_26 : decode cX1_traceGap 26 = .ok (.aload_n 3, 1) := sorry
theorem dX1_traceGap_27 : decode cX1_traceGap 27 = .ok (.invokeinterface 278 1, 5) := sorry
theorem dX1_traceGap_32 : decode cX1_traceGap 32 = .ok (.ifCond .eq 25, 3) := sorry
theorem dX1_traceGap_35 : decode cX1_traceGap 35 = .ok (.aload_n 3, 1) := sorry
theorem dX1_traceGap_36 : decode cX1_traceGap 36 = .ok (.invokeinterface 283 1, 5) := sorry
theorem dX1_traceGap_41 : decode cX1_traceGap 41 = .ok (.checkcast 256, 3) := sorry
theorem dX1_traceGap_44 : decode cX1_traceGap 44 = .ok (.astore 4, 2) := sorry
theorem dX1_traceGap_46 : decode cX1_traceGap 46 = .ok (.lload_n 1, 1) := sorry
theorem dX1_traceGap_47 : decode cX1_traceGap 47 = .ok (.aload 4, 2) := sorry
theorem dX1_traceGap_49 : decode cX1_traceGap 49 = .ok (.getfield 262, 3) := sorry
theorem dX1_traceGap_52 : decode cX1_traceGap 52 = .ok (.ladd, 1) := sorry
theorem dX1_traceGap_53 : decode cX1_traceGap 53 = .ok (.lstore_n 1, 1) := sorry
theorem dX1_traceGap_54 : decode cX1_traceGap 54 = .ok (.goto (-28), 3) := sorry
theorem dX1_traceGap_57 : decode cX1_traceGap 57 = .ok (.iconst 0, 1) := sorry
theorem dX1_traceGap_58 : decode cX1_traceGap 58 = .ok (.istore_n 3, 1) := sorry
theorem dX1_traceGap_59 : decode cX1_traceGap 59 = .ok (.iload_n 3, 1) := sorry
theorem dX1_traceGap_60 : decode cX1_traceGap 60 = .ok (.aload_n 0, 1) := sorry
theorem dX1_traceGap_61 : decode cX1_traceGap 61 = .ok (.invokevirtual 206, 3) := sorry
theorem dX1_traceGap_64 : decode cX1_traceGap 64 = .ok (.if_icmp .ge 23, 3) := sorry
theorem dX1_traceGap_67 : decode cX1_traceGap 67 = .ok (.lload_n 1, 1) := sorry
theorem dX1_traceGap_68 : decode cX1_traceGap 68 = .ok (.aload_n 0, 1) := sorry
theorem dX1_traceGap_69 : decode cX1_traceGap 69 = .ok (.getfield 51, 3) := sorry
theorem dX1_traceGap_72 : decode cX1_traceGap 72 = .ok (.getfield 167, 3) := sorry
theorem dX1_traceGap_75 : decode cX1_traceGap 75 = .ok (.iload_n 3, 1) := sorry
theorem dX1_traceGap_76 : decode cX1_traceGap 76 = .ok (.invokevirtual 225, 3) := sorry
theorem dX1_traceGap_79 : decode cX1_traceGap 79 = .ok (.ladd, 1) := sorry
theorem dX1_traceGap_80 : decode cX1_traceGap 80 = .ok (.lstore_n 1, 1) := sorry
theorem dX1_traceGap_81 : decode cX1_traceGap 81 = .ok (.iinc 3 1, 3) := sorry
theorem dX1_traceGap_84 : decode cX1_traceGap 84 = .ok (.goto (-25), 3) := sorry
theorem dX1_traceGap_87 : decode cX1_traceGap 87 = .ok (.lload_n 1, 1) := sorry
theorem dX1_traceGap_88 : decode cX1_traceGap 88 = .ok (.lreturn, 1) := sorry
abbrev cX1_meanBound : ByteArray := prog_1_method_45_code
def yX1_meanBound : MethodName := ⟨RX1, "meanBound", "()D"⟩
def dkwX1_meanBound_2 : List UInt8 := [182, 0, 206, 135, 111, 175]
abbrev dktX1_meanBound_2 : List UInt8 := dkwX1_meanBound_2 ++ []
def dkwX1_meanBound_1 : List UInt8 := [97, 64, 132, 3, 1, 167, 255, 231, 42, 182, 0, 206, 154, 0, 7, 14, 167, 0, 11, 31, 138, 42]
abbrev dktX1_meanBound_1 : List UInt8 := dkwX1_meanBound_1 ++ dktX1_meanBound_2
def dkwX1_meanBound_0 : List UInt8 := [9, 64, 3, 62, 29, 42, 182, 0, 206, 162, 0, 23, 31, 42, 180, 0, 51, 180, 0, 167, 29, 182, 0, 229]
abbrev dktX1_meanBound_0 : List UInt8 := dkwX1_meanBound_0 ++ dktX1_meanBound_1
theorem dksX1_meanBound_0 : cX1_meanBound.data.toList.drop 0 = dktX1_meanBound_0 := sorry
theorem dksX1_meanBound_1 : cX1_meanBound.data.toList.drop 24 = dktX1_meanBound_1 := sorry
theorem dksX1_meanBound_2 : cX1_meanBound.data.toList.drop 46 = dktX1_meanBound_2 := sorry
theorem dX1_meanBound_0 : decode cX1_meanBound 0 = .ok (.lconst 0, 1) := sorry
theorem dX1_meanBound_1 : decode cX1_meanBound 1 = .ok (.lstore_n 1, 1) := sorry
theorem dX1_meanBound_2 : decode cX1_meanBound 2 = .ok (.iconst 0, 1) := sorry
theorem dX1_meanBound_3 : decode cX1_meanBound 3 = .ok (.istore_n 3, 1) := sorry
theorem dX1_meanBound_4 : decode cX1_meanBound 4 = .ok (.iload_n 3, 1) := sorry
theorem dX1_meanBound_5 : decode cX1_meanBound 5 = .ok (.aload_n 0, 1) := sorry
theorem dX1_meanBound_6 : decode cX1_meanBound 6 = .ok (.invokevirtual 206, 3) := sorry
theorem dX1_meanBound_9 : decode cX1_meanBound 9 = .ok (.if_icmp .ge 23, 3) := sorry
theorem dX1_meanBound_12 : decode cX1_meanBound 12 = .ok (.lload_n 1, 1) := sorry
theorem dX1_meanBound_13 : decode cX1_meanBound 13 = .ok (.aload_n 0, 1) := sorry
theorem dX1_meanBound_14 : decode cX1_meanBound 14 = .ok (.getfield 51, 3) := sorry
theorem dX1_meanBound_17 : decode cX1_meanBound 17 = .ok (.getfield 167, 3) := sorry
theorem dX1_meanBound_20 : decode cX1_meanBound 20 = .ok (.iload_n 3, 1) := sorry
theorem dX1_meanBound_21 : decode cX1_meanBound 21 = .ok (.invokevirtual 229, 3) := sorry
theorem dX1_meanBound_24 : decode cX1_meanBound 24 = .ok (.ladd, 1) := sorry
theorem dX1_meanBound_25 : decode cX1_meanBound 25 = .ok (.lstore_n 1, 1) := sorry
theorem dX1_meanBound_26 : decode cX1_meanBound 26 = .ok (.iinc 3 1, 3) := sorry
theorem dX1_meanBound_29 : decode cX1_meanBound 29 = .ok (.goto (-25), 3) := sorry
theorem dX1_meanBound_32 : decode cX1_meanBound 32 = .ok (.aload_n 0, 1) := sorry
theorem dX1_meanBound_33 : decode cX1_meanBound 33 = .ok (.invokevirtual 206, 3) := sorry
theorem dX1_meanBound_36 : decode cX1_meanBound 36 = .ok (.ifCond .ne 7, 3) := sorry
theorem dX1_meanBound_39 : decode cX1_meanBound 39 = .ok (.dconst 0, 1) := sorry
theorem dX1_meanBound_40 : decode cX1_meanBound 40 = .ok (.goto 11, 3) := sorry
theorem dX1_meanBound_43 : decode cX1_meanBound 43 = .ok (.lload_n 1, 1) := sorry
theorem dX1_meanBound_44 : decode cX1_meanBound 44 = .ok (.l2d, 1) := sorry
theorem dX1_meanBound_45 : decode cX1_meanBound 45 = .ok (.aload_n 0, 1) := sorry
theorem dX1_meanBound_46 : decode cX1_meanBound 46 = .ok (.invokevirtual 206, 3) := sorry
theorem dX1_meanBound_49 : decode cX1_meanBound 49 = .ok (.i2d, 1) := sorry
theorem dX1_meanBound_50 : decode cX1_meanBound 50 = .ok (.ddiv, 1) := sorry
theorem dX1_meanBound_51 : decode cX1_meanBound 51 = .ok (.dreturn, 1) := sorry
abbrev cX1_undoCount : ByteArray := prog_1_method_57_code
def yX1_undoCount : MethodName := ⟨RX1, "undoCount", "()I"⟩
def dkwX1_undoCount_0 : List UInt8 := [42, 180, 0, 58, 182, 1, 59, 172]
abbrev dktX1_undoCount_0 : List UInt8 := dkwX1_undoCount_0 ++ []
theorem dksX1_undoCount_0 : cX1_undoCount.data.toList.drop 0 = dktX1_undoCount_0 := sorry
theorem dX1_undoCount_0 : decode cX1_undoCount 0 = .ok (.aload_n 0, 1) := sorry
theorem dX1_undoCount_1 : decode cX1_undoCount 1 = .ok (.getfield 58, 3) := sorry
theorem dX1_undoCount_4 : decode cX1_undoCount 4 = .ok (.invokevirtual 315, 3) := sorry
theorem dX1_undoCount_7 : decode cX1_undoCount 7 = .ok (.ireturn, 1) := sorry
abbrev cX1_undo : ByteArray := prog_1_method_58_code
def yX1_undo : MethodName := ⟨RX1, "undo", "()I"⟩
def dkwX1_undo_1 : List UInt8 := [181, 0, 51, 42, 180, 0, 58, 182, 1, 59, 172]
abbrev dktX1_undo_1 : List UInt8 := dkwX1_undo_1 ++ []
def dkwX1_undo_0 : List UInt8 := [42, 180, 0, 58, 182, 1, 105, 153, 0, 5, 2, 172, 42, 42, 180, 0, 58, 182, 1, 108, 192, 0, 24]
abbrev dktX1_undo_0 : List UInt8 := dkwX1_undo_0 ++ dktX1_undo_1
theorem dksX1_undo_0 : cX1_undo.data.toList.drop 0 = dktX1_undo_0 := sorry
theorem dksX1_undo_1 : cX1_undo.data.toList.drop 23 = dktX1_undo_1 := sorry
theorem dX1_undo_0 : decode cX1_undo 0 = .ok (.aload_n 0, 1) := sorry
theorem dX1_undo_1 : decode cX1_undo 1 = .ok (.getfield 58, 3) := sorry
theorem dX1_undo_4 : decode cX1_undo 4 = .ok (.invokevirtual 361, 3) := sorry
theorem dX1_undo_7 : decode cX1_undo 7 = .ok (.ifCond .eq 5, 3) := sorry
theorem dX1_undo_10 : decode cX1_undo 10 = .ok (.iconst (-1), 1) := sorry
theorem dX1_undo_11 : decode cX1_undo 11 = .ok (.ireturn, 1) := sorry
theorem dX1_undo_12 : decode cX1_undo 12 = .ok (.aload_n 0, 1) := sorry
theorem dX1_undo_13 : decode cX1_undo 13 = .ok (.aload_n 0, 1) := sorry
theorem dX1_undo_14 : decode cX1_undo 14 = .ok (.getfield 58, 3) := sorry
theorem dX1_undo_17 : decode cX1_undo 17 = .ok (.invokevirtual 364, 3) := sorry
theorem dX1_undo_20 : decode cX1_undo 20 = .ok (.checkcast 24, 3) := sorry
theorem dX1_undo_23 : decode cX1_undo 23 = .ok (.putfield 51, 3) := sorry
theorem dX1_undo_26 : decode cX1_undo 26 = .ok (.aload_n 0, 1) := sorry
theorem dX1_undo_27 : decode cX1_undo 27 = .ok (.getfield 58, 3) := sorry
theorem dX1_undo_30 : decode cX1_undo 30 = .ok (.invokevirtual 315, 3) := sorry
theorem dX1_undo_33 : decode cX1_undo 33 = .ok (.ireturn, 1) := sorry
abbrev cX1_saveSnapshot : ByteArray := prog_1_method_59_code
def yX1_saveSnapshot : MethodName := ⟨RX1, "saveSnapshot", "()V"⟩
def dkwX1_saveSnapshot_0 : List UInt8 := [42, 187, 0, 24, 89, 42, 180, 0, 51, 183, 1, 41, 181, 0, 135, 177]
abbrev dktX1_saveSnapshot_0 : List UInt8 := dkwX1_saveSnapshot_0 ++ []
theorem dksX1_saveSnapshot_0 : cX1_saveSnapshot.data.toList.drop 0 = dktX1_saveSnapshot_0 := sorry
theorem dX1_saveSnapshot_0 : decode cX1_saveSnapshot 0 = .ok (.aload_n 0, 1) := sorry
theorem dX1_saveSnapshot_1 : decode cX1_saveSnapshot 1 = .ok (.new 24, 3) := sorry
theorem dX1_saveSnapshot_4 : decode cX1_saveSnapshot 4 = .ok (.dup, 1) := sorry
theorem dX1_saveSnapshot_5 : decode cX1_saveSnapshot 5 = .ok (.aload_n 0, 1) := sorry
theorem dX1_saveSnapshot_6 : decode cX1_saveSnapshot 6 = .ok (.getfield 51, 3) := sorry
theorem dX1_saveSnapshot_9 : decode cX1_saveSnapshot 9 = .ok (.invokespecial 297, 3) := sorry
theorem dX1_saveSnapshot_12 : decode cX1_saveSnapshot 12 = .ok (.putfield 135, 3) := sorry
theorem dX1_saveSnapshot_15 : decode cX1_saveSnapshot 15 = .ok (.return_, 1) := sorry
abbrev cX1_restoreSnapshot : ByteArray := prog_1_method_60_code
def yX1_restoreSnapshot : MethodName := ⟨RX1, "restoreSnapshot", "()Z"⟩
def dkwX1_restoreSnapshot_1 : List UInt8 := [42, 180, 0, 58, 182, 0, 132, 4, 172]
abbrev dktX1_restoreSnapshot_1 : List UInt8 := dkwX1_restoreSnapshot_1 ++ []
def dkwX1_restoreSnapshot_0 : List UInt8 := [42, 180, 0, 135, 199, 0, 5, 3, 172, 42, 187, 0, 24, 89, 42, 180, 0, 135, 183, 1, 41, 181, 0, 51]
abbrev dktX1_restoreSnapshot_0 : List UInt8 := dkwX1_restoreSnapshot_0 ++ dktX1_restoreSnapshot_1
theorem dksX1_restoreSnapshot_0 : cX1_restoreSnapshot.data.toList.drop 0 = dktX1_restoreSnapshot_0 := sorry
theorem dksX1_restoreSnapshot_1 : cX1_restoreSnapshot.data.toList.drop 24 = dktX1_restoreSnapshot_1 := sorry
theorem dX1_restoreSnapshot_0 : decode cX1_restoreSnapshot 0 = .ok (.aload_n 0, 1) := sorry
theorem dX1_restoreSnapshot_1 : decode cX1_restoreSnapshot 1 = .ok (.getfield 135, 3) := sorry
theorem dX1_restoreSnapshot_4 : decode cX1_restoreSnapshot 4 = .ok (.ifnonnull 5, 3) := sorry
theorem dX1_restoreSnapshot_7 : decode cX1_restoreSnapshot 7 = .ok (.iconst 0, 1) := sorry
theorem dX1_restoreSnapshot_8 : decode cX1_restoreSnapshot 8 = .ok (.ireturn, 1) := sorry
theorem dX1_restoreSnapshot_9 : decode cX1_restoreSnapshot 9 = .ok (.aload_n 0, 1) := sorry
theorem dX1_restoreSnapshot_10 : decode cX1_restoreSnapshot 10 = .ok (.new 24, 3) := sorry
theorem dX1_restoreSnapshot_13 : decode cX1_restoreSnapshot 13 = .ok (.dup, 1) := sorry
theorem dX1_restoreSnapshot_14 : decode cX1_restoreSnapshot 14 = .ok (.aload_n 0, 1) := sorry
theorem dX1_restoreSnapshot_15 : decode cX1_restoreSnapshot 15 = .ok (.getfield 135, 3) := sorry
theorem dX1_restoreSnapshot_18 : decode cX1_restoreSnapshot 18 = .ok (.invokespecial 297, 3) := sorry
theorem dX1_restoreSnapshot_21 : decode cX1_restoreSnapshot 21 = .ok (.putfield 51, 3) := sorry
theorem dX1_restoreSnapshot_24 : decode cX1_restoreSnapshot 24 = .ok (.aload_n 0, 1) := sorry
theorem dX1_restoreSnapshot_25 : decode cX1_restoreSnapshot 25 = .ok (.getfield 58, 3) := sorry
theorem dX1_restoreSnapshot_28 : decode cX1_restoreSnapshot 28 = .ok (.invokevirtual 132, 3) := sorry
theorem dX1_restoreSnapshot_31 : decode cX1_restoreSnapshot 31 = .ok (.iconst 1, 1) := sorry
theorem dX1_restoreSnapshot_32 : decode cX1_restoreSnapshot 32 = .ok (.ireturn, 1) := sorry
abbrev cX1_formattedByte : ByteArray := prog_1_method_62_code
def yX1_formattedByte : MethodName := ⟨RX1, "formattedByte", "(I)I"⟩
def dkwX1_formattedByte_1 : List UInt8 := [182, 1, 140, 167, 0, 4, 2, 172]
abbrev dktX1_formattedByte_1 : List UInt8 := dkwX1_formattedByte_1 ++ []
def dkwX1_formattedByte_0 : List UInt8 := [27, 133, 9, 42, 180, 0, 86, 182, 1, 135, 4, 100, 133, 184, 0, 99, 153, 0, 14, 42, 180, 0, 86, 27]
abbrev dktX1_formattedByte_0 : List UInt8 := dkwX1_formattedByte_0 ++ dktX1_formattedByte_1
theorem dksX1_formattedByte_0 : cX1_formattedByte.data.toList.drop 0 = dktX1_formattedByte_0 := sorry
theorem dksX1_formattedByte_1 : cX1_formattedByte.data.toList.drop 24 = dktX1_formattedByte_1 := sorry
theorem dX1_formattedByte_0 : decode cX1_formattedByte 0 = .ok (.iload_n 1, 1) := sorry
theorem dX1_formattedByte_1 : decode cX1_formattedByte 1 = .ok (.i2l, 1) := sorry
theorem dX1_formattedByte_2 : decode cX1_formattedByte 2 = .ok (.lconst 0, 1) := sorry
theorem dX1_formattedByte_3 : decode cX1_formattedByte 3 = .ok (.aload_n 0, 1) := sorry
theorem dX1_formattedByte_4 : decode cX1_formattedByte 4 = .ok (.getfield 86, 3) := sorry
theorem dX1_formattedByte_7 : decode cX1_formattedByte 7 = .ok (.invokevirtual 391, 3) := sorry
theorem dX1_formattedByte_10 : decode cX1_formattedByte 10 = .ok (.iconst 1, 1) := sorry
theorem dX1_formattedByte_11 : decode cX1_formattedByte 11 = .ok (.isub, 1) := sorry
theorem dX1_formattedByte_12 : decode cX1_formattedByte 12 = .ok (.i2l, 1) := sorry
theorem dX1_formattedByte_13 : decode cX1_formattedByte 13 = .ok (.invokestatic 99, 3) := sorry
theorem dX1_formattedByte_16 : decode cX1_formattedByte 16 = .ok (.ifCond .eq 14, 3) := sorry
theorem dX1_formattedByte_19 : decode cX1_formattedByte 19 = .ok (.aload_n 0, 1) := sorry
theorem dX1_formattedByte_20 : decode cX1_formattedByte 20 = .ok (.getfield 86, 3) := sorry
theorem dX1_formattedByte_23 : decode cX1_formattedByte 23 = .ok (.iload_n 1, 1) := sorry
theorem dX1_formattedByte_24 : decode cX1_formattedByte 24 = .ok (.invokevirtual 396, 3) := sorry
theorem dX1_formattedByte_27 : decode cX1_formattedByte 27 = .ok (.goto 4, 3) := sorry
theorem dX1_formattedByte_30 : decode cX1_formattedByte 30 = .ok (.iconst (-1), 1) := sorry
theorem dX1_formattedByte_31 : decode cX1_formattedByte 31 = .ok (.ireturn, 1) := sorry
abbrev cX1_load : ByteArray := prog_1_method_14_code
def yX1_load : MethodName := ⟨RX1, "load", "(I)I"⟩
def dkwX1_load_2 : List UInt8 := [42, 180, 0, 51, 182, 0, 138, 172]
abbrev dktX1_load_2 : List UInt8 := dkwX1_load_2 ++ []
def dkwX1_load_1 : List UInt8 := [167, 0, 12, 77, 42, 44, 16, 246, 182, 0, 128, 172, 42, 180, 0, 58, 182, 0, 132, 42, 1, 181, 0, 135]
abbrev dktX1_load_1 : List UInt8 := dkwX1_load_1 ++ dktX1_load_2
def dkwX1_load_0 : List UInt8 := [42, 27, 17, 2, 88, 182, 0, 115, 42, 187, 0, 119, 89, 42, 27, 183, 0, 121, 182, 0, 124, 181, 0, 51]
abbrev dktX1_load_0 : List UInt8 := dkwX1_load_0 ++ dktX1_load_1
theorem dksX1_load_0 : cX1_load.data.toList.drop 0 = dktX1_load_0 := sorry
theorem dksX1_load_1 : cX1_load.data.toList.drop 24 = dktX1_load_1 := sorry
theorem dksX1_load_2 : cX1_load.data.toList.drop 48 = dktX1_load_2 := sorry
theorem dX1_load_0 : decode cX1_load 0 = .ok (.aload_n 0, 1) := sorry
theorem dX1_load_1 : decode cX1_load 1 = .ok (.iload_n 1, 1) := sorry
theorem dX1_load_2 : decode cX1_load 2 = .ok (.sipush 600, 3) := sorry
theorem dX1_load_5 : decode cX1_load 5 = .ok (.invokevirtual 115, 3) := sorry
theorem dX1_load_8 : decode cX1_load 8 = .ok (.aload_n 0, 1) := sorry
theorem dX1_load_9 : decode cX1_load 9 = .ok (.new 119, 3) := sorry
theorem dX1_load_12 : decode cX1_load 12 = .ok (.dup, 1) := sorry
theorem dX1_load_13 : decode cX1_load 13 = .ok (.aload_n 0, 1) := sorry
theorem dX1_load_14 : decode cX1_load 14 = .ok (.iload_n 1, 1) := sorry
theorem dX1_load_15 : decode cX1_load 15 = .ok (.invokespecial 121, 3) := sorry
theorem dX1_load_18 : decode cX1_load 18 = .ok (.invokevirtual 124, 3) := sorry
theorem dX1_load_21 : decode cX1_load 21 = .ok (.putfield 51, 3) := sorry
theorem dX1_load_24 : decode cX1_load 24 = .ok (.goto 12, 3) := sorry
theorem dX1_load_27 : decode cX1_load 27 = .ok (.astore_n 2, 1) := sorry
theorem dX1_load_28 : decode cX1_load 28 = .ok (.aload_n 0, 1) := sorry
theorem dX1_load_29 : decode cX1_load 29 = .ok (.aload_n 2, 1) := sorry
theorem dX1_load_30 : decode cX1_load 30 = .ok (.bipush (-10), 2) := sorry
theorem dX1_load_32 : decode cX1_load 32 = .ok (.invokevirtual 128, 3) := sorry
theorem dX1_load_35 : decode cX1_load 35 = .ok (.ireturn, 1) := sorry
theorem dX1_load_36 : decode cX1_load 36 = .ok (.aload_n 0, 1) := sorry
theorem dX1_load_37 : decode cX1_load 37 = .ok (.getfield 58, 3) := sorry
theorem dX1_load_40 : decode cX1_load 40 = .ok (.invokevirtual 132, 3) := sorry
theorem dX1_load_43 : decode cX1_load 43 = .ok (.aload_n 0, 1) := sorry
theorem dX1_load_44 : decode cX1_load 44 = .ok (.aconst_null, 1) := sorry
theorem dX1_load_45 : decode cX1_load 45 = .ok (.putfield 135, 3) := sorry
theorem dX1_load_48 : decode cX1_load 48 = .ok (.aload_n 0, 1) := sorry
theorem dX1_load_49 : decode cX1_load 49 = .ok (.getfield 51, 3) := sorry
theorem dX1_load_52 : decode cX1_load 52 = .ok (.invokevirtual 138, 3) := sorry
theorem dX1_load_55 : decode cX1_load 55 = .ok (.ireturn, 1) := sorry
abbrev cX1_startReading : ByteArray := prog_1_method_12_code
def yX1_startReading : MethodName := ⟨RX1, "startReading", "(II)V"⟩
def dkwX1_startReading_1 : List UInt8 := [2, 181, 0, 80, 177]
abbrev dktX1_startReading_1 : List UInt8 := dkwX1_startReading_1 ++ []
def dkwX1_startReading_0 : List UInt8 := [27, 133, 9, 42, 180, 0, 90, 28, 184, 0, 96, 133, 184, 0, 99, 184, 0, 103, 42, 3, 181, 0, 90, 42]
abbrev dktX1_startReading_0 : List UInt8 := dkwX1_startReading_0 ++ dktX1_startReading_1
theorem dksX1_startReading_0 : cX1_startReading.data.toList.drop 0 = dktX1_startReading_0 := sorry
theorem dksX1_startReading_1 : cX1_startReading.data.toList.drop 24 = dktX1_startReading_1 := sorry
theorem dX1_startReading_0 : decode cX1_startReading 0 = .ok (.iload_n 1, 1) := sorry
theorem dX1_startReading_1 : decode cX1_startReading 1 = .ok (.i2l, 1) := sorry
theorem dX1_startReading_2 : decode cX1_startReading 2 = .ok (.lconst 0, 1) := sorry
theorem dX1_startReading_3 : decode cX1_startReading 3 = .ok (.aload_n 0, 1) := sorry
theorem dX1_startReading_4 : decode cX1_startReading 4 = .ok (.getfield 90, 3) := sorry
theorem dX1_startReading_7 : decode cX1_startReading 7 = .ok (.iload_n 2, 1) := sorry
theorem dX1_startReading_8 : decode cX1_startReading 8 = .ok (.invokestatic 96, 3) := sorry
theorem dX1_startReading_11 : decode cX1_startReading 11 = .ok (.i2l, 1) := sorry
theorem dX1_startReading_12 : decode cX1_startReading 12 = .ok (.invokestatic 99, 3) := sorry
theorem dX1_startReading_15 : decode cX1_startReading 15 = .ok (.invokestatic 103, 3) := sorry
theorem dX1_startReading_18 : decode cX1_startReading 18 = .ok (.aload_n 0, 1) := sorry
theorem dX1_startReading_19 : decode cX1_startReading 19 = .ok (.iconst 0, 1) := sorry
theorem dX1_startReading_20 : decode cX1_startReading 20 = .ok (.putfield 90, 3) := sorry
theorem dX1_startReading_23 : decode cX1_startReading 23 = .ok (.aload_n 0, 1) := sorry
theorem dX1_startReading_24 : decode cX1_startReading 24 = .ok (.iconst (-1), 1) := sorry
theorem dX1_startReading_25 : decode cX1_startReading 25 = .ok (.putfield 80, 3) := sorry
theorem dX1_startReading_28 : decode cX1_startReading 28 = .ok (.return_, 1) := sorry
abbrev cX1_requireArgument : ByteArray := prog_1_method_4_code
def yX1_requireArgument : MethodName := ⟨RX1, "requireArgument", "(Z)V"⟩
def dkwX1_requireArgument_0 : List UInt8 := [26, 154, 0, 11, 187, 0, 10, 89, 183, 0, 12, 191, 177]
abbrev dktX1_requireArgument_0 : List UInt8 := dkwX1_requireArgument_0 ++ []
theorem dksX1_requireArgument_0 : cX1_requireArgument.data.toList.drop 0 = dktX1_requireArgument_0 := sorry
theorem dX1_requireArgument_0 : decode cX1_requireArgument 0 = .ok (.iload_n 0, 1) := sorry
theorem dX1_requireArgument_1 : decode cX1_requireArgument 1 = .ok (.ifCond .ne 11, 3) := sorry
theorem dX1_requireArgument_4 : decode cX1_requireArgument 4 = .ok (.new 10, 3) := sorry
theorem dX1_requireArgument_7 : decode cX1_requireArgument 7 = .ok (.dup, 1) := sorry
theorem dX1_requireArgument_8 : decode cX1_requireArgument 8 = .ok (.invokespecial 12, 3) := sorry
theorem dX1_requireArgument_11 : decode cX1_requireArgument 11 = .ok (.athrow, 1) := sorry
theorem dX1_requireArgument_12 : decode cX1_requireArgument 12 = .ok (.return_, 1) := sorry
abbrev cX1_failed : ByteArray := prog_1_method_13_code
def yX1_failed : MethodName := ⟨RX1, "failed", "(LKrylovLaboratory$TextError;I)I"⟩
def dkwX1_failed_0 : List UInt8 := [42, 43, 180, 0, 107, 181, 0, 80, 28, 43, 180, 0, 112, 100, 172]
abbrev dktX1_failed_0 : List UInt8 := dkwX1_failed_0 ++ []
theorem dksX1_failed_0 : cX1_failed.data.toList.drop 0 = dktX1_failed_0 := sorry
theorem dX1_failed_0 : decode cX1_failed 0 = .ok (.aload_n 0, 1) := sorry
theorem dX1_failed_1 : decode cX1_failed 1 = .ok (.aload_n 1, 1) := sorry
theorem dX1_failed_2 : decode cX1_failed 2 = .ok (.getfield 107, 3) := sorry
theorem dX1_failed_5 : decode cX1_failed 5 = .ok (.putfield 80, 3) := sorry
theorem dX1_failed_8 : decode cX1_failed 8 = .ok (.iload_n 2, 1) := sorry
theorem dX1_failed_9 : decode cX1_failed 9 = .ok (.aload_n 1, 1) := sorry
theorem dX1_failed_10 : decode cX1_failed 10 = .ok (.getfield 112, 3) := sorry
theorem dX1_failed_13 : decode cX1_failed 13 = .ok (.isub, 1) := sorry
theorem dX1_failed_14 : decode cX1_failed 14 = .ok (.ireturn, 1) := sorry
abbrev cX1_entry : ByteArray := prog_1_method_18_code
def yX1_entry : MethodName := ⟨RX1, "entry", "(II)I"⟩
def dkwX1_entry_1 : List UInt8 := [42, 180, 0, 51, 180, 0, 149, 27, 28, 182, 0, 153, 172]
abbrev dktX1_entry_1 : List UInt8 := dkwX1_entry_1 ++ []
def dkwX1_entry_0 : List UInt8 := [42, 27, 182, 0, 142, 153, 0, 15, 42, 28, 182, 0, 142, 153, 0, 7, 4, 167, 0, 4, 3, 184, 0, 146]
abbrev dktX1_entry_0 : List UInt8 := dkwX1_entry_0 ++ dktX1_entry_1
theorem dksX1_entry_0 : cX1_entry.data.toList.drop 0 = dktX1_entry_0 := sorry
theorem dksX1_entry_1 : cX1_entry.data.toList.drop 24 = dktX1_entry_1 := sorry
theorem dX1_entry_0 : decode cX1_entry 0 = .ok (.aload_n 0, 1) := sorry
theorem dX1_entry_1 : decode cX1_entry 1 = .ok (.iload_n 1, 1) := sorry
theorem dX1_entry_2 : decode cX1_entry 2 = .ok (.invokevirtual 142, 3) := sorry
theorem dX1_entry_5 : decode cX1_entry 5 = .ok (.ifCond .eq 15, 3) := sorry
theorem dX1_entry_8 : decode cX1_entry 8 = .ok (.aload_n 0, 1) := sorry
theorem dX1_entry_9 : decode cX1_entry 9 = .ok (.iload_n 2, 1) := sorry
theorem dX1_entry_10 : decode cX1_entry 10 = .ok (.invokevirtual 142, 3) := sorry
theorem dX1_entry_13 : decode cX1_entry 13 = .ok (.ifCond .eq 7, 3) := sorry
theorem dX1_entry_16 : decode cX1_entry 16 = .ok (.iconst 1, 1) := sorry
theorem dX1_entry_17 : decode cX1_entry 17 = .ok (.goto 4, 3) := sorry
theorem dX1_entry_20 : decode cX1_entry 20 = .ok (.iconst 0, 1) := sorry
theorem dX1_entry_21 : decode cX1_entry 21 = .ok (.invokestatic 146, 3) := sorry
theorem dX1_entry_24 : decode cX1_entry 24 = .ok (.aload_n 0, 1) := sorry
theorem dX1_entry_25 : decode cX1_entry 25 = .ok (.getfield 51, 3) := sorry
theorem dX1_entry_28 : decode cX1_entry 28 = .ok (.getfield 149, 3) := sorry
theorem dX1_entry_31 : decode cX1_entry 31 = .ok (.iload_n 1, 1) := sorry
theorem dX1_entry_32 : decode cX1_entry 32 = .ok (.iload_n 2, 1) := sorry
theorem dX1_entry_33 : decode cX1_entry 33 = .ok (.invokevirtual 153, 3) := sorry
theorem dX1_entry_36 : decode cX1_entry 36 = .ok (.ireturn, 1) := sorry
abbrev cX1_isIndex : ByteArray := prog_1_method_17_code
def yX1_isIndex : MethodName := ⟨RX1, "isIndex", "(I)Z"⟩
def dkwX1_isIndex_0 : List UInt8 := [27, 133, 9, 42, 180, 0, 51, 182, 0, 138, 4, 100, 133, 184, 0, 99, 172]
abbrev dktX1_isIndex_0 : List UInt8 := dkwX1_isIndex_0 ++ []
theorem dksX1_isIndex_0 : cX1_isIndex.data.toList.drop 0 = dktX1_isIndex_0 := sorry
theorem dX1_isIndex_0 : decode cX1_isIndex 0 = .ok (.iload_n 1, 1) := sorry
theorem dX1_isIndex_1 : decode cX1_isIndex 1 = .ok (.i2l, 1) := sorry
theorem dX1_isIndex_2 : decode cX1_isIndex 2 = .ok (.lconst 0, 1) := sorry
theorem dX1_isIndex_3 : decode cX1_isIndex 3 = .ok (.aload_n 0, 1) := sorry
theorem dX1_isIndex_4 : decode cX1_isIndex 4 = .ok (.getfield 51, 3) := sorry
theorem dX1_isIndex_7 : decode cX1_isIndex 7 = .ok (.invokevirtual 138, 3) := sorry
theorem dX1_isIndex_10 : decode cX1_isIndex 10 = .ok (.iconst 1, 1) := sorry
theorem dX1_isIndex_11 : decode cX1_isIndex 11 = .ok (.isub, 1) := sorry
theorem dX1_isIndex_12 : decode cX1_isIndex 12 = .ok (.i2l, 1) := sorry
theorem dX1_isIndex_13 : decode cX1_isIndex 13 = .ok (.invokestatic 99, 3) := sorry
theorem dX1_isIndex_16 : decode cX1_isIndex 16 = .ok (.ireturn, 1) := sorry
abbrev cX1_requireElement : ByteArray := prog_1_method_5_code
def yX1_requireElement : MethodName := ⟨RX1, "requireElement", "(Z)V"⟩
def dkwX1_requireElement_0 : List UInt8 := [26, 154, 0, 11, 187, 0, 16, 89, 183, 0, 18, 191, 177]
abbrev dktX1_requireElement_0 : List UInt8 := dkwX1_requireElement_0 ++ []
theorem dksX1_requireElement_0 : cX1_requireElement.data.toList.drop 0 = dktX1_requireElement_0 := sorry
theorem dX1_requireElement_0 : decode cX1_requireElement 0 = .ok (.iload_n 0, 1) := sorry
theorem dX1_requireElement_1 : decode cX1_requireElement 1 = .ok (.ifCond .ne 11, 3) := sorry
theorem dX1_requireElement_4 : decode cX1_requireElement 4 = .ok (.new 16, 3) := sorry
theorem dX1_requireElement_7 : decode cX1_requireElement 7 = .ok (.dup, 1) := sorry
theorem dX1_requireElement_8 : decode cX1_requireElement 8 = .ok (.invokespecial 18, 3) := sorry
theorem dX1_requireElement_11 : decode cX1_requireElement 11 = .ok (.athrow, 1) := sorry
theorem dX1_requireElement_12 : decode cX1_requireElement 12 = .ok (.return_, 1) := sorry
abbrev cX1_setting : ByteArray := prog_1_method_19_code
def yX1_setting : MethodName := ⟨RX1, "setting", "(I)I"⟩
def dkwX1_setting_2 : List UInt8 := [180, 0, 164, 172]
abbrev dktX1_setting_2 : List UInt8 := dkwX1_setting_2 ++ []
def dkwX1_setting_1 : List UInt8 := [167, 0, 25, 27, 4, 160, 0, 13, 42, 180, 0, 51, 180, 0, 161, 167, 0, 10, 42, 180, 0, 51]
abbrev dktX1_setting_1 : List UInt8 := dkwX1_setting_1 ++ dktX1_setting_2
def dkwX1_setting_0 : List UInt8 := [27, 133, 9, 20, 0, 21, 184, 0, 99, 184, 0, 146, 27, 154, 0, 13, 42, 180, 0, 51, 180, 0, 158]
abbrev dktX1_setting_0 : List UInt8 := dkwX1_setting_0 ++ dktX1_setting_1
theorem dksX1_setting_0 : cX1_setting.data.toList.drop 0 = dktX1_setting_0 := sorry
theorem dksX1_setting_1 : cX1_setting.data.toList.drop 23 = dktX1_setting_1 := sorry
theorem dksX1_setting_2 : cX1_setting.data.toList.drop 45 = dktX1_setting_2 := sorry
theorem dX1_setting_0 : decode cX1_setting 0 = .ok (.iload_n 1, 1) := sorry
theorem dX1_setting_1 : decode cX1_setting 1 = .ok (.i2l, 1) := sorry
theorem dX1_setting_2 : decode cX1_setting 2 = .ok (.lconst 0, 1) := sorry
theorem dX1_setting_3 : decode cX1_setting 3 = .ok (.ldc2_w 21, 3) := sorry
theorem dX1_setting_6 : decode cX1_setting 6 = .ok (.invokestatic 99, 3) := sorry
theorem dX1_setting_9 : decode cX1_setting 9 = .ok (.invokestatic 146, 3) := sorry
theorem dX1_setting_12 : decode cX1_setting 12 = .ok (.iload_n 1, 1) := sorry
theorem dX1_setting_13 : decode cX1_setting 13 = .ok (.ifCond .ne 13, 3) := sorry
theorem dX1_setting_16 : decode cX1_setting 16 = .ok (.aload_n 0, 1) := sorry
theorem dX1_setting_17 : decode cX1_setting 17 = .ok (.getfield 51, 3) := sorry
theorem dX1_setting_20 : decode cX1_setting 20 = .ok (.getfield 158, 3) := sorry
theorem dX1_setting_23 : decode cX1_setting 23 = .ok (.goto 25, 3) := sorry
theorem dX1_setting_26 : decode cX1_setting 26 = .ok (.iload_n 1, 1) := sorry
theorem dX1_setting_27 : decode cX1_setting 27 = .ok (.iconst 1, 1) := sorry
theorem dX1_setting_28 : decode cX1_setting 28 = .ok (.if_icmp .ne 13, 3) := sorry
theorem dX1_setting_31 : decode cX1_setting 31 = .ok (.aload_n 0, 1) := sorry
theorem dX1_setting_32 : decode cX1_setting 32 = .ok (.getfield 51, 3) := sorry
theorem dX1_setting_35 : decode cX1_setting 35 = .ok (.getfield 161, 3) := sorry
theorem dX1_setting_38 : decode cX1_setting 38 = .ok (.goto 10, 3) := sorry
theorem dX1_setting_41 : decode cX1_setting 41 = .ok (.aload_n 0, 1) := sorry
theorem dX1_setting_42 : decode cX1_setting 42 = .ok (.getfield 51, 3) := sorry
theorem dX1_setting_45 : decode cX1_setting 45 = .ok (.getfield 164, 3) := sorry
theorem dX1_setting_48 : decode cX1_setting 48 = .ok (.ireturn, 1) := sorry
abbrev cX1_basis : ByteArray := prog_1_method_24_code
def yX1_basis : MethodName := ⟨RX1, "basis", "(II)I"⟩
def dkwX1_basis_0 : List UInt8 := [42, 42, 27, 182, 0, 198, 28, 182, 0, 202, 172]
abbrev dktX1_basis_0 : List UInt8 := dkwX1_basis_0 ++ []
theorem dksX1_basis_0 : cX1_basis.data.toList.drop 0 = dktX1_basis_0 := sorry
theorem dX1_basis_0 : decode cX1_basis 0 = .ok (.aload_n 0, 1) := sorry
theorem dX1_basis_1 : decode cX1_basis 1 = .ok (.aload_n 0, 1) := sorry
theorem dX1_basis_2 : decode cX1_basis 2 = .ok (.iload_n 1, 1) := sorry
theorem dX1_basis_3 : decode cX1_basis 3 = .ok (.invokevirtual 198, 3) := sorry
theorem dX1_basis_6 : decode cX1_basis 6 = .ok (.iload_n 2, 1) := sorry
theorem dX1_basis_7 : decode cX1_basis 7 = .ok (.invokevirtual 202, 3) := sorry
theorem dX1_basis_10 : decode cX1_basis 10 = .ok (.ireturn, 1) := sorry
abbrev cX1_basisAt : ByteArray := prog_1_method_22_code
def yX1_basisAt : MethodName := ⟨RX1, "basisAt", "(I)LKrylovLaboratory$Vector;"⟩
def dkwX1_basisAt_1 : List UInt8 := [184, 0, 146, 42, 180, 0, 51, 180, 0, 167, 180, 0, 180, 27, 182, 0, 188, 192, 0, 192, 176]
abbrev dktX1_basisAt_1 : List UInt8 := dkwX1_basisAt_1 ++ []
def dkwX1_basisAt_0 : List UInt8 := [27, 133, 9, 42, 180, 0, 51, 180, 0, 167, 180, 0, 180, 182, 0, 184, 4, 100, 133, 184, 0, 99]
abbrev dktX1_basisAt_0 : List UInt8 := dkwX1_basisAt_0 ++ dktX1_basisAt_1
theorem dksX1_basisAt_0 : cX1_basisAt.data.toList.drop 0 = dktX1_basisAt_0 := sorry
theorem dksX1_basisAt_1 : cX1_basisAt.data.toList.drop 22 = dktX1_basisAt_1 := sorry
theorem dX1_basisAt_0 : decode cX1_basisAt 0 = .ok (.iload_n 1, 1) := sorry
theorem dX1_basisAt_1 : decode cX1_basisAt 1 = .ok (.i2l, 1) := sorry
theorem dX1_basisAt_2 : decode cX1_basisAt 2 = .ok (.lconst 0, 1) := sorry
theorem dX1_basisAt_3 : decode cX1_basisAt 3 = .ok (.aload_n 0, 1) := sorry
theorem dX1_basisAt_4 : decode cX1_basisAt 4 = .ok (.getfield 51, 3) := sorry
theorem dX1_basisAt_7 : decode cX1_basisAt 7 = .ok (.getfield 167, 3) := sorry
theorem dX1_basisAt_10 : decode cX1_basisAt 10 = .ok (.getfield 180, 3) := sorry
theorem dX1_basisAt_13 : decode cX1_basisAt 13 = .ok (.invokevirtual 184, 3) := sorry
theorem dX1_basisAt_16 : decode cX1_basisAt 16 = .ok (.iconst 1, 1) := sorry
theorem dX1_basisAt_17 : decode cX1_basisAt 17 = .ok (.isub, 1) := sorry
theorem dX1_basisAt_18 : decode cX1_basisAt 18 = .ok (.i2l, 1) := sorry
theorem dX1_basisAt_19 : decode cX1_basisAt 19 = .ok (.invokestatic 99, 3) := sorry
theorem dX1_basisAt_22 : decode cX1_basisAt 22 = .ok (.invokestatic 146, 3) := sorry
theorem dX1_basisAt_25 : decode cX1_basisAt 25 = .ok (.aload_n 0, 1) := sorry
theorem dX1_basisAt_26 : decode cX1_basisAt 26 = .ok (.getfield 51, 3) := sorry
theorem dX1_basisAt_29 : decode cX1_basisAt 29 = .ok (.getfield 167, 3) := sorry
theorem dX1_basisAt_32 : decode cX1_basisAt 32 = .ok (.getfield 180, 3) := sorry
theorem dX1_basisAt_35 : decode cX1_basisAt 35 = .ok (.iload_n 1, 1) := sorry
theorem dX1_basisAt_36 : decode cX1_basisAt 36 = .ok (.invokevirtual 188, 3) := sorry
theorem dX1_basisAt_39 : decode cX1_basisAt 39 = .ok (.checkcast 192, 3) := sorry
theorem dX1_basisAt_42 : decode cX1_basisAt 42 = .ok (.areturn, 1) := sorry
abbrev cX1_component : ByteArray := prog_1_method_23_code
def yX1_component : MethodName := ⟨RX1, "component", "(LKrylovLaboratory$Vector;I)I"⟩
def dkwX1_component_0 : List UInt8 := [42, 28, 182, 0, 142, 184, 0, 146, 43, 180, 0, 194, 28, 47, 136, 172]
abbrev dktX1_component_0 : List UInt8 := dkwX1_component_0 ++ []
theorem dksX1_component_0 : cX1_component.data.toList.drop 0 = dktX1_component_0 := sorry
theorem dX1_component_0 : decode cX1_component 0 = .ok (.aload_n 0, 1) := sorry
theorem dX1_component_1 : decode cX1_component 1 = .ok (.iload_n 2, 1) := sorry
theorem dX1_component_2 : decode cX1_component 2 = .ok (.invokevirtual 142, 3) := sorry
theorem dX1_component_5 : decode cX1_component 5 = .ok (.invokestatic 146, 3) := sorry
theorem dX1_component_8 : decode cX1_component 8 = .ok (.aload_n 1, 1) := sorry
theorem dX1_component_9 : decode cX1_component 9 = .ok (.getfield 194, 3) := sorry
theorem dX1_component_12 : decode cX1_component 12 = .ok (.iload_n 2, 1) := sorry
theorem dX1_component_13 : decode cX1_component 13 = .ok (.laload, 1) := sorry
theorem dX1_component_14 : decode cX1_component 14 = .ok (.l2i, 1) := sorry
theorem dX1_component_15 : decode cX1_component 15 = .ok (.ireturn, 1) := sorry
abbrev cX1_alpha : ByteArray := prog_1_method_26_code
def yX1_alpha : MethodName := ⟨RX1, "alpha", "(I)I"⟩
def dkwX1_alpha_0 : List UInt8 := [42, 27, 182, 0, 208, 42, 180, 0, 51, 180, 0, 167, 180, 0, 211, 27, 47, 136, 172]
abbrev dktX1_alpha_0 : List UInt8 := dkwX1_alpha_0 ++ []
theorem dksX1_alpha_0 : cX1_alpha.data.toList.drop 0 = dktX1_alpha_0 := sorry
theorem dX1_alpha_0 : decode cX1_alpha 0 = .ok (.aload_n 0, 1) := sorry
theorem dX1_alpha_1 : decode cX1_alpha 1 = .ok (.iload_n 1, 1) := sorry
theorem dX1_alpha_2 : decode cX1_alpha 2 = .ok (.invokevirtual 208, 3) := sorry
theorem dX1_alpha_5 : decode cX1_alpha 5 = .ok (.aload_n 0, 1) := sorry
theorem dX1_alpha_6 : decode cX1_alpha 6 = .ok (.getfield 51, 3) := sorry
theorem dX1_alpha_9 : decode cX1_alpha 9 = .ok (.getfield 167, 3) := sorry
theorem dX1_alpha_12 : decode cX1_alpha 12 = .ok (.getfield 211, 3) := sorry
theorem dX1_alpha_15 : decode cX1_alpha 15 = .ok (.iload_n 1, 1) := sorry
theorem dX1_alpha_16 : decode cX1_alpha 16 = .ok (.laload, 1) := sorry
theorem dX1_alpha_17 : decode cX1_alpha 17 = .ok (.l2i, 1) := sorry
theorem dX1_alpha_18 : decode cX1_alpha 18 = .ok (.ireturn, 1) := sorry
abbrev cX1_requireStep : ByteArray := prog_1_method_25_code
def yX1_requireStep : MethodName := ⟨RX1, "requireStep", "(I)V"⟩
def dkwX1_requireStep_0 : List UInt8 := [27, 133, 9, 42, 182, 0, 206, 4, 100, 133, 184, 0, 99, 184, 0, 146, 177]
abbrev dktX1_requireStep_0 : List UInt8 := dkwX1_requireStep_0 ++ []
theorem dksX1_requireStep_0 : cX1_requireStep.data.toList.drop 0 = dktX1_requireStep_0 := sorry
theorem dX1_requireStep_0 : decode cX1_requireStep 0 = .ok (.iload_n 1, 1) := sorry
theorem dX1_requireStep_1 : decode cX1_requireStep 1 = .ok (.i2l, 1) := sorry
theorem dX1_requireStep_2 : decode cX1_requireStep 2 = .ok (.lconst 0, 1) := sorry
theorem dX1_requireStep_3 : decode cX1_requireStep 3 = .ok (.aload_n 0, 1) := sorry
theorem dX1_requireStep_4 : decode cX1_requireStep 4 = .ok (.invokevirtual 206, 3) := sorry
theorem dX1_requireStep_7 : decode cX1_requireStep 7 = .ok (.iconst 1, 1) := sorry
theorem dX1_requireStep_8 : decode cX1_requireStep 8 = .ok (.isub, 1) := sorry
theorem dX1_requireStep_9 : decode cX1_requireStep 9 = .ok (.i2l, 1) := sorry
theorem dX1_requireStep_10 : decode cX1_requireStep 10 = .ok (.invokestatic 99, 3) := sorry
theorem dX1_requireStep_13 : decode cX1_requireStep 13 = .ok (.invokestatic 146, 3) := sorry
theorem dX1_requireStep_16 : decode cX1_requireStep 16 = .ok (.return_, 1) := sorry
abbrev cX1_beta : ByteArray := prog_1_method_27_code
def yX1_beta : MethodName := ⟨RX1, "beta", "(I)I"⟩
def dkwX1_beta_0 : List UInt8 := [42, 27, 182, 0, 208, 42, 180, 0, 51, 180, 0, 167, 180, 0, 214, 27, 47, 136, 172]
abbrev dktX1_beta_0 : List UInt8 := dkwX1_beta_0 ++ []
theorem dksX1_beta_0 : cX1_beta.data.toList.drop 0 = dktX1_beta_0 := sorry
theorem dX1_beta_0 : decode cX1_beta 0 = .ok (.aload_n 0, 1) := sorry
theorem dX1_beta_1 : decode cX1_beta 1 = .ok (.iload_n 1, 1) := sorry
theorem dX1_beta_2 : decode cX1_beta 2 = .ok (.invokevirtual 208, 3) := sorry
theorem dX1_beta_5 : decode cX1_beta 5 = .ok (.aload_n 0, 1) := sorry
theorem dX1_beta_6 : decode cX1_beta 6 = .ok (.getfield 51, 3) := sorry
theorem dX1_beta_9 : decode cX1_beta 9 = .ok (.getfield 167, 3) := sorry
theorem dX1_beta_12 : decode cX1_beta 12 = .ok (.getfield 214, 3) := sorry
theorem dX1_beta_15 : decode cX1_beta 15 = .ok (.iload_n 1, 1) := sorry
theorem dX1_beta_16 : decode cX1_beta 16 = .ok (.laload, 1) := sorry
theorem dX1_beta_17 : decode cX1_beta 17 = .ok (.l2i, 1) := sorry
theorem dX1_beta_18 : decode cX1_beta 18 = .ok (.ireturn, 1) := sorry
abbrev cX1_estimate : ByteArray := prog_1_method_28_code
def yX1_estimate : MethodName := ⟨RX1, "estimate", "(II)I"⟩
def dkwX1_estimate_1 : List UInt8 := [180, 0, 217, 27, 50, 28, 47, 136, 172]
abbrev dktX1_estimate_1 : List UInt8 := dkwX1_estimate_1 ++ []
def dkwX1_estimate_0 : List UInt8 := [42, 27, 182, 0, 198, 87, 28, 133, 9, 27, 133, 184, 0, 99, 184, 0, 146, 42, 180, 0, 51, 180, 0, 167]
abbrev dktX1_estimate_0 : List UInt8 := dkwX1_estimate_0 ++ dktX1_estimate_1
theorem dksX1_estimate_0 : cX1_estimate.data.toList.drop 0 = dktX1_estimate_0 := sorry
theorem dksX1_estimate_1 : cX1_estimate.data.toList.drop 24 = dktX1_estimate_1 := sorry
theorem dX1_estimate_0 : decode cX1_estimate 0 = .ok (.aload_n 0, 1) := sorry
theorem dX1_estimate_1 : decode cX1_estimate 1 = .ok (.iload_n 1, 1) := sorry
theorem dX1_estimate_2 : decode cX1_estimate 2 = .ok (.invokevirtual 198, 3) := sorry
theorem dX1_estimate_5 : decode cX1_estimate 5 = .ok (.pop, 1) := sorry
theorem dX1_estimate_6 : decode cX1_estimate 6 = .ok (.iload_n 2, 1) := sorry
theorem dX1_estimate_7 : decode cX1_estimate 7 = .ok (.i2l, 1) := sorry
theorem dX1_estimate_8 : decode cX1_estimate 8 = .ok (.lconst 0, 1) := sorry
theorem dX1_estimate_9 : decode cX1_estimate 9 = .ok (.iload_n 1, 1) := sorry
theorem dX1_estimate_10 : decode cX1_estimate 10 = .ok (.i2l, 1) := sorry
theorem dX1_estimate_11 : decode cX1_estimate 11 = .ok (.invokestatic 99, 3) := sorry
theorem dX1_estimate_14 : decode cX1_estimate 14 = .ok (.invokestatic 146, 3) := sorry
theorem dX1_estimate_17 : decode cX1_estimate 17 = .ok (.aload_n 0, 1) := sorry
theorem dX1_estimate_18 : decode cX1_estimate 18 = .ok (.getfield 51, 3) := sorry
theorem dX1_estimate_21 : decode cX1_estimate 21 = .ok (.getfield 167, 3) := sorry
theorem dX1_estimate_24 : decode cX1_estimate 24 = .ok (.getfield 217, 3) := sorry
theorem dX1_estimate_27 : decode cX1_estimate 27 = .ok (.iload_n 1, 1) := sorry
theorem dX1_estimate_28 : decode cX1_estimate 28 = .ok (.aaload, 1) := sorry
theorem dX1_estimate_29 : decode cX1_estimate 29 = .ok (.iload_n 2, 1) := sorry
theorem dX1_estimate_30 : decode cX1_estimate 30 = .ok (.laload, 1) := sorry
theorem dX1_estimate_31 : decode cX1_estimate 31 = .ok (.l2i, 1) := sorry
theorem dX1_estimate_32 : decode cX1_estimate 32 = .ok (.ireturn, 1) := sorry
abbrev cX1_value : ByteArray := prog_1_method_30_code
def yX1_value : MethodName := ⟨RX1, "value", "(I)I"⟩
def dkwX1_value_0 : List UInt8 := [42, 27, 182, 0, 208, 42, 180, 0, 51, 180, 0, 167, 27, 182, 0, 225, 136, 172]
abbrev dktX1_value_0 : List UInt8 := dkwX1_value_0 ++ []
theorem dksX1_value_0 : cX1_value.data.toList.drop 0 = dktX1_value_0 := sorry
theorem dX1_value_0 : decode cX1_value 0 = .ok (.aload_n 0, 1) := sorry
theorem dX1_value_1 : decode cX1_value 1 = .ok (.iload_n 1, 1) := sorry
theorem dX1_value_2 : decode cX1_value 2 = .ok (.invokevirtual 208, 3) := sorry
theorem dX1_value_5 : decode cX1_value 5 = .ok (.aload_n 0, 1) := sorry
theorem dX1_value_6 : decode cX1_value 6 = .ok (.getfield 51, 3) := sorry
theorem dX1_value_9 : decode cX1_value 9 = .ok (.getfield 167, 3) := sorry
theorem dX1_value_12 : decode cX1_value 12 = .ok (.iload_n 1, 1) := sorry
theorem dX1_value_13 : decode cX1_value 13 = .ok (.invokevirtual 225, 3) := sorry
theorem dX1_value_16 : decode cX1_value 16 = .ok (.l2i, 1) := sorry
theorem dX1_value_17 : decode cX1_value 17 = .ok (.ireturn, 1) := sorry
abbrev cX1_bound : ByteArray := prog_1_method_31_code
def yX1_bound : MethodName := ⟨RX1, "bound", "(I)I"⟩
def dkwX1_bound_0 : List UInt8 := [42, 27, 182, 0, 208, 42, 180, 0, 51, 180, 0, 167, 27, 182, 0, 229, 136, 172]
abbrev dktX1_bound_0 : List UInt8 := dkwX1_bound_0 ++ []
theorem dksX1_bound_0 : cX1_bound.data.toList.drop 0 = dktX1_bound_0 := sorry
theorem dX1_bound_0 : decode cX1_bound 0 = .ok (.aload_n 0, 1) := sorry
theorem dX1_bound_1 : decode cX1_bound 1 = .ok (.iload_n 1, 1) := sorry
theorem dX1_bound_2 : decode cX1_bound 2 = .ok (.invokevirtual 208, 3) := sorry
theorem dX1_bound_5 : decode cX1_bound 5 = .ok (.aload_n 0, 1) := sorry
theorem dX1_bound_6 : decode cX1_bound 6 = .ok (.getfield 51, 3) := sorry
theorem dX1_bound_9 : decode cX1_bound 9 = .ok (.getfield 167, 3) := sorry
theorem dX1_bound_12 : decode cX1_bound 12 = .ok (.iload_n 1, 1) := sorry
theorem dX1_bound_13 : decode cX1_bound 13 = .ok (.invokevirtual 229, 3) := sorry
theorem dX1_bound_16 : decode cX1_bound 16 = .ok (.l2i, 1) := sorry
theorem dX1_bound_17 : decode cX1_bound 17 = .ok (.ireturn, 1) := sorry
abbrev cX1_ritz : ByteArray := prog_1_method_32_code
def yX1_ritz : MethodName := ⟨RX1, "ritz", "(II)I"⟩
def dkwX1_ritz_0 : List UInt8 := [42, 27, 182, 0, 208, 42, 42, 180, 0, 51, 180, 0, 167, 27, 182, 0, 231, 28, 182, 0, 202, 172]
abbrev dktX1_ritz_0 : List UInt8 := dkwX1_ritz_0 ++ []
theorem dksX1_ritz_0 : cX1_ritz.data.toList.drop 0 = dktX1_ritz_0 := sorry
theorem dX1_ritz_0 : decode cX1_ritz 0 = .ok (.aload_n 0, 1) := sorry
theorem dX1_ritz_1 : decode cX1_ritz 1 = .ok (.iload_n 1, 1) := sorry
theorem dX1_ritz_2 : decode cX1_ritz 2 = .ok (.invokevirtual 208, 3) := sorry
theorem dX1_ritz_5 : decode cX1_ritz 5 = .ok (.aload_n 0, 1) := sorry
theorem dX1_ritz_6 : decode cX1_ritz 6 = .ok (.aload_n 0, 1) := sorry
theorem dX1_ritz_7 : decode cX1_ritz 7 = .ok (.getfield 51, 3) := sorry
theorem dX1_ritz_10 : decode cX1_ritz 10 = .ok (.getfield 167, 3) := sorry
theorem dX1_ritz_13 : decode cX1_ritz 13 = .ok (.iload_n 1, 1) := sorry
theorem dX1_ritz_14 : decode cX1_ritz 14 = .ok (.invokevirtual 231, 3) := sorry
theorem dX1_ritz_17 : decode cX1_ritz 17 = .ok (.iload_n 2, 1) := sorry
theorem dX1_ritz_18 : decode cX1_ritz 18 = .ok (.invokevirtual 202, 3) := sorry
theorem dX1_ritz_21 : decode cX1_ritz 21 = .ok (.ireturn, 1) := sorry
abbrev cX1_residual : ByteArray := prog_1_method_33_code
def yX1_residual : MethodName := ⟨RX1, "residual", "(I)I"⟩
def dkwX1_residual_1 : List UInt8 := [180, 0, 51, 180, 0, 167, 27, 182, 0, 231, 182, 0, 234, 136, 172]
abbrev dktX1_residual_1 : List UInt8 := dkwX1_residual_1 ++ []
def dkwX1_residual_0 : List UInt8 := [42, 27, 182, 0, 208, 42, 180, 0, 51, 180, 0, 149, 42, 180, 0, 51, 180, 0, 167, 27, 182, 0, 225, 42]
abbrev dktX1_residual_0 : List UInt8 := dkwX1_residual_0 ++ dktX1_residual_1
theorem dksX1_residual_0 : cX1_residual.data.toList.drop 0 = dktX1_residual_0 := sorry
theorem dksX1_residual_1 : cX1_residual.data.toList.drop 24 = dktX1_residual_1 := sorry
theorem dX1_residual_0 : decode cX1_residual 0 = .ok (.aload_n 0, 1) := sorry
theorem dX1_residual_1 : decode cX1_residual 1 = .ok (.iload_n 1, 1) := sorry
theorem dX1_residual_2 : decode cX1_residual 2 = .ok (.invokevirtual 208, 3) := sorry
theorem dX1_residual_5 : decode cX1_residual 5 = .ok (.aload_n 0, 1) := sorry
theorem dX1_residual_6 : decode cX1_residual 6 = .ok (.getfield 51, 3) := sorry
theorem dX1_residual_9 : decode cX1_residual 9 = .ok (.getfield 149, 3) := sorry
theorem dX1_residual_12 : decode cX1_residual 12 = .ok (.aload_n 0, 1) := sorry
theorem dX1_residual_13 : decode cX1_residual 13 = .ok (.getfield 51, 3) := sorry
theorem dX1_residual_16 : decode cX1_residual 16 = .ok (.getfield 167, 3) := sorry
theorem dX1_residual_19 : decode cX1_residual 19 = .ok (.iload_n 1, 1) := sorry
theorem dX1_residual_20 : decode cX1_residual 20 = .ok (.invokevirtual 225, 3) := sorry
theorem dX1_residual_23 : decode cX1_residual 23 = .ok (.aload_n 0, 1) := sorry
theorem dX1_residual_24 : decode cX1_residual 24 = .ok (.getfield 51, 3) := sorry
theorem dX1_residual_27 : decode cX1_residual 27 = .ok (.getfield 167, 3) := sorry
theorem dX1_residual_30 : decode cX1_residual 30 = .ok (.iload_n 1, 1) := sorry
theorem dX1_residual_31 : decode cX1_residual 31 = .ok (.invokevirtual 231, 3) := sorry
theorem dX1_residual_34 : decode cX1_residual 34 = .ok (.invokevirtual 234, 3) := sorry
theorem dX1_residual_37 : decode cX1_residual 37 = .ok (.l2i, 1) := sorry
theorem dX1_residual_38 : decode cX1_residual 38 = .ok (.ireturn, 1) := sorry
abbrev cX1_locked : ByteArray := prog_1_method_38_code
def yX1_locked : MethodName := ⟨RX1, "locked", "(II)I"⟩
def dkwX1_locked_2 : List UInt8 := [182, 1, 11, 136, 172]
abbrev dktX1_locked_2 : List UInt8 := dkwX1_locked_2 ++ []
def dkwX1_locked_1 : List UInt8 := [180, 1, 6, 167, 0, 23, 28, 4, 160, 0, 10, 45, 180, 1, 9, 167, 0, 11, 42, 180, 0, 51, 45]
abbrev dktX1_locked_1 : List UInt8 := dkwX1_locked_1 ++ dktX1_locked_2
def dkwX1_locked_0 : List UInt8 := [42, 27, 182, 1, 2, 78, 28, 133, 9, 20, 0, 21, 184, 0, 99, 184, 0, 146, 28, 154, 0, 10, 45]
abbrev dktX1_locked_0 : List UInt8 := dkwX1_locked_0 ++ dktX1_locked_1
theorem dksX1_locked_0 : cX1_locked.data.toList.drop 0 = dktX1_locked_0 := sorry
theorem dksX1_locked_1 : cX1_locked.data.toList.drop 23 = dktX1_locked_1 := sorry
theorem dksX1_locked_2 : cX1_locked.data.toList.drop 46 = dktX1_locked_2 := sorry
theorem dX1_locked_0 : decode cX1_locked 0 = .ok (.aload_n 0, 1) := sorry
theorem dX1_locked_1 : decode cX1_locked 1 = .ok (.iload_n 1, 1) := sorry
theorem dX1_locked_2 : decode cX1_locked 2 = .ok (.invokevirtual 258, 3) := sorry
theorem dX1_locked_5 : decode cX1_locked 5 = .ok (.astore_n 3, 1) := sorry
theorem dX1_locked_6 : decode cX1_locked 6 = .ok (.iload_n 2, 1) := sorry
theorem dX1_locked_7 : decode cX1_locked 7 = .ok (.i2l, 1) := sorry
theorem dX1_locked_8 : decode cX1_locked 8 = .ok (.lconst 0, 1) := sorry
theorem dX1_locked_9 : decode cX1_locked 9 = .ok (.ldc2_w 21, 3) := sorry
theorem dX1_locked_12 : decode cX1_locked 12 = .ok (.invokestatic 99, 3) := sorry
theorem dX1_locked_15 : decode cX1_locked 15 = .ok (.invokestatic 146, 3) := sorry
theorem dX1_locked_18 : decode cX1_locked 18 = .ok (.iload_n 2, 1) := sorry
theorem dX1_locked_19 : decode cX1_locked 19 = .ok (.ifCond .ne 10, 3) := sorry
theorem dX1_locked_22 : decode cX1_locked 22 = .ok (.aload_n 3, 1) := sorry
theorem dX1_locked_23 : decode cX1_locked 23 = .ok (.getfield 262, 3) := sorry
theorem dX1_locked_26 : decode cX1_locked 26 = .ok (.goto 23, 3) := sorry
theorem dX1_locked_29 : decode cX1_locked 29 = .ok (.iload_n 2, 1) := sorry
theorem dX1_locked_30 : decode cX1_locked 30 = .ok (.iconst 1, 1) := sorry
theorem dX1_locked_31 : decode cX1_locked 31 = .ok (.if_icmp .ne 10, 3) := sorry
theorem dX1_locked_34 : decode cX1_locked 34 = .ok (.aload_n 3, 1) := sorry
theorem dX1_locked_35 : decode cX1_locked 35 = .ok (.getfield 265, 3) := sorry
theorem dX1_locked_38 : decode cX1_locked 38 = .ok (.goto 11, 3) := sorry
theorem dX1_locked_41 : decode cX1_locked 41 = .ok (.aload_n 0, 1) := sorry
theorem dX1_locked_42 : decode cX1_locked 42 = .ok (.getfield 51, 3) := sorry
theorem dX1_locked_45 : decode cX1_locked 45 = .ok (.aload_n 3, 1) := sorry
theorem dX1_locked_46 : decode cX1_locked 46 = .ok (.invokevirtual 267, 3) := sorry
theorem dX1_locked_49 : decode cX1_locked 49 = .ok (.l2i, 1) := sorry
theorem dX1_locked_50 : decode cX1_locked 50 = .ok (.ireturn, 1) := sorry
abbrev cX1_lockedAt : ByteArray := prog_1_method_37_code
def yX1_lockedAt : MethodName := ⟨RX1, "lockedAt", "(I)LKrylovLaboratory$Locked;"⟩
def dkwX1_lockedAt_1 : List UInt8 := [182, 0, 255, 192, 1, 0, 176]
abbrev dktX1_lockedAt_1 : List UInt8 := dkwX1_lockedAt_1 ++ []
def dkwX1_lockedAt_0 : List UInt8 := [27, 133, 9, 42, 182, 0, 252, 4, 100, 133, 184, 0, 99, 184, 0, 146, 42, 180, 0, 51, 180, 0, 246, 27]
abbrev dktX1_lockedAt_0 : List UInt8 := dkwX1_lockedAt_0 ++ dktX1_lockedAt_1
theorem dksX1_lockedAt_0 : cX1_lockedAt.data.toList.drop 0 = dktX1_lockedAt_0 := sorry
theorem dksX1_lockedAt_1 : cX1_lockedAt.data.toList.drop 24 = dktX1_lockedAt_1 := sorry
theorem dX1_lockedAt_0 : decode cX1_lockedAt 0 = .ok (.iload_n 1, 1) := sorry
theorem dX1_lockedAt_1 : decode cX1_lockedAt 1 = .ok (.i2l, 1) := sorry
theorem dX1_lockedAt_2 : decode cX1_lockedAt 2 = .ok (.lconst 0, 1) := sorry
theorem dX1_lockedAt_3 : decode cX1_lockedAt 3 = .ok (.aload_n 0, 1) := sorry
theorem dX1_lockedAt_4 : decode cX1_lockedAt 4 = .ok (.invokevirtual 252, 3) := sorry
theorem dX1_lockedAt_7 : decode cX1_lockedAt 7 = .ok (.iconst 1, 1) := sorry
theorem dX1_lockedAt_8 : decode cX1_lockedAt 8 = .ok (.isub, 1) := sorry
theorem dX1_lockedAt_9 : decode cX1_lockedAt 9 = .ok (.i2l, 1) := sorry
theorem dX1_lockedAt_10 : decode cX1_lockedAt 10 = .ok (.invokestatic 99, 3) := sorry
theorem dX1_lockedAt_13 : decode cX1_lockedAt 13 = .ok (.invokestatic 146, 3) := sorry
theorem dX1_lockedAt_16 : decode cX1_lockedAt 16 = .ok (.aload_n 0, 1) := sorry
theorem dX1_lockedAt_17 : decode cX1_lockedAt 17 = .ok (.getfield 51, 3) := sorry
theorem dX1_lockedAt_20 : decode cX1_lockedAt 20 = .ok (.getfield 246, 3) := sorry
theorem dX1_lockedAt_23 : decode cX1_lockedAt 23 = .ok (.iload_n 1, 1) := sorry
theorem dX1_lockedAt_24 : decode cX1_lockedAt 24 = .ok (.invokevirtual 255, 3) := sorry
theorem dX1_lockedAt_27 : decode cX1_lockedAt 27 = .ok (.checkcast 256, 3) := sorry
theorem dX1_lockedAt_30 : decode cX1_lockedAt 30 = .ok (.areturn, 1) := sorry
abbrev cX1_lockedVector : ByteArray := prog_1_method_39_code
def yX1_lockedVector : MethodName := ⟨RX1, "lockedVector", "(II)I"⟩
def dkwX1_lockedVector_0 : List UInt8 := [42, 42, 27, 182, 1, 2, 180, 1, 14, 28, 182, 0, 202, 172]
abbrev dktX1_lockedVector_0 : List UInt8 := dkwX1_lockedVector_0 ++ []
theorem dksX1_lockedVector_0 : cX1_lockedVector.data.toList.drop 0 = dktX1_lockedVector_0 := sorry
theorem dX1_lockedVector_0 : decode cX1_lockedVector 0 = .ok (.aload_n 0, 1) := sorry
theorem dX1_lockedVector_1 : decode cX1_lockedVector 1 = .ok (.aload_n 0, 1) := sorry
theorem dX1_lockedVector_2 : decode cX1_lockedVector 2 = .ok (.iload_n 1, 1) := sorry
theorem dX1_lockedVector_3 : decode cX1_lockedVector 3 = .ok (.invokevirtual 258, 3) := sorry
theorem dX1_lockedVector_6 : decode cX1_lockedVector 6 = .ok (.getfield 270, 3) := sorry
theorem dX1_lockedVector_9 : decode cX1_lockedVector 9 = .ok (.iload_n 2, 1) := sorry
theorem dX1_lockedVector_10 : decode cX1_lockedVector 10 = .ok (.invokevirtual 202, 3) := sorry
theorem dX1_lockedVector_13 : decode cX1_lockedVector 13 = .ok (.ireturn, 1) := sorry
abbrev cX1_firstBroken : ByteArray := prog_1_method_40_code
def yX1_firstBroken : MethodName := ⟨RX1, "firstBroken", "(I)I"⟩
def dkwX1_firstBroken_2 : List UInt8 := [180, 0, 51, 25, 4, 27, 182, 1, 31, 153, 0, 5, 28, 172, 132, 2, 1, 167, 255, 218, 2, 172]
abbrev dktX1_firstBroken_2 : List UInt8 := dkwX1_firstBroken_2 ++ []
def dkwX1_firstBroken_1 : List UInt8 := [78, 45, 185, 1, 22, 1, 0, 153, 0, 35, 45, 185, 1, 27, 1, 0, 192, 1, 0, 58, 4, 42]
abbrev dktX1_firstBroken_1 : List UInt8 := dkwX1_firstBroken_1 ++ dktX1_firstBroken_2
def dkwX1_firstBroken_0 : List UInt8 := [27, 155, 0, 7, 4, 167, 0, 4, 3, 184, 0, 103, 3, 61, 42, 180, 0, 51, 180, 0, 246, 182, 1, 18]
abbrev dktX1_firstBroken_0 : List UInt8 := dkwX1_firstBroken_0 ++ dktX1_firstBroken_1
theorem dksX1_firstBroken_0 : cX1_firstBroken.data.toList.drop 0 = dktX1_firstBroken_0 := sorry
theorem dksX1_firstBroken_1 : cX1_firstBroken.data.toList.drop 24 = dktX1_firstBroken_1 := sorry
theorem dksX1_firstBroken_2 : cX1_firstBroken.data.toList.drop 46 = dktX1_firstBroken_2 := sorry
theorem dX1_firstBroken_0 : decode cX1_firstBroken 0 = .ok (.iload_n 1, 1) := sorry
theorem dX1_firstBroken_1 : decode cX1_firstBroken 1 = .ok (.ifCond .lt 7, 3) := sorry
theorem dX1_firstBroken_4 : decode cX1_firstBroken 4 = .ok (.iconst 1, 1) := sorry
theorem dX1_firstBroken_5 : decode cX1_firstBroken 5 = .ok (.goto 4, 3) := sorry
theorem dX1_firstBroken_8 : decode cX1_firstBroken 8 = .ok (.iconst 0, 1) := sorry
theorem dX1_firstBroken_9 : decode cX1_firstBroken 9 = .ok (.invokestatic 103, 3) := sorry
theorem dX1_firstBroken_12 : decode cX1_firstBroken 12 = .ok (.iconst 0, 1) := sorry
theorem dX1_firstBroken_13 : decode cX1_firstBroken 13 = .ok (.istore_n 2, 1) := sorry
theorem dX1_firstBroken_14 : decode cX1_firstBroken 14 = .ok (.aload_n 0, 1) := sorry
theorem dX1_firstBroken_15 : decode cX1_firstBroken 15 = .ok (.getfield 51, 3) := sorry
theorem dX1_firstBroken_18 : decode cX1_firstBroken 18 = .ok (.getfield 246, 3) := sorry
theorem dX1_firstBroken_21 : decode cX1_firstBroken 21 = .ok (.invokevirtual 274, 3) := sorry
theorem dX1_firstBroken_24 : decode cX1_firstBroken 24 = .ok (.astore_n 3, 1) := sorry
theorem dX1_firstBroken_25 : decode cX1_firstBroken 25 = .ok (.aload_n 3, 1) := sorry
theorem dX1_firstBroken_26 : decode cX1_firstBroken 26 = .ok (.invokeinterface 278 1, 5) := sorry
theorem dX1_firstBroken_31 : decode cX1_firstBroken 31 = .ok (.ifCond .eq 35, 3) := sorry
theorem dX1_firstBroken_34 : decode cX1_firstBroken 34 = .ok (.aload_n 3, 1) := sorry
theorem dX1_firstBroken_35 : decode cX1_firstBroken 35 = .ok (.invokeinterface 283 1, 5) := sorry
theorem dX1_firstBroken_40 : decode cX1_firstBroken 40 = .ok (.checkcast 256, 3) := sorry
theorem dX1_firstBroken_43 : decode cX1_firstBroken 43 = .ok (.astore 4, 2) := sorry
theorem dX1_firstBroken_45 : decode cX1_firstBroken 45 = .ok (.aload_n 0, 1) := sorry
theorem dX1_firstBroken_46 : decode cX1_firstBroken 46 = .ok (.getfield 51, 3) := sorry
theorem dX1_firstBroken_49 : decode cX1_firstBroken 49 = .ok (.aload 4, 2) := sorry
theorem dX1_firstBroken_51 : decode cX1_firstBroken 51 = .ok (.iload_n 1, 1) := sorry
theorem dX1_firstBroken_52 : decode cX1_firstBroken 52 = .ok (.invokevirtual 287, 3) := sorry
theorem dX1_firstBroken_55 : decode cX1_firstBroken 55 = .ok (.ifCond .eq 5, 3) := sorry
theorem dX1_firstBroken_58 : decode cX1_firstBroken 58 = .ok (.iload_n 2, 1) := sorry
theorem dX1_firstBroken_59 : decode cX1_firstBroken 59 = .ok (.ireturn, 1) := sorry
theorem dX1_firstBroken_60 : decode cX1_firstBroken 60 = .ok (.iinc 2 1, 3) := sorry
theorem dX1_firstBroken_63 : decode cX1_firstBroken 63 = .ok (.goto (-38), 3) := sorry
theorem dX1_firstBroken_66 : decode cX1_firstBroken 66 = .ok (.iconst (-1), 1) := sorry
theorem dX1_firstBroken_67 : decode cX1_firstBroken 67 = .ok (.ireturn, 1) := sorry
abbrev cX1_step : ByteArray := prog_1_method_47_code
def yX1_step : MethodName := ⟨RX1, "step", "(I)I"⟩
def dkwX1_step_1 : List UInt8 := [182, 1, 69, 42, 180, 0, 51, 27, 182, 1, 72, 172]
abbrev dktX1_step_1 : List UInt8 := dkwX1_step_1 ++ []
def dkwX1_step_0 : List UInt8 := [27, 133, 9, 20, 1, 67, 184, 0, 99, 184, 0, 103, 42, 187, 0, 24, 89, 42, 180, 0, 51, 183, 1, 41]
abbrev dktX1_step_0 : List UInt8 := dkwX1_step_0 ++ dktX1_step_1
theorem dksX1_step_0 : cX1_step.data.toList.drop 0 = dktX1_step_0 := sorry
theorem dksX1_step_1 : cX1_step.data.toList.drop 24 = dktX1_step_1 := sorry
theorem dX1_step_0 : decode cX1_step 0 = .ok (.iload_n 1, 1) := sorry
theorem dX1_step_1 : decode cX1_step 1 = .ok (.i2l, 1) := sorry
theorem dX1_step_2 : decode cX1_step 2 = .ok (.lconst 0, 1) := sorry
theorem dX1_step_3 : decode cX1_step 3 = .ok (.ldc2_w 323, 3) := sorry
theorem dX1_step_6 : decode cX1_step 6 = .ok (.invokestatic 99, 3) := sorry
theorem dX1_step_9 : decode cX1_step 9 = .ok (.invokestatic 103, 3) := sorry
theorem dX1_step_12 : decode cX1_step 12 = .ok (.aload_n 0, 1) := sorry
theorem dX1_step_13 : decode cX1_step 13 = .ok (.new 24, 3) := sorry
theorem dX1_step_16 : decode cX1_step 16 = .ok (.dup, 1) := sorry
theorem dX1_step_17 : decode cX1_step 17 = .ok (.aload_n 0, 1) := sorry
theorem dX1_step_18 : decode cX1_step 18 = .ok (.getfield 51, 3) := sorry
theorem dX1_step_21 : decode cX1_step 21 = .ok (.invokespecial 297, 3) := sorry
theorem dX1_step_24 : decode cX1_step 24 = .ok (.invokevirtual 325, 3) := sorry
theorem dX1_step_27 : decode cX1_step 27 = .ok (.aload_n 0, 1) := sorry
theorem dX1_step_28 : decode cX1_step 28 = .ok (.getfield 51, 3) := sorry
theorem dX1_step_31 : decode cX1_step 31 = .ok (.iload_n 1, 1) := sorry
theorem dX1_step_32 : decode cX1_step 32 = .ok (.invokevirtual 328, 3) := sorry
theorem dX1_step_35 : decode cX1_step 35 = .ok (.ireturn, 1) := sorry
abbrev cX1_becomes : ByteArray := prog_1_method_46_code
def yX1_becomes : MethodName := ⟨RX1, "becomes", "(LKrylovLaboratory$State;)V"⟩
def dkwX1_becomes_1 : List UInt8 := [42, 180, 0, 51, 182, 1, 63, 42, 43, 181, 0, 51, 177]
abbrev dktX1_becomes_1 : List UInt8 := dkwX1_becomes_1 ++ []
def dkwX1_becomes_0 : List UInt8 := [42, 180, 0, 58, 182, 1, 59, 16, 10, 160, 0, 11, 42, 180, 0, 58, 182, 1, 60, 87, 42, 180, 0, 58]
abbrev dktX1_becomes_0 : List UInt8 := dkwX1_becomes_0 ++ dktX1_becomes_1
theorem dksX1_becomes_0 : cX1_becomes.data.toList.drop 0 = dktX1_becomes_0 := sorry
theorem dksX1_becomes_1 : cX1_becomes.data.toList.drop 24 = dktX1_becomes_1 := sorry
theorem dX1_becomes_0 : decode cX1_becomes 0 = .ok (.aload_n 0, 1) := sorry
theorem dX1_becomes_1 : decode cX1_becomes 1 = .ok (.getfield 58, 3) := sorry
theorem dX1_becomes_4 : decode cX1_becomes 4 = .ok (.invokevirtual 315, 3) := sorry
theorem dX1_becomes_7 : decode cX1_becomes 7 = .ok (.bipush 10, 2) := sorry
theorem dX1_becomes_9 : decode cX1_becomes 9 = .ok (.if_icmp .ne 11, 3) := sorry
theorem dX1_becomes_12 : decode cX1_becomes 12 = .ok (.aload_n 0, 1) := sorry
theorem dX1_becomes_13 : decode cX1_becomes 13 = .ok (.getfield 58, 3) := sorry
theorem dX1_becomes_16 : decode cX1_becomes 16 = .ok (.invokevirtual 316, 3) := sorry
theorem dX1_becomes_19 : decode cX1_becomes 19 = .ok (.pop, 1) := sorry
theorem dX1_becomes_20 : decode cX1_becomes 20 = .ok (.aload_n 0, 1) := sorry
theorem dX1_becomes_21 : decode cX1_becomes 21 = .ok (.getfield 58, 3) := sorry
theorem dX1_becomes_24 : decode cX1_becomes 24 = .ok (.aload_n 0, 1) := sorry
theorem dX1_becomes_25 : decode cX1_becomes 25 = .ok (.getfield 51, 3) := sorry
theorem dX1_becomes_28 : decode cX1_becomes 28 = .ok (.invokevirtual 319, 3) := sorry
theorem dX1_becomes_31 : decode cX1_becomes 31 = .ok (.aload_n 0, 1) := sorry
theorem dX1_becomes_32 : decode cX1_becomes 32 = .ok (.aload_n 1, 1) := sorry
theorem dX1_becomes_33 : decode cX1_becomes 33 = .ok (.putfield 51, 3) := sorry
theorem dX1_becomes_36 : decode cX1_becomes 36 = .ok (.return_, 1) := sorry
abbrev cX1_lock : ByteArray := prog_1_method_48_code
def yX1_lock : MethodName := ⟨RX1, "lock", "(I)I"⟩
def dkwX1_lock_1 : List UInt8 := [155, 0, 8, 42, 44, 182, 1, 69, 29, 172]
abbrev dktX1_lock_1 : List UInt8 := dkwX1_lock_1 ++ []
def dkwX1_lock_0 : List UInt8 := [42, 27, 182, 0, 208, 187, 0, 24, 89, 42, 180, 0, 51, 183, 1, 41, 77, 44, 27, 182, 1, 75, 62, 29]
abbrev dktX1_lock_0 : List UInt8 := dkwX1_lock_0 ++ dktX1_lock_1
theorem dksX1_lock_0 : cX1_lock.data.toList.drop 0 = dktX1_lock_0 := sorry
theorem dksX1_lock_1 : cX1_lock.data.toList.drop 24 = dktX1_lock_1 := sorry
theorem dX1_lock_0 : decode cX1_lock 0 = .ok (.aload_n 0, 1) := sorry
theorem dX1_lock_1 : decode cX1_lock 1 = .ok (.iload_n 1, 1) := sorry
theorem dX1_lock_2 : decode cX1_lock 2 = .ok (.invokevirtual 208, 3) := sorry
theorem dX1_lock_5 : decode cX1_lock 5 = .ok (.new 24, 3) := sorry
theorem dX1_lock_8 : decode cX1_lock 8 = .ok (.dup, 1) := sorry
theorem dX1_lock_9 : decode cX1_lock 9 = .ok (.aload_n 0, 1) := sorry
theorem dX1_lock_10 : decode cX1_lock 10 = .ok (.getfield 51, 3) := sorry
theorem dX1_lock_13 : decode cX1_lock 13 = .ok (.invokespecial 297, 3) := sorry
theorem dX1_lock_16 : decode cX1_lock 16 = .ok (.astore_n 2, 1) := sorry
theorem dX1_lock_17 : decode cX1_lock 17 = .ok (.aload_n 2, 1) := sorry
theorem dX1_lock_18 : decode cX1_lock 18 = .ok (.iload_n 1, 1) := sorry
theorem dX1_lock_19 : decode cX1_lock 19 = .ok (.invokevirtual 331, 3) := sorry
theorem dX1_lock_22 : decode cX1_lock 22 = .ok (.istore_n 3, 1) := sorry
theorem dX1_lock_23 : decode cX1_lock 23 = .ok (.iload_n 3, 1) := sorry
theorem dX1_lock_24 : decode cX1_lock 24 = .ok (.ifCond .lt 8, 3) := sorry
theorem dX1_lock_27 : decode cX1_lock 27 = .ok (.aload_n 0, 1) := sorry
theorem dX1_lock_28 : decode cX1_lock 28 = .ok (.aload_n 2, 1) := sorry
theorem dX1_lock_29 : decode cX1_lock 29 = .ok (.invokevirtual 325, 3) := sorry
theorem dX1_lock_32 : decode cX1_lock 32 = .ok (.iload_n 3, 1) := sorry
theorem dX1_lock_33 : decode cX1_lock 33 = .ok (.ireturn, 1) := sorry
abbrev cX1_unlock : ByteArray := prog_1_method_49_code
def yX1_unlock : MethodName := ⟨RX1, "unlock", "(I)I"⟩
def dkwX1_unlock_1 : List UInt8 := [180, 0, 51, 180, 0, 246, 27, 182, 1, 78, 87, 42, 182, 0, 252, 172]
abbrev dktX1_unlock_1 : List UInt8 := dkwX1_unlock_1 ++ []
def dkwX1_unlock_0 : List UInt8 := [42, 27, 182, 1, 2, 87, 42, 187, 0, 24, 89, 42, 180, 0, 51, 183, 1, 41, 182, 1, 69, 42]
abbrev dktX1_unlock_0 : List UInt8 := dkwX1_unlock_0 ++ dktX1_unlock_1
theorem dksX1_unlock_0 : cX1_unlock.data.toList.drop 0 = dktX1_unlock_0 := sorry
theorem dksX1_unlock_1 : cX1_unlock.data.toList.drop 22 = dktX1_unlock_1 := sorry
theorem dX1_unlock_0 : decode cX1_unlock 0 = .ok (.aload_n 0, 1) := sorry
theorem dX1_unlock_1 : decode cX1_unlock 1 = .ok (.iload_n 1, 1) := sorry
theorem dX1_unlock_2 : decode cX1_unlock 2 = .ok (.invokevirtual 258, 3) := sorry
theorem dX1_unlock_5 : decode cX1_unlock 5 = .ok (.pop, 1) := sorry
theorem dX1_unlock_6 : decode cX1_unlock 6 = .ok (.aload_n 0, 1) := sorry
theorem dX1_unlock_7 : decode cX1_unlock 7 = .ok (.new 24, 3) := sorry
theorem dX1_unlock_10 : decode cX1_unlock 10 = .ok (.dup, 1) := sorry
theorem dX1_unlock_11 : decode cX1_unlock 11 = .ok (.aload_n 0, 1) := sorry
theorem dX1_unlock_12 : decode cX1_unlock 12 = .ok (.getfield 51, 3) := sorry
theorem dX1_unlock_15 : decode cX1_unlock 15 = .ok (.invokespecial 297, 3) := sorry
theorem dX1_unlock_18 : decode cX1_unlock 18 = .ok (.invokevirtual 325, 3) := sorry
theorem dX1_unlock_21 : decode cX1_unlock 21 = .ok (.aload_n 0, 1) := sorry
theorem dX1_unlock_22 : decode cX1_unlock 22 = .ok (.getfield 51, 3) := sorry
theorem dX1_unlock_25 : decode cX1_unlock 25 = .ok (.getfield 246, 3) := sorry
theorem dX1_unlock_28 : decode cX1_unlock 28 = .ok (.iload_n 1, 1) := sorry
theorem dX1_unlock_29 : decode cX1_unlock 29 = .ok (.invokevirtual 334, 3) := sorry
theorem dX1_unlock_32 : decode cX1_unlock 32 = .ok (.pop, 1) := sorry
theorem dX1_unlock_33 : decode cX1_unlock 33 = .ok (.aload_n 0, 1) := sorry
theorem dX1_unlock_34 : decode cX1_unlock 34 = .ok (.invokevirtual 252, 3) := sorry
theorem dX1_unlock_37 : decode cX1_unlock 37 = .ok (.ireturn, 1) := sorry
abbrev cX1_drop : ByteArray := prog_1_method_50_code
def yX1_drop : MethodName := ⟨RX1, "drop", "(I)I"⟩
def dkwX1_drop_1 : List UInt8 := [182, 1, 69, 42, 180, 0, 51, 27, 182, 1, 81, 172]
abbrev dktX1_drop_1 : List UInt8 := dkwX1_drop_1 ++ []
def dkwX1_drop_0 : List UInt8 := [27, 155, 0, 7, 4, 167, 0, 4, 3, 184, 0, 103, 42, 187, 0, 24, 89, 42, 180, 0, 51, 183, 1, 41]
abbrev dktX1_drop_0 : List UInt8 := dkwX1_drop_0 ++ dktX1_drop_1
theorem dksX1_drop_0 : cX1_drop.data.toList.drop 0 = dktX1_drop_0 := sorry
theorem dksX1_drop_1 : cX1_drop.data.toList.drop 24 = dktX1_drop_1 := sorry
theorem dX1_drop_0 : decode cX1_drop 0 = .ok (.iload_n 1, 1) := sorry
theorem dX1_drop_1 : decode cX1_drop 1 = .ok (.ifCond .lt 7, 3) := sorry
theorem dX1_drop_4 : decode cX1_drop 4 = .ok (.iconst 1, 1) := sorry
theorem dX1_drop_5 : decode cX1_drop 5 = .ok (.goto 4, 3) := sorry
theorem dX1_drop_8 : decode cX1_drop 8 = .ok (.iconst 0, 1) := sorry
theorem dX1_drop_9 : decode cX1_drop 9 = .ok (.invokestatic 103, 3) := sorry
theorem dX1_drop_12 : decode cX1_drop 12 = .ok (.aload_n 0, 1) := sorry
theorem dX1_drop_13 : decode cX1_drop 13 = .ok (.new 24, 3) := sorry
theorem dX1_drop_16 : decode cX1_drop 16 = .ok (.dup, 1) := sorry
theorem dX1_drop_17 : decode cX1_drop 17 = .ok (.aload_n 0, 1) := sorry
theorem dX1_drop_18 : decode cX1_drop 18 = .ok (.getfield 51, 3) := sorry
theorem dX1_drop_21 : decode cX1_drop 21 = .ok (.invokespecial 297, 3) := sorry
theorem dX1_drop_24 : decode cX1_drop 24 = .ok (.invokevirtual 325, 3) := sorry
theorem dX1_drop_27 : decode cX1_drop 27 = .ok (.aload_n 0, 1) := sorry
theorem dX1_drop_28 : decode cX1_drop 28 = .ok (.getfield 51, 3) := sorry
theorem dX1_drop_31 : decode cX1_drop 31 = .ok (.iload_n 1, 1) := sorry
theorem dX1_drop_32 : decode cX1_drop 32 = .ok (.invokevirtual 337, 3) := sorry
theorem dX1_drop_35 : decode cX1_drop 35 = .ok (.ireturn, 1) := sorry
abbrev cX1_restart : ByteArray := prog_1_method_51_code
def yX1_restart : MethodName := ⟨RX1, "restart", "(I)I"⟩
def dkwX1_restart_1 : List UInt8 := [44, 27, 182, 1, 84, 62, 29, 155, 0, 8, 42, 44, 182, 1, 69, 29, 172]
abbrev dktX1_restart_1 : List UInt8 := dkwX1_restart_1 ++ []
def dkwX1_restart_0 : List UInt8 := [27, 133, 9, 20, 0, 21, 184, 0, 99, 184, 0, 103, 187, 0, 24, 89, 42, 180, 0, 51, 183, 1, 41, 77]
abbrev dktX1_restart_0 : List UInt8 := dkwX1_restart_0 ++ dktX1_restart_1
theorem dksX1_restart_0 : cX1_restart.data.toList.drop 0 = dktX1_restart_0 := sorry
theorem dksX1_restart_1 : cX1_restart.data.toList.drop 24 = dktX1_restart_1 := sorry
theorem dX1_restart_0 : decode cX1_restart 0 = .ok (.iload_n 1, 1) := sorry
theorem dX1_restart_1 : decode cX1_restart 1 = .ok (.i2l, 1) := sorry
theorem dX1_restart_2 : decode cX1_restart 2 = .ok (.lconst 0, 1) := sorry
theorem dX1_restart_3 : decode cX1_restart 3 = .ok (.ldc2_w 21, 3) := sorry
theorem dX1_restart_6 : decode cX1_restart 6 = .ok (.invokestatic 99, 3) := sorry
theorem dX1_restart_9 : decode cX1_restart 9 = .ok (.invokestatic 103, 3) := sorry
theorem dX1_restart_12 : decode cX1_restart 12 = .ok (.new 24, 3) := sorry
theorem dX1_restart_15 : decode cX1_restart 15 = .ok (.dup, 1) := sorry
theorem dX1_restart_16 : decode cX1_restart 16 = .ok (.aload_n 0, 1) := sorry
theorem dX1_restart_17 : decode cX1_restart 17 = .ok (.getfield 51, 3) := sorry
theorem dX1_restart_20 : decode cX1_restart 20 = .ok (.invokespecial 297, 3) := sorry
theorem dX1_restart_23 : decode cX1_restart 23 = .ok (.astore_n 2, 1) := sorry
theorem dX1_restart_24 : decode cX1_restart 24 = .ok (.aload_n 2, 1) := sorry
theorem dX1_restart_25 : decode cX1_restart 25 = .ok (.iload_n 1, 1) := sorry
theorem dX1_restart_26 : decode cX1_restart 26 = .ok (.invokevirtual 340, 3) := sorry
theorem dX1_restart_29 : decode cX1_restart 29 = .ok (.istore_n 3, 1) := sorry
theorem dX1_restart_30 : decode cX1_restart 30 = .ok (.iload_n 3, 1) := sorry
theorem dX1_restart_31 : decode cX1_restart 31 = .ok (.ifCond .lt 8, 3) := sorry
theorem dX1_restart_34 : decode cX1_restart 34 = .ok (.aload_n 0, 1) := sorry
theorem dX1_restart_35 : decode cX1_restart 35 = .ok (.aload_n 2, 1) := sorry
theorem dX1_restart_36 : decode cX1_restart 36 = .ok (.invokevirtual 325, 3) := sorry
theorem dX1_restart_39 : decode cX1_restart 39 = .ok (.iload_n 3, 1) := sorry
theorem dX1_restart_40 : decode cX1_restart 40 = .ok (.ireturn, 1) := sorry
abbrev cX1_sweep : ByteArray := prog_1_method_52_code
def yX1_sweep : MethodName := ⟨RX1, "sweep", "(I)I"⟩
def dkwX1_sweep_1 : List UInt8 := [182, 1, 69, 42, 180, 0, 51, 27, 182, 1, 89, 172]
abbrev dktX1_sweep_1 : List UInt8 := dkwX1_sweep_1 ++ []
def dkwX1_sweep_0 : List UInt8 := [27, 133, 10, 20, 1, 87, 184, 0, 99, 184, 0, 103, 42, 187, 0, 24, 89, 42, 180, 0, 51, 183, 1, 41]
abbrev dktX1_sweep_0 : List UInt8 := dkwX1_sweep_0 ++ dktX1_sweep_1
theorem dksX1_sweep_0 : cX1_sweep.data.toList.drop 0 = dktX1_sweep_0 := sorry
theorem dksX1_sweep_1 : cX1_sweep.data.toList.drop 24 = dktX1_sweep_1 := sorry
theorem dX1_sweep_0 : decode cX1_sweep 0 = .ok (.iload_n 1, 1) := sorry
theorem dX1_sweep_1 : decode cX1_sweep 1 = .ok (.i2l, 1) := sorry
theorem dX1_sweep_2 : decode cX1_sweep 2 = .ok (.lconst 1, 1) := sorry
theorem dX1_sweep_3 : decode cX1_sweep 3 = .ok (.ldc2_w 343, 3) := sorry
theorem dX1_sweep_6 : decode cX1_sweep 6 = .ok (.invokestatic 99, 3) := sorry
theorem dX1_sweep_9 : decode cX1_sweep 9 = .ok (.invokestatic 103, 3) := sorry
theorem dX1_sweep_12 : decode cX1_sweep 12 = .ok (.aload_n 0, 1) := sorry
theorem dX1_sweep_13 : decode cX1_sweep 13 = .ok (.new 24, 3) := sorry
theorem dX1_sweep_16 : decode cX1_sweep 16 = .ok (.dup, 1) := sorry
theorem dX1_sweep_17 : decode cX1_sweep 17 = .ok (.aload_n 0, 1) := sorry
theorem dX1_sweep_18 : decode cX1_sweep 18 = .ok (.getfield 51, 3) := sorry
theorem dX1_sweep_21 : decode cX1_sweep 21 = .ok (.invokespecial 297, 3) := sorry
theorem dX1_sweep_24 : decode cX1_sweep 24 = .ok (.invokevirtual 325, 3) := sorry
theorem dX1_sweep_27 : decode cX1_sweep 27 = .ok (.aload_n 0, 1) := sorry
theorem dX1_sweep_28 : decode cX1_sweep 28 = .ok (.getfield 51, 3) := sorry
theorem dX1_sweep_31 : decode cX1_sweep 31 = .ok (.iload_n 1, 1) := sorry
theorem dX1_sweep_32 : decode cX1_sweep 32 = .ok (.invokevirtual 345, 3) := sorry
theorem dX1_sweep_35 : decode cX1_sweep 35 = .ok (.ireturn, 1) := sorry
abbrev cX1_setEntry : ByteArray := prog_1_method_53_code
def yX1_setEntry : MethodName := ⟨RX1, "setEntry", "(III)I"⟩
def dkwX1_setEntry_2 : List UInt8 := [25, 5, 182, 0, 23, 154, 0, 7, 17, 252, 24, 172, 42, 25, 5, 182, 1, 69, 21, 4, 172]
abbrev dktX1_setEntry_2 : List UInt8 := dkwX1_setEntry_2 ++ []
def dkwX1_setEntry_1 : List UInt8 := [187, 0, 24, 89, 42, 180, 0, 51, 183, 1, 41, 58, 5, 25, 5, 180, 0, 149, 27, 28, 29, 182, 1, 99]
abbrev dktX1_setEntry_1 : List UInt8 := dkwX1_setEntry_1 ++ dktX1_setEntry_2
def dkwX1_setEntry_0 : List UInt8 := [42, 27, 28, 182, 1, 92, 54, 4, 29, 133, 20, 1, 95, 20, 1, 97, 184, 0, 99, 184, 0, 103]
abbrev dktX1_setEntry_0 : List UInt8 := dkwX1_setEntry_0 ++ dktX1_setEntry_1
theorem dksX1_setEntry_0 : cX1_setEntry.data.toList.drop 0 = dktX1_setEntry_0 := sorry
theorem dksX1_setEntry_1 : cX1_setEntry.data.toList.drop 22 = dktX1_setEntry_1 := sorry
theorem dksX1_setEntry_2 : cX1_setEntry.data.toList.drop 46 = dktX1_setEntry_2 := sorry
theorem dX1_setEntry_0 : decode cX1_setEntry 0 = .ok (.aload_n 0, 1) := sorry
theorem dX1_setEntry_1 : decode cX1_setEntry 1 = .ok (.iload_n 1, 1) := sorry
theorem dX1_setEntry_2 : decode cX1_setEntry 2 = .ok (.iload_n 2, 1) := sorry
theorem dX1_setEntry_3 : decode cX1_setEntry 3 = .ok (.invokevirtual 348, 3) := sorry
theorem dX1_setEntry_6 : decode cX1_setEntry 6 = .ok (.istore 4, 2) := sorry
theorem dX1_setEntry_8 : decode cX1_setEntry 8 = .ok (.iload_n 3, 1) := sorry
theorem dX1_setEntry_9 : decode cX1_setEntry 9 = .ok (.i2l, 1) := sorry
theorem dX1_setEntry_10 : decode cX1_setEntry 10 = .ok (.ldc2_w 351, 3) := sorry
theorem dX1_setEntry_13 : decode cX1_setEntry 13 = .ok (.ldc2_w 353, 3) := sorry
theorem dX1_setEntry_16 : decode cX1_setEntry 16 = .ok (.invokestatic 99, 3) := sorry
theorem dX1_setEntry_19 : decode cX1_setEntry 19 = .ok (.invokestatic 103, 3) := sorry
theorem dX1_setEntry_22 : decode cX1_setEntry 22 = .ok (.new 24, 3) := sorry
theorem dX1_setEntry_25 : decode cX1_setEntry 25 = .ok (.dup, 1) := sorry
theorem dX1_setEntry_26 : decode cX1_setEntry 26 = .ok (.aload_n 0, 1) := sorry
theorem dX1_setEntry_27 : decode cX1_setEntry 27 = .ok (.getfield 51, 3) := sorry
theorem dX1_setEntry_30 : decode cX1_setEntry 30 = .ok (.invokespecial 297, 3) := sorry
theorem dX1_setEntry_33 : decode cX1_setEntry 33 = .ok (.astore 5, 2) := sorry
theorem dX1_setEntry_35 : decode cX1_setEntry 35 = .ok (.aload 5, 2) := sorry
theorem dX1_setEntry_37 : decode cX1_setEntry 37 = .ok (.getfield 149, 3) := sorry
theorem dX1_setEntry_40 : decode cX1_setEntry 40 = .ok (.iload_n 1, 1) := sorry
theorem dX1_setEntry_41 : decode cX1_setEntry 41 = .ok (.iload_n 2, 1) := sorry
theorem dX1_setEntry_42 : decode cX1_setEntry 42 = .ok (.iload_n 3, 1) := sorry
theorem dX1_setEntry_43 : decode cX1_setEntry 43 = .ok (.invokevirtual 355, 3) := sorry
theorem dX1_setEntry_46 : decode cX1_setEntry 46 = .ok (.aload 5, 2) := sorry
theorem dX1_setEntry_48 : decode cX1_setEntry 48 = .ok (.invokevirtual 23, 3) := sorry
theorem dX1_setEntry_51 : decode cX1_setEntry 51 = .ok (.ifCond .ne 7, 3) := sorry
theorem dX1_setEntry_54 : decode cX1_setEntry 54 = .ok (.sipush (-1000), 3) := sorry
theorem dX1_setEntry_57 : decode cX1_setEntry 57 = .ok (.ireturn, 1) := sorry
theorem dX1_setEntry_58 : decode cX1_setEntry 58 = .ok (.aload_n 0, 1) := sorry
theorem dX1_setEntry_59 : decode cX1_setEntry 59 = .ok (.aload 5, 2) := sorry
theorem dX1_setEntry_61 : decode cX1_setEntry 61 = .ok (.invokevirtual 325, 3) := sorry
theorem dX1_setEntry_64 : decode cX1_setEntry 64 = .ok (.iload 4, 2) := sorry
theorem dX1_setEntry_66 : decode cX1_setEntry 66 = .ok (.ireturn, 1) := sorry
abbrev cX1_setMode : ByteArray := prog_1_method_54_code
def yX1_setMode : MethodName := ⟨RX1, "setMode", "(I)I"⟩
def dkwX1_setMode_1 : List UInt8 := [182, 1, 69, 42, 180, 0, 51, 180, 0, 158, 61, 42, 180, 0, 51, 27, 181, 0, 158, 28, 172]
abbrev dktX1_setMode_1 : List UInt8 := dkwX1_setMode_1 ++ []
def dkwX1_setMode_0 : List UInt8 := [27, 133, 9, 20, 0, 21, 184, 0, 99, 184, 0, 103, 42, 187, 0, 24, 89, 42, 180, 0, 51, 183, 1, 41]
abbrev dktX1_setMode_0 : List UInt8 := dkwX1_setMode_0 ++ dktX1_setMode_1
theorem dksX1_setMode_0 : cX1_setMode.data.toList.drop 0 = dktX1_setMode_0 := sorry
theorem dksX1_setMode_1 : cX1_setMode.data.toList.drop 24 = dktX1_setMode_1 := sorry
theorem dX1_setMode_0 : decode cX1_setMode 0 = .ok (.iload_n 1, 1) := sorry
theorem dX1_setMode_1 : decode cX1_setMode 1 = .ok (.i2l, 1) := sorry
theorem dX1_setMode_2 : decode cX1_setMode 2 = .ok (.lconst 0, 1) := sorry
theorem dX1_setMode_3 : decode cX1_setMode 3 = .ok (.ldc2_w 21, 3) := sorry
theorem dX1_setMode_6 : decode cX1_setMode 6 = .ok (.invokestatic 99, 3) := sorry
theorem dX1_setMode_9 : decode cX1_setMode 9 = .ok (.invokestatic 103, 3) := sorry
theorem dX1_setMode_12 : decode cX1_setMode 12 = .ok (.aload_n 0, 1) := sorry
theorem dX1_setMode_13 : decode cX1_setMode 13 = .ok (.new 24, 3) := sorry
theorem dX1_setMode_16 : decode cX1_setMode 16 = .ok (.dup, 1) := sorry
theorem dX1_setMode_17 : decode cX1_setMode 17 = .ok (.aload_n 0, 1) := sorry
theorem dX1_setMode_18 : decode cX1_setMode 18 = .ok (.getfield 51, 3) := sorry
theorem dX1_setMode_21 : decode cX1_setMode 21 = .ok (.invokespecial 297, 3) := sorry
theorem dX1_setMode_24 : decode cX1_setMode 24 = .ok (.invokevirtual 325, 3) := sorry
theorem dX1_setMode_27 : decode cX1_setMode 27 = .ok (.aload_n 0, 1) := sorry
theorem dX1_setMode_28 : decode cX1_setMode 28 = .ok (.getfield 51, 3) := sorry
theorem dX1_setMode_31 : decode cX1_setMode 31 = .ok (.getfield 158, 3) := sorry
theorem dX1_setMode_34 : decode cX1_setMode 34 = .ok (.istore_n 2, 1) := sorry
theorem dX1_setMode_35 : decode cX1_setMode 35 = .ok (.aload_n 0, 1) := sorry
theorem dX1_setMode_36 : decode cX1_setMode 36 = .ok (.getfield 51, 3) := sorry
theorem dX1_setMode_39 : decode cX1_setMode 39 = .ok (.iload_n 1, 1) := sorry
theorem dX1_setMode_40 : decode cX1_setMode 40 = .ok (.putfield 158, 3) := sorry
theorem dX1_setMode_43 : decode cX1_setMode 43 = .ok (.iload_n 2, 1) := sorry
theorem dX1_setMode_44 : decode cX1_setMode 44 = .ok (.ireturn, 1) := sorry
abbrev cX1_setThreshold : ByteArray := prog_1_method_55_code
def yX1_setThreshold : MethodName := ⟨RX1, "setThreshold", "(I)I"⟩
def dkwX1_setThreshold_1 : List UInt8 := [182, 1, 69, 42, 180, 0, 51, 180, 0, 161, 61, 42, 180, 0, 51, 27, 181, 0, 161, 28, 172]
abbrev dktX1_setThreshold_1 : List UInt8 := dkwX1_setThreshold_1 ++ []
def dkwX1_setThreshold_0 : List UInt8 := [27, 133, 10, 20, 1, 103, 184, 0, 99, 184, 0, 103, 42, 187, 0, 24, 89, 42, 180, 0, 51, 183, 1, 41]
abbrev dktX1_setThreshold_0 : List UInt8 := dkwX1_setThreshold_0 ++ dktX1_setThreshold_1
theorem dksX1_setThreshold_0 : cX1_setThreshold.data.toList.drop 0 = dktX1_setThreshold_0 := sorry
theorem dksX1_setThreshold_1 : cX1_setThreshold.data.toList.drop 24 = dktX1_setThreshold_1 := sorry
theorem dX1_setThreshold_0 : decode cX1_setThreshold 0 = .ok (.iload_n 1, 1) := sorry
theorem dX1_setThreshold_1 : decode cX1_setThreshold 1 = .ok (.i2l, 1) := sorry
theorem dX1_setThreshold_2 : decode cX1_setThreshold 2 = .ok (.lconst 1, 1) := sorry
theorem dX1_setThreshold_3 : decode cX1_setThreshold 3 = .ok (.ldc2_w 359, 3) := sorry
theorem dX1_setThreshold_6 : decode cX1_setThreshold 6 = .ok (.invokestatic 99, 3) := sorry
theorem dX1_setThreshold_9 : decode cX1_setThreshold 9 = .ok (.invokestatic 103, 3) := sorry
theorem dX1_setThreshold_12 : decode cX1_setThreshold 12 = .ok (.aload_n 0, 1) := sorry
theorem dX1_setThreshold_13 : decode cX1_setThreshold 13 = .ok (.new 24, 3) := sorry
theorem dX1_setThreshold_16 : decode cX1_setThreshold 16 = .ok (.dup, 1) := sorry
theorem dX1_setThreshold_17 : decode cX1_setThreshold 17 = .ok (.aload_n 0, 1) := sorry
theorem dX1_setThreshold_18 : decode cX1_setThreshold 18 = .ok (.getfield 51, 3) := sorry
theorem dX1_setThreshold_21 : decode cX1_setThreshold 21 = .ok (.invokespecial 297, 3) := sorry
theorem dX1_setThreshold_24 : decode cX1_setThreshold 24 = .ok (.invokevirtual 325, 3) := sorry
theorem dX1_setThreshold_27 : decode cX1_setThreshold 27 = .ok (.aload_n 0, 1) := sorry
theorem dX1_setThreshold_28 : decode cX1_setThreshold 28 = .ok (.getfield 51, 3) := sorry
theorem dX1_setThreshold_31 : decode cX1_setThreshold 31 = .ok (.getfield 161, 3) := sorry
theorem dX1_setThreshold_34 : decode cX1_setThreshold 34 = .ok (.istore_n 2, 1) := sorry
theorem dX1_setThreshold_35 : decode cX1_setThreshold 35 = .ok (.aload_n 0, 1) := sorry
theorem dX1_setThreshold_36 : decode cX1_setThreshold 36 = .ok (.getfield 51, 3) := sorry
theorem dX1_setThreshold_39 : decode cX1_setThreshold 39 = .ok (.iload_n 1, 1) := sorry
theorem dX1_setThreshold_40 : decode cX1_setThreshold 40 = .ok (.putfield 161, 3) := sorry
theorem dX1_setThreshold_43 : decode cX1_setThreshold 43 = .ok (.iload_n 2, 1) := sorry
theorem dX1_setThreshold_44 : decode cX1_setThreshold 44 = .ok (.ireturn, 1) := sorry
abbrev cX1_setTolerance : ByteArray := prog_1_method_56_code
def yX1_setTolerance : MethodName := ⟨RX1, "setTolerance", "(I)I"⟩
def dkwX1_setTolerance_1 : List UInt8 := [182, 1, 69, 42, 180, 0, 51, 180, 0, 164, 61, 42, 180, 0, 51, 27, 181, 0, 164, 28, 172]
abbrev dktX1_setTolerance_1 : List UInt8 := dkwX1_setTolerance_1 ++ []
def dkwX1_setTolerance_0 : List UInt8 := [27, 133, 10, 20, 1, 103, 184, 0, 99, 184, 0, 103, 42, 187, 0, 24, 89, 42, 180, 0, 51, 183, 1, 41]
abbrev dktX1_setTolerance_0 : List UInt8 := dkwX1_setTolerance_0 ++ dktX1_setTolerance_1
theorem dksX1_setTolerance_0 : cX1_setTolerance.data.toList.drop 0 = dktX1_setTolerance_0 := sorry
theorem dksX1_setTolerance_1 : cX1_setTolerance.data.toList.drop 24 = dktX1_setTolerance_1 := sorry
theorem dX1_setTolerance_0 : decode cX1_setTolerance 0 = .ok (.iload_n 1, 1) := sorry
theorem dX1_setTolerance_1 : decode cX1_setTolerance 1 = .ok (.i2l, 1) := sorry
theorem dX1_setTolerance_2 : decode cX1_setTolerance 2 = .ok (.lconst 1, 1) := sorry
theorem dX1_setTolerance_3 : decode cX1_setTolerance 3 = .ok (.ldc2_w 359, 3) := sorry
theorem dX1_setTolerance_6 : decode cX1_setTolerance 6 = .ok (.invokestatic 99, 3) := sorry
theorem dX1_setTolerance_9 : decode cX1_setTolerance 9 = .ok (.invokestatic 103, 3) := sorry
theorem dX1_setTolerance_12 : decode cX1_setTolerance 12 = .ok (.aload_n 0, 1) := sorry
theorem dX1_setTolerance_13 : decode cX1_setTolerance 13 = .ok (.new 24, 3) := sorry
theorem dX1_setTolerance_16 : decode cX1_setTolerance 16 = .ok (.dup, 1) := sorry
theorem dX1_setTolerance_17 : decode cX1_setTolerance 17 = .ok (.aload_n 0, 1) := sorry
theorem dX1_setTolerance_18 : decode cX1_setTolerance 18 = .ok (.getfield 51, 3) := sorry
theorem dX1_setTolerance_21 : decode cX1_setTolerance 21 = .ok (.invokespecial 297, 3) := sorry
theorem dX1_setTolerance_24 : decode cX1_setTolerance 24 = .ok (.invokevirtual 325, 3) := sorry
theorem dX1_setTolerance_27 : decode cX1_setTolerance 27 = .ok (.aload_n 0, 1) := sorry
theorem dX1_setTolerance_28 : decode cX1_setTolerance 28 = .ok (.getfield 51, 3) := sorry
theorem dX1_setTolerance_31 : decode cX1_setTolerance 31 = .ok (.getfield 164, 3) := sorry
theorem dX1_setTolerance_34 : decode cX1_setTolerance 34 = .ok (.istore_n 2, 1) := sorry
theorem dX1_setTolerance_35 : decode cX1_setTolerance 35 = .ok (.aload_n 0, 1) := sorry
theorem dX1_setTolerance_36 : decode cX1_setTolerance 36 = .ok (.getfield 51, 3) := sorry
theorem dX1_setTolerance_39 : decode cX1_setTolerance 39 = .ok (.iload_n 1, 1) := sorry
theorem dX1_setTolerance_40 : decode cX1_setTolerance 40 = .ok (.putfield 164, 3) := sorry
theorem dX1_setTolerance_43 : decode cX1_setTolerance 43 = .ok (.iload_n 2, 1) := sorry
theorem dX1_setTolerance_44 : decode cX1_setTolerance 44 = .ok (.ireturn, 1) := sorry
abbrev cX1_format : ByteArray := prog_1_method_61_code
def yX1_format : MethodName := ⟨RX1, "format", "(I)I"⟩
def dkwX1_format_6 : List UInt8 := [180, 0, 86, 182, 1, 135, 172]
abbrev dktX1_format_6 : List UInt8 := dkwX1_format_6 ++ []
def dkwX1_format_5 : List UInt8 := [180, 0, 51, 180, 0, 167, 27, 182, 0, 229, 182, 1, 117, 87, 42, 25, 6, 182, 1, 131, 181, 0, 86, 42]
abbrev dktX1_format_5 : List UInt8 := dkwX1_format_5 ++ dktX1_format_6
def dkwX1_format_4 : List UInt8 := [182, 1, 114, 87, 22, 7, 20, 1, 124, 109, 55, 7, 167, 255, 220, 25, 6, 19, 1, 126, 182, 1, 128, 42]
abbrev dktX1_format_4 : List UInt8 := dkwX1_format_4 ++ dktX1_format_5
def dkwX1_format_3 : List UInt8 := [9, 148, 158, 0, 35, 25, 6, 20, 1, 122, 22, 4, 22, 7, 109, 20, 1, 124, 113, 97, 136, 146]
abbrev dktX1_format_3 : List UInt8 := dkwX1_format_3 ++ dktX1_format_4
def dkwX1_format_2 : List UInt8 := [25, 6, 22, 4, 20, 1, 103, 109, 182, 1, 117, 16, 46, 182, 1, 114, 87, 20, 1, 120, 55, 7, 22, 7]
abbrev dktX1_format_2 : List UInt8 := dkwX1_format_2 ++ dktX1_format_3
def dkwX1_format_1 : List UInt8 := [187, 1, 111, 89, 183, 1, 113, 58, 6, 32, 9, 148, 156, 0, 11, 25, 6, 16, 45, 182, 1, 114, 87]
abbrev dktX1_format_1 : List UInt8 := dkwX1_format_1 ++ dktX1_format_2
def dkwX1_format_0 : List UInt8 := [42, 27, 182, 0, 208, 42, 180, 0, 51, 180, 0, 167, 27, 182, 0, 225, 65, 32, 184, 0, 242, 55, 4]
abbrev dktX1_format_0 : List UInt8 := dkwX1_format_0 ++ dktX1_format_1
theorem dksX1_format_0 : cX1_format.data.toList.drop 0 = dktX1_format_0 := sorry
theorem dksX1_format_1 : cX1_format.data.toList.drop 23 = dktX1_format_1 := sorry
theorem dksX1_format_2 : cX1_format.data.toList.drop 46 = dktX1_format_2 := sorry
theorem dksX1_format_3 : cX1_format.data.toList.drop 70 = dktX1_format_3 := sorry
theorem dksX1_format_4 : cX1_format.data.toList.drop 92 = dktX1_format_4 := sorry
theorem dksX1_format_5 : cX1_format.data.toList.drop 116 = dktX1_format_5 := sorry
theorem dksX1_format_6 : cX1_format.data.toList.drop 140 = dktX1_format_6 := sorry
theorem dX1_format_0 : decode cX1_format 0 = .ok (.aload_n 0, 1) := sorry
theorem dX1_format_1 : decode cX1_format 1 = .ok (.iload_n 1, 1) := sorry
theorem dX1_format_2 : decode cX1_format 2 = .ok (.invokevirtual 208, 3) := sorry
theorem dX1_format_5 : decode cX1_format 5 = .ok (.aload_n 0, 1) := sorry
theorem dX1_format_6 : decode cX1_format 6 = .ok (.getfield 51, 3) := sorry
theorem dX1_format_9 : decode cX1_format 9 = .ok (.getfield 167, 3) := sorry
theorem dX1_format_12 : decode cX1_format 12 = .ok (.iload_n 1, 1) := sorry
theorem dX1_format_13 : decode cX1_format 13 = .ok (.invokevirtual 225, 3) := sorry
theorem dX1_format_16 : decode cX1_format 16 = .ok (.lstore_n 2, 1) := sorry
theorem dX1_format_17 : decode cX1_format 17 = .ok (.lload_n 2, 1) := sorry
theorem dX1_format_18 : decode cX1_format 18 = .ok (.invokestatic 242, 3) := sorry
theorem dX1_format_21 : decode cX1_format 21 = .ok (.lstore 4, 2) := sorry
theorem dX1_format_23 : decode cX1_format 23 = .ok (.new 367, 3) := sorry
theorem dX1_format_26 : decode cX1_format 26 = .ok (.dup, 1) := sorry
theorem dX1_format_27 : decode cX1_format 27 = .ok (.invokespecial 369, 3) := sorry
theorem dX1_format_30 : decode cX1_format 30 = .ok (.astore 6, 2) := sorry
theorem dX1_format_32 : decode cX1_format 32 = .ok (.lload_n 2, 1) := sorry
theorem dX1_format_33 : decode cX1_format 33 = .ok (.lconst 0, 1) := sorry
theorem dX1_format_34 : decode cX1_format 34 = .ok (.lcmp, 1) := sorry
theorem dX1_format_35 : decode cX1_format 35 = .ok (.ifCond .ge 11, 3) := sorry
theorem dX1_format_38 : decode cX1_format 38 = .ok (.aload 6, 2) := sorry
theorem dX1_format_40 : decode cX1_format 40 = .ok (.bipush 45, 2) := sorry
theorem dX1_format_42 : decode cX1_format 42 = .ok (.invokevirtual 370, 3) := sorry
theorem dX1_format_45 : decode cX1_format 45 = .ok (.pop, 1) := sorry
theorem dX1_format_46 : decode cX1_format 46 = .ok (.aload 6, 2) := sorry
theorem dX1_format_48 : decode cX1_format 48 = .ok (.lload 4, 2) := sorry
theorem dX1_format_50 : decode cX1_format 50 = .ok (.ldc2_w 359, 3) := sorry
theorem dX1_format_53 : decode cX1_format 53 = .ok (.ldiv, 1) := sorry
theorem dX1_format_54 : decode cX1_format 54 = .ok (.invokevirtual 373, 3) := sorry
theorem dX1_format_57 : decode cX1_format 57 = .ok (.bipush 46, 2) := sorry
theorem dX1_format_59 : decode cX1_format 59 = .ok (.invokevirtual 370, 3) := sorry
theorem dX1_format_62 : decode cX1_format 62 = .ok (.pop, 1) := sorry
theorem dX1_format_63 : decode cX1_format 63 = .ok (.ldc2_w 376, 3) := sorry
theorem dX1_format_66 : decode cX1_format 66 = .ok (.lstore 7, 2) := sorry
theorem dX1_format_68 : decode cX1_format 68 = .ok (.lload 7, 2) := sorry
theorem dX1_format_70 : decode cX1_format 70 = .ok (.lconst 0, 1) := sorry
theorem dX1_format_71 : decode cX1_format 71 = .ok (.lcmp, 1) := sorry
theorem dX1_format_72 : decode cX1_format 72 = .ok (.ifCond .le 35, 3) := sorry
theorem dX1_format_75 : decode cX1_format 75 = .ok (.aload 6, 2) := sorry
theorem dX1_format_77 : decode cX1_format 77 = .ok (.ldc2_w 378, 3) := sorry
theorem dX1_format_80 : decode cX1_format 80 = .ok (.lload 4, 2) := sorry
theorem dX1_format_82 : decode cX1_format 82 = .ok (.lload 7, 2) := sorry
theorem dX1_format_84 : decode cX1_format 84 = .ok (.ldiv, 1) := sorry
theorem dX1_format_85 : decode cX1_format 85 = .ok (.ldc2_w 380, 3) := sorry
theorem dX1_format_88 : decode cX1_format 88 = .ok (.lrem, 1) := sorry
theorem dX1_format_89 : decode cX1_format 89 = .ok (.ladd, 1) := sorry
theorem dX1_format_90 : decode cX1_format 90 = .ok (.l2i, 1) := sorry
theorem dX1_format_91 : decode cX1_format 91 = .ok (.i2c, 1) := sorry
theorem dX1_format_92 : decode cX1_format 92 = .ok (.invokevirtual 370, 3) := sorry
theorem dX1_format_95 : decode cX1_format 95 = .ok (.pop, 1) := sorry
theorem dX1_format_96 : decode cX1_format 96 = .ok (.lload 7, 2) := sorry
theorem dX1_format_98 : decode cX1_format 98 = .ok (.ldc2_w 380, 3) := sorry
theorem dX1_format_101 : decode cX1_format 101 = .ok (.ldiv, 1) := sorry
theorem dX1_format_102 : decode cX1_format 102 = .ok (.lstore 7, 2) := sorry
theorem dX1_format_104 : decode cX1_format 104 = .ok (.goto (-36), 3) := sorry
theorem dX1_format_107 : decode cX1_format 107 = .ok (.aload 6, 2) := sorry
theorem dX1_format_109 : decode cX1_format 109 = .ok (.ldc_w 382, 3) := sorry
theorem dX1_format_112 : decode cX1_format 112 = .ok (.invokevirtual 384, 3) := sorry
theorem dX1_format_115 : decode cX1_format 115 = .ok (.aload_n 0, 1) := sorry
theorem dX1_format_116 : decode cX1_format 116 = .ok (.getfield 51, 3) := sorry
theorem dX1_format_119 : decode cX1_format 119 = .ok (.getfield 167, 3) := sorry
theorem dX1_format_122 : decode cX1_format 122 = .ok (.iload_n 1, 1) := sorry
theorem dX1_format_123 : decode cX1_format 123 = .ok (.invokevirtual 229, 3) := sorry
theorem dX1_format_126 : decode cX1_format 126 = .ok (.invokevirtual 373, 3) := sorry
theorem dX1_format_129 : decode cX1_format 129 = .ok (.pop, 1) := sorry
theorem dX1_format_130 : decode cX1_format 130 = .ok (.aload_n 0, 1) := sorry
theorem dX1_format_131 : decode cX1_format 131 = .ok (.aload 6, 2) := sorry
theorem dX1_format_133 : decode cX1_format 133 = .ok (.invokevirtual 387, 3) := sorry
theorem dX1_format_136 : decode cX1_format 136 = .ok (.putfield 86, 3) := sorry
theorem dX1_format_139 : decode cX1_format 139 = .ok (.aload_n 0, 1) := sorry
theorem dX1_format_140 : decode cX1_format 140 = .ok (.getfield 86, 3) := sorry
theorem dX1_format_143 : decode cX1_format 143 = .ok (.invokevirtual 391, 3) := sorry
theorem dX1_format_146 : decode cX1_format 146 = .ok (.ireturn, 1) := sorry
abbrev cX1_query : ByteArray := prog_1_method_63_code
def yX1_query : MethodName := ⟨RX1, "query", "(I)I"⟩
def dkwX1_query_4 : List UInt8 := [153, 0, 7, 2, 167, 0, 5, 21, 4, 172]
abbrev dktX1_query_4 : List UInt8 := dkwX1_query_4 ++ []
def dkwX1_query_3 : List UInt8 := [180, 1, 157, 153, 0, 6, 21, 5, 172, 132, 4, 1, 132, 5, 1, 167, 255, 215, 44, 180, 1, 157]
abbrev dktX1_query_3 : List UInt8 := dkwX1_query_3 ++ dktX1_query_4
def dkwX1_query_2 : List UInt8 := [182, 0, 206, 162, 0, 38, 45, 42, 180, 0, 51, 21, 5, 182, 1, 151, 154, 0, 6, 167, 0, 16, 44]
abbrev dktX1_query_2 : List UInt8 := dkwX1_query_2 ++ dktX1_query_3
def dkwX1_query_1 : List UInt8 := [167, 0, 15, 58, 4, 42, 25, 4, 19, 1, 150, 182, 0, 128, 172, 3, 54, 4, 3, 54, 5, 21, 5, 42]
abbrev dktX1_query_1 : List UInt8 := dkwX1_query_1 ++ dktX1_query_2
def dkwX1_query_0 : List UInt8 := [42, 27, 17, 0, 200, 182, 0, 115, 187, 1, 144, 89, 42, 27, 183, 1, 146, 77, 44, 182, 1, 147, 78]
abbrev dktX1_query_0 : List UInt8 := dkwX1_query_0 ++ dktX1_query_1
theorem dksX1_query_0 : cX1_query.data.toList.drop 0 = dktX1_query_0 := sorry
theorem dksX1_query_1 : cX1_query.data.toList.drop 23 = dktX1_query_1 := sorry
theorem dksX1_query_2 : cX1_query.data.toList.drop 47 = dktX1_query_2 := sorry
theorem dksX1_query_3 : cX1_query.data.toList.drop 70 = dktX1_query_3 := sorry
theorem dksX1_query_4 : cX1_query.data.toList.drop 92 = dktX1_query_4 := sorry
theorem dX1_query_0 : decode cX1_query 0 = .ok (.aload_n 0, 1) := sorry
theorem dX1_query_1 : decode cX1_query 1 = .ok (.iload_n 1, 1) := sorry
theorem dX1_query_2 : decode cX1_query 2 = .ok (.sipush 200, 3) := sorry
theorem dX1_query_5 : decode cX1_query 5 = .ok (.invokevirtual 115, 3) := sorry
theorem dX1_query_8 : decode cX1_query 8 = .ok (.new 400, 3) := sorry
theorem dX1_query_11 : decode cX1_query 11 = .ok (.dup, 1) := sorry
theorem dX1_query_12 : decode cX1_query 12 = .ok (.aload_n 0, 1) := sorry
theorem dX1_query_13 : decode cX1_query 13 = .ok (.iload_n 1, 1) := sorry
theorem dX1_query_14 : decode cX1_query 14 = .ok (.invokespecial 402, 3) := sorry
theorem dX1_query_17 : decode cX1_query 17 = .ok (.astore_n 2, 1) := sorry
theorem dX1_query_18 : decode cX1_query 18 = .ok (.aload_n 2, 1) := sorry
theorem dX1_query_19 : decode cX1_query 19 = .ok (.invokevirtual 403, 3) := sorry
theorem dX1_query_22 : decode cX1_query 22 = .ok (.astore_n 3, 1) := sorry
theorem dX1_query_23 : decode cX1_query 23 = .ok (.goto 15, 3) := sorry
theorem dX1_query_26 : decode cX1_query 26 = .ok (.astore 4, 2) := sorry
theorem dX1_query_28 : decode cX1_query 28 = .ok (.aload_n 0, 1) := sorry
theorem dX1_query_29 : decode cX1_query 29 = .ok (.aload 4, 2) := sorry
theorem dX1_query_31 : decode cX1_query 31 = .ok (.ldc_w 406, 3) := sorry
theorem dX1_query_34 : decode cX1_query 34 = .ok (.invokevirtual 128, 3) := sorry
theorem dX1_query_37 : decode cX1_query 37 = .ok (.ireturn, 1) := sorry
theorem dX1_query_38 : decode cX1_query 38 = .ok (.iconst 0, 1) := sorry
theorem dX1_query_39 : decode cX1_query 39 = .ok (.istore 4, 2) := sorry
theorem dX1_query_41 : decode cX1_query 41 = .ok (.iconst 0, 1) := sorry
theorem dX1_query_42 : decode cX1_query 42 = .ok (.istore 5, 2) := sorry
theorem dX1_query_44 : decode cX1_query 44 = .ok (.iload 5, 2) := sorry
theorem dX1_query_46 : decode cX1_query 46 = .ok (.aload_n 0, 1) := sorry
theorem dX1_query_47 : decode cX1_query 47 = .ok (.invokevirtual 206, 3) := sorry
theorem dX1_query_50 : decode cX1_query 50 = .ok (.if_icmp .ge 38, 3) := sorry
theorem dX1_query_53 : decode cX1_query 53 = .ok (.aload_n 3, 1) := sorry
theorem dX1_query_54 : decode cX1_query 54 = .ok (.aload_n 0, 1) := sorry
theorem dX1_query_55 : decode cX1_query 55 = .ok (.getfield 51, 3) := sorry
theorem dX1_query_58 : decode cX1_query 58 = .ok (.iload 5, 2) := sorry
theorem dX1_query_60 : decode cX1_query 60 = .ok (.invokevirtual 407, 3) := sorry
theorem dX1_query_63 : decode cX1_query 63 = .ok (.ifCond .ne 6, 3) := sorry
theorem dX1_query_66 : decode cX1_query 66 = .ok (.goto 16, 3) := sorry
theorem dX1_query_69 : decode cX1_query 69 = .ok (.aload_n 2, 1) := sorry
theorem dX1_query_70 : decode cX1_query 70 = .ok (.getfield 413, 3) := sorry
theorem dX1_query_73 : decode cX1_query 73 = .ok (.ifCond .eq 6, 3) := sorry
theorem dX1_query_76 : decode cX1_query 76 = .ok (.iload 5, 2) := sorry
theorem dX1_query_78 : decode cX1_query 78 = .ok (.ireturn, 1) := sorry
theorem dX1_query_79 : decode cX1_query 79 = .ok (.iinc 4 1, 3) := sorry
theorem dX1_query_82 : decode cX1_query 82 = .ok (.iinc 5 1, 3) := sorry
theorem dX1_query_85 : decode cX1_query 85 = .ok (.goto (-41), 3) := sorry
theorem dX1_query_88 : decode cX1_query 88 = .ok (.aload_n 2, 1) := sorry
theorem dX1_query_89 : decode cX1_query 89 = .ok (.getfield 413, 3) := sorry
theorem dX1_query_92 : decode cX1_query 92 = .ok (.ifCond .eq 7, 3) := sorry
theorem dX1_query_95 : decode cX1_query 95 = .ok (.iconst (-1), 1) := sorry
theorem dX1_query_96 : decode cX1_query 96 = .ok (.goto 5, 3) := sorry
theorem dX1_query_99 : decode cX1_query 99 = .ok (.iload 4, 2) := sorry
theorem dX1_query_101 : decode cX1_query 101 = .ok (.ireturn, 1) := sorry
abbrev cX1_propertyCode : ByteArray := prog_1_method_8_code
def yX1_propertyCode : MethodName := ⟨RX1, "propertyCode", "(Ljava/lang/String;)I"⟩
def dkwX1_propertyCode_0 : List UInt8 := [42, 180, 0, 29, 43, 185, 0, 35, 2, 0, 172]
abbrev dktX1_propertyCode_0 : List UInt8 := dkwX1_propertyCode_0 ++ []
theorem dksX1_propertyCode_0 : cX1_propertyCode.data.toList.drop 0 = dktX1_propertyCode_0 := sorry
theorem dX1_propertyCode_0 : decode cX1_propertyCode 0 = .ok (.aload_n 0, 1) := sorry
theorem dX1_propertyCode_1 : decode cX1_propertyCode 1 = .ok (.getfield 29, 3) := sorry
theorem dX1_propertyCode_4 : decode cX1_propertyCode 4 = .ok (.aload_n 1, 1) := sorry
theorem dX1_propertyCode_5 : decode cX1_propertyCode 5 = .ok (.invokeinterface 35 2, 5) := sorry
theorem dX1_propertyCode_10 : decode cX1_propertyCode 10 = .ok (.ireturn, 1) := sorry
theorem q130 : (Jvm.Cond.initialized "KrylovLaboratory") ∈ lw_all := sorry
theorem q188 : (Jvm.Cond.instantiable "KrylovLaboratory" (8 : Nat)) ∈ lw_all := sorry
theorem q190 : (Jvm.Cond.instanceMethod ({ cls := "KrylovLaboratory", name := "<init>", desc := "()V" } : Jvm.MethodName)) ∈ lw_all := sorry
theorem q191 : (Jvm.Cond.code ({ cls := "KrylovLaboratory", name := "<init>", desc := "()V" } : Jvm.MethodName) prog_1_method_9_code (1 : Nat) (Option.none : Option Jvm.ClassFile.FieldType)) ∈ lw_all := sorry
theorem q192 : (Jvm.Cond.methodLink "KrylovLaboratory" (41 : Nat) ({ cls := "java/lang/Object", name := "<init>", desc := "()V" } : Jvm.MethodName)) ∈ lw_all := sorry
theorem q195 : (Jvm.Cond.classLink "KrylovLaboratory" (24 : Nat) "KrylovLaboratory$State") ∈ lw_all := sorry
theorem q197 : (Jvm.Cond.methodLink "KrylovLaboratory" (44 : Nat) ({ cls := "KrylovLaboratory$State", name := "<init>", desc := "(I)V" } : Jvm.MethodName)) ∈ lw_all := sorry
theorem q254 : (Jvm.Cond.fieldLinkNest "KrylovLaboratory" (149 : Nat) "KrylovLaboratory$State" "matrix" "LKrylovLaboratory$Matrix;" "KrylovLaboratory") ∈ lw_tbl := sorry
theorem q258 : (Jvm.Cond.fieldLinkNest "KrylovLaboratory" (246 : Nat) "KrylovLaboratory$State" "locked" "Ljava/util/LinkedList;" "KrylovLaboratory") ∈ lw_tbl := sorry
theorem q260 : (Jvm.Cond.fieldLinkNest "KrylovLaboratory" (293 : Nat) "KrylovLaboratory$State" "totals" "[I" "KrylovLaboratory") ∈ lw_tbl := lw_at lw_m1 131 rfl
theorem q263 : (Jvm.Cond.fieldLinkNest "KrylovLaboratory" (158 : Nat) "KrylovLaboratory$State" "mode" "I" "KrylovLaboratory") ∈ lw_tbl := sorry
theorem q266 : (Jvm.Cond.fieldLinkNest "KrylovLaboratory" (161 : Nat) "KrylovLaboratory$State" "threshold" "I" "KrylovLaboratory") ∈ lw_tbl := sorry
theorem q269 : (Jvm.Cond.fieldLinkNest "KrylovLaboratory" (164 : Nat) "KrylovLaboratory$State" "tolerance" "I" "KrylovLaboratory") ∈ lw_tbl := sorry
theorem q272 : (Jvm.Cond.fieldLinkNest "KrylovLaboratory" (167 : Nat) "KrylovLaboratory$State" "space" "LKrylovLaboratory$Space;" "KrylovLaboratory") ∈ lw_tbl := sorry
theorem q290 : (Jvm.Cond.methodLink "KrylovLaboratory" (47 : Nat) ({ cls := "KrylovLaboratory", name := "begun", desc := "(LKrylovLaboratory$State;)LKrylovLaboratory$State;" } : Jvm.MethodName)) ∈ lw_all := sorry
theorem q291 : (Jvm.Cond.static ({ cls := "KrylovLaboratory", name := "begun", desc := "(LKrylovLaboratory$State;)LKrylovLaboratory$State;" } : Jvm.MethodName)) ∈ lw_all := sorry
theorem q292 : (Jvm.Cond.code ({ cls := "KrylovLaboratory", name := "begun", desc := "(LKrylovLaboratory$State;)LKrylovLaboratory$State;" } : Jvm.MethodName) prog_1_method_7_code (2 : Nat) (Option.some (Jvm.ClassFile.FieldType.object "KrylovLaboratory$State"))) ∈ lw_all := sorry
theorem q293 : (Jvm.Cond.methodLink "KrylovLaboratory" (23 : Nat) ({ cls := "KrylovLaboratory$State", name := "begins", desc := "()Z" } : Jvm.MethodName)) ∈ lw_all := sorry
theorem q315 : (Jvm.Cond.fieldLinkNest "KrylovLaboratory" (194 : Nat) "KrylovLaboratory$Vector" "row" "[J" "KrylovLaboratory") ∈ lw_tbl := lw_at lw_m1 186 rfl
theorem q556 : (Jvm.Cond.selects "KrylovLaboratory" ({ cls := "java/lang/Object", name := "getClass", desc := "()Ljava/lang/Class;" } : Jvm.MethodName) ({ cls := "java/lang/Object", name := "getClass", desc := "()Ljava/lang/Class;" } : Jvm.MethodName)) ∈ lw_all := sorry
theorem q945 : (Jvm.Cond.static ({ cls := "KrylovLaboratory", name := "root", desc := "(J)J" } : Jvm.MethodName)) ∈ lw_all := sorry
theorem q946 : (Jvm.Cond.code ({ cls := "KrylovLaboratory", name := "root", desc := "(J)J" } : Jvm.MethodName) prog_1_method_6_code (8 : Nat) (Option.some Jvm.ClassFile.FieldType.long)) ∈ lw_all := sorry
theorem q947 : (Jvm.Cond.constantLong "KrylovLaboratory" (19 : Nat) (3037000499 : Int64)) ∈ lw_all := sorry
theorem q948 : (Jvm.Cond.constantLong "KrylovLaboratory" (21 : Nat) (2 : Int64)) ∈ lw_all := sorry
theorem q1012 : (Jvm.Cond.fieldLinkNest "KrylovLaboratory" (180 : Nat) "KrylovLaboratory$Space" "basis" "Ljava/util/ArrayList;" "KrylovLaboratory") ∈ lw_tbl := sorry
theorem q1015 : (Jvm.Cond.fieldLinkNest "KrylovLaboratory" (211 : Nat) "KrylovLaboratory$Space" "alpha" "[J" "KrylovLaboratory") ∈ lw_tbl := lw_at lw_m4 166 rfl
theorem q1018 : (Jvm.Cond.fieldLinkNest "KrylovLaboratory" (214 : Nat) "KrylovLaboratory$Space" "beta" "[J" "KrylovLaboratory") ∈ lw_tbl := lw_at lw_m4 169 rfl
theorem q1021 : (Jvm.Cond.fieldLinkNest "KrylovLaboratory" (217 : Nat) "KrylovLaboratory$Space" "estimates" "[[J" "KrylovLaboratory") ∈ lw_tbl := lw_at lw_m4 172 rfl
theorem q1024 : (Jvm.Cond.fieldLinkNest "KrylovLaboratory" (171 : Nat) "KrylovLaboratory$Space" "steps" "I" "KrylovLaboratory") ∈ lw_tbl := sorry
theorem q1027 : (Jvm.Cond.fieldLinkNest "KrylovLaboratory" (176 : Nat) "KrylovLaboratory$Space" "isClosed" "Z" "KrylovLaboratory") ∈ lw_tbl := sorry
theorem q1041 : (Jvm.Cond.classLink "KrylovLaboratory" (55 : Nat) "java/util/ArrayDeque") ∈ lw_all := sorry
theorem q1043 : (Jvm.Cond.methodLink "KrylovLaboratory" (57 : Nat) ({ cls := "java/util/ArrayDeque", name := "<init>", desc := "()V" } : Jvm.MethodName)) ∈ lw_all := sorry
theorem q1058 : (Jvm.Cond.stringRef "KrylovLaboratory" (62 : Nat) "number") ∈ lw_tbl := sorry
theorem q1059 : (Jvm.Cond.stringRef "KrylovLaboratory" (64 : Nat) "size") ∈ lw_tbl := sorry
theorem q1060 : (Jvm.Cond.stringRef "KrylovLaboratory" (66 : Nat) "positive") ∈ lw_tbl := sorry
theorem q1061 : (Jvm.Cond.stringRef "KrylovLaboratory" (68 : Nat) "bound") ∈ lw_tbl := sorry
theorem q1062 : (Jvm.Cond.stringRef "KrylovLaboratory" (70 : Nat) "locked") ∈ lw_tbl := sorry
theorem q1063 : (Jvm.Cond.methodLink "KrylovLaboratory" (72 : Nat) ({ cls := "java/util/List", name := "of", desc := "(Ljava/lang/Object;Ljava/lang/Object;Ljava/lang/Object;Ljava/lang/Object;Ljava/lang/Object;)Ljava/util/List;" } : Jvm.MethodName)) ∈ lw_all := sorry
theorem q1117 : (Jvm.Cond.stringRef "KrylovLaboratory" (84 : Nat) "") ∈ lw_tbl := sorry
theorem q1118 : (Jvm.Cond.fieldLink "KrylovLaboratory" (51 : Nat) "KrylovLaboratory" "now" "LKrylovLaboratory$State;") ∈ lw_all := sorry
theorem q1119 : (Jvm.Cond.fieldLink "KrylovLaboratory" (135 : Nat) "KrylovLaboratory" "snapshot" "LKrylovLaboratory$State;") ∈ lw_all := sorry
theorem q1120 : (Jvm.Cond.fieldLink "KrylovLaboratory" (58 : Nat) "KrylovLaboratory" "history" "Ljava/util/ArrayDeque;") ∈ lw_all := sorry
theorem q1121 : (Jvm.Cond.fieldLink "KrylovLaboratory" (29 : Nat) "KrylovLaboratory" "names" "Ljava/util/List;") ∈ lw_all := sorry
theorem q1123 : (Jvm.Cond.fieldLink "KrylovLaboratory" (76 : Nat) "KrylovLaboratory" "buffer" "[B") ∈ lw_all := lw_g (lw_at lw_m5 34 rfl) rfl
theorem q1124 : (Jvm.Cond.fieldLink "KrylovLaboratory" (90 : Nat) "KrylovLaboratory" "buffered" "I") ∈ lw_all := sorry
theorem q1125 : (Jvm.Cond.fieldLink "KrylovLaboratory" (80 : Nat) "KrylovLaboratory" "errorAt" "I") ∈ lw_all := sorry
theorem q1126 : (Jvm.Cond.fieldLink "KrylovLaboratory" (86 : Nat) "KrylovLaboratory" "formatted" "Ljava/lang/String;") ∈ lw_all := sorry
theorem q1127 : (Jvm.Cond.lays "KrylovLaboratory" "KrylovLaboratory" "now" "LKrylovLaboratory$State;") ∈ lw_all := sorry
theorem q1128 : (Jvm.Cond.soleField "KrylovLaboratory" "now") ∈ lw_all := sorry
theorem q1129 : (Jvm.Cond.lays "KrylovLaboratory" "KrylovLaboratory" "snapshot" "LKrylovLaboratory$State;") ∈ lw_all := sorry
theorem q1130 : (Jvm.Cond.soleField "KrylovLaboratory" "snapshot") ∈ lw_all := sorry
theorem q1131 : (Jvm.Cond.laysFinal "KrylovLaboratory" "KrylovLaboratory" "history" "Ljava/util/ArrayDeque;") ∈ lw_all := sorry
theorem q1132 : (Jvm.Cond.soleField "KrylovLaboratory" "history") ∈ lw_all := sorry
theorem q1133 : (Jvm.Cond.laysFinal "KrylovLaboratory" "KrylovLaboratory" "names" "Ljava/util/List;") ∈ lw_all := sorry
theorem q1134 : (Jvm.Cond.soleField "KrylovLaboratory" "names") ∈ lw_all := sorry
theorem q1135 : (Jvm.Cond.laysFinal "KrylovLaboratory" "KrylovLaboratory" "buffer" "[B") ∈ lw_all := lw_g (lw_at lw_m5 46 rfl) rfl
theorem q1136 : (Jvm.Cond.soleField "KrylovLaboratory" "buffer") ∈ lw_all := sorry
theorem q1137 : (Jvm.Cond.lays "KrylovLaboratory" "KrylovLaboratory" "buffered" "I") ∈ lw_all := sorry
theorem q1138 : (Jvm.Cond.soleField "KrylovLaboratory" "buffered") ∈ lw_all := sorry
theorem q1139 : (Jvm.Cond.lays "KrylovLaboratory" "KrylovLaboratory" "errorAt" "I") ∈ lw_all := sorry
theorem q1140 : (Jvm.Cond.soleField "KrylovLaboratory" "errorAt") ∈ lw_all := sorry
theorem q1141 : (Jvm.Cond.lays "KrylovLaboratory" "KrylovLaboratory" "formatted" "Ljava/lang/String;") ∈ lw_all := sorry
theorem q1142 : (Jvm.Cond.soleField "KrylovLaboratory" "formatted") ∈ lw_all := sorry
theorem q1143 : (Jvm.Cond.superclass "KrylovLaboratory" "java/lang/Object") ∈ lw_all := sorry
theorem q1145 : (Jvm.Cond.instanceMethod ({ cls := "KrylovLaboratory", name := "feed", desc := "(IIIII)I" } : Jvm.MethodName)) ∈ lw_all := sorry
theorem q1146 : (Jvm.Cond.selects "KrylovLaboratory" ({ cls := "KrylovLaboratory", name := "feed", desc := "(IIIII)I" } : Jvm.MethodName) ({ cls := "KrylovLaboratory", name := "feed", desc := "(IIIII)I" } : Jvm.MethodName)) ∈ lw_all := sorry
theorem q1147 : (Jvm.Cond.code ({ cls := "KrylovLaboratory", name := "feed", desc := "(IIIII)I" } : Jvm.MethodName) prog_1_method_10_code (6 : Nat) (Option.some Jvm.ClassFile.FieldType.int)) ∈ lw_all := sorry
theorem q1148 : (Jvm.Cond.methodLink "KrylovLaboratory" (93 : Nat) ({ cls := "KrylovLaboratory", name := "append", desc := "(I)V" } : Jvm.MethodName)) ∈ lw_all := sorry
theorem q1149 : (Jvm.Cond.privateMethod ({ cls := "KrylovLaboratory", name := "append", desc := "(I)V" } : Jvm.MethodName)) ∈ lw_tbl := sorry
theorem q1150 : (Jvm.Cond.instanceMethod ({ cls := "KrylovLaboratory", name := "append", desc := "(I)V" } : Jvm.MethodName)) ∈ lw_all := sorry
theorem q1151 : (Jvm.Cond.code ({ cls := "KrylovLaboratory", name := "append", desc := "(I)V" } : Jvm.MethodName) prog_1_method_11_code (3 : Nat) (Option.none : Option Jvm.ClassFile.FieldType)) ∈ lw_all := sorry
theorem q1153 : (Jvm.Cond.instanceMethod ({ cls := "KrylovLaboratory", name := "errorPosition", desc := "()I" } : Jvm.MethodName)) ∈ lw_all := sorry
theorem q1154 : (Jvm.Cond.selects "KrylovLaboratory" ({ cls := "KrylovLaboratory", name := "errorPosition", desc := "()I" } : Jvm.MethodName) ({ cls := "KrylovLaboratory", name := "errorPosition", desc := "()I" } : Jvm.MethodName)) ∈ lw_all := sorry
theorem q1155 : (Jvm.Cond.code ({ cls := "KrylovLaboratory", name := "errorPosition", desc := "()I" } : Jvm.MethodName) prog_1_method_15_code (1 : Nat) (Option.some Jvm.ClassFile.FieldType.int)) ∈ lw_all := sorry
theorem q1157 : (Jvm.Cond.instanceMethod ({ cls := "KrylovLaboratory", name := "order", desc := "()I" } : Jvm.MethodName)) ∈ lw_all := sorry
theorem q1158 : (Jvm.Cond.selects "KrylovLaboratory" ({ cls := "KrylovLaboratory", name := "order", desc := "()I" } : Jvm.MethodName) ({ cls := "KrylovLaboratory", name := "order", desc := "()I" } : Jvm.MethodName)) ∈ lw_all := sorry
theorem q1159 : (Jvm.Cond.code ({ cls := "KrylovLaboratory", name := "order", desc := "()I" } : Jvm.MethodName) prog_1_method_16_code (1 : Nat) (Option.some Jvm.ClassFile.FieldType.int)) ∈ lw_all := sorry
theorem q1160 : (Jvm.Cond.methodLink "KrylovLaboratory" (138 : Nat) ({ cls := "KrylovLaboratory$State", name := "order", desc := "()I" } : Jvm.MethodName)) ∈ lw_all := sorry
theorem q1162 : (Jvm.Cond.instanceMethod ({ cls := "KrylovLaboratory", name := "steps", desc := "()I" } : Jvm.MethodName)) ∈ lw_all := sorry
theorem q1163 : (Jvm.Cond.selects "KrylovLaboratory" ({ cls := "KrylovLaboratory", name := "steps", desc := "()I" } : Jvm.MethodName) ({ cls := "KrylovLaboratory", name := "steps", desc := "()I" } : Jvm.MethodName)) ∈ lw_all := sorry
theorem q1164 : (Jvm.Cond.code ({ cls := "KrylovLaboratory", name := "steps", desc := "()I" } : Jvm.MethodName) prog_1_method_20_code (1 : Nat) (Option.some Jvm.ClassFile.FieldType.int)) ∈ lw_all := sorry
theorem q1166 : (Jvm.Cond.instanceMethod ({ cls := "KrylovLaboratory", name := "isClosed", desc := "()Z" } : Jvm.MethodName)) ∈ lw_all := sorry
theorem q1167 : (Jvm.Cond.selects "KrylovLaboratory" ({ cls := "KrylovLaboratory", name := "isClosed", desc := "()Z" } : Jvm.MethodName) ({ cls := "KrylovLaboratory", name := "isClosed", desc := "()Z" } : Jvm.MethodName)) ∈ lw_all := sorry
theorem q1168 : (Jvm.Cond.code ({ cls := "KrylovLaboratory", name := "isClosed", desc := "()Z" } : Jvm.MethodName) prog_1_method_21_code (1 : Nat) (Option.some Jvm.ClassFile.FieldType.boolean)) ∈ lw_all := sorry
theorem q1170 : (Jvm.Cond.instanceMethod ({ cls := "KrylovLaboratory", name := "loss", desc := "()I" } : Jvm.MethodName)) ∈ lw_all := sorry
theorem q1171 : (Jvm.Cond.selects "KrylovLaboratory" ({ cls := "KrylovLaboratory", name := "loss", desc := "()I" } : Jvm.MethodName) ({ cls := "KrylovLaboratory", name := "loss", desc := "()I" } : Jvm.MethodName)) ∈ lw_all := sorry
theorem q1172 : (Jvm.Cond.code ({ cls := "KrylovLaboratory", name := "loss", desc := "()I" } : Jvm.MethodName) prog_1_method_29_code (1 : Nat) (Option.some Jvm.ClassFile.FieldType.int)) ∈ lw_all := sorry
theorem q1173 : (Jvm.Cond.methodLink "KrylovLaboratory" (221 : Nat) ({ cls := "KrylovLaboratory$Space", name := "loss", desc := "()J" } : Jvm.MethodName)) ∈ lw_all := sorry
theorem q1188 : (Jvm.Cond.instanceMethod ({ cls := "KrylovLaboratory", name := "countBelow", desc := "(I)I" } : Jvm.MethodName)) ∈ lw_all := sorry
theorem q1189 : (Jvm.Cond.selects "KrylovLaboratory" ({ cls := "KrylovLaboratory", name := "countBelow", desc := "(I)I" } : Jvm.MethodName) ({ cls := "KrylovLaboratory", name := "countBelow", desc := "(I)I" } : Jvm.MethodName)) ∈ lw_all := sorry
theorem q1190 : (Jvm.Cond.code ({ cls := "KrylovLaboratory", name := "countBelow", desc := "(I)I" } : Jvm.MethodName) prog_1_method_34_code (2 : Nat) (Option.some Jvm.ClassFile.FieldType.int)) ∈ lw_all := sorry
theorem q1191 : (Jvm.Cond.methodLink "KrylovLaboratory" (238 : Nat) ({ cls := "KrylovLaboratory$Space", name := "countBelow", desc := "(J)I" } : Jvm.MethodName)) ∈ lw_all := sorry
theorem q1198 : (Jvm.Cond.static ({ cls := "KrylovLaboratory", name := "asInt", desc := "(Z)I" } : Jvm.MethodName)) ∈ lw_all := sorry
theorem q1199 : (Jvm.Cond.code ({ cls := "KrylovLaboratory", name := "asInt", desc := "(Z)I" } : Jvm.MethodName) prog_1_method_2_code (1 : Nat) (Option.some Jvm.ClassFile.FieldType.int)) ∈ lw_all := sorry
theorem q1201 : (Jvm.Cond.instanceMethod ({ cls := "KrylovLaboratory", name := "nearest", desc := "(I)I" } : Jvm.MethodName)) ∈ lw_all := sorry
theorem q1202 : (Jvm.Cond.selects "KrylovLaboratory" ({ cls := "KrylovLaboratory", name := "nearest", desc := "(I)I" } : Jvm.MethodName) ({ cls := "KrylovLaboratory", name := "nearest", desc := "(I)I" } : Jvm.MethodName)) ∈ lw_all := sorry
theorem q1203 : (Jvm.Cond.code ({ cls := "KrylovLaboratory", name := "nearest", desc := "(I)I" } : Jvm.MethodName) prog_1_method_35_code (8 : Nat) (Option.some Jvm.ClassFile.FieldType.int)) ∈ lw_all := sorry
theorem q1204 : (Jvm.Cond.methodLink "KrylovLaboratory" (206 : Nat) ({ cls := "KrylovLaboratory", name := "steps", desc := "()I" } : Jvm.MethodName)) ∈ lw_all := sorry
theorem q1205 : (Jvm.Cond.methodLink "KrylovLaboratory" (225 : Nat) ({ cls := "KrylovLaboratory$Space", name := "value", desc := "(I)J" } : Jvm.MethodName)) ∈ lw_all := sorry
theorem q1213 : (Jvm.Cond.methodLink "KrylovLaboratory" (242 : Nat) ({ cls := "java/lang/Math", name := "abs", desc := "(J)J" } : Jvm.MethodName)) ∈ lw_all := sorry
theorem q1215 : (Jvm.Cond.instanceMethod ({ cls := "KrylovLaboratory", name := "lockedCount", desc := "()I" } : Jvm.MethodName)) ∈ lw_all := sorry
theorem q1216 : (Jvm.Cond.selects "KrylovLaboratory" ({ cls := "KrylovLaboratory", name := "lockedCount", desc := "()I" } : Jvm.MethodName) ({ cls := "KrylovLaboratory", name := "lockedCount", desc := "()I" } : Jvm.MethodName)) ∈ lw_all := sorry
theorem q1217 : (Jvm.Cond.code ({ cls := "KrylovLaboratory", name := "lockedCount", desc := "()I" } : Jvm.MethodName) prog_1_method_36_code (1 : Nat) (Option.some Jvm.ClassFile.FieldType.int)) ∈ lw_all := sorry
theorem q1218 : (Jvm.Cond.methodLink "KrylovLaboratory" (249 : Nat) ({ cls := "java/util/LinkedList", name := "size", desc := "()I" } : Jvm.MethodName)) ∈ lw_all := sorry
theorem q1220 : (Jvm.Cond.instanceMethod ({ cls := "KrylovLaboratory", name := "total", desc := "(I)I" } : Jvm.MethodName)) ∈ lw_all := sorry
theorem q1221 : (Jvm.Cond.selects "KrylovLaboratory" ({ cls := "KrylovLaboratory", name := "total", desc := "(I)I" } : Jvm.MethodName) ({ cls := "KrylovLaboratory", name := "total", desc := "(I)I" } : Jvm.MethodName)) ∈ lw_all := sorry
theorem q1222 : (Jvm.Cond.code ({ cls := "KrylovLaboratory", name := "total", desc := "(I)I" } : Jvm.MethodName) prog_1_method_41_code (2 : Nat) (Option.some Jvm.ClassFile.FieldType.int)) ∈ lw_all := sorry
theorem q1223 : (Jvm.Cond.constantLong "KrylovLaboratory" (291 : Nat) (3 : Int64)) ∈ lw_all := sorry
theorem q1224 : (Jvm.Cond.methodLink "KrylovLaboratory" (99 : Nat) ({ cls := "KrylovLaboratory", name := "isIn", desc := "(JJJ)Z" } : Jvm.MethodName)) ∈ lw_all := sorry
theorem q1225 : (Jvm.Cond.static ({ cls := "KrylovLaboratory", name := "isIn", desc := "(JJJ)Z" } : Jvm.MethodName)) ∈ lw_all := sorry
theorem q1226 : (Jvm.Cond.code ({ cls := "KrylovLaboratory", name := "isIn", desc := "(JJJ)Z" } : Jvm.MethodName) prog_1_method_1_code (6 : Nat) (Option.some Jvm.ClassFile.FieldType.boolean)) ∈ lw_all := sorry
theorem q1228 : (Jvm.Cond.instanceMethod ({ cls := "KrylovLaboratory", name := "convergesIn", desc := "()I" } : Jvm.MethodName)) ∈ lw_all := sorry
theorem q1229 : (Jvm.Cond.selects "KrylovLaboratory" ({ cls := "KrylovLaboratory", name := "convergesIn", desc := "()I" } : Jvm.MethodName) ({ cls := "KrylovLaboratory", name := "convergesIn", desc := "()I" } : Jvm.MethodName)) ∈ lw_all := sorry
theorem q1230 : (Jvm.Cond.code ({ cls := "KrylovLaboratory", name := "convergesIn", desc := "()I" } : Jvm.MethodName) prog_1_method_43_code (3 : Nat) (Option.some Jvm.ClassFile.FieldType.int)) ∈ lw_all := sorry
theorem q1231 : (Jvm.Cond.methodLink "KrylovLaboratory" (297 : Nat) ({ cls := "KrylovLaboratory$State", name := "<init>", desc := "(LKrylovLaboratory$State;)V" } : Jvm.MethodName)) ∈ lw_all := sorry
theorem q1276 : (Jvm.Cond.methodLink "KrylovLaboratory" (300 : Nat) ({ cls := "KrylovLaboratory", name := "hasConverged", desc := "(LKrylovLaboratory$State;)Z" } : Jvm.MethodName)) ∈ lw_all := sorry
theorem q1277 : (Jvm.Cond.static ({ cls := "KrylovLaboratory", name := "hasConverged", desc := "(LKrylovLaboratory$State;)Z" } : Jvm.MethodName)) ∈ lw_all := sorry
theorem q1278 : (Jvm.Cond.code ({ cls := "KrylovLaboratory", name := "hasConverged", desc := "(LKrylovLaboratory$State;)Z" } : Jvm.MethodName) prog_1_method_42_code (2 : Nat) (Option.some Jvm.ClassFile.FieldType.boolean)) ∈ lw_all := sorry
theorem q1279 : (Jvm.Cond.methodLink "KrylovLaboratory" (229 : Nat) ({ cls := "KrylovLaboratory$Space", name := "bound", desc := "(I)J" } : Jvm.MethodName)) ∈ lw_all := sorry
theorem q1290 : (Jvm.Cond.static ({ cls := "KrylovLaboratory", name := "bounded", desc := "(JJ)J" } : Jvm.MethodName)) ∈ lw_all := sorry
theorem q1291 : (Jvm.Cond.code ({ cls := "KrylovLaboratory", name := "bounded", desc := "(JJ)J" } : Jvm.MethodName) prog_1_method_3_code (4 : Nat) (Option.some Jvm.ClassFile.FieldType.long)) ∈ lw_all := sorry
theorem q1292 : (Jvm.Cond.methodLink "KrylovLaboratory" (1 : Nat) ({ cls := "java/lang/Math", name := "min", desc := "(JJ)J" } : Jvm.MethodName)) ∈ lw_all := sorry
theorem q1295 : (Jvm.Cond.methodLink "KrylovLaboratory" (7 : Nat) ({ cls := "java/lang/Math", name := "max", desc := "(JJ)J" } : Jvm.MethodName)) ∈ lw_all := sorry
theorem q1298 : (Jvm.Cond.methodLink "KrylovLaboratory" (304 : Nat) ({ cls := "KrylovLaboratory$State", name := "canStep", desc := "()Z" } : Jvm.MethodName)) ∈ lw_all := sorry
theorem q1302 : (Jvm.Cond.methodLink "KrylovLaboratory" (307 : Nat) ({ cls := "KrylovLaboratory$State", name := "step", desc := "()V" } : Jvm.MethodName)) ∈ lw_all := sorry
theorem q1430 : (Jvm.Cond.instanceMethod ({ cls := "KrylovLaboratory", name := "traceGap", desc := "()J" } : Jvm.MethodName)) ∈ lw_all := sorry
theorem q1431 : (Jvm.Cond.selects "KrylovLaboratory" ({ cls := "KrylovLaboratory", name := "traceGap", desc := "()J" } : Jvm.MethodName) ({ cls := "KrylovLaboratory", name := "traceGap", desc := "()J" } : Jvm.MethodName)) ∈ lw_all := sorry
theorem q1432 : (Jvm.Cond.code ({ cls := "KrylovLaboratory", name := "traceGap", desc := "()J" } : Jvm.MethodName) prog_1_method_44_code (5 : Nat) (Option.some Jvm.ClassFile.FieldType.long)) ∈ lw_all := sorry
theorem q1433 : (Jvm.Cond.constantLong "KrylovLaboratory" (310 : Nat) (-1000000 : Int64)) ∈ lw_all := sorry
theorem q1434 : (Jvm.Cond.methodLink "KrylovLaboratory" (312 : Nat) ({ cls := "KrylovLaboratory$Matrix", name := "trace", desc := "()J" } : Jvm.MethodName)) ∈ lw_all := sorry
theorem q1438 : (Jvm.Cond.methodLink "KrylovLaboratory" (274 : Nat) ({ cls := "java/util/LinkedList", name := "iterator", desc := "()Ljava/util/Iterator;" } : Jvm.MethodName)) ∈ lw_all := sorry
theorem q1439 : (Jvm.Cond.interfaceEntry "KrylovLaboratory" (278 : Nat)) ∈ lw_tbl := sorry
theorem q1440 : (Jvm.Cond.methodLink "KrylovLaboratory" (278 : Nat) ({ cls := "java/util/Iterator", name := "hasNext", desc := "()Z" } : Jvm.MethodName)) ∈ lw_all := sorry
theorem q1441 : (Jvm.Cond.interfaceEntry "KrylovLaboratory" (283 : Nat)) ∈ lw_tbl := sorry
theorem q1442 : (Jvm.Cond.methodLink "KrylovLaboratory" (283 : Nat) ({ cls := "java/util/Iterator", name := "next", desc := "()Ljava/lang/Object;" } : Jvm.MethodName)) ∈ lw_all := sorry
theorem q1443 : (Jvm.Cond.classLink "KrylovLaboratory" (256 : Nat) "KrylovLaboratory$Locked") ∈ lw_all := sorry
theorem q1445 : (Jvm.Cond.instanceMethod ({ cls := "KrylovLaboratory", name := "meanBound", desc := "()D" } : Jvm.MethodName)) ∈ lw_all := sorry
theorem q1446 : (Jvm.Cond.selects "KrylovLaboratory" ({ cls := "KrylovLaboratory", name := "meanBound", desc := "()D" } : Jvm.MethodName) ({ cls := "KrylovLaboratory", name := "meanBound", desc := "()D" } : Jvm.MethodName)) ∈ lw_all := sorry
theorem q1447 : (Jvm.Cond.code ({ cls := "KrylovLaboratory", name := "meanBound", desc := "()D" } : Jvm.MethodName) prog_1_method_45_code (4 : Nat) (Option.some Jvm.ClassFile.FieldType.double)) ∈ lw_all := sorry
theorem q1449 : (Jvm.Cond.instanceMethod ({ cls := "KrylovLaboratory", name := "undoCount", desc := "()I" } : Jvm.MethodName)) ∈ lw_all := sorry
theorem q1450 : (Jvm.Cond.selects "KrylovLaboratory" ({ cls := "KrylovLaboratory", name := "undoCount", desc := "()I" } : Jvm.MethodName) ({ cls := "KrylovLaboratory", name := "undoCount", desc := "()I" } : Jvm.MethodName)) ∈ lw_all := sorry
theorem q1451 : (Jvm.Cond.code ({ cls := "KrylovLaboratory", name := "undoCount", desc := "()I" } : Jvm.MethodName) prog_1_method_57_code (1 : Nat) (Option.some Jvm.ClassFile.FieldType.int)) ∈ lw_all := sorry
theorem q1452 : (Jvm.Cond.methodLink "KrylovLaboratory" (315 : Nat) ({ cls := "java/util/ArrayDeque", name := "size", desc := "()I" } : Jvm.MethodName)) ∈ lw_all := sorry
theorem q1460 : (Jvm.Cond.instanceMethod ({ cls := "KrylovLaboratory", name := "undo", desc := "()I" } : Jvm.MethodName)) ∈ lw_all := sorry
theorem q1461 : (Jvm.Cond.selects "KrylovLaboratory" ({ cls := "KrylovLaboratory", name := "undo", desc := "()I" } : Jvm.MethodName) ({ cls := "KrylovLaboratory", name := "undo", desc := "()I" } : Jvm.MethodName)) ∈ lw_all := sorry
theorem q1462 : (Jvm.Cond.code ({ cls := "KrylovLaboratory", name := "undo", desc := "()I" } : Jvm.MethodName) prog_1_method_58_code (1 : Nat) (Option.some Jvm.ClassFile.FieldType.int)) ∈ lw_all := sorry
theorem q1463 : (Jvm.Cond.methodLink "KrylovLaboratory" (361 : Nat) ({ cls := "java/util/ArrayDeque", name := "isEmpty", desc := "()Z" } : Jvm.MethodName)) ∈ lw_all := sorry
theorem q1467 : (Jvm.Cond.methodLink "KrylovLaboratory" (364 : Nat) ({ cls := "java/util/ArrayDeque", name := "removeLast", desc := "()Ljava/lang/Object;" } : Jvm.MethodName)) ∈ lw_all := sorry
theorem q1484 : (Jvm.Cond.instanceMethod ({ cls := "KrylovLaboratory", name := "saveSnapshot", desc := "()V" } : Jvm.MethodName)) ∈ lw_all := sorry
theorem q1485 : (Jvm.Cond.selects "KrylovLaboratory" ({ cls := "KrylovLaboratory", name := "saveSnapshot", desc := "()V" } : Jvm.MethodName) ({ cls := "KrylovLaboratory", name := "saveSnapshot", desc := "()V" } : Jvm.MethodName)) ∈ lw_all := sorry
theorem q1486 : (Jvm.Cond.code ({ cls := "KrylovLaboratory", name := "saveSnapshot", desc := "()V" } : Jvm.MethodName) prog_1_method_59_code (1 : Nat) (Option.none : Option Jvm.ClassFile.FieldType)) ∈ lw_all := sorry
theorem q1488 : (Jvm.Cond.instanceMethod ({ cls := "KrylovLaboratory", name := "restoreSnapshot", desc := "()Z" } : Jvm.MethodName)) ∈ lw_all := sorry
theorem q1489 : (Jvm.Cond.selects "KrylovLaboratory" ({ cls := "KrylovLaboratory", name := "restoreSnapshot", desc := "()Z" } : Jvm.MethodName) ({ cls := "KrylovLaboratory", name := "restoreSnapshot", desc := "()Z" } : Jvm.MethodName)) ∈ lw_all := sorry
theorem q1490 : (Jvm.Cond.code ({ cls := "KrylovLaboratory", name := "restoreSnapshot", desc := "()Z" } : Jvm.MethodName) prog_1_method_60_code (1 : Nat) (Option.some Jvm.ClassFile.FieldType.boolean)) ∈ lw_all := sorry
theorem q1491 : (Jvm.Cond.methodLink "KrylovLaboratory" (132 : Nat) ({ cls := "java/util/ArrayDeque", name := "clear", desc := "()V" } : Jvm.MethodName)) ∈ lw_all := sorry
theorem q1499 : (Jvm.Cond.instanceMethod ({ cls := "KrylovLaboratory", name := "formattedByte", desc := "(I)I" } : Jvm.MethodName)) ∈ lw_all := sorry
theorem q1500 : (Jvm.Cond.selects "KrylovLaboratory" ({ cls := "KrylovLaboratory", name := "formattedByte", desc := "(I)I" } : Jvm.MethodName) ({ cls := "KrylovLaboratory", name := "formattedByte", desc := "(I)I" } : Jvm.MethodName)) ∈ lw_all := sorry
theorem q1501 : (Jvm.Cond.code ({ cls := "KrylovLaboratory", name := "formattedByte", desc := "(I)I" } : Jvm.MethodName) prog_1_method_62_code (2 : Nat) (Option.some Jvm.ClassFile.FieldType.int)) ∈ lw_all := sorry
theorem q1502 : (Jvm.Cond.methodLink "KrylovLaboratory" (391 : Nat) ({ cls := "java/lang/String", name := "length", desc := "()I" } : Jvm.MethodName)) ∈ lw_all := sorry
theorem q1503 : (Jvm.Cond.methodLink "KrylovLaboratory" (396 : Nat) ({ cls := "java/lang/String", name := "charAt", desc := "(I)C" } : Jvm.MethodName)) ∈ lw_all := sorry
theorem q1530 : (Jvm.Cond.instanceMethod ({ cls := "KrylovLaboratory", name := "load", desc := "(I)I" } : Jvm.MethodName)) ∈ lw_all := sorry
theorem q1531 : (Jvm.Cond.selects "KrylovLaboratory" ({ cls := "KrylovLaboratory", name := "load", desc := "(I)I" } : Jvm.MethodName) ({ cls := "KrylovLaboratory", name := "load", desc := "(I)I" } : Jvm.MethodName)) ∈ lw_all := sorry
theorem q1532 : (Jvm.Cond.codeWith ({ cls := "KrylovLaboratory", name := "load", desc := "(I)I" } : Jvm.MethodName) prog_1_method_14_code (3 : Nat) (Option.some Jvm.ClassFile.FieldType.int) [((8 : Nat), (24 : Nat), (27 : Nat), (108 : Nat))]) ∈ lw_all := sorry
theorem q1533 : (Jvm.Cond.classLink "KrylovLaboratory" (108 : Nat) "KrylovLaboratory$TextError") ∈ lw_all := sorry
theorem q1534 : (Jvm.Cond.methodLink "KrylovLaboratory" (115 : Nat) ({ cls := "KrylovLaboratory", name := "startReading", desc := "(II)V" } : Jvm.MethodName)) ∈ lw_all := sorry
theorem q1535 : (Jvm.Cond.privateMethod ({ cls := "KrylovLaboratory", name := "startReading", desc := "(II)V" } : Jvm.MethodName)) ∈ lw_tbl := sorry
theorem q1536 : (Jvm.Cond.instanceMethod ({ cls := "KrylovLaboratory", name := "startReading", desc := "(II)V" } : Jvm.MethodName)) ∈ lw_all := sorry
theorem q1537 : (Jvm.Cond.code ({ cls := "KrylovLaboratory", name := "startReading", desc := "(II)V" } : Jvm.MethodName) prog_1_method_12_code (3 : Nat) (Option.none : Option Jvm.ClassFile.FieldType)) ∈ lw_all := sorry
theorem q1538 : (Jvm.Cond.methodLink "KrylovLaboratory" (96 : Nat) ({ cls := "java/lang/Math", name := "min", desc := "(II)I" } : Jvm.MethodName)) ∈ lw_all := sorry
theorem q1539 : (Jvm.Cond.methodLink "KrylovLaboratory" (103 : Nat) ({ cls := "KrylovLaboratory", name := "requireArgument", desc := "(Z)V" } : Jvm.MethodName)) ∈ lw_all := sorry
theorem q1540 : (Jvm.Cond.static ({ cls := "KrylovLaboratory", name := "requireArgument", desc := "(Z)V" } : Jvm.MethodName)) ∈ lw_all := sorry
theorem q1541 : (Jvm.Cond.code ({ cls := "KrylovLaboratory", name := "requireArgument", desc := "(Z)V" } : Jvm.MethodName) prog_1_method_4_code (1 : Nat) (Option.none : Option Jvm.ClassFile.FieldType)) ∈ lw_all := sorry
theorem q1542 : (Jvm.Cond.classLink "KrylovLaboratory" (10 : Nat) "java/lang/IllegalArgumentException") ∈ lw_all := sorry
theorem q1543 : (Jvm.Cond.methodLink "KrylovLaboratory" (12 : Nat) ({ cls := "java/lang/IllegalArgumentException", name := "<init>", desc := "()V" } : Jvm.MethodName)) ∈ lw_all := sorry
theorem q1547 : (Jvm.Cond.classLink "KrylovLaboratory" (119 : Nat) "KrylovLaboratory$LaboratoryParser") ∈ lw_all := sorry
theorem q1549 : (Jvm.Cond.methodLink "KrylovLaboratory" (121 : Nat) ({ cls := "KrylovLaboratory$LaboratoryParser", name := "<init>", desc := "(LKrylovLaboratory;I)V" } : Jvm.MethodName)) ∈ lw_all := sorry
theorem q1655 : (Jvm.Cond.methodLink "KrylovLaboratory" (124 : Nat) ({ cls := "KrylovLaboratory$LaboratoryParser", name := "parse", desc := "()LKrylovLaboratory$State;" } : Jvm.MethodName)) ∈ lw_all := sorry
theorem q1707 : (Jvm.Cond.fieldLinkNest "KrylovLaboratory" (112 : Nat) "KrylovLaboratory$TextError" "code" "I" "KrylovLaboratory") ∈ lw_tbl := sorry
theorem q1709 : (Jvm.Cond.fieldLinkNest "KrylovLaboratory" (107 : Nat) "KrylovLaboratory$TextError" "position" "I" "KrylovLaboratory") ∈ lw_tbl := sorry
theorem q1839 : (Jvm.Cond.methodLink "KrylovLaboratory" (128 : Nat) ({ cls := "KrylovLaboratory", name := "failed", desc := "(LKrylovLaboratory$TextError;I)I" } : Jvm.MethodName)) ∈ lw_all := sorry
theorem q1840 : (Jvm.Cond.privateMethod ({ cls := "KrylovLaboratory", name := "failed", desc := "(LKrylovLaboratory$TextError;I)I" } : Jvm.MethodName)) ∈ lw_tbl := sorry
theorem q1841 : (Jvm.Cond.instanceMethod ({ cls := "KrylovLaboratory", name := "failed", desc := "(LKrylovLaboratory$TextError;I)I" } : Jvm.MethodName)) ∈ lw_all := sorry
theorem q1842 : (Jvm.Cond.code ({ cls := "KrylovLaboratory", name := "failed", desc := "(LKrylovLaboratory$TextError;I)I" } : Jvm.MethodName) prog_1_method_13_code (3 : Nat) (Option.some Jvm.ClassFile.FieldType.int)) ∈ lw_all := sorry
theorem q1848 : (Jvm.Cond.instanceMethod ({ cls := "KrylovLaboratory", name := "entry", desc := "(II)I" } : Jvm.MethodName)) ∈ lw_all := sorry
theorem q1849 : (Jvm.Cond.selects "KrylovLaboratory" ({ cls := "KrylovLaboratory", name := "entry", desc := "(II)I" } : Jvm.MethodName) ({ cls := "KrylovLaboratory", name := "entry", desc := "(II)I" } : Jvm.MethodName)) ∈ lw_all := sorry
theorem q1850 : (Jvm.Cond.code ({ cls := "KrylovLaboratory", name := "entry", desc := "(II)I" } : Jvm.MethodName) prog_1_method_18_code (3 : Nat) (Option.some Jvm.ClassFile.FieldType.int)) ∈ lw_all := sorry
theorem q1851 : (Jvm.Cond.methodLink "KrylovLaboratory" (142 : Nat) ({ cls := "KrylovLaboratory", name := "isIndex", desc := "(I)Z" } : Jvm.MethodName)) ∈ lw_all := sorry
theorem q1852 : (Jvm.Cond.privateMethod ({ cls := "KrylovLaboratory", name := "isIndex", desc := "(I)Z" } : Jvm.MethodName)) ∈ lw_tbl := sorry
theorem q1853 : (Jvm.Cond.instanceMethod ({ cls := "KrylovLaboratory", name := "isIndex", desc := "(I)Z" } : Jvm.MethodName)) ∈ lw_all := sorry
theorem q1854 : (Jvm.Cond.code ({ cls := "KrylovLaboratory", name := "isIndex", desc := "(I)Z" } : Jvm.MethodName) prog_1_method_17_code (2 : Nat) (Option.some Jvm.ClassFile.FieldType.boolean)) ∈ lw_all := sorry
theorem q1855 : (Jvm.Cond.methodLink "KrylovLaboratory" (146 : Nat) ({ cls := "KrylovLaboratory", name := "requireElement", desc := "(Z)V" } : Jvm.MethodName)) ∈ lw_all := sorry
theorem q1856 : (Jvm.Cond.static ({ cls := "KrylovLaboratory", name := "requireElement", desc := "(Z)V" } : Jvm.MethodName)) ∈ lw_all := sorry
theorem q1857 : (Jvm.Cond.code ({ cls := "KrylovLaboratory", name := "requireElement", desc := "(Z)V" } : Jvm.MethodName) prog_1_method_5_code (1 : Nat) (Option.none : Option Jvm.ClassFile.FieldType)) ∈ lw_all := sorry
theorem q1858 : (Jvm.Cond.classLink "KrylovLaboratory" (16 : Nat) "java/util/NoSuchElementException") ∈ lw_all := sorry
theorem q1859 : (Jvm.Cond.methodLink "KrylovLaboratory" (18 : Nat) ({ cls := "java/util/NoSuchElementException", name := "<init>", desc := "()V" } : Jvm.MethodName)) ∈ lw_all := sorry
theorem q1860 : (Jvm.Cond.methodLink "KrylovLaboratory" (153 : Nat) ({ cls := "KrylovLaboratory$Matrix", name := "at", desc := "(II)I" } : Jvm.MethodName)) ∈ lw_all := sorry
theorem q1865 : (Jvm.Cond.instanceMethod ({ cls := "KrylovLaboratory", name := "setting", desc := "(I)I" } : Jvm.MethodName)) ∈ lw_all := sorry
theorem q1866 : (Jvm.Cond.selects "KrylovLaboratory" ({ cls := "KrylovLaboratory", name := "setting", desc := "(I)I" } : Jvm.MethodName) ({ cls := "KrylovLaboratory", name := "setting", desc := "(I)I" } : Jvm.MethodName)) ∈ lw_all := sorry
theorem q1867 : (Jvm.Cond.code ({ cls := "KrylovLaboratory", name := "setting", desc := "(I)I" } : Jvm.MethodName) prog_1_method_19_code (2 : Nat) (Option.some Jvm.ClassFile.FieldType.int)) ∈ lw_all := sorry
theorem q1872 : (Jvm.Cond.instanceMethod ({ cls := "KrylovLaboratory", name := "basis", desc := "(II)I" } : Jvm.MethodName)) ∈ lw_all := sorry
theorem q1873 : (Jvm.Cond.selects "KrylovLaboratory" ({ cls := "KrylovLaboratory", name := "basis", desc := "(II)I" } : Jvm.MethodName) ({ cls := "KrylovLaboratory", name := "basis", desc := "(II)I" } : Jvm.MethodName)) ∈ lw_all := sorry
theorem q1874 : (Jvm.Cond.code ({ cls := "KrylovLaboratory", name := "basis", desc := "(II)I" } : Jvm.MethodName) prog_1_method_24_code (3 : Nat) (Option.some Jvm.ClassFile.FieldType.int)) ∈ lw_all := sorry
theorem q1875 : (Jvm.Cond.methodLink "KrylovLaboratory" (198 : Nat) ({ cls := "KrylovLaboratory", name := "basisAt", desc := "(I)LKrylovLaboratory$Vector;" } : Jvm.MethodName)) ∈ lw_all := sorry
theorem q1876 : (Jvm.Cond.privateMethod ({ cls := "KrylovLaboratory", name := "basisAt", desc := "(I)LKrylovLaboratory$Vector;" } : Jvm.MethodName)) ∈ lw_tbl := sorry
theorem q1877 : (Jvm.Cond.instanceMethod ({ cls := "KrylovLaboratory", name := "basisAt", desc := "(I)LKrylovLaboratory$Vector;" } : Jvm.MethodName)) ∈ lw_all := sorry
theorem q1878 : (Jvm.Cond.code ({ cls := "KrylovLaboratory", name := "basisAt", desc := "(I)LKrylovLaboratory$Vector;" } : Jvm.MethodName) prog_1_method_22_code (2 : Nat) (Option.some (Jvm.ClassFile.FieldType.object "KrylovLaboratory$Vector"))) ∈ lw_all := sorry
theorem q1879 : (Jvm.Cond.methodLink "KrylovLaboratory" (184 : Nat) ({ cls := "java/util/ArrayList", name := "size", desc := "()I" } : Jvm.MethodName)) ∈ lw_all := sorry
theorem q1880 : (Jvm.Cond.methodLink "KrylovLaboratory" (188 : Nat) ({ cls := "java/util/ArrayList", name := "get", desc := "(I)Ljava/lang/Object;" } : Jvm.MethodName)) ∈ lw_all := sorry
theorem q1881 : (Jvm.Cond.classLink "KrylovLaboratory" (192 : Nat) "KrylovLaboratory$Vector") ∈ lw_all := sorry
theorem q1882 : (Jvm.Cond.methodLink "KrylovLaboratory" (202 : Nat) ({ cls := "KrylovLaboratory", name := "component", desc := "(LKrylovLaboratory$Vector;I)I" } : Jvm.MethodName)) ∈ lw_all := sorry
theorem q1883 : (Jvm.Cond.privateMethod ({ cls := "KrylovLaboratory", name := "component", desc := "(LKrylovLaboratory$Vector;I)I" } : Jvm.MethodName)) ∈ lw_tbl := sorry
theorem q1884 : (Jvm.Cond.instanceMethod ({ cls := "KrylovLaboratory", name := "component", desc := "(LKrylovLaboratory$Vector;I)I" } : Jvm.MethodName)) ∈ lw_all := sorry
theorem q1885 : (Jvm.Cond.code ({ cls := "KrylovLaboratory", name := "component", desc := "(LKrylovLaboratory$Vector;I)I" } : Jvm.MethodName) prog_1_method_23_code (3 : Nat) (Option.some Jvm.ClassFile.FieldType.int)) ∈ lw_all := sorry
theorem q1890 : (Jvm.Cond.instanceMethod ({ cls := "KrylovLaboratory", name := "alpha", desc := "(I)I" } : Jvm.MethodName)) ∈ lw_all := sorry
theorem q1891 : (Jvm.Cond.selects "KrylovLaboratory" ({ cls := "KrylovLaboratory", name := "alpha", desc := "(I)I" } : Jvm.MethodName) ({ cls := "KrylovLaboratory", name := "alpha", desc := "(I)I" } : Jvm.MethodName)) ∈ lw_all := sorry
theorem q1892 : (Jvm.Cond.code ({ cls := "KrylovLaboratory", name := "alpha", desc := "(I)I" } : Jvm.MethodName) prog_1_method_26_code (2 : Nat) (Option.some Jvm.ClassFile.FieldType.int)) ∈ lw_all := sorry
theorem q1893 : (Jvm.Cond.methodLink "KrylovLaboratory" (208 : Nat) ({ cls := "KrylovLaboratory", name := "requireStep", desc := "(I)V" } : Jvm.MethodName)) ∈ lw_all := sorry
theorem q1894 : (Jvm.Cond.privateMethod ({ cls := "KrylovLaboratory", name := "requireStep", desc := "(I)V" } : Jvm.MethodName)) ∈ lw_tbl := sorry
theorem q1895 : (Jvm.Cond.instanceMethod ({ cls := "KrylovLaboratory", name := "requireStep", desc := "(I)V" } : Jvm.MethodName)) ∈ lw_all := sorry
theorem q1896 : (Jvm.Cond.code ({ cls := "KrylovLaboratory", name := "requireStep", desc := "(I)V" } : Jvm.MethodName) prog_1_method_25_code (2 : Nat) (Option.none : Option Jvm.ClassFile.FieldType)) ∈ lw_all := sorry
theorem q1901 : (Jvm.Cond.instanceMethod ({ cls := "KrylovLaboratory", name := "beta", desc := "(I)I" } : Jvm.MethodName)) ∈ lw_all := sorry
theorem q1902 : (Jvm.Cond.selects "KrylovLaboratory" ({ cls := "KrylovLaboratory", name := "beta", desc := "(I)I" } : Jvm.MethodName) ({ cls := "KrylovLaboratory", name := "beta", desc := "(I)I" } : Jvm.MethodName)) ∈ lw_all := sorry
theorem q1903 : (Jvm.Cond.code ({ cls := "KrylovLaboratory", name := "beta", desc := "(I)I" } : Jvm.MethodName) prog_1_method_27_code (2 : Nat) (Option.some Jvm.ClassFile.FieldType.int)) ∈ lw_all := sorry
theorem q1908 : (Jvm.Cond.instanceMethod ({ cls := "KrylovLaboratory", name := "estimate", desc := "(II)I" } : Jvm.MethodName)) ∈ lw_all := sorry
theorem q1909 : (Jvm.Cond.selects "KrylovLaboratory" ({ cls := "KrylovLaboratory", name := "estimate", desc := "(II)I" } : Jvm.MethodName) ({ cls := "KrylovLaboratory", name := "estimate", desc := "(II)I" } : Jvm.MethodName)) ∈ lw_all := sorry
theorem q1910 : (Jvm.Cond.code ({ cls := "KrylovLaboratory", name := "estimate", desc := "(II)I" } : Jvm.MethodName) prog_1_method_28_code (3 : Nat) (Option.some Jvm.ClassFile.FieldType.int)) ∈ lw_all := sorry
theorem q1915 : (Jvm.Cond.instanceMethod ({ cls := "KrylovLaboratory", name := "value", desc := "(I)I" } : Jvm.MethodName)) ∈ lw_all := sorry
theorem q1916 : (Jvm.Cond.selects "KrylovLaboratory" ({ cls := "KrylovLaboratory", name := "value", desc := "(I)I" } : Jvm.MethodName) ({ cls := "KrylovLaboratory", name := "value", desc := "(I)I" } : Jvm.MethodName)) ∈ lw_all := sorry
theorem q1917 : (Jvm.Cond.code ({ cls := "KrylovLaboratory", name := "value", desc := "(I)I" } : Jvm.MethodName) prog_1_method_30_code (2 : Nat) (Option.some Jvm.ClassFile.FieldType.int)) ∈ lw_all := sorry
theorem q1922 : (Jvm.Cond.instanceMethod ({ cls := "KrylovLaboratory", name := "bound", desc := "(I)I" } : Jvm.MethodName)) ∈ lw_all := sorry
theorem q1923 : (Jvm.Cond.selects "KrylovLaboratory" ({ cls := "KrylovLaboratory", name := "bound", desc := "(I)I" } : Jvm.MethodName) ({ cls := "KrylovLaboratory", name := "bound", desc := "(I)I" } : Jvm.MethodName)) ∈ lw_all := sorry
theorem q1924 : (Jvm.Cond.code ({ cls := "KrylovLaboratory", name := "bound", desc := "(I)I" } : Jvm.MethodName) prog_1_method_31_code (2 : Nat) (Option.some Jvm.ClassFile.FieldType.int)) ∈ lw_all := sorry
theorem q1929 : (Jvm.Cond.instanceMethod ({ cls := "KrylovLaboratory", name := "ritz", desc := "(II)I" } : Jvm.MethodName)) ∈ lw_all := sorry
theorem q1930 : (Jvm.Cond.selects "KrylovLaboratory" ({ cls := "KrylovLaboratory", name := "ritz", desc := "(II)I" } : Jvm.MethodName) ({ cls := "KrylovLaboratory", name := "ritz", desc := "(II)I" } : Jvm.MethodName)) ∈ lw_all := sorry
theorem q1931 : (Jvm.Cond.code ({ cls := "KrylovLaboratory", name := "ritz", desc := "(II)I" } : Jvm.MethodName) prog_1_method_32_code (3 : Nat) (Option.some Jvm.ClassFile.FieldType.int)) ∈ lw_all := sorry
theorem q1932 : (Jvm.Cond.methodLink "KrylovLaboratory" (231 : Nat) ({ cls := "KrylovLaboratory$Space", name := "ritz", desc := "(I)LKrylovLaboratory$Vector;" } : Jvm.MethodName)) ∈ lw_all := sorry
theorem q1944 : (Jvm.Cond.instanceMethod ({ cls := "KrylovLaboratory", name := "residual", desc := "(I)I" } : Jvm.MethodName)) ∈ lw_all := sorry
theorem q1945 : (Jvm.Cond.selects "KrylovLaboratory" ({ cls := "KrylovLaboratory", name := "residual", desc := "(I)I" } : Jvm.MethodName) ({ cls := "KrylovLaboratory", name := "residual", desc := "(I)I" } : Jvm.MethodName)) ∈ lw_all := sorry
theorem q1946 : (Jvm.Cond.code ({ cls := "KrylovLaboratory", name := "residual", desc := "(I)I" } : Jvm.MethodName) prog_1_method_33_code (2 : Nat) (Option.some Jvm.ClassFile.FieldType.int)) ∈ lw_all := sorry
theorem q1947 : (Jvm.Cond.methodLink "KrylovLaboratory" (234 : Nat) ({ cls := "KrylovLaboratory$Matrix", name := "residual", desc := "(JLKrylovLaboratory$Vector;)J" } : Jvm.MethodName)) ∈ lw_all := sorry
theorem q1958 : (Jvm.Cond.instanceMethod ({ cls := "KrylovLaboratory", name := "locked", desc := "(II)I" } : Jvm.MethodName)) ∈ lw_all := sorry
theorem q1959 : (Jvm.Cond.selects "KrylovLaboratory" ({ cls := "KrylovLaboratory", name := "locked", desc := "(II)I" } : Jvm.MethodName) ({ cls := "KrylovLaboratory", name := "locked", desc := "(II)I" } : Jvm.MethodName)) ∈ lw_all := sorry
theorem q1960 : (Jvm.Cond.code ({ cls := "KrylovLaboratory", name := "locked", desc := "(II)I" } : Jvm.MethodName) prog_1_method_38_code (4 : Nat) (Option.some Jvm.ClassFile.FieldType.int)) ∈ lw_all := sorry
theorem q1961 : (Jvm.Cond.methodLink "KrylovLaboratory" (258 : Nat) ({ cls := "KrylovLaboratory", name := "lockedAt", desc := "(I)LKrylovLaboratory$Locked;" } : Jvm.MethodName)) ∈ lw_all := sorry
theorem q1962 : (Jvm.Cond.privateMethod ({ cls := "KrylovLaboratory", name := "lockedAt", desc := "(I)LKrylovLaboratory$Locked;" } : Jvm.MethodName)) ∈ lw_tbl := sorry
theorem q1963 : (Jvm.Cond.instanceMethod ({ cls := "KrylovLaboratory", name := "lockedAt", desc := "(I)LKrylovLaboratory$Locked;" } : Jvm.MethodName)) ∈ lw_all := sorry
theorem q1964 : (Jvm.Cond.code ({ cls := "KrylovLaboratory", name := "lockedAt", desc := "(I)LKrylovLaboratory$Locked;" } : Jvm.MethodName) prog_1_method_37_code (2 : Nat) (Option.some (Jvm.ClassFile.FieldType.object "KrylovLaboratory$Locked"))) ∈ lw_all := sorry
theorem q1965 : (Jvm.Cond.methodLink "KrylovLaboratory" (252 : Nat) ({ cls := "KrylovLaboratory", name := "lockedCount", desc := "()I" } : Jvm.MethodName)) ∈ lw_all := sorry
theorem q1966 : (Jvm.Cond.methodLink "KrylovLaboratory" (255 : Nat) ({ cls := "java/util/LinkedList", name := "get", desc := "(I)Ljava/lang/Object;" } : Jvm.MethodName)) ∈ lw_all := sorry
theorem q1967 : (Jvm.Cond.methodLink "KrylovLaboratory" (267 : Nat) ({ cls := "KrylovLaboratory$State", name := "residual", desc := "(LKrylovLaboratory$Locked;)J" } : Jvm.MethodName)) ∈ lw_all := sorry
theorem q1976 : (Jvm.Cond.instanceMethod ({ cls := "KrylovLaboratory", name := "lockedVector", desc := "(II)I" } : Jvm.MethodName)) ∈ lw_all := sorry
theorem q1977 : (Jvm.Cond.selects "KrylovLaboratory" ({ cls := "KrylovLaboratory", name := "lockedVector", desc := "(II)I" } : Jvm.MethodName) ({ cls := "KrylovLaboratory", name := "lockedVector", desc := "(II)I" } : Jvm.MethodName)) ∈ lw_all := sorry
theorem q1978 : (Jvm.Cond.code ({ cls := "KrylovLaboratory", name := "lockedVector", desc := "(II)I" } : Jvm.MethodName) prog_1_method_39_code (3 : Nat) (Option.some Jvm.ClassFile.FieldType.int)) ∈ lw_all := sorry
theorem q1983 : (Jvm.Cond.instanceMethod ({ cls := "KrylovLaboratory", name := "firstBroken", desc := "(I)I" } : Jvm.MethodName)) ∈ lw_all := sorry
theorem q1984 : (Jvm.Cond.selects "KrylovLaboratory" ({ cls := "KrylovLaboratory", name := "firstBroken", desc := "(I)I" } : Jvm.MethodName) ({ cls := "KrylovLaboratory", name := "firstBroken", desc := "(I)I" } : Jvm.MethodName)) ∈ lw_all := sorry
theorem q1985 : (Jvm.Cond.code ({ cls := "KrylovLaboratory", name := "firstBroken", desc := "(I)I" } : Jvm.MethodName) prog_1_method_40_code (5 : Nat) (Option.some Jvm.ClassFile.FieldType.int)) ∈ lw_all := sorry
theorem q1986 : (Jvm.Cond.methodLink "KrylovLaboratory" (287 : Nat) ({ cls := "KrylovLaboratory$State", name := "isBroken", desc := "(LKrylovLaboratory$Locked;I)Z" } : Jvm.MethodName)) ∈ lw_all := sorry
theorem q1995 : (Jvm.Cond.instanceMethod ({ cls := "KrylovLaboratory", name := "step", desc := "(I)I" } : Jvm.MethodName)) ∈ lw_all := sorry
theorem q1996 : (Jvm.Cond.selects "KrylovLaboratory" ({ cls := "KrylovLaboratory", name := "step", desc := "(I)I" } : Jvm.MethodName) ({ cls := "KrylovLaboratory", name := "step", desc := "(I)I" } : Jvm.MethodName)) ∈ lw_all := sorry
theorem q1997 : (Jvm.Cond.code ({ cls := "KrylovLaboratory", name := "step", desc := "(I)I" } : Jvm.MethodName) prog_1_method_47_code (2 : Nat) (Option.some Jvm.ClassFile.FieldType.int)) ∈ lw_all := sorry
theorem q1998 : (Jvm.Cond.constantLong "KrylovLaboratory" (323 : Nat) (6 : Int64)) ∈ lw_all := sorry
theorem q1999 : (Jvm.Cond.methodLink "KrylovLaboratory" (325 : Nat) ({ cls := "KrylovLaboratory", name := "becomes", desc := "(LKrylovLaboratory$State;)V" } : Jvm.MethodName)) ∈ lw_all := sorry
theorem q2000 : (Jvm.Cond.privateMethod ({ cls := "KrylovLaboratory", name := "becomes", desc := "(LKrylovLaboratory$State;)V" } : Jvm.MethodName)) ∈ lw_tbl := sorry
theorem q2001 : (Jvm.Cond.instanceMethod ({ cls := "KrylovLaboratory", name := "becomes", desc := "(LKrylovLaboratory$State;)V" } : Jvm.MethodName)) ∈ lw_all := sorry
theorem q2002 : (Jvm.Cond.code ({ cls := "KrylovLaboratory", name := "becomes", desc := "(LKrylovLaboratory$State;)V" } : Jvm.MethodName) prog_1_method_46_code (2 : Nat) (Option.none : Option Jvm.ClassFile.FieldType)) ∈ lw_all := sorry
theorem q2003 : (Jvm.Cond.methodLink "KrylovLaboratory" (316 : Nat) ({ cls := "java/util/ArrayDeque", name := "removeFirst", desc := "()Ljava/lang/Object;" } : Jvm.MethodName)) ∈ lw_all := sorry
theorem q2014 : (Jvm.Cond.methodLink "KrylovLaboratory" (319 : Nat) ({ cls := "java/util/ArrayDeque", name := "addLast", desc := "(Ljava/lang/Object;)V" } : Jvm.MethodName)) ∈ lw_all := sorry
theorem q2030 : (Jvm.Cond.methodLink "KrylovLaboratory" (328 : Nat) ({ cls := "KrylovLaboratory$State", name := "steps", desc := "(I)I" } : Jvm.MethodName)) ∈ lw_all := sorry
theorem q2040 : (Jvm.Cond.instanceMethod ({ cls := "KrylovLaboratory", name := "lock", desc := "(I)I" } : Jvm.MethodName)) ∈ lw_all := sorry
theorem q2041 : (Jvm.Cond.selects "KrylovLaboratory" ({ cls := "KrylovLaboratory", name := "lock", desc := "(I)I" } : Jvm.MethodName) ({ cls := "KrylovLaboratory", name := "lock", desc := "(I)I" } : Jvm.MethodName)) ∈ lw_all := sorry
theorem q2042 : (Jvm.Cond.code ({ cls := "KrylovLaboratory", name := "lock", desc := "(I)I" } : Jvm.MethodName) prog_1_method_48_code (4 : Nat) (Option.some Jvm.ClassFile.FieldType.int)) ∈ lw_all := sorry
theorem q2043 : (Jvm.Cond.methodLink "KrylovLaboratory" (331 : Nat) ({ cls := "KrylovLaboratory$State", name := "lock", desc := "(I)I" } : Jvm.MethodName)) ∈ lw_all := sorry
theorem q2058 : (Jvm.Cond.fieldLinkNest "KrylovLaboratory" (262 : Nat) "KrylovLaboratory$Locked" "value" "J" "KrylovLaboratory") ∈ lw_tbl := sorry
theorem q2061 : (Jvm.Cond.fieldLinkNest "KrylovLaboratory" (265 : Nat) "KrylovLaboratory$Locked" "bound" "J" "KrylovLaboratory") ∈ lw_tbl := sorry
theorem q2064 : (Jvm.Cond.fieldLinkNest "KrylovLaboratory" (270 : Nat) "KrylovLaboratory$Locked" "vector" "LKrylovLaboratory$Vector;" "KrylovLaboratory") ∈ lw_tbl := sorry
theorem q2076 : (Jvm.Cond.instanceMethod ({ cls := "KrylovLaboratory", name := "unlock", desc := "(I)I" } : Jvm.MethodName)) ∈ lw_all := sorry
theorem q2077 : (Jvm.Cond.selects "KrylovLaboratory" ({ cls := "KrylovLaboratory", name := "unlock", desc := "(I)I" } : Jvm.MethodName) ({ cls := "KrylovLaboratory", name := "unlock", desc := "(I)I" } : Jvm.MethodName)) ∈ lw_all := sorry
theorem q2078 : (Jvm.Cond.code ({ cls := "KrylovLaboratory", name := "unlock", desc := "(I)I" } : Jvm.MethodName) prog_1_method_49_code (2 : Nat) (Option.some Jvm.ClassFile.FieldType.int)) ∈ lw_all := sorry
theorem q2079 : (Jvm.Cond.methodLink "KrylovLaboratory" (334 : Nat) ({ cls := "java/util/LinkedList", name := "remove", desc := "(I)Ljava/lang/Object;" } : Jvm.MethodName)) ∈ lw_all := sorry
theorem q2091 : (Jvm.Cond.instanceMethod ({ cls := "KrylovLaboratory", name := "drop", desc := "(I)I" } : Jvm.MethodName)) ∈ lw_all := sorry
theorem q2092 : (Jvm.Cond.selects "KrylovLaboratory" ({ cls := "KrylovLaboratory", name := "drop", desc := "(I)I" } : Jvm.MethodName) ({ cls := "KrylovLaboratory", name := "drop", desc := "(I)I" } : Jvm.MethodName)) ∈ lw_all := sorry
theorem q2093 : (Jvm.Cond.code ({ cls := "KrylovLaboratory", name := "drop", desc := "(I)I" } : Jvm.MethodName) prog_1_method_50_code (2 : Nat) (Option.some Jvm.ClassFile.FieldType.int)) ∈ lw_all := sorry
theorem q2094 : (Jvm.Cond.methodLink "KrylovLaboratory" (337 : Nat) ({ cls := "KrylovLaboratory$State", name := "drop", desc := "(I)I" } : Jvm.MethodName)) ∈ lw_all := sorry
theorem q2171 : (Jvm.Cond.instanceMethod ({ cls := "KrylovLaboratory", name := "restart", desc := "(I)I" } : Jvm.MethodName)) ∈ lw_all := sorry
theorem q2172 : (Jvm.Cond.selects "KrylovLaboratory" ({ cls := "KrylovLaboratory", name := "restart", desc := "(I)I" } : Jvm.MethodName) ({ cls := "KrylovLaboratory", name := "restart", desc := "(I)I" } : Jvm.MethodName)) ∈ lw_all := sorry
theorem q2173 : (Jvm.Cond.code ({ cls := "KrylovLaboratory", name := "restart", desc := "(I)I" } : Jvm.MethodName) prog_1_method_51_code (4 : Nat) (Option.some Jvm.ClassFile.FieldType.int)) ∈ lw_all := sorry
theorem q2174 : (Jvm.Cond.methodLink "KrylovLaboratory" (340 : Nat) ({ cls := "KrylovLaboratory$State", name := "restart", desc := "(I)I" } : Jvm.MethodName)) ∈ lw_all := sorry
theorem q2199 : (Jvm.Cond.instanceMethod ({ cls := "KrylovLaboratory", name := "sweep", desc := "(I)I" } : Jvm.MethodName)) ∈ lw_all := sorry
theorem q2200 : (Jvm.Cond.selects "KrylovLaboratory" ({ cls := "KrylovLaboratory", name := "sweep", desc := "(I)I" } : Jvm.MethodName) ({ cls := "KrylovLaboratory", name := "sweep", desc := "(I)I" } : Jvm.MethodName)) ∈ lw_all := sorry
theorem q2201 : (Jvm.Cond.code ({ cls := "KrylovLaboratory", name := "sweep", desc := "(I)I" } : Jvm.MethodName) prog_1_method_52_code (2 : Nat) (Option.some Jvm.ClassFile.FieldType.int)) ∈ lw_all := sorry
theorem q2202 : (Jvm.Cond.constantLong "KrylovLaboratory" (343 : Nat) (5 : Int64)) ∈ lw_all := sorry
theorem q2203 : (Jvm.Cond.methodLink "KrylovLaboratory" (345 : Nat) ({ cls := "KrylovLaboratory$State", name := "sweep", desc := "(I)I" } : Jvm.MethodName)) ∈ lw_all := sorry
theorem q2219 : (Jvm.Cond.instanceMethod ({ cls := "KrylovLaboratory", name := "setEntry", desc := "(III)I" } : Jvm.MethodName)) ∈ lw_all := sorry
theorem q2220 : (Jvm.Cond.selects "KrylovLaboratory" ({ cls := "KrylovLaboratory", name := "setEntry", desc := "(III)I" } : Jvm.MethodName) ({ cls := "KrylovLaboratory", name := "setEntry", desc := "(III)I" } : Jvm.MethodName)) ∈ lw_all := sorry
theorem q2221 : (Jvm.Cond.code ({ cls := "KrylovLaboratory", name := "setEntry", desc := "(III)I" } : Jvm.MethodName) prog_1_method_53_code (6 : Nat) (Option.some Jvm.ClassFile.FieldType.int)) ∈ lw_all := sorry
theorem q2222 : (Jvm.Cond.methodLink "KrylovLaboratory" (348 : Nat) ({ cls := "KrylovLaboratory", name := "entry", desc := "(II)I" } : Jvm.MethodName)) ∈ lw_all := sorry
theorem q2223 : (Jvm.Cond.constantLong "KrylovLaboratory" (351 : Nat) (-99 : Int64)) ∈ lw_all := sorry
theorem q2224 : (Jvm.Cond.constantLong "KrylovLaboratory" (353 : Nat) (99 : Int64)) ∈ lw_all := sorry
theorem q2225 : (Jvm.Cond.methodLink "KrylovLaboratory" (355 : Nat) ({ cls := "KrylovLaboratory$Matrix", name := "sets", desc := "(III)V" } : Jvm.MethodName)) ∈ lw_all := sorry
theorem q2230 : (Jvm.Cond.instanceMethod ({ cls := "KrylovLaboratory", name := "setMode", desc := "(I)I" } : Jvm.MethodName)) ∈ lw_all := sorry
theorem q2231 : (Jvm.Cond.selects "KrylovLaboratory" ({ cls := "KrylovLaboratory", name := "setMode", desc := "(I)I" } : Jvm.MethodName) ({ cls := "KrylovLaboratory", name := "setMode", desc := "(I)I" } : Jvm.MethodName)) ∈ lw_all := sorry
theorem q2232 : (Jvm.Cond.code ({ cls := "KrylovLaboratory", name := "setMode", desc := "(I)I" } : Jvm.MethodName) prog_1_method_54_code (3 : Nat) (Option.some Jvm.ClassFile.FieldType.int)) ∈ lw_all := sorry
theorem q2237 : (Jvm.Cond.instanceMethod ({ cls := "KrylovLaboratory", name := "setThreshold", desc := "(I)I" } : Jvm.MethodName)) ∈ lw_all := sorry
theorem q2238 : (Jvm.Cond.selects "KrylovLaboratory" ({ cls := "KrylovLaboratory", name := "setThreshold", desc := "(I)I" } : Jvm.MethodName) ({ cls := "KrylovLaboratory", name := "setThreshold", desc := "(I)I" } : Jvm.MethodName)) ∈ lw_all := sorry
theorem q2239 : (Jvm.Cond.code ({ cls := "KrylovLaboratory", name := "setThreshold", desc := "(I)I" } : Jvm.MethodName) prog_1_method_55_code (3 : Nat) (Option.some Jvm.ClassFile.FieldType.int)) ∈ lw_all := sorry
theorem q2240 : (Jvm.Cond.constantLong "KrylovLaboratory" (359 : Nat) (1000000 : Int64)) ∈ lw_all := sorry
theorem q2245 : (Jvm.Cond.instanceMethod ({ cls := "KrylovLaboratory", name := "setTolerance", desc := "(I)I" } : Jvm.MethodName)) ∈ lw_all := sorry
theorem q2246 : (Jvm.Cond.selects "KrylovLaboratory" ({ cls := "KrylovLaboratory", name := "setTolerance", desc := "(I)I" } : Jvm.MethodName) ({ cls := "KrylovLaboratory", name := "setTolerance", desc := "(I)I" } : Jvm.MethodName)) ∈ lw_all := sorry
theorem q2247 : (Jvm.Cond.code ({ cls := "KrylovLaboratory", name := "setTolerance", desc := "(I)I" } : Jvm.MethodName) prog_1_method_56_code (3 : Nat) (Option.some Jvm.ClassFile.FieldType.int)) ∈ lw_all := sorry
theorem q2252 : (Jvm.Cond.instanceMethod ({ cls := "KrylovLaboratory", name := "format", desc := "(I)I" } : Jvm.MethodName)) ∈ lw_all := sorry
theorem q2253 : (Jvm.Cond.selects "KrylovLaboratory" ({ cls := "KrylovLaboratory", name := "format", desc := "(I)I" } : Jvm.MethodName) ({ cls := "KrylovLaboratory", name := "format", desc := "(I)I" } : Jvm.MethodName)) ∈ lw_all := sorry
theorem q2254 : (Jvm.Cond.code ({ cls := "KrylovLaboratory", name := "format", desc := "(I)I" } : Jvm.MethodName) prog_1_method_61_code (9 : Nat) (Option.some Jvm.ClassFile.FieldType.int)) ∈ lw_all := sorry
theorem q2255 : (Jvm.Cond.classLink "KrylovLaboratory" (367 : Nat) "java/lang/StringBuilder") ∈ lw_all := sorry
theorem q2256 : (Jvm.Cond.methodLink "KrylovLaboratory" (369 : Nat) ({ cls := "java/lang/StringBuilder", name := "<init>", desc := "()V" } : Jvm.MethodName)) ∈ lw_all := sorry
theorem q2257 : (Jvm.Cond.methodLink "KrylovLaboratory" (370 : Nat) ({ cls := "java/lang/StringBuilder", name := "append", desc := "(C)Ljava/lang/StringBuilder;" } : Jvm.MethodName)) ∈ lw_all := sorry
theorem q2258 : (Jvm.Cond.methodLink "KrylovLaboratory" (373 : Nat) ({ cls := "java/lang/StringBuilder", name := "append", desc := "(J)Ljava/lang/StringBuilder;" } : Jvm.MethodName)) ∈ lw_all := sorry
theorem q2285 : (Jvm.Cond.constantLong "KrylovLaboratory" (376 : Nat) (100000 : Int64)) ∈ lw_all := sorry
theorem q2286 : (Jvm.Cond.constantLong "KrylovLaboratory" (378 : Nat) (48 : Int64)) ∈ lw_all := sorry
theorem q2287 : (Jvm.Cond.constantLong "KrylovLaboratory" (380 : Nat) (10 : Int64)) ∈ lw_all := sorry
theorem q2288 : (Jvm.Cond.stringRef "KrylovLaboratory" (382 : Nat) " +-") ∈ lw_tbl := sorry
theorem q2289 : (Jvm.Cond.methodLink "KrylovLaboratory" (384 : Nat) ({ cls := "java/lang/StringBuilder", name := "append", desc := "(Ljava/lang/String;)Ljava/lang/StringBuilder;" } : Jvm.MethodName)) ∈ lw_all := sorry
theorem q2290 : (Jvm.Cond.methodLink "KrylovLaboratory" (387 : Nat) ({ cls := "java/lang/StringBuilder", name := "toString", desc := "()Ljava/lang/String;" } : Jvm.MethodName)) ∈ lw_all := sorry
theorem q2295 : (Jvm.Cond.instanceMethod ({ cls := "KrylovLaboratory", name := "query", desc := "(I)I" } : Jvm.MethodName)) ∈ lw_all := sorry
theorem q2296 : (Jvm.Cond.selects "KrylovLaboratory" ({ cls := "KrylovLaboratory", name := "query", desc := "(I)I" } : Jvm.MethodName) ({ cls := "KrylovLaboratory", name := "query", desc := "(I)I" } : Jvm.MethodName)) ∈ lw_all := sorry
theorem q2297 : (Jvm.Cond.codeWith ({ cls := "KrylovLaboratory", name := "query", desc := "(I)I" } : Jvm.MethodName) prog_1_method_63_code (6 : Nat) (Option.some Jvm.ClassFile.FieldType.int) [((18 : Nat), (23 : Nat), (26 : Nat), (108 : Nat))]) ∈ lw_all := sorry
theorem q2298 : (Jvm.Cond.classLink "KrylovLaboratory" (400 : Nat) "KrylovLaboratory$QueryParser") ∈ lw_all := sorry
theorem q2300 : (Jvm.Cond.methodLink "KrylovLaboratory" (402 : Nat) ({ cls := "KrylovLaboratory$QueryParser", name := "<init>", desc := "(LKrylovLaboratory;I)V" } : Jvm.MethodName)) ∈ lw_all := sorry
theorem q2305 : (Jvm.Cond.fieldLinkNest "KrylovLaboratory" (413 : Nat) "KrylovLaboratory$QueryParser" "isFirst" "Z" "KrylovLaboratory") ∈ lw_tbl := sorry
theorem q2323 : (Jvm.Cond.methodLink "KrylovLaboratory" (403 : Nat) ({ cls := "KrylovLaboratory$QueryParser", name := "parse", desc := "()LKrylovLaboratory$Test;" } : Jvm.MethodName)) ∈ lw_all := sorry
theorem q2390 : (Jvm.Cond.privateMethod ({ cls := "KrylovLaboratory", name := "propertyCode", desc := "(Ljava/lang/String;)I" } : Jvm.MethodName)) ∈ lw_tbl := sorry
theorem q2391 : (Jvm.Cond.instanceMethod ({ cls := "KrylovLaboratory", name := "propertyCode", desc := "(Ljava/lang/String;)I" } : Jvm.MethodName)) ∈ lw_all := sorry
theorem q2392 : (Jvm.Cond.code ({ cls := "KrylovLaboratory", name := "propertyCode", desc := "(Ljava/lang/String;)I" } : Jvm.MethodName) prog_1_method_8_code (2 : Nat) (Option.some Jvm.ClassFile.FieldType.int)) ∈ lw_all := sorry
theorem q2393 : (Jvm.Cond.interfaceEntry "KrylovLaboratory" (35 : Nat)) ∈ lw_tbl := sorry
theorem q2394 : (Jvm.Cond.methodLink "KrylovLaboratory" (35 : Nat) ({ cls := "java/util/List", name := "indexOf", desc := "(Ljava/lang/Object;)I" } : Jvm.MethodName)) ∈ lw_all := sorry
theorem q2411 : (Jvm.Cond.selects "KrylovLaboratory" ({ cls := "java/lang/Object", name := "equals", desc := "(Ljava/lang/Object;)Z" } : Jvm.MethodName) ({ cls := "java/lang/Object", name := "equals", desc := "(Ljava/lang/Object;)Z" } : Jvm.MethodName)) ∈ lw_all := sorry
theorem q2496 : (Jvm.Cond.constant "KrylovLaboratory" (406 : Nat) (-1000000000 : Int32)) ∈ lw_all := sorry
theorem q2497 : (Jvm.Cond.methodLink "KrylovLaboratory" (407 : Nat) ({ cls := "KrylovLaboratory$Test", name := "holds", desc := "(LKrylovLaboratory$State;I)Z" } : Jvm.MethodName)) ∈ lw_all := sorry
theorem q3231 : (Jvm.Cond.castable "KrylovLaboratory" "java/lang/Object") ∈ lw_tbl := sorry
theorem in_X1 : ∀ w ∈ wsX10, w ∈ lw_all := sorry
