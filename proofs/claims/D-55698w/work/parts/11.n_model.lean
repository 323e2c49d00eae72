/-! CartBridgeModel -/
set_option maxRecDepth 100000
set_option maxRecDepth 100000 in
set_option maxRecDepth 100000 in
abbrev cX3_init : ByteArray := prog_14_method_1_code
def yX3_init : MethodName := ⟨RX3, "<init>", "()V"⟩
def dkwX3_init_2 : List UInt8 := [180, 0, 9, 6, 5, 79, 42, 180, 0, 9, 7, 7, 79, 177]
abbrev dktX3_init_2 : List UInt8 := dkwX3_init_2 ++ []
def dkwX3_init_1 : List UInt8 := [181, 0, 17, 42, 17, 0, 183, 188, 10, 181, 0, 21, 42, 17, 1, 44, 188, 5, 181, 0, 24, 42]
abbrev dktX3_init_1 : List UInt8 := dkwX3_init_1 ++ dktX3_init_2
def dkwX3_init_0 : List UInt8 := [42, 183, 0, 1, 42, 17, 19, 68, 188, 10, 181, 0, 9, 42, 16, 60, 188, 5, 181, 0, 13, 42, 2]
abbrev dktX3_init_0 : List UInt8 := dkwX3_init_0 ++ dktX3_init_1
theorem dksX3_init_0 : cX3_init.data.toList.drop 0 = dktX3_init_0 := by decide +kernel
theorem dksX3_init_1 : cX3_init.data.toList.drop 23 = dktX3_init_1 := dk_seg dksX3_init_0 23 rfl rfl
theorem dksX3_init_2 : cX3_init.data.toList.drop 45 = dktX3_init_2 := dk_seg dksX3_init_1 22 rfl rfl
theorem dX3_init_0 : decode cX3_init 0 = .ok (.aload_n 0, 1) := dk_42 (dk_at dksX3_init_0 0 rfl rfl)
theorem dX3_init_1 : decode cX3_init 1 = .ok (.invokespecial 1, 3) := dk_183 0 1 (dk_at dksX3_init_0 1 rfl rfl)
theorem dX3_init_4 : decode cX3_init 4 = .ok (.aload_n 0, 1) := dk_42 (dk_at dksX3_init_0 4 rfl rfl)
theorem dX3_init_5 : decode cX3_init 5 = .ok (.sipush 4932, 3) := dk_17 19 68 (dk_at dksX3_init_0 5 rfl rfl)
theorem dX3_init_8 : decode cX3_init 8 = .ok (.newarray .int, 2) := dk_188_10 (dk_at dksX3_init_0 8 rfl rfl)
theorem dX3_init_10 : decode cX3_init 10 = .ok (.putfield 9, 3) := dk_181 0 9 (dk_at dksX3_init_0 10 rfl rfl)
theorem dX3_init_13 : decode cX3_init 13 = .ok (.aload_n 0, 1) := dk_42 (dk_at dksX3_init_0 13 rfl rfl)
theorem dX3_init_14 : decode cX3_init 14 = .ok (.bipush 60, 2) := dk_16 60 (dk_at dksX3_init_0 14 rfl rfl)
theorem dX3_init_16 : decode cX3_init 16 = .ok (.newarray .char, 2) := dk_188_5 (dk_at dksX3_init_0 16 rfl rfl)
theorem dX3_init_18 : decode cX3_init 18 = .ok (.putfield 13, 3) := dk_181 0 13 (dk_at dksX3_init_0 18 rfl rfl)
theorem dX3_init_21 : decode cX3_init 21 = .ok (.aload_n 0, 1) := dk_42 (dk_at dksX3_init_0 21 rfl rfl)
theorem dX3_init_22 : decode cX3_init 22 = .ok (.iconst (-1), 1) := dk_2 (dk_at dksX3_init_0 22 rfl rfl)
theorem dX3_init_23 : decode cX3_init 23 = .ok (.putfield 17, 3) := dk_181 0 17 (dk_at dksX3_init_1 0 rfl rfl)
theorem dX3_init_26 : decode cX3_init 26 = .ok (.aload_n 0, 1) := dk_42 (dk_at dksX3_init_1 3 rfl rfl)
theorem dX3_init_27 : decode cX3_init 27 = .ok (.sipush 183, 3) := dk_17 0 183 (dk_at dksX3_init_1 4 rfl rfl)
theorem dX3_init_30 : decode cX3_init 30 = .ok (.newarray .int, 2) := dk_188_10 (dk_at dksX3_init_1 7 rfl rfl)
theorem dX3_init_32 : decode cX3_init 32 = .ok (.putfield 21, 3) := dk_181 0 21 (dk_at dksX3_init_1 9 rfl rfl)
theorem dX3_init_35 : decode cX3_init 35 = .ok (.aload_n 0, 1) := dk_42 (dk_at dksX3_init_1 12 rfl rfl)
theorem dX3_init_36 : decode cX3_init 36 = .ok (.sipush 300, 3) := dk_17 1 44 (dk_at dksX3_init_1 13 rfl rfl)
theorem dX3_init_39 : decode cX3_init 39 = .ok (.newarray .char, 2) := dk_188_5 (dk_at dksX3_init_1 16 rfl rfl)
theorem dX3_init_41 : decode cX3_init 41 = .ok (.putfield 24, 3) := dk_181 0 24 (dk_at dksX3_init_1 18 rfl rfl)
theorem dX3_init_44 : decode cX3_init 44 = .ok (.aload_n 0, 1) := dk_42 (dk_at dksX3_init_1 21 rfl rfl)
theorem dX3_init_45 : decode cX3_init 45 = .ok (.getfield 9, 3) := dk_180 0 9 (dk_at dksX3_init_2 0 rfl rfl)
theorem dX3_init_48 : decode cX3_init 48 = .ok (.iconst 3, 1) := dk_6 (dk_at dksX3_init_2 3 rfl rfl)
theorem dX3_init_49 : decode cX3_init 49 = .ok (.iconst 2, 1) := dk_5 (dk_at dksX3_init_2 4 rfl rfl)
theorem dX3_init_50 : decode cX3_init 50 = .ok (.iastore, 1) := dk_79 (dk_at dksX3_init_2 5 rfl rfl)
theorem dX3_init_51 : decode cX3_init 51 = .ok (.aload_n 0, 1) := dk_42 (dk_at dksX3_init_2 6 rfl rfl)
theorem dX3_init_52 : decode cX3_init 52 = .ok (.getfield 9, 3) := dk_180 0 9 (dk_at dksX3_init_2 7 rfl rfl)
theorem dX3_init_55 : decode cX3_init 55 = .ok (.iconst 4, 1) := dk_7 (dk_at dksX3_init_2 10 rfl rfl)
theorem dX3_init_56 : decode cX3_init 56 = .ok (.iconst 4, 1) := dk_7 (dk_at dksX3_init_2 11 rfl rfl)
theorem dX3_init_57 : decode cX3_init 57 = .ok (.iastore, 1) := dk_79 (dk_at dksX3_init_2 12 rfl rfl)
theorem dX3_init_58 : decode cX3_init 58 = .ok (.return_, 1) := dk_177 (dk_at dksX3_init_2 13 rfl rfl)
abbrev cX3_thrown : ByteArray := prog_14_method_2_code
def yX3_thrown : MethodName := ⟨RX3, "thrown", "()I"⟩
theorem dX3_thrown_0 : decode cX3_thrown 0 = .ok (.aload_n 0, 1) := by decide +kernel
theorem dX3_thrown_1 : decode cX3_thrown 1 = .ok (.getfield 27, 3) := by decide +kernel
theorem dX3_thrown_4 : decode cX3_thrown 4 = .ok (.ireturn, 1) := by decide +kernel
abbrev cX3_reason : ByteArray := prog_14_method_9_code
def yX3_reason : MethodName := ⟨RX3, "reason", "(IZ)I"⟩
def dkwX3_reason_3 : List UInt8 := [167, 0, 18, 28, 153, 0, 10, 42, 180, 0, 53, 167, 0, 7, 42, 180, 0, 46, 172]
abbrev dktX3_reason_3 : List UInt8 := dkwX3_reason_3 ++ []
def dkwX3_reason_2 : List UInt8 := [153, 0, 5, 3, 172, 27, 154, 0, 21, 28, 153, 0, 10, 42, 180, 0, 43, 167, 0, 25, 42, 180, 0, 40]
abbrev dktX3_reason_2 : List UInt8 := dkwX3_reason_2 ++ dktX3_reason_3
def dkwX3_reason_1 : List UInt8 := [167, 0, 7, 42, 180, 0, 46, 154, 0, 7, 5, 167, 0, 4, 3, 181, 0, 27, 42, 180, 0, 27]
abbrev dktX3_reason_1 : List UInt8 := dkwX3_reason_1 ++ dktX3_reason_2
def dkwX3_reason_0 : List UInt8 := [42, 27, 3, 4, 184, 0, 49, 154, 0, 7, 4, 167, 0, 26, 27, 154, 0, 10, 42, 180, 0, 40]
abbrev dktX3_reason_0 : List UInt8 := dkwX3_reason_0 ++ dktX3_reason_1
theorem dksX3_reason_0 : cX3_reason.data.toList.drop 0 = dktX3_reason_0 := by decide +kernel
theorem dksX3_reason_1 : cX3_reason.data.toList.drop 22 = dktX3_reason_1 := dk_seg dksX3_reason_0 22 rfl rfl
theorem dksX3_reason_2 : cX3_reason.data.toList.drop 44 = dktX3_reason_2 := dk_seg dksX3_reason_1 22 rfl rfl
theorem dksX3_reason_3 : cX3_reason.data.toList.drop 68 = dktX3_reason_3 := dk_seg dksX3_reason_2 24 rfl rfl
theorem dX3_reason_0 : decode cX3_reason 0 = .ok (.aload_n 0, 1) := dk_42 (dk_at dksX3_reason_0 0 rfl rfl)
theorem dX3_reason_1 : decode cX3_reason 1 = .ok (.iload_n 1, 1) := dk_27 (dk_at dksX3_reason_0 1 rfl rfl)
theorem dX3_reason_2 : decode cX3_reason 2 = .ok (.iconst 0, 1) := dk_3 (dk_at dksX3_reason_0 2 rfl rfl)
theorem dX3_reason_3 : decode cX3_reason 3 = .ok (.iconst 1, 1) := dk_4 (dk_at dksX3_reason_0 3 rfl rfl)
theorem dX3_reason_4 : decode cX3_reason 4 = .ok (.invokestatic 49, 3) := dk_184 0 49 (dk_at dksX3_reason_0 4 rfl rfl)
theorem dX3_reason_7 : decode cX3_reason 7 = .ok (.ifCond .ne 7, 3) := dk_154 0 7 (dk_at dksX3_reason_0 7 rfl rfl)
theorem dX3_reason_10 : decode cX3_reason 10 = .ok (.iconst 1, 1) := dk_4 (dk_at dksX3_reason_0 10 rfl rfl)
theorem dX3_reason_11 : decode cX3_reason 11 = .ok (.goto 26, 3) := dk_167 0 26 (dk_at dksX3_reason_0 11 rfl rfl)
theorem dX3_reason_14 : decode cX3_reason 14 = .ok (.iload_n 1, 1) := dk_27 (dk_at dksX3_reason_0 14 rfl rfl)
theorem dX3_reason_15 : decode cX3_reason 15 = .ok (.ifCond .ne 10, 3) := dk_154 0 10 (dk_at dksX3_reason_0 15 rfl rfl)
theorem dX3_reason_18 : decode cX3_reason 18 = .ok (.aload_n 0, 1) := dk_42 (dk_at dksX3_reason_0 18 rfl rfl)
theorem dX3_reason_19 : decode cX3_reason 19 = .ok (.getfield 40, 3) := dk_180 0 40 (dk_at dksX3_reason_0 19 rfl rfl)
theorem dX3_reason_22 : decode cX3_reason 22 = .ok (.goto 7, 3) := dk_167 0 7 (dk_at dksX3_reason_1 0 rfl rfl)
theorem dX3_reason_25 : decode cX3_reason 25 = .ok (.aload_n 0, 1) := dk_42 (dk_at dksX3_reason_1 3 rfl rfl)
theorem dX3_reason_26 : decode cX3_reason 26 = .ok (.getfield 46, 3) := dk_180 0 46 (dk_at dksX3_reason_1 4 rfl rfl)
theorem dX3_reason_29 : decode cX3_reason 29 = .ok (.ifCond .ne 7, 3) := dk_154 0 7 (dk_at dksX3_reason_1 7 rfl rfl)
theorem dX3_reason_32 : decode cX3_reason 32 = .ok (.iconst 2, 1) := dk_5 (dk_at dksX3_reason_1 10 rfl rfl)
theorem dX3_reason_33 : decode cX3_reason 33 = .ok (.goto 4, 3) := dk_167 0 4 (dk_at dksX3_reason_1 11 rfl rfl)
theorem dX3_reason_36 : decode cX3_reason 36 = .ok (.iconst 0, 1) := dk_3 (dk_at dksX3_reason_1 14 rfl rfl)
theorem dX3_reason_37 : decode cX3_reason 37 = .ok (.putfield 27, 3) := dk_181 0 27 (dk_at dksX3_reason_1 15 rfl rfl)
theorem dX3_reason_40 : decode cX3_reason 40 = .ok (.aload_n 0, 1) := dk_42 (dk_at dksX3_reason_1 18 rfl rfl)
theorem dX3_reason_41 : decode cX3_reason 41 = .ok (.getfield 27, 3) := dk_180 0 27 (dk_at dksX3_reason_1 19 rfl rfl)
theorem dX3_reason_44 : decode cX3_reason 44 = .ok (.ifCond .eq 5, 3) := dk_153 0 5 (dk_at dksX3_reason_2 0 rfl rfl)
theorem dX3_reason_47 : decode cX3_reason 47 = .ok (.iconst 0, 1) := dk_3 (dk_at dksX3_reason_2 3 rfl rfl)
theorem dX3_reason_48 : decode cX3_reason 48 = .ok (.ireturn, 1) := dk_172 (dk_at dksX3_reason_2 4 rfl rfl)
theorem dX3_reason_49 : decode cX3_reason 49 = .ok (.iload_n 1, 1) := dk_27 (dk_at dksX3_reason_2 5 rfl rfl)
theorem dX3_reason_50 : decode cX3_reason 50 = .ok (.ifCond .ne 21, 3) := dk_154 0 21 (dk_at dksX3_reason_2 6 rfl rfl)
theorem dX3_reason_53 : decode cX3_reason 53 = .ok (.iload_n 2, 1) := dk_28 (dk_at dksX3_reason_2 9 rfl rfl)
theorem dX3_reason_54 : decode cX3_reason 54 = .ok (.ifCond .eq 10, 3) := dk_153 0 10 (dk_at dksX3_reason_2 10 rfl rfl)
theorem dX3_reason_57 : decode cX3_reason 57 = .ok (.aload_n 0, 1) := dk_42 (dk_at dksX3_reason_2 13 rfl rfl)
theorem dX3_reason_58 : decode cX3_reason 58 = .ok (.getfield 43, 3) := dk_180 0 43 (dk_at dksX3_reason_2 14 rfl rfl)
theorem dX3_reason_61 : decode cX3_reason 61 = .ok (.goto 25, 3) := dk_167 0 25 (dk_at dksX3_reason_2 17 rfl rfl)
theorem dX3_reason_64 : decode cX3_reason 64 = .ok (.aload_n 0, 1) := dk_42 (dk_at dksX3_reason_2 20 rfl rfl)
theorem dX3_reason_65 : decode cX3_reason 65 = .ok (.getfield 40, 3) := dk_180 0 40 (dk_at dksX3_reason_2 21 rfl rfl)
theorem dX3_reason_68 : decode cX3_reason 68 = .ok (.goto 18, 3) := dk_167 0 18 (dk_at dksX3_reason_3 0 rfl rfl)
theorem dX3_reason_71 : decode cX3_reason 71 = .ok (.iload_n 2, 1) := dk_28 (dk_at dksX3_reason_3 3 rfl rfl)
theorem dX3_reason_72 : decode cX3_reason 72 = .ok (.ifCond .eq 10, 3) := dk_153 0 10 (dk_at dksX3_reason_3 4 rfl rfl)
theorem dX3_reason_75 : decode cX3_reason 75 = .ok (.aload_n 0, 1) := dk_42 (dk_at dksX3_reason_3 7 rfl rfl)
theorem dX3_reason_76 : decode cX3_reason 76 = .ok (.getfield 53, 3) := dk_180 0 53 (dk_at dksX3_reason_3 8 rfl rfl)
theorem dX3_reason_79 : decode cX3_reason 79 = .ok (.goto 7, 3) := dk_167 0 7 (dk_at dksX3_reason_3 11 rfl rfl)
theorem dX3_reason_82 : decode cX3_reason 82 = .ok (.aload_n 0, 1) := dk_42 (dk_at dksX3_reason_3 14 rfl rfl)
theorem dX3_reason_83 : decode cX3_reason 83 = .ok (.getfield 46, 3) := dk_180 0 46 (dk_at dksX3_reason_3 15 rfl rfl)
theorem dX3_reason_86 : decode cX3_reason 86 = .ok (.ireturn, 1) := dk_172 (dk_at dksX3_reason_3 18 rfl rfl)
abbrev cX3_in : ByteArray := prog_14_method_3_code
def yX3_in : MethodName := ⟨RX3, "in", "(III)Z"⟩
def dkwX3_in_0 : List UInt8 := [26, 27, 161, 0, 12, 26, 28, 163, 0, 7, 4, 167, 0, 4, 3, 172]
abbrev dktX3_in_0 : List UInt8 := dkwX3_in_0 ++ []
theorem dksX3_in_0 : cX3_in.data.toList.drop 0 = dktX3_in_0 := by decide +kernel
theorem dX3_in_0 : decode cX3_in 0 = .ok (.iload_n 0, 1) := dk_26 (dk_at dksX3_in_0 0 rfl rfl)
theorem dX3_in_1 : decode cX3_in 1 = .ok (.iload_n 1, 1) := dk_27 (dk_at dksX3_in_0 1 rfl rfl)
theorem dX3_in_2 : decode cX3_in 2 = .ok (.if_icmp .lt 12, 3) := dk_161 0 12 (dk_at dksX3_in_0 2 rfl rfl)
theorem dX3_in_5 : decode cX3_in 5 = .ok (.iload_n 0, 1) := dk_26 (dk_at dksX3_in_0 5 rfl rfl)
theorem dX3_in_6 : decode cX3_in 6 = .ok (.iload_n 2, 1) := dk_28 (dk_at dksX3_in_0 6 rfl rfl)
theorem dX3_in_7 : decode cX3_in 7 = .ok (.if_icmp .gt 7, 3) := dk_163 0 7 (dk_at dksX3_in_0 7 rfl rfl)
theorem dX3_in_10 : decode cX3_in 10 = .ok (.iconst 1, 1) := dk_4 (dk_at dksX3_in_0 10 rfl rfl)
theorem dX3_in_11 : decode cX3_in 11 = .ok (.goto 4, 3) := dk_167 0 4 (dk_at dksX3_in_0 11 rfl rfl)
theorem dX3_in_14 : decode cX3_in 14 = .ok (.iconst 0, 1) := dk_3 (dk_at dksX3_in_0 14 rfl rfl)
theorem dX3_in_15 : decode cX3_in 15 = .ok (.ireturn, 1) := dk_172 (dk_at dksX3_in_0 15 rfl rfl)
abbrev cX3_cart : ByteArray := prog_14_method_25_code
def yX3_cart : MethodName := ⟨RX3, "cart", "(II)I"⟩
def dkwX3_cart_0 : List UInt8 := [42, 182, 0, 87, 42, 42, 27, 28, 182, 0, 90, 4, 182, 0, 93, 172]
abbrev dktX3_cart_0 : List UInt8 := dkwX3_cart_0 ++ []
theorem dksX3_cart_0 : cX3_cart.data.toList.drop 0 = dktX3_cart_0 := by decide +kernel
theorem dX3_cart_0 : decode cX3_cart 0 = .ok (.aload_n 0, 1) := dk_42 (dk_at dksX3_cart_0 0 rfl rfl)
theorem dX3_cart_1 : decode cX3_cart 1 = .ok (.invokevirtual 87, 3) := dk_182 0 87 (dk_at dksX3_cart_0 1 rfl rfl)
theorem dX3_cart_4 : decode cX3_cart 4 = .ok (.aload_n 0, 1) := dk_42 (dk_at dksX3_cart_0 4 rfl rfl)
theorem dX3_cart_5 : decode cX3_cart 5 = .ok (.aload_n 0, 1) := dk_42 (dk_at dksX3_cart_0 5 rfl rfl)
theorem dX3_cart_6 : decode cX3_cart 6 = .ok (.iload_n 1, 1) := dk_27 (dk_at dksX3_cart_0 6 rfl rfl)
theorem dX3_cart_7 : decode cX3_cart 7 = .ok (.iload_n 2, 1) := dk_28 (dk_at dksX3_cart_0 7 rfl rfl)
theorem dX3_cart_8 : decode cX3_cart 8 = .ok (.invokevirtual 90, 3) := dk_182 0 90 (dk_at dksX3_cart_0 8 rfl rfl)
theorem dX3_cart_11 : decode cX3_cart 11 = .ok (.iconst 1, 1) := dk_4 (dk_at dksX3_cart_0 11 rfl rfl)
theorem dX3_cart_12 : decode cX3_cart 12 = .ok (.invokevirtual 93, 3) := dk_182 0 93 (dk_at dksX3_cart_0 12 rfl rfl)
theorem dX3_cart_15 : decode cX3_cart 15 = .ok (.ireturn, 1) := dk_172 (dk_at dksX3_cart_0 15 rfl rfl)
abbrev cX3_begins : ByteArray := prog_14_method_5_code
def yX3_begins : MethodName := ⟨RX3, "begins", "()V"⟩
def dkwX3_begins_0 : List UInt8 := [42, 3, 16, 10, 182, 0, 30, 177]
abbrev dktX3_begins_0 : List UInt8 := dkwX3_begins_0 ++ []
theorem dksX3_begins_0 : cX3_begins.data.toList.drop 0 = dktX3_begins_0 := by decide +kernel
theorem dX3_begins_0 : decode cX3_begins 0 = .ok (.aload_n 0, 1) := dk_42 (dk_at dksX3_begins_0 0 rfl rfl)
theorem dX3_begins_1 : decode cX3_begins 1 = .ok (.iconst 0, 1) := dk_3 (dk_at dksX3_begins_0 1 rfl rfl)
theorem dX3_begins_2 : decode cX3_begins 2 = .ok (.bipush 10, 2) := dk_16 10 (dk_at dksX3_begins_0 2 rfl rfl)
theorem dX3_begins_4 : decode cX3_begins 4 = .ok (.invokevirtual 30, 3) := dk_182 0 30 (dk_at dksX3_begins_0 4 rfl rfl)
theorem dX3_begins_7 : decode cX3_begins 7 = .ok (.return_, 1) := dk_177 (dk_at dksX3_begins_0 7 rfl rfl)
abbrev cX3_copies : ByteArray := prog_14_method_4_code
def yX3_copies : MethodName := ⟨RX3, "copies", "(II)V"⟩
def dkwX3_copies_1 : List UInt8 := [17, 1, 155, 27, 104, 29, 96, 46, 79, 132, 3, 1, 167, 255, 222, 177]
abbrev dktX3_copies_1 : List UInt8 := dkwX3_copies_1 ++ []
def dkwX3_copies_0 : List UInt8 := [3, 62, 29, 17, 1, 155, 162, 0, 33, 42, 180, 0, 9, 17, 1, 155, 28, 104, 29, 96, 42, 180, 0, 9]
abbrev dktX3_copies_0 : List UInt8 := dkwX3_copies_0 ++ dktX3_copies_1
theorem dksX3_copies_0 : cX3_copies.data.toList.drop 0 = dktX3_copies_0 := by decide +kernel
theorem dksX3_copies_1 : cX3_copies.data.toList.drop 24 = dktX3_copies_1 := dk_seg dksX3_copies_0 24 rfl rfl
theorem dX3_copies_0 : decode cX3_copies 0 = .ok (.iconst 0, 1) := dk_3 (dk_at dksX3_copies_0 0 rfl rfl)
theorem dX3_copies_1 : decode cX3_copies 1 = .ok (.istore_n 3, 1) := dk_62 (dk_at dksX3_copies_0 1 rfl rfl)
theorem dX3_copies_2 : decode cX3_copies 2 = .ok (.iload_n 3, 1) := dk_29 (dk_at dksX3_copies_0 2 rfl rfl)
theorem dX3_copies_3 : decode cX3_copies 3 = .ok (.sipush 411, 3) := dk_17 1 155 (dk_at dksX3_copies_0 3 rfl rfl)
theorem dX3_copies_6 : decode cX3_copies 6 = .ok (.if_icmp .ge 33, 3) := dk_162 0 33 (dk_at dksX3_copies_0 6 rfl rfl)
theorem dX3_copies_9 : decode cX3_copies 9 = .ok (.aload_n 0, 1) := dk_42 (dk_at dksX3_copies_0 9 rfl rfl)
theorem dX3_copies_10 : decode cX3_copies 10 = .ok (.getfield 9, 3) := dk_180 0 9 (dk_at dksX3_copies_0 10 rfl rfl)
theorem dX3_copies_13 : decode cX3_copies 13 = .ok (.sipush 411, 3) := dk_17 1 155 (dk_at dksX3_copies_0 13 rfl rfl)
theorem dX3_copies_16 : decode cX3_copies 16 = .ok (.iload_n 2, 1) := dk_28 (dk_at dksX3_copies_0 16 rfl rfl)
theorem dX3_copies_17 : decode cX3_copies 17 = .ok (.imul, 1) := dk_104 (dk_at dksX3_copies_0 17 rfl rfl)
theorem dX3_copies_18 : decode cX3_copies 18 = .ok (.iload_n 3, 1) := dk_29 (dk_at dksX3_copies_0 18 rfl rfl)
theorem dX3_copies_19 : decode cX3_copies 19 = .ok (.iadd, 1) := dk_96 (dk_at dksX3_copies_0 19 rfl rfl)
theorem dX3_copies_20 : decode cX3_copies 20 = .ok (.aload_n 0, 1) := dk_42 (dk_at dksX3_copies_0 20 rfl rfl)
theorem dX3_copies_21 : decode cX3_copies 21 = .ok (.getfield 9, 3) := dk_180 0 9 (dk_at dksX3_copies_0 21 rfl rfl)
theorem dX3_copies_24 : decode cX3_copies 24 = .ok (.sipush 411, 3) := dk_17 1 155 (dk_at dksX3_copies_1 0 rfl rfl)
theorem dX3_copies_27 : decode cX3_copies 27 = .ok (.iload_n 1, 1) := dk_27 (dk_at dksX3_copies_1 3 rfl rfl)
theorem dX3_copies_28 : decode cX3_copies 28 = .ok (.imul, 1) := dk_104 (dk_at dksX3_copies_1 4 rfl rfl)
theorem dX3_copies_29 : decode cX3_copies 29 = .ok (.iload_n 3, 1) := dk_29 (dk_at dksX3_copies_1 5 rfl rfl)
theorem dX3_copies_30 : decode cX3_copies 30 = .ok (.iadd, 1) := dk_96 (dk_at dksX3_copies_1 6 rfl rfl)
theorem dX3_copies_31 : decode cX3_copies 31 = .ok (.iaload, 1) := dk_46 (dk_at dksX3_copies_1 7 rfl rfl)
theorem dX3_copies_32 : decode cX3_copies 32 = .ok (.iastore, 1) := dk_79 (dk_at dksX3_copies_1 8 rfl rfl)
theorem dX3_copies_33 : decode cX3_copies 33 = .ok (.iinc 3 1, 3) := dk_132 3 1 (dk_at dksX3_copies_1 9 rfl rfl)
theorem dX3_copies_36 : decode cX3_copies 36 = .ok (.goto (-34), 3) := dk_167 255 222 (dk_at dksX3_copies_1 12 rfl rfl)
theorem dX3_copies_39 : decode cX3_copies 39 = .ok (.return_, 1) := dk_177 (dk_at dksX3_copies_1 15 rfl rfl)
abbrev cX3_comes : ByteArray := prog_14_method_24_code
def yX3_comes : MethodName := ⟨RX3, "comes", "(II)Z"⟩
def dkwX3_comes_6 : List UInt8 := [172]
abbrev dktX3_comes_6 : List UInt8 := dkwX3_comes_6 ++ []
def dkwX3_comes_5 : List UInt8 := [42, 180, 0, 9, 4, 46, 182, 0, 83, 42, 29, 16, 8, 21, 4, 182, 0, 83, 42, 29, 181, 0, 37, 4]
abbrev dktX3_comes_5 : List UInt8 := dkwX3_comes_5 ++ dktX3_comes_6
def dkwX3_comes_4 : List UInt8 := [29, 3, 27, 182, 0, 83, 42, 29, 4, 28, 182, 0, 83, 42, 29, 6, 2, 182, 0, 83, 42, 29, 16, 6]
abbrev dktX3_comes_4 : List UInt8 := dkwX3_comes_4 ++ dktX3_comes_5
def dkwX3_comes_3 : List UInt8 := [54, 5, 21, 5, 16, 10, 162, 0, 17, 42, 29, 21, 5, 3, 182, 0, 83, 132, 5, 1, 167, 255, 238, 42]
abbrev dktX3_comes_3 : List UInt8 := dkwX3_comes_3 ++ dktX3_comes_4
def dkwX3_comes_2 : List UInt8 := [153, 0, 5, 3, 172, 42, 27, 3, 182, 0, 79, 54, 4, 42, 180, 0, 9, 3, 92, 46, 4, 96, 79, 3]
abbrev dktX3_comes_2 : List UInt8 := dkwX3_comes_2 ++ dktX3_comes_3
def dkwX3_comes_1 : List UInt8 := [182, 0, 76, 154, 0, 24, 42, 29, 16, 40, 160, 0, 7, 4, 167, 0, 4, 3, 5, 16, 40, 182, 0, 56]
abbrev dktX3_comes_1 : List UInt8 := dkwX3_comes_1 ++ dktX3_comes_2
def dkwX3_comes_0 : List UInt8 := [42, 180, 0, 9, 3, 46, 62, 42, 27, 3, 4, 182, 0, 76, 154, 0, 35, 42, 28, 4, 16, 9]
abbrev dktX3_comes_0 : List UInt8 := dkwX3_comes_0 ++ dktX3_comes_1
theorem dksX3_comes_0 : cX3_comes.data.toList.drop 0 = dktX3_comes_0 := by decide +kernel
theorem dksX3_comes_1 : cX3_comes.data.toList.drop 22 = dktX3_comes_1 := dk_seg dksX3_comes_0 22 rfl rfl
theorem dksX3_comes_2 : cX3_comes.data.toList.drop 46 = dktX3_comes_2 := dk_seg dksX3_comes_1 24 rfl rfl
theorem dksX3_comes_3 : cX3_comes.data.toList.drop 70 = dktX3_comes_3 := dk_seg dksX3_comes_2 24 rfl rfl
theorem dksX3_comes_4 : cX3_comes.data.toList.drop 94 = dktX3_comes_4 := dk_seg dksX3_comes_3 24 rfl rfl
theorem dksX3_comes_5 : cX3_comes.data.toList.drop 118 = dktX3_comes_5 := dk_seg dksX3_comes_4 24 rfl rfl
theorem dksX3_comes_6 : cX3_comes.data.toList.drop 142 = dktX3_comes_6 := dk_seg dksX3_comes_5 24 rfl rfl
theorem dX3_comes_0 : decode cX3_comes 0 = .ok (.aload_n 0, 1) := dk_42 (dk_at dksX3_comes_0 0 rfl rfl)
theorem dX3_comes_1 : decode cX3_comes 1 = .ok (.getfield 9, 3) := dk_180 0 9 (dk_at dksX3_comes_0 1 rfl rfl)
theorem dX3_comes_4 : decode cX3_comes 4 = .ok (.iconst 0, 1) := dk_3 (dk_at dksX3_comes_0 4 rfl rfl)
theorem dX3_comes_5 : decode cX3_comes 5 = .ok (.iaload, 1) := dk_46 (dk_at dksX3_comes_0 5 rfl rfl)
theorem dX3_comes_6 : decode cX3_comes 6 = .ok (.istore_n 3, 1) := dk_62 (dk_at dksX3_comes_0 6 rfl rfl)
theorem dX3_comes_7 : decode cX3_comes 7 = .ok (.aload_n 0, 1) := dk_42 (dk_at dksX3_comes_0 7 rfl rfl)
theorem dX3_comes_8 : decode cX3_comes 8 = .ok (.iload_n 1, 1) := dk_27 (dk_at dksX3_comes_0 8 rfl rfl)
theorem dX3_comes_9 : decode cX3_comes 9 = .ok (.iconst 0, 1) := dk_3 (dk_at dksX3_comes_0 9 rfl rfl)
theorem dX3_comes_10 : decode cX3_comes 10 = .ok (.iconst 1, 1) := dk_4 (dk_at dksX3_comes_0 10 rfl rfl)
theorem dX3_comes_11 : decode cX3_comes 11 = .ok (.invokevirtual 76, 3) := dk_182 0 76 (dk_at dksX3_comes_0 11 rfl rfl)
theorem dX3_comes_14 : decode cX3_comes 14 = .ok (.ifCond .ne 35, 3) := dk_154 0 35 (dk_at dksX3_comes_0 14 rfl rfl)
theorem dX3_comes_17 : decode cX3_comes 17 = .ok (.aload_n 0, 1) := dk_42 (dk_at dksX3_comes_0 17 rfl rfl)
theorem dX3_comes_18 : decode cX3_comes 18 = .ok (.iload_n 2, 1) := dk_28 (dk_at dksX3_comes_0 18 rfl rfl)
theorem dX3_comes_19 : decode cX3_comes 19 = .ok (.iconst 1, 1) := dk_4 (dk_at dksX3_comes_0 19 rfl rfl)
theorem dX3_comes_20 : decode cX3_comes 20 = .ok (.bipush 9, 2) := dk_16 9 (dk_at dksX3_comes_0 20 rfl rfl)
theorem dX3_comes_22 : decode cX3_comes 22 = .ok (.invokevirtual 76, 3) := dk_182 0 76 (dk_at dksX3_comes_1 0 rfl rfl)
theorem dX3_comes_25 : decode cX3_comes 25 = .ok (.ifCond .ne 24, 3) := dk_154 0 24 (dk_at dksX3_comes_1 3 rfl rfl)
theorem dX3_comes_28 : decode cX3_comes 28 = .ok (.aload_n 0, 1) := dk_42 (dk_at dksX3_comes_1 6 rfl rfl)
theorem dX3_comes_29 : decode cX3_comes 29 = .ok (.iload_n 3, 1) := dk_29 (dk_at dksX3_comes_1 7 rfl rfl)
theorem dX3_comes_30 : decode cX3_comes 30 = .ok (.bipush 40, 2) := dk_16 40 (dk_at dksX3_comes_1 8 rfl rfl)
theorem dX3_comes_32 : decode cX3_comes 32 = .ok (.if_icmp .ne 7, 3) := dk_160 0 7 (dk_at dksX3_comes_1 10 rfl rfl)
theorem dX3_comes_35 : decode cX3_comes 35 = .ok (.iconst 1, 1) := dk_4 (dk_at dksX3_comes_1 13 rfl rfl)
theorem dX3_comes_36 : decode cX3_comes 36 = .ok (.goto 4, 3) := dk_167 0 4 (dk_at dksX3_comes_1 14 rfl rfl)
theorem dX3_comes_39 : decode cX3_comes 39 = .ok (.iconst 0, 1) := dk_3 (dk_at dksX3_comes_1 17 rfl rfl)
theorem dX3_comes_40 : decode cX3_comes 40 = .ok (.iconst 2, 1) := dk_5 (dk_at dksX3_comes_1 18 rfl rfl)
theorem dX3_comes_41 : decode cX3_comes 41 = .ok (.bipush 40, 2) := dk_16 40 (dk_at dksX3_comes_1 19 rfl rfl)
theorem dX3_comes_43 : decode cX3_comes 43 = .ok (.invokevirtual 56, 3) := dk_182 0 56 (dk_at dksX3_comes_1 21 rfl rfl)
theorem dX3_comes_46 : decode cX3_comes 46 = .ok (.ifCond .eq 5, 3) := dk_153 0 5 (dk_at dksX3_comes_2 0 rfl rfl)
theorem dX3_comes_49 : decode cX3_comes 49 = .ok (.iconst 0, 1) := dk_3 (dk_at dksX3_comes_2 3 rfl rfl)
theorem dX3_comes_50 : decode cX3_comes 50 = .ok (.ireturn, 1) := dk_172 (dk_at dksX3_comes_2 4 rfl rfl)
theorem dX3_comes_51 : decode cX3_comes 51 = .ok (.aload_n 0, 1) := dk_42 (dk_at dksX3_comes_2 5 rfl rfl)
theorem dX3_comes_52 : decode cX3_comes 52 = .ok (.iload_n 1, 1) := dk_27 (dk_at dksX3_comes_2 6 rfl rfl)
theorem dX3_comes_53 : decode cX3_comes 53 = .ok (.iconst 0, 1) := dk_3 (dk_at dksX3_comes_2 7 rfl rfl)
theorem dX3_comes_54 : decode cX3_comes 54 = .ok (.invokevirtual 79, 3) := dk_182 0 79 (dk_at dksX3_comes_2 8 rfl rfl)
theorem dX3_comes_57 : decode cX3_comes 57 = .ok (.istore 4, 2) := dk_54 4 (dk_at dksX3_comes_2 11 rfl rfl)
theorem dX3_comes_59 : decode cX3_comes 59 = .ok (.aload_n 0, 1) := dk_42 (dk_at dksX3_comes_2 13 rfl rfl)
theorem dX3_comes_60 : decode cX3_comes 60 = .ok (.getfield 9, 3) := dk_180 0 9 (dk_at dksX3_comes_2 14 rfl rfl)
theorem dX3_comes_63 : decode cX3_comes 63 = .ok (.iconst 0, 1) := dk_3 (dk_at dksX3_comes_2 17 rfl rfl)
theorem dX3_comes_64 : decode cX3_comes 64 = .ok (.dup2, 1) := dk_92 (dk_at dksX3_comes_2 18 rfl rfl)
theorem dX3_comes_65 : decode cX3_comes 65 = .ok (.iaload, 1) := dk_46 (dk_at dksX3_comes_2 19 rfl rfl)
theorem dX3_comes_66 : decode cX3_comes 66 = .ok (.iconst 1, 1) := dk_4 (dk_at dksX3_comes_2 20 rfl rfl)
theorem dX3_comes_67 : decode cX3_comes 67 = .ok (.iadd, 1) := dk_96 (dk_at dksX3_comes_2 21 rfl rfl)
theorem dX3_comes_68 : decode cX3_comes 68 = .ok (.iastore, 1) := dk_79 (dk_at dksX3_comes_2 22 rfl rfl)
theorem dX3_comes_69 : decode cX3_comes 69 = .ok (.iconst 0, 1) := dk_3 (dk_at dksX3_comes_2 23 rfl rfl)
theorem dX3_comes_70 : decode cX3_comes 70 = .ok (.istore 5, 2) := dk_54 5 (dk_at dksX3_comes_3 0 rfl rfl)
theorem dX3_comes_72 : decode cX3_comes 72 = .ok (.iload 5, 2) := dk_21 5 (dk_at dksX3_comes_3 2 rfl rfl)
theorem dX3_comes_74 : decode cX3_comes 74 = .ok (.bipush 10, 2) := dk_16 10 (dk_at dksX3_comes_3 4 rfl rfl)
theorem dX3_comes_76 : decode cX3_comes 76 = .ok (.if_icmp .ge 17, 3) := dk_162 0 17 (dk_at dksX3_comes_3 6 rfl rfl)
theorem dX3_comes_79 : decode cX3_comes 79 = .ok (.aload_n 0, 1) := dk_42 (dk_at dksX3_comes_3 9 rfl rfl)
theorem dX3_comes_80 : decode cX3_comes 80 = .ok (.iload_n 3, 1) := dk_29 (dk_at dksX3_comes_3 10 rfl rfl)
theorem dX3_comes_81 : decode cX3_comes 81 = .ok (.iload 5, 2) := dk_21 5 (dk_at dksX3_comes_3 11 rfl rfl)
theorem dX3_comes_83 : decode cX3_comes 83 = .ok (.iconst 0, 1) := dk_3 (dk_at dksX3_comes_3 13 rfl rfl)
theorem dX3_comes_84 : decode cX3_comes 84 = .ok (.invokevirtual 83, 3) := dk_182 0 83 (dk_at dksX3_comes_3 14 rfl rfl)
theorem dX3_comes_87 : decode cX3_comes 87 = .ok (.iinc 5 1, 3) := dk_132 5 1 (dk_at dksX3_comes_3 17 rfl rfl)
theorem dX3_comes_90 : decode cX3_comes 90 = .ok (.goto (-18), 3) := dk_167 255 238 (dk_at dksX3_comes_3 20 rfl rfl)
theorem dX3_comes_93 : decode cX3_comes 93 = .ok (.aload_n 0, 1) := dk_42 (dk_at dksX3_comes_3 23 rfl rfl)
theorem dX3_comes_94 : decode cX3_comes 94 = .ok (.iload_n 3, 1) := dk_29 (dk_at dksX3_comes_4 0 rfl rfl)
theorem dX3_comes_95 : decode cX3_comes 95 = .ok (.iconst 0, 1) := dk_3 (dk_at dksX3_comes_4 1 rfl rfl)
theorem dX3_comes_96 : decode cX3_comes 96 = .ok (.iload_n 1, 1) := dk_27 (dk_at dksX3_comes_4 2 rfl rfl)
theorem dX3_comes_97 : decode cX3_comes 97 = .ok (.invokevirtual 83, 3) := dk_182 0 83 (dk_at dksX3_comes_4 3 rfl rfl)
theorem dX3_comes_100 : decode cX3_comes 100 = .ok (.aload_n 0, 1) := dk_42 (dk_at dksX3_comes_4 6 rfl rfl)
theorem dX3_comes_101 : decode cX3_comes 101 = .ok (.iload_n 3, 1) := dk_29 (dk_at dksX3_comes_4 7 rfl rfl)
theorem dX3_comes_102 : decode cX3_comes 102 = .ok (.iconst 1, 1) := dk_4 (dk_at dksX3_comes_4 8 rfl rfl)
theorem dX3_comes_103 : decode cX3_comes 103 = .ok (.iload_n 2, 1) := dk_28 (dk_at dksX3_comes_4 9 rfl rfl)
theorem dX3_comes_104 : decode cX3_comes 104 = .ok (.invokevirtual 83, 3) := dk_182 0 83 (dk_at dksX3_comes_4 10 rfl rfl)
theorem dX3_comes_107 : decode cX3_comes 107 = .ok (.aload_n 0, 1) := dk_42 (dk_at dksX3_comes_4 13 rfl rfl)
theorem dX3_comes_108 : decode cX3_comes 108 = .ok (.iload_n 3, 1) := dk_29 (dk_at dksX3_comes_4 14 rfl rfl)
theorem dX3_comes_109 : decode cX3_comes 109 = .ok (.iconst 3, 1) := dk_6 (dk_at dksX3_comes_4 15 rfl rfl)
theorem dX3_comes_110 : decode cX3_comes 110 = .ok (.iconst (-1), 1) := dk_2 (dk_at dksX3_comes_4 16 rfl rfl)
theorem dX3_comes_111 : decode cX3_comes 111 = .ok (.invokevirtual 83, 3) := dk_182 0 83 (dk_at dksX3_comes_4 17 rfl rfl)
theorem dX3_comes_114 : decode cX3_comes 114 = .ok (.aload_n 0, 1) := dk_42 (dk_at dksX3_comes_4 20 rfl rfl)
theorem dX3_comes_115 : decode cX3_comes 115 = .ok (.iload_n 3, 1) := dk_29 (dk_at dksX3_comes_4 21 rfl rfl)
theorem dX3_comes_116 : decode cX3_comes 116 = .ok (.bipush 6, 2) := dk_16 6 (dk_at dksX3_comes_4 22 rfl rfl)
theorem dX3_comes_118 : decode cX3_comes 118 = .ok (.aload_n 0, 1) := dk_42 (dk_at dksX3_comes_5 0 rfl rfl)
theorem dX3_comes_119 : decode cX3_comes 119 = .ok (.getfield 9, 3) := dk_180 0 9 (dk_at dksX3_comes_5 1 rfl rfl)
theorem dX3_comes_122 : decode cX3_comes 122 = .ok (.iconst 1, 1) := dk_4 (dk_at dksX3_comes_5 4 rfl rfl)
theorem dX3_comes_123 : decode cX3_comes 123 = .ok (.iaload, 1) := dk_46 (dk_at dksX3_comes_5 5 rfl rfl)
theorem dX3_comes_124 : decode cX3_comes 124 = .ok (.invokevirtual 83, 3) := dk_182 0 83 (dk_at dksX3_comes_5 6 rfl rfl)
theorem dX3_comes_127 : decode cX3_comes 127 = .ok (.aload_n 0, 1) := dk_42 (dk_at dksX3_comes_5 9 rfl rfl)
theorem dX3_comes_128 : decode cX3_comes 128 = .ok (.iload_n 3, 1) := dk_29 (dk_at dksX3_comes_5 10 rfl rfl)
theorem dX3_comes_129 : decode cX3_comes 129 = .ok (.bipush 8, 2) := dk_16 8 (dk_at dksX3_comes_5 11 rfl rfl)
theorem dX3_comes_131 : decode cX3_comes 131 = .ok (.iload 4, 2) := dk_21 4 (dk_at dksX3_comes_5 13 rfl rfl)
theorem dX3_comes_133 : decode cX3_comes 133 = .ok (.invokevirtual 83, 3) := dk_182 0 83 (dk_at dksX3_comes_5 15 rfl rfl)
theorem dX3_comes_136 : decode cX3_comes 136 = .ok (.aload_n 0, 1) := dk_42 (dk_at dksX3_comes_5 18 rfl rfl)
theorem dX3_comes_137 : decode cX3_comes 137 = .ok (.iload_n 3, 1) := dk_29 (dk_at dksX3_comes_5 19 rfl rfl)
theorem dX3_comes_138 : decode cX3_comes 138 = .ok (.putfield 37, 3) := dk_181 0 37 (dk_at dksX3_comes_5 20 rfl rfl)
theorem dX3_comes_141 : decode cX3_comes 141 = .ok (.iconst 1, 1) := dk_4 (dk_at dksX3_comes_5 23 rfl rfl)
theorem dX3_comes_142 : decode cX3_comes 142 = .ok (.ireturn, 1) := dk_172 (dk_at dksX3_comes_6 0 rfl rfl)
abbrev cX3_isOut : ByteArray := prog_14_method_10_code
def yX3_isOut : MethodName := ⟨RX3, "isOut", "(III)Z"⟩
def dkwX3_isOut_0 : List UInt8 := [42, 27, 28, 29, 184, 0, 49, 154, 0, 7, 4, 167, 0, 4, 3, 4, 27, 182, 0, 56, 172]
abbrev dktX3_isOut_0 : List UInt8 := dkwX3_isOut_0 ++ []
theorem dksX3_isOut_0 : cX3_isOut.data.toList.drop 0 = dktX3_isOut_0 := by decide +kernel
theorem dX3_isOut_0 : decode cX3_isOut 0 = .ok (.aload_n 0, 1) := dk_42 (dk_at dksX3_isOut_0 0 rfl rfl)
theorem dX3_isOut_1 : decode cX3_isOut 1 = .ok (.iload_n 1, 1) := dk_27 (dk_at dksX3_isOut_0 1 rfl rfl)
theorem dX3_isOut_2 : decode cX3_isOut 2 = .ok (.iload_n 2, 1) := dk_28 (dk_at dksX3_isOut_0 2 rfl rfl)
theorem dX3_isOut_3 : decode cX3_isOut 3 = .ok (.iload_n 3, 1) := dk_29 (dk_at dksX3_isOut_0 3 rfl rfl)
theorem dX3_isOut_4 : decode cX3_isOut 4 = .ok (.invokestatic 49, 3) := dk_184 0 49 (dk_at dksX3_isOut_0 4 rfl rfl)
theorem dX3_isOut_7 : decode cX3_isOut 7 = .ok (.ifCond .ne 7, 3) := dk_154 0 7 (dk_at dksX3_isOut_0 7 rfl rfl)
theorem dX3_isOut_10 : decode cX3_isOut 10 = .ok (.iconst 1, 1) := dk_4 (dk_at dksX3_isOut_0 10 rfl rfl)
theorem dX3_isOut_11 : decode cX3_isOut 11 = .ok (.goto 4, 3) := dk_167 0 4 (dk_at dksX3_isOut_0 11 rfl rfl)
theorem dX3_isOut_14 : decode cX3_isOut 14 = .ok (.iconst 0, 1) := dk_3 (dk_at dksX3_isOut_0 14 rfl rfl)
theorem dX3_isOut_15 : decode cX3_isOut 15 = .ok (.iconst 1, 1) := dk_4 (dk_at dksX3_isOut_0 15 rfl rfl)
theorem dX3_isOut_16 : decode cX3_isOut 16 = .ok (.iload_n 1, 1) := dk_27 (dk_at dksX3_isOut_0 16 rfl rfl)
theorem dX3_isOut_17 : decode cX3_isOut 17 = .ok (.invokevirtual 56, 3) := dk_182 0 56 (dk_at dksX3_isOut_0 17 rfl rfl)
theorem dX3_isOut_20 : decode cX3_isOut 20 = .ok (.ireturn, 1) := dk_172 (dk_at dksX3_isOut_0 20 rfl rfl)
abbrev cX3_refuses : ByteArray := prog_14_method_7_code
def yX3_refuses : MethodName := ⟨RX3, "refuses", "(ZII)Z"⟩
def dkwX3_refuses_0 : List UInt8 := [27, 153, 0, 18, 42, 28, 181, 0, 40, 42, 29, 181, 0, 43, 42, 3, 181, 0, 46, 27, 172]
abbrev dktX3_refuses_0 : List UInt8 := dkwX3_refuses_0 ++ []
theorem dksX3_refuses_0 : cX3_refuses.data.toList.drop 0 = dktX3_refuses_0 := by decide +kernel
theorem dX3_refuses_0 : decode cX3_refuses 0 = .ok (.iload_n 1, 1) := dk_27 (dk_at dksX3_refuses_0 0 rfl rfl)
theorem dX3_refuses_1 : decode cX3_refuses 1 = .ok (.ifCond .eq 18, 3) := dk_153 0 18 (dk_at dksX3_refuses_0 1 rfl rfl)
theorem dX3_refuses_4 : decode cX3_refuses 4 = .ok (.aload_n 0, 1) := dk_42 (dk_at dksX3_refuses_0 4 rfl rfl)
theorem dX3_refuses_5 : decode cX3_refuses 5 = .ok (.iload_n 2, 1) := dk_28 (dk_at dksX3_refuses_0 5 rfl rfl)
theorem dX3_refuses_6 : decode cX3_refuses 6 = .ok (.putfield 40, 3) := dk_181 0 40 (dk_at dksX3_refuses_0 6 rfl rfl)
theorem dX3_refuses_9 : decode cX3_refuses 9 = .ok (.aload_n 0, 1) := dk_42 (dk_at dksX3_refuses_0 9 rfl rfl)
theorem dX3_refuses_10 : decode cX3_refuses 10 = .ok (.iload_n 3, 1) := dk_29 (dk_at dksX3_refuses_0 10 rfl rfl)
theorem dX3_refuses_11 : decode cX3_refuses 11 = .ok (.putfield 43, 3) := dk_181 0 43 (dk_at dksX3_refuses_0 11 rfl rfl)
theorem dX3_refuses_14 : decode cX3_refuses 14 = .ok (.aload_n 0, 1) := dk_42 (dk_at dksX3_refuses_0 14 rfl rfl)
theorem dX3_refuses_15 : decode cX3_refuses 15 = .ok (.iconst 0, 1) := dk_3 (dk_at dksX3_refuses_0 15 rfl rfl)
theorem dX3_refuses_16 : decode cX3_refuses 16 = .ok (.putfield 46, 3) := dk_181 0 46 (dk_at dksX3_refuses_0 16 rfl rfl)
theorem dX3_refuses_19 : decode cX3_refuses 19 = .ok (.iload_n 1, 1) := dk_27 (dk_at dksX3_refuses_0 19 rfl rfl)
theorem dX3_refuses_20 : decode cX3_refuses 20 = .ok (.ireturn, 1) := dk_172 (dk_at dksX3_refuses_0 20 rfl rfl)
abbrev cX3_keyAt : ByteArray := prog_14_method_20_code
def yX3_keyAt : MethodName := ⟨RX3, "keyAt", "(IZ)I"⟩
def dkwX3_keyAt_4 : List UInt8 := [167, 255, 169, 29, 172]
abbrev dktX3_keyAt_4 : List UInt8 := dkwX3_keyAt_4 ++ []
def dkwX3_keyAt_3 : List UInt8 := [29, 161, 0, 16, 42, 21, 4, 16, 8, 182, 0, 64, 4, 96, 167, 0, 4, 29, 62, 132, 4, 1]
abbrev dktX3_keyAt_3 : List UInt8 := dkwX3_keyAt_3 ++ dktX3_keyAt_4
def dkwX3_keyAt_2 : List UInt8 := [21, 4, 16, 8, 182, 0, 64, 4, 100, 167, 0, 33, 29, 167, 0, 29, 42, 21, 4, 16, 8, 182, 0, 64]
abbrev dktX3_keyAt_2 : List UInt8 := dkwX3_keyAt_2 ++ dktX3_keyAt_3
def dkwX3_keyAt_1 : List UInt8 := [154, 0, 6, 167, 0, 63, 28, 153, 0, 32, 42, 21, 4, 16, 8, 182, 0, 64, 29, 163, 0, 16, 42]
abbrev dktX3_keyAt_1 : List UInt8 := dkwX3_keyAt_1 ++ dktX3_keyAt_2
def dkwX3_keyAt_0 : List UInt8 := [3, 62, 3, 54, 4, 21, 4, 42, 180, 0, 9, 3, 46, 162, 0, 82, 42, 21, 4, 27, 182, 0, 68]
abbrev dktX3_keyAt_0 : List UInt8 := dkwX3_keyAt_0 ++ dktX3_keyAt_1
theorem dksX3_keyAt_0 : cX3_keyAt.data.toList.drop 0 = dktX3_keyAt_0 := by decide +kernel
theorem dksX3_keyAt_1 : cX3_keyAt.data.toList.drop 23 = dktX3_keyAt_1 := dk_seg dksX3_keyAt_0 23 rfl rfl
theorem dksX3_keyAt_2 : cX3_keyAt.data.toList.drop 46 = dktX3_keyAt_2 := dk_seg dksX3_keyAt_1 23 rfl rfl
theorem dksX3_keyAt_3 : cX3_keyAt.data.toList.drop 70 = dktX3_keyAt_3 := dk_seg dksX3_keyAt_2 24 rfl rfl
theorem dksX3_keyAt_4 : cX3_keyAt.data.toList.drop 92 = dktX3_keyAt_4 := dk_seg dksX3_keyAt_3 22 rfl rfl
theorem dX3_keyAt_0 : decode cX3_keyAt 0 = .ok (.iconst 0, 1) := dk_3 (dk_at dksX3_keyAt_0 0 rfl rfl)
theorem dX3_keyAt_1 : decode cX3_keyAt 1 = .ok (.istore_n 3, 1) := dk_62 (dk_at dksX3_keyAt_0 1 rfl rfl)
theorem dX3_keyAt_2 : decode cX3_keyAt 2 = .ok (.iconst 0, 1) := dk_3 (dk_at dksX3_keyAt_0 2 rfl rfl)
theorem dX3_keyAt_3 : decode cX3_keyAt 3 = .ok (.istore 4, 2) := dk_54 4 (dk_at dksX3_keyAt_0 3 rfl rfl)
theorem dX3_keyAt_5 : decode cX3_keyAt 5 = .ok (.iload 4, 2) := dk_21 4 (dk_at dksX3_keyAt_0 5 rfl rfl)
theorem dX3_keyAt_7 : decode cX3_keyAt 7 = .ok (.aload_n 0, 1) := dk_42 (dk_at dksX3_keyAt_0 7 rfl rfl)
theorem dX3_keyAt_8 : decode cX3_keyAt 8 = .ok (.getfield 9, 3) := dk_180 0 9 (dk_at dksX3_keyAt_0 8 rfl rfl)
theorem dX3_keyAt_11 : decode cX3_keyAt 11 = .ok (.iconst 0, 1) := dk_3 (dk_at dksX3_keyAt_0 11 rfl rfl)
theorem dX3_keyAt_12 : decode cX3_keyAt 12 = .ok (.iaload, 1) := dk_46 (dk_at dksX3_keyAt_0 12 rfl rfl)
theorem dX3_keyAt_13 : decode cX3_keyAt 13 = .ok (.if_icmp .ge 82, 3) := dk_162 0 82 (dk_at dksX3_keyAt_0 13 rfl rfl)
theorem dX3_keyAt_16 : decode cX3_keyAt 16 = .ok (.aload_n 0, 1) := dk_42 (dk_at dksX3_keyAt_0 16 rfl rfl)
theorem dX3_keyAt_17 : decode cX3_keyAt 17 = .ok (.iload 4, 2) := dk_21 4 (dk_at dksX3_keyAt_0 17 rfl rfl)
theorem dX3_keyAt_19 : decode cX3_keyAt 19 = .ok (.iload_n 1, 1) := dk_27 (dk_at dksX3_keyAt_0 19 rfl rfl)
theorem dX3_keyAt_20 : decode cX3_keyAt 20 = .ok (.invokevirtual 68, 3) := dk_182 0 68 (dk_at dksX3_keyAt_0 20 rfl rfl)
theorem dX3_keyAt_23 : decode cX3_keyAt 23 = .ok (.ifCond .ne 6, 3) := dk_154 0 6 (dk_at dksX3_keyAt_1 0 rfl rfl)
theorem dX3_keyAt_26 : decode cX3_keyAt 26 = .ok (.goto 63, 3) := dk_167 0 63 (dk_at dksX3_keyAt_1 3 rfl rfl)
theorem dX3_keyAt_29 : decode cX3_keyAt 29 = .ok (.iload_n 2, 1) := dk_28 (dk_at dksX3_keyAt_1 6 rfl rfl)
theorem dX3_keyAt_30 : decode cX3_keyAt 30 = .ok (.ifCond .eq 32, 3) := dk_153 0 32 (dk_at dksX3_keyAt_1 7 rfl rfl)
theorem dX3_keyAt_33 : decode cX3_keyAt 33 = .ok (.aload_n 0, 1) := dk_42 (dk_at dksX3_keyAt_1 10 rfl rfl)
theorem dX3_keyAt_34 : decode cX3_keyAt 34 = .ok (.iload 4, 2) := dk_21 4 (dk_at dksX3_keyAt_1 11 rfl rfl)
theorem dX3_keyAt_36 : decode cX3_keyAt 36 = .ok (.bipush 8, 2) := dk_16 8 (dk_at dksX3_keyAt_1 13 rfl rfl)
theorem dX3_keyAt_38 : decode cX3_keyAt 38 = .ok (.invokevirtual 64, 3) := dk_182 0 64 (dk_at dksX3_keyAt_1 15 rfl rfl)
theorem dX3_keyAt_41 : decode cX3_keyAt 41 = .ok (.iload_n 3, 1) := dk_29 (dk_at dksX3_keyAt_1 18 rfl rfl)
theorem dX3_keyAt_42 : decode cX3_keyAt 42 = .ok (.if_icmp .gt 16, 3) := dk_163 0 16 (dk_at dksX3_keyAt_1 19 rfl rfl)
theorem dX3_keyAt_45 : decode cX3_keyAt 45 = .ok (.aload_n 0, 1) := dk_42 (dk_at dksX3_keyAt_1 22 rfl rfl)
theorem dX3_keyAt_46 : decode cX3_keyAt 46 = .ok (.iload 4, 2) := dk_21 4 (dk_at dksX3_keyAt_2 0 rfl rfl)
theorem dX3_keyAt_48 : decode cX3_keyAt 48 = .ok (.bipush 8, 2) := dk_16 8 (dk_at dksX3_keyAt_2 2 rfl rfl)
theorem dX3_keyAt_50 : decode cX3_keyAt 50 = .ok (.invokevirtual 64, 3) := dk_182 0 64 (dk_at dksX3_keyAt_2 4 rfl rfl)
theorem dX3_keyAt_53 : decode cX3_keyAt 53 = .ok (.iconst 1, 1) := dk_4 (dk_at dksX3_keyAt_2 7 rfl rfl)
theorem dX3_keyAt_54 : decode cX3_keyAt 54 = .ok (.isub, 1) := dk_100 (dk_at dksX3_keyAt_2 8 rfl rfl)
theorem dX3_keyAt_55 : decode cX3_keyAt 55 = .ok (.goto 33, 3) := dk_167 0 33 (dk_at dksX3_keyAt_2 9 rfl rfl)
theorem dX3_keyAt_58 : decode cX3_keyAt 58 = .ok (.iload_n 3, 1) := dk_29 (dk_at dksX3_keyAt_2 12 rfl rfl)
theorem dX3_keyAt_59 : decode cX3_keyAt 59 = .ok (.goto 29, 3) := dk_167 0 29 (dk_at dksX3_keyAt_2 13 rfl rfl)
theorem dX3_keyAt_62 : decode cX3_keyAt 62 = .ok (.aload_n 0, 1) := dk_42 (dk_at dksX3_keyAt_2 16 rfl rfl)
theorem dX3_keyAt_63 : decode cX3_keyAt 63 = .ok (.iload 4, 2) := dk_21 4 (dk_at dksX3_keyAt_2 17 rfl rfl)
theorem dX3_keyAt_65 : decode cX3_keyAt 65 = .ok (.bipush 8, 2) := dk_16 8 (dk_at dksX3_keyAt_2 19 rfl rfl)
theorem dX3_keyAt_67 : decode cX3_keyAt 67 = .ok (.invokevirtual 64, 3) := dk_182 0 64 (dk_at dksX3_keyAt_2 21 rfl rfl)
theorem dX3_keyAt_70 : decode cX3_keyAt 70 = .ok (.iload_n 3, 1) := dk_29 (dk_at dksX3_keyAt_3 0 rfl rfl)
theorem dX3_keyAt_71 : decode cX3_keyAt 71 = .ok (.if_icmp .lt 16, 3) := dk_161 0 16 (dk_at dksX3_keyAt_3 1 rfl rfl)
theorem dX3_keyAt_74 : decode cX3_keyAt 74 = .ok (.aload_n 0, 1) := dk_42 (dk_at dksX3_keyAt_3 4 rfl rfl)
theorem dX3_keyAt_75 : decode cX3_keyAt 75 = .ok (.iload 4, 2) := dk_21 4 (dk_at dksX3_keyAt_3 5 rfl rfl)
theorem dX3_keyAt_77 : decode cX3_keyAt 77 = .ok (.bipush 8, 2) := dk_16 8 (dk_at dksX3_keyAt_3 7 rfl rfl)
theorem dX3_keyAt_79 : decode cX3_keyAt 79 = .ok (.invokevirtual 64, 3) := dk_182 0 64 (dk_at dksX3_keyAt_3 9 rfl rfl)
theorem dX3_keyAt_82 : decode cX3_keyAt 82 = .ok (.iconst 1, 1) := dk_4 (dk_at dksX3_keyAt_3 12 rfl rfl)
theorem dX3_keyAt_83 : decode cX3_keyAt 83 = .ok (.iadd, 1) := dk_96 (dk_at dksX3_keyAt_3 13 rfl rfl)
theorem dX3_keyAt_84 : decode cX3_keyAt 84 = .ok (.goto 4, 3) := dk_167 0 4 (dk_at dksX3_keyAt_3 14 rfl rfl)
theorem dX3_keyAt_87 : decode cX3_keyAt 87 = .ok (.iload_n 3, 1) := dk_29 (dk_at dksX3_keyAt_3 17 rfl rfl)
theorem dX3_keyAt_88 : decode cX3_keyAt 88 = .ok (.istore_n 3, 1) := dk_62 (dk_at dksX3_keyAt_3 18 rfl rfl)
theorem dX3_keyAt_89 : decode cX3_keyAt 89 = .ok (.iinc 4 1, 3) := dk_132 4 1 (dk_at dksX3_keyAt_3 19 rfl rfl)
theorem dX3_keyAt_92 : decode cX3_keyAt 92 = .ok (.goto (-87), 3) := dk_167 255 169 (dk_at dksX3_keyAt_4 0 rfl rfl)
theorem dX3_keyAt_95 : decode cX3_keyAt 95 = .ok (.iload_n 3, 1) := dk_29 (dk_at dksX3_keyAt_4 3 rfl rfl)
theorem dX3_keyAt_96 : decode cX3_keyAt 96 = .ok (.ireturn, 1) := dk_172 (dk_at dksX3_keyAt_4 4 rfl rfl)
abbrev cX3_waitsAt : ByteArray := prog_14_method_15_code
def yX3_waitsAt : MethodName := ⟨RX3, "waitsAt", "(II)Z"⟩
def dkwX3_waitsAt_1 : List UInt8 := [172]
abbrev dktX3_waitsAt_1 : List UInt8 := dkwX3_waitsAt_1 ++ []
def dkwX3_waitsAt_0 : List UInt8 := [42, 27, 5, 182, 0, 64, 154, 0, 17, 42, 27, 3, 182, 0, 64, 28, 160, 0, 7, 4, 167, 0, 4, 3]
abbrev dktX3_waitsAt_0 : List UInt8 := dkwX3_waitsAt_0 ++ dktX3_waitsAt_1
theorem dksX3_waitsAt_0 : cX3_waitsAt.data.toList.drop 0 = dktX3_waitsAt_0 := by decide +kernel
theorem dksX3_waitsAt_1 : cX3_waitsAt.data.toList.drop 24 = dktX3_waitsAt_1 := dk_seg dksX3_waitsAt_0 24 rfl rfl
theorem dX3_waitsAt_0 : decode cX3_waitsAt 0 = .ok (.aload_n 0, 1) := dk_42 (dk_at dksX3_waitsAt_0 0 rfl rfl)
theorem dX3_waitsAt_1 : decode cX3_waitsAt 1 = .ok (.iload_n 1, 1) := dk_27 (dk_at dksX3_waitsAt_0 1 rfl rfl)
theorem dX3_waitsAt_2 : decode cX3_waitsAt 2 = .ok (.iconst 2, 1) := dk_5 (dk_at dksX3_waitsAt_0 2 rfl rfl)
theorem dX3_waitsAt_3 : decode cX3_waitsAt 3 = .ok (.invokevirtual 64, 3) := dk_182 0 64 (dk_at dksX3_waitsAt_0 3 rfl rfl)
theorem dX3_waitsAt_6 : decode cX3_waitsAt 6 = .ok (.ifCond .ne 17, 3) := dk_154 0 17 (dk_at dksX3_waitsAt_0 6 rfl rfl)
theorem dX3_waitsAt_9 : decode cX3_waitsAt 9 = .ok (.aload_n 0, 1) := dk_42 (dk_at dksX3_waitsAt_0 9 rfl rfl)
theorem dX3_waitsAt_10 : decode cX3_waitsAt 10 = .ok (.iload_n 1, 1) := dk_27 (dk_at dksX3_waitsAt_0 10 rfl rfl)
theorem dX3_waitsAt_11 : decode cX3_waitsAt 11 = .ok (.iconst 0, 1) := dk_3 (dk_at dksX3_waitsAt_0 11 rfl rfl)
theorem dX3_waitsAt_12 : decode cX3_waitsAt 12 = .ok (.invokevirtual 64, 3) := dk_182 0 64 (dk_at dksX3_waitsAt_0 12 rfl rfl)
theorem dX3_waitsAt_15 : decode cX3_waitsAt 15 = .ok (.iload_n 2, 1) := dk_28 (dk_at dksX3_waitsAt_0 15 rfl rfl)
theorem dX3_waitsAt_16 : decode cX3_waitsAt 16 = .ok (.if_icmp .ne 7, 3) := dk_160 0 7 (dk_at dksX3_waitsAt_0 16 rfl rfl)
theorem dX3_waitsAt_19 : decode cX3_waitsAt 19 = .ok (.iconst 1, 1) := dk_4 (dk_at dksX3_waitsAt_0 19 rfl rfl)
theorem dX3_waitsAt_20 : decode cX3_waitsAt 20 = .ok (.goto 4, 3) := dk_167 0 4 (dk_at dksX3_waitsAt_0 20 rfl rfl)
theorem dX3_waitsAt_23 : decode cX3_waitsAt 23 = .ok (.iconst 0, 1) := dk_3 (dk_at dksX3_waitsAt_0 23 rfl rfl)
theorem dX3_waitsAt_24 : decode cX3_waitsAt 24 = .ok (.ireturn, 1) := dk_172 (dk_at dksX3_waitsAt_1 0 rfl rfl)
abbrev cX3_c : ByteArray := prog_14_method_11_code
def yX3_c : MethodName := ⟨RX3, "c", "(II)I"⟩
def dkwX3_c_0 : List UInt8 := [42, 180, 0, 9, 16, 11, 16, 10, 27, 104, 96, 28, 96, 46, 172]
abbrev dktX3_c_0 : List UInt8 := dkwX3_c_0 ++ []
theorem dksX3_c_0 : cX3_c.data.toList.drop 0 = dktX3_c_0 := by decide +kernel
theorem dX3_c_0 : decode cX3_c 0 = .ok (.aload_n 0, 1) := dk_42 (dk_at dksX3_c_0 0 rfl rfl)
theorem dX3_c_1 : decode cX3_c 1 = .ok (.getfield 9, 3) := dk_180 0 9 (dk_at dksX3_c_0 1 rfl rfl)
theorem dX3_c_4 : decode cX3_c 4 = .ok (.bipush 11, 2) := dk_16 11 (dk_at dksX3_c_0 4 rfl rfl)
theorem dX3_c_6 : decode cX3_c 6 = .ok (.bipush 10, 2) := dk_16 10 (dk_at dksX3_c_0 6 rfl rfl)
theorem dX3_c_8 : decode cX3_c 8 = .ok (.iload_n 1, 1) := dk_27 (dk_at dksX3_c_0 8 rfl rfl)
theorem dX3_c_9 : decode cX3_c 9 = .ok (.imul, 1) := dk_104 (dk_at dksX3_c_0 9 rfl rfl)
theorem dX3_c_10 : decode cX3_c 10 = .ok (.iadd, 1) := dk_96 (dk_at dksX3_c_0 10 rfl rfl)
theorem dX3_c_11 : decode cX3_c 11 = .ok (.iload_n 2, 1) := dk_28 (dk_at dksX3_c_0 11 rfl rfl)
theorem dX3_c_12 : decode cX3_c 12 = .ok (.iadd, 1) := dk_96 (dk_at dksX3_c_0 12 rfl rfl)
theorem dX3_c_13 : decode cX3_c 13 = .ok (.iaload, 1) := dk_46 (dk_at dksX3_c_0 13 rfl rfl)
theorem dX3_c_14 : decode cX3_c 14 = .ok (.ireturn, 1) := dk_172 (dk_at dksX3_c_0 14 rfl rfl)
abbrev cX3_set : ByteArray := prog_14_method_12_code
def yX3_set : MethodName := ⟨RX3, "set", "(III)V"⟩
def dkwX3_set_0 : List UInt8 := [42, 180, 0, 9, 16, 11, 16, 10, 27, 104, 96, 28, 96, 29, 79, 177]
abbrev dktX3_set_0 : List UInt8 := dkwX3_set_0 ++ []
theorem dksX3_set_0 : cX3_set.data.toList.drop 0 = dktX3_set_0 := by decide +kernel
theorem dX3_set_0 : decode cX3_set 0 = .ok (.aload_n 0, 1) := dk_42 (dk_at dksX3_set_0 0 rfl rfl)
theorem dX3_set_1 : decode cX3_set 1 = .ok (.getfield 9, 3) := dk_180 0 9 (dk_at dksX3_set_0 1 rfl rfl)
theorem dX3_set_4 : decode cX3_set 4 = .ok (.bipush 11, 2) := dk_16 11 (dk_at dksX3_set_0 4 rfl rfl)
theorem dX3_set_6 : decode cX3_set 6 = .ok (.bipush 10, 2) := dk_16 10 (dk_at dksX3_set_0 6 rfl rfl)
theorem dX3_set_8 : decode cX3_set 8 = .ok (.iload_n 1, 1) := dk_27 (dk_at dksX3_set_0 8 rfl rfl)
theorem dX3_set_9 : decode cX3_set 9 = .ok (.imul, 1) := dk_104 (dk_at dksX3_set_0 9 rfl rfl)
theorem dX3_set_10 : decode cX3_set 10 = .ok (.iadd, 1) := dk_96 (dk_at dksX3_set_0 10 rfl rfl)
theorem dX3_set_11 : decode cX3_set 11 = .ok (.iload_n 2, 1) := dk_28 (dk_at dksX3_set_0 11 rfl rfl)
theorem dX3_set_12 : decode cX3_set 12 = .ok (.iadd, 1) := dk_96 (dk_at dksX3_set_0 12 rfl rfl)
theorem dX3_set_13 : decode cX3_set 13 = .ok (.iload_n 3, 1) := dk_29 (dk_at dksX3_set_0 13 rfl rfl)
theorem dX3_set_14 : decode cX3_set 14 = .ok (.iastore, 1) := dk_79 (dk_at dksX3_set_0 14 rfl rfl)
theorem dX3_set_15 : decode cX3_set 15 = .ok (.return_, 1) := dk_177 (dk_at dksX3_set_0 15 rfl rfl)
abbrev cX3_ends : ByteArray := prog_14_method_6_code
def yX3_ends : MethodName := ⟨RX3, "ends", "(ZI)I"⟩
def dkwX3_ends_3 : List UInt8 := [4, 96, 181, 0, 34, 42, 16, 10, 42, 180, 0, 34, 182, 0, 30, 42, 180, 0, 37, 172]
abbrev dktX3_ends_3 : List UInt8 := dkwX3_ends_3 ++ []
def dkwX3_ends_2 : List UInt8 := [182, 0, 30, 132, 3, 1, 167, 255, 239, 42, 89, 180, 0, 34, 4, 100, 181, 0, 34, 42, 89, 180, 0, 34]
abbrev dktX3_ends_2 : List UInt8 := dkwX3_ends_2 ++ dktX3_ends_3
def dkwX3_ends_1 : List UInt8 := [3, 172, 42, 180, 0, 34, 16, 8, 160, 0, 35, 4, 62, 29, 16, 8, 162, 0, 17, 42, 29, 4, 96, 29]
abbrev dktX3_ends_1 : List UInt8 := dkwX3_ends_1 ++ dktX3_ends_2
def dkwX3_ends_0 : List UInt8 := [42, 27, 153, 0, 7, 3, 167, 0, 4, 28, 181, 0, 27, 27, 154, 0, 12, 42, 16, 10, 3, 182, 0, 30]
abbrev dktX3_ends_0 : List UInt8 := dkwX3_ends_0 ++ dktX3_ends_1
theorem dksX3_ends_0 : cX3_ends.data.toList.drop 0 = dktX3_ends_0 := by decide +kernel
theorem dksX3_ends_1 : cX3_ends.data.toList.drop 24 = dktX3_ends_1 := dk_seg dksX3_ends_0 24 rfl rfl
theorem dksX3_ends_2 : cX3_ends.data.toList.drop 48 = dktX3_ends_2 := dk_seg dksX3_ends_1 24 rfl rfl
theorem dksX3_ends_3 : cX3_ends.data.toList.drop 72 = dktX3_ends_3 := dk_seg dksX3_ends_2 24 rfl rfl
theorem dX3_ends_0 : decode cX3_ends 0 = .ok (.aload_n 0, 1) := dk_42 (dk_at dksX3_ends_0 0 rfl rfl)
theorem dX3_ends_1 : decode cX3_ends 1 = .ok (.iload_n 1, 1) := dk_27 (dk_at dksX3_ends_0 1 rfl rfl)
theorem dX3_ends_2 : decode cX3_ends 2 = .ok (.ifCond .eq 7, 3) := dk_153 0 7 (dk_at dksX3_ends_0 2 rfl rfl)
theorem dX3_ends_5 : decode cX3_ends 5 = .ok (.iconst 0, 1) := dk_3 (dk_at dksX3_ends_0 5 rfl rfl)
theorem dX3_ends_6 : decode cX3_ends 6 = .ok (.goto 4, 3) := dk_167 0 4 (dk_at dksX3_ends_0 6 rfl rfl)
theorem dX3_ends_9 : decode cX3_ends 9 = .ok (.iload_n 2, 1) := dk_28 (dk_at dksX3_ends_0 9 rfl rfl)
theorem dX3_ends_10 : decode cX3_ends 10 = .ok (.putfield 27, 3) := dk_181 0 27 (dk_at dksX3_ends_0 10 rfl rfl)
theorem dX3_ends_13 : decode cX3_ends 13 = .ok (.iload_n 1, 1) := dk_27 (dk_at dksX3_ends_0 13 rfl rfl)
theorem dX3_ends_14 : decode cX3_ends 14 = .ok (.ifCond .ne 12, 3) := dk_154 0 12 (dk_at dksX3_ends_0 14 rfl rfl)
theorem dX3_ends_17 : decode cX3_ends 17 = .ok (.aload_n 0, 1) := dk_42 (dk_at dksX3_ends_0 17 rfl rfl)
theorem dX3_ends_18 : decode cX3_ends 18 = .ok (.bipush 10, 2) := dk_16 10 (dk_at dksX3_ends_0 18 rfl rfl)
theorem dX3_ends_20 : decode cX3_ends 20 = .ok (.iconst 0, 1) := dk_3 (dk_at dksX3_ends_0 20 rfl rfl)
theorem dX3_ends_21 : decode cX3_ends 21 = .ok (.invokevirtual 30, 3) := dk_182 0 30 (dk_at dksX3_ends_0 21 rfl rfl)
theorem dX3_ends_24 : decode cX3_ends 24 = .ok (.iconst 0, 1) := dk_3 (dk_at dksX3_ends_1 0 rfl rfl)
theorem dX3_ends_25 : decode cX3_ends 25 = .ok (.ireturn, 1) := dk_172 (dk_at dksX3_ends_1 1 rfl rfl)
theorem dX3_ends_26 : decode cX3_ends 26 = .ok (.aload_n 0, 1) := dk_42 (dk_at dksX3_ends_1 2 rfl rfl)
theorem dX3_ends_27 : decode cX3_ends 27 = .ok (.getfield 34, 3) := dk_180 0 34 (dk_at dksX3_ends_1 3 rfl rfl)
theorem dX3_ends_30 : decode cX3_ends 30 = .ok (.bipush 8, 2) := dk_16 8 (dk_at dksX3_ends_1 6 rfl rfl)
theorem dX3_ends_32 : decode cX3_ends 32 = .ok (.if_icmp .ne 35, 3) := dk_160 0 35 (dk_at dksX3_ends_1 8 rfl rfl)
theorem dX3_ends_35 : decode cX3_ends 35 = .ok (.iconst 1, 1) := dk_4 (dk_at dksX3_ends_1 11 rfl rfl)
theorem dX3_ends_36 : decode cX3_ends 36 = .ok (.istore_n 3, 1) := dk_62 (dk_at dksX3_ends_1 12 rfl rfl)
theorem dX3_ends_37 : decode cX3_ends 37 = .ok (.iload_n 3, 1) := dk_29 (dk_at dksX3_ends_1 13 rfl rfl)
theorem dX3_ends_38 : decode cX3_ends 38 = .ok (.bipush 8, 2) := dk_16 8 (dk_at dksX3_ends_1 14 rfl rfl)
theorem dX3_ends_40 : decode cX3_ends 40 = .ok (.if_icmp .ge 17, 3) := dk_162 0 17 (dk_at dksX3_ends_1 16 rfl rfl)
theorem dX3_ends_43 : decode cX3_ends 43 = .ok (.aload_n 0, 1) := dk_42 (dk_at dksX3_ends_1 19 rfl rfl)
theorem dX3_ends_44 : decode cX3_ends 44 = .ok (.iload_n 3, 1) := dk_29 (dk_at dksX3_ends_1 20 rfl rfl)
theorem dX3_ends_45 : decode cX3_ends 45 = .ok (.iconst 1, 1) := dk_4 (dk_at dksX3_ends_1 21 rfl rfl)
theorem dX3_ends_46 : decode cX3_ends 46 = .ok (.iadd, 1) := dk_96 (dk_at dksX3_ends_1 22 rfl rfl)
theorem dX3_ends_47 : decode cX3_ends 47 = .ok (.iload_n 3, 1) := dk_29 (dk_at dksX3_ends_1 23 rfl rfl)
theorem dX3_ends_48 : decode cX3_ends 48 = .ok (.invokevirtual 30, 3) := dk_182 0 30 (dk_at dksX3_ends_2 0 rfl rfl)
theorem dX3_ends_51 : decode cX3_ends 51 = .ok (.iinc 3 1, 3) := dk_132 3 1 (dk_at dksX3_ends_2 3 rfl rfl)
theorem dX3_ends_54 : decode cX3_ends 54 = .ok (.goto (-17), 3) := dk_167 255 239 (dk_at dksX3_ends_2 6 rfl rfl)
theorem dX3_ends_57 : decode cX3_ends 57 = .ok (.aload_n 0, 1) := dk_42 (dk_at dksX3_ends_2 9 rfl rfl)
theorem dX3_ends_58 : decode cX3_ends 58 = .ok (.dup, 1) := dk_89 (dk_at dksX3_ends_2 10 rfl rfl)
theorem dX3_ends_59 : decode cX3_ends 59 = .ok (.getfield 34, 3) := dk_180 0 34 (dk_at dksX3_ends_2 11 rfl rfl)
theorem dX3_ends_62 : decode cX3_ends 62 = .ok (.iconst 1, 1) := dk_4 (dk_at dksX3_ends_2 14 rfl rfl)
theorem dX3_ends_63 : decode cX3_ends 63 = .ok (.isub, 1) := dk_100 (dk_at dksX3_ends_2 15 rfl rfl)
theorem dX3_ends_64 : decode cX3_ends 64 = .ok (.putfield 34, 3) := dk_181 0 34 (dk_at dksX3_ends_2 16 rfl rfl)
theorem dX3_ends_67 : decode cX3_ends 67 = .ok (.aload_n 0, 1) := dk_42 (dk_at dksX3_ends_2 19 rfl rfl)
theorem dX3_ends_68 : decode cX3_ends 68 = .ok (.dup, 1) := dk_89 (dk_at dksX3_ends_2 20 rfl rfl)
theorem dX3_ends_69 : decode cX3_ends 69 = .ok (.getfield 34, 3) := dk_180 0 34 (dk_at dksX3_ends_2 21 rfl rfl)
theorem dX3_ends_72 : decode cX3_ends 72 = .ok (.iconst 1, 1) := dk_4 (dk_at dksX3_ends_3 0 rfl rfl)
theorem dX3_ends_73 : decode cX3_ends 73 = .ok (.iadd, 1) := dk_96 (dk_at dksX3_ends_3 1 rfl rfl)
theorem dX3_ends_74 : decode cX3_ends 74 = .ok (.putfield 34, 3) := dk_181 0 34 (dk_at dksX3_ends_3 2 rfl rfl)
theorem dX3_ends_77 : decode cX3_ends 77 = .ok (.aload_n 0, 1) := dk_42 (dk_at dksX3_ends_3 5 rfl rfl)
theorem dX3_ends_78 : decode cX3_ends 78 = .ok (.bipush 10, 2) := dk_16 10 (dk_at dksX3_ends_3 6 rfl rfl)
theorem dX3_ends_80 : decode cX3_ends 80 = .ok (.aload_n 0, 1) := dk_42 (dk_at dksX3_ends_3 8 rfl rfl)
theorem dX3_ends_81 : decode cX3_ends 81 = .ok (.getfield 34, 3) := dk_180 0 34 (dk_at dksX3_ends_3 9 rfl rfl)
theorem dX3_ends_84 : decode cX3_ends 84 = .ok (.invokevirtual 30, 3) := dk_182 0 30 (dk_at dksX3_ends_3 12 rfl rfl)
theorem dX3_ends_87 : decode cX3_ends 87 = .ok (.aload_n 0, 1) := dk_42 (dk_at dksX3_ends_3 15 rfl rfl)
theorem dX3_ends_88 : decode cX3_ends 88 = .ok (.getfield 37, 3) := dk_180 0 37 (dk_at dksX3_ends_3 16 rfl rfl)
theorem dX3_ends_91 : decode cX3_ends 91 = .ok (.ireturn, 1) := dk_172 (dk_at dksX3_ends_3 19 rfl rfl)
abbrev cX3_law : ByteArray := prog_14_method_27_code
def yX3_law : MethodName := ⟨RX3, "law", "(I)I"⟩
def dkwX3_law_0 : List UInt8 := [42, 182, 0, 87, 42, 42, 5, 27, 3, 6, 182, 0, 101, 4, 182, 0, 93, 172]
abbrev dktX3_law_0 : List UInt8 := dkwX3_law_0 ++ []
theorem dksX3_law_0 : cX3_law.data.toList.drop 0 = dktX3_law_0 := by decide +kernel
theorem dX3_law_0 : decode cX3_law 0 = .ok (.aload_n 0, 1) := dk_42 (dk_at dksX3_law_0 0 rfl rfl)
theorem dX3_law_1 : decode cX3_law 1 = .ok (.invokevirtual 87, 3) := dk_182 0 87 (dk_at dksX3_law_0 1 rfl rfl)
theorem dX3_law_4 : decode cX3_law 4 = .ok (.aload_n 0, 1) := dk_42 (dk_at dksX3_law_0 4 rfl rfl)
theorem dX3_law_5 : decode cX3_law 5 = .ok (.aload_n 0, 1) := dk_42 (dk_at dksX3_law_0 5 rfl rfl)
theorem dX3_law_6 : decode cX3_law 6 = .ok (.iconst 2, 1) := dk_5 (dk_at dksX3_law_0 6 rfl rfl)
theorem dX3_law_7 : decode cX3_law 7 = .ok (.iload_n 1, 1) := dk_27 (dk_at dksX3_law_0 7 rfl rfl)
theorem dX3_law_8 : decode cX3_law 8 = .ok (.iconst 0, 1) := dk_3 (dk_at dksX3_law_0 8 rfl rfl)
theorem dX3_law_9 : decode cX3_law 9 = .ok (.iconst 3, 1) := dk_6 (dk_at dksX3_law_0 9 rfl rfl)
theorem dX3_law_10 : decode cX3_law 10 = .ok (.invokevirtual 101, 3) := dk_182 0 101 (dk_at dksX3_law_0 10 rfl rfl)
theorem dX3_law_13 : decode cX3_law 13 = .ok (.iconst 1, 1) := dk_4 (dk_at dksX3_law_0 13 rfl rfl)
theorem dX3_law_14 : decode cX3_law 14 = .ok (.invokevirtual 93, 3) := dk_182 0 93 (dk_at dksX3_law_0 14 rfl rfl)
theorem dX3_law_17 : decode cX3_law 17 = .ok (.ireturn, 1) := dk_172 (dk_at dksX3_law_0 17 rfl rfl)
abbrev cX3_tells : ByteArray := prog_14_method_26_code
def yX3_tells : MethodName := ⟨RX3, "tells", "(IIII)Z"⟩
def dkwX3_tells_3 : List UInt8 := [182, 0, 56, 153, 0, 5, 3, 172, 42, 180, 0, 9, 27, 28, 79, 4, 172]
abbrev dktX3_tells_3 : List UInt8 := dkwX3_tells_3 ++ []
def dkwX3_tells_2 : List UInt8 := [180, 0, 9, 27, 46, 181, 0, 37, 42, 42, 180, 0, 37, 28, 160, 0, 7, 4, 167, 0, 4, 3, 7, 28]
abbrev dktX3_tells_2 : List UInt8 := dkwX3_tells_2 ++ dktX3_tells_3
def dkwX3_tells_1 : List UInt8 := [42, 21, 5, 158, 0, 7, 4, 167, 0, 4, 3, 8, 21, 5, 182, 0, 56, 153, 0, 5, 3, 172, 42, 42]
abbrev dktX3_tells_1 : List UInt8 := dkwX3_tells_1 ++ dktX3_tells_2
def dkwX3_tells_0 : List UInt8 := [42, 28, 29, 21, 4, 182, 0, 76, 153, 0, 5, 3, 172, 42, 182, 0, 97, 54, 5, 27, 7, 160, 0, 25]
abbrev dktX3_tells_0 : List UInt8 := dkwX3_tells_0 ++ dktX3_tells_1
theorem dksX3_tells_0 : cX3_tells.data.toList.drop 0 = dktX3_tells_0 := by decide +kernel
theorem dksX3_tells_1 : cX3_tells.data.toList.drop 24 = dktX3_tells_1 := dk_seg dksX3_tells_0 24 rfl rfl
theorem dksX3_tells_2 : cX3_tells.data.toList.drop 48 = dktX3_tells_2 := dk_seg dksX3_tells_1 24 rfl rfl
theorem dksX3_tells_3 : cX3_tells.data.toList.drop 72 = dktX3_tells_3 := dk_seg dksX3_tells_2 24 rfl rfl
theorem dX3_tells_0 : decode cX3_tells 0 = .ok (.aload_n 0, 1) := dk_42 (dk_at dksX3_tells_0 0 rfl rfl)
theorem dX3_tells_1 : decode cX3_tells 1 = .ok (.iload_n 2, 1) := dk_28 (dk_at dksX3_tells_0 1 rfl rfl)
theorem dX3_tells_2 : decode cX3_tells 2 = .ok (.iload_n 3, 1) := dk_29 (dk_at dksX3_tells_0 2 rfl rfl)
theorem dX3_tells_3 : decode cX3_tells 3 = .ok (.iload 4, 2) := dk_21 4 (dk_at dksX3_tells_0 3 rfl rfl)
theorem dX3_tells_5 : decode cX3_tells 5 = .ok (.invokevirtual 76, 3) := dk_182 0 76 (dk_at dksX3_tells_0 5 rfl rfl)
theorem dX3_tells_8 : decode cX3_tells 8 = .ok (.ifCond .eq 5, 3) := dk_153 0 5 (dk_at dksX3_tells_0 8 rfl rfl)
theorem dX3_tells_11 : decode cX3_tells 11 = .ok (.iconst 0, 1) := dk_3 (dk_at dksX3_tells_0 11 rfl rfl)
theorem dX3_tells_12 : decode cX3_tells 12 = .ok (.ireturn, 1) := dk_172 (dk_at dksX3_tells_0 12 rfl rfl)
theorem dX3_tells_13 : decode cX3_tells 13 = .ok (.aload_n 0, 1) := dk_42 (dk_at dksX3_tells_0 13 rfl rfl)
theorem dX3_tells_14 : decode cX3_tells 14 = .ok (.invokevirtual 97, 3) := dk_182 0 97 (dk_at dksX3_tells_0 14 rfl rfl)
theorem dX3_tells_17 : decode cX3_tells 17 = .ok (.istore 5, 2) := dk_54 5 (dk_at dksX3_tells_0 17 rfl rfl)
theorem dX3_tells_19 : decode cX3_tells 19 = .ok (.iload_n 1, 1) := dk_27 (dk_at dksX3_tells_0 19 rfl rfl)
theorem dX3_tells_20 : decode cX3_tells 20 = .ok (.iconst 4, 1) := dk_7 (dk_at dksX3_tells_0 20 rfl rfl)
theorem dX3_tells_21 : decode cX3_tells 21 = .ok (.if_icmp .ne 25, 3) := dk_160 0 25 (dk_at dksX3_tells_0 21 rfl rfl)
theorem dX3_tells_24 : decode cX3_tells 24 = .ok (.aload_n 0, 1) := dk_42 (dk_at dksX3_tells_1 0 rfl rfl)
theorem dX3_tells_25 : decode cX3_tells 25 = .ok (.iload 5, 2) := dk_21 5 (dk_at dksX3_tells_1 1 rfl rfl)
theorem dX3_tells_27 : decode cX3_tells 27 = .ok (.ifCond .le 7, 3) := dk_158 0 7 (dk_at dksX3_tells_1 3 rfl rfl)
theorem dX3_tells_30 : decode cX3_tells 30 = .ok (.iconst 1, 1) := dk_4 (dk_at dksX3_tells_1 6 rfl rfl)
theorem dX3_tells_31 : decode cX3_tells 31 = .ok (.goto 4, 3) := dk_167 0 4 (dk_at dksX3_tells_1 7 rfl rfl)
theorem dX3_tells_34 : decode cX3_tells 34 = .ok (.iconst 0, 1) := dk_3 (dk_at dksX3_tells_1 10 rfl rfl)
theorem dX3_tells_35 : decode cX3_tells 35 = .ok (.iconst 5, 1) := dk_8 (dk_at dksX3_tells_1 11 rfl rfl)
theorem dX3_tells_36 : decode cX3_tells 36 = .ok (.iload 5, 2) := dk_21 5 (dk_at dksX3_tells_1 12 rfl rfl)
theorem dX3_tells_38 : decode cX3_tells 38 = .ok (.invokevirtual 56, 3) := dk_182 0 56 (dk_at dksX3_tells_1 14 rfl rfl)
theorem dX3_tells_41 : decode cX3_tells 41 = .ok (.ifCond .eq 5, 3) := dk_153 0 5 (dk_at dksX3_tells_1 17 rfl rfl)
theorem dX3_tells_44 : decode cX3_tells 44 = .ok (.iconst 0, 1) := dk_3 (dk_at dksX3_tells_1 20 rfl rfl)
theorem dX3_tells_45 : decode cX3_tells 45 = .ok (.ireturn, 1) := dk_172 (dk_at dksX3_tells_1 21 rfl rfl)
theorem dX3_tells_46 : decode cX3_tells 46 = .ok (.aload_n 0, 1) := dk_42 (dk_at dksX3_tells_1 22 rfl rfl)
theorem dX3_tells_47 : decode cX3_tells 47 = .ok (.aload_n 0, 1) := dk_42 (dk_at dksX3_tells_1 23 rfl rfl)
theorem dX3_tells_48 : decode cX3_tells 48 = .ok (.getfield 9, 3) := dk_180 0 9 (dk_at dksX3_tells_2 0 rfl rfl)
theorem dX3_tells_51 : decode cX3_tells 51 = .ok (.iload_n 1, 1) := dk_27 (dk_at dksX3_tells_2 3 rfl rfl)
theorem dX3_tells_52 : decode cX3_tells 52 = .ok (.iaload, 1) := dk_46 (dk_at dksX3_tells_2 4 rfl rfl)
theorem dX3_tells_53 : decode cX3_tells 53 = .ok (.putfield 37, 3) := dk_181 0 37 (dk_at dksX3_tells_2 5 rfl rfl)
theorem dX3_tells_56 : decode cX3_tells 56 = .ok (.aload_n 0, 1) := dk_42 (dk_at dksX3_tells_2 8 rfl rfl)
theorem dX3_tells_57 : decode cX3_tells 57 = .ok (.aload_n 0, 1) := dk_42 (dk_at dksX3_tells_2 9 rfl rfl)
theorem dX3_tells_58 : decode cX3_tells 58 = .ok (.getfield 37, 3) := dk_180 0 37 (dk_at dksX3_tells_2 10 rfl rfl)
theorem dX3_tells_61 : decode cX3_tells 61 = .ok (.iload_n 2, 1) := dk_28 (dk_at dksX3_tells_2 13 rfl rfl)
theorem dX3_tells_62 : decode cX3_tells 62 = .ok (.if_icmp .ne 7, 3) := dk_160 0 7 (dk_at dksX3_tells_2 14 rfl rfl)
theorem dX3_tells_65 : decode cX3_tells 65 = .ok (.iconst 1, 1) := dk_4 (dk_at dksX3_tells_2 17 rfl rfl)
theorem dX3_tells_66 : decode cX3_tells 66 = .ok (.goto 4, 3) := dk_167 0 4 (dk_at dksX3_tells_2 18 rfl rfl)
theorem dX3_tells_69 : decode cX3_tells 69 = .ok (.iconst 0, 1) := dk_3 (dk_at dksX3_tells_2 21 rfl rfl)
theorem dX3_tells_70 : decode cX3_tells 70 = .ok (.iconst 4, 1) := dk_7 (dk_at dksX3_tells_2 22 rfl rfl)
theorem dX3_tells_71 : decode cX3_tells 71 = .ok (.iload_n 2, 1) := dk_28 (dk_at dksX3_tells_2 23 rfl rfl)
theorem dX3_tells_72 : decode cX3_tells 72 = .ok (.invokevirtual 56, 3) := dk_182 0 56 (dk_at dksX3_tells_3 0 rfl rfl)
theorem dX3_tells_75 : decode cX3_tells 75 = .ok (.ifCond .eq 5, 3) := dk_153 0 5 (dk_at dksX3_tells_3 3 rfl rfl)
theorem dX3_tells_78 : decode cX3_tells 78 = .ok (.iconst 0, 1) := dk_3 (dk_at dksX3_tells_3 6 rfl rfl)
theorem dX3_tells_79 : decode cX3_tells 79 = .ok (.ireturn, 1) := dk_172 (dk_at dksX3_tells_3 7 rfl rfl)
theorem dX3_tells_80 : decode cX3_tells 80 = .ok (.aload_n 0, 1) := dk_42 (dk_at dksX3_tells_3 8 rfl rfl)
theorem dX3_tells_81 : decode cX3_tells 81 = .ok (.getfield 9, 3) := dk_180 0 9 (dk_at dksX3_tells_3 9 rfl rfl)
theorem dX3_tells_84 : decode cX3_tells 84 = .ok (.iload_n 1, 1) := dk_27 (dk_at dksX3_tells_3 12 rfl rfl)
theorem dX3_tells_85 : decode cX3_tells 85 = .ok (.iload_n 2, 1) := dk_28 (dk_at dksX3_tells_3 13 rfl rfl)
theorem dX3_tells_86 : decode cX3_tells 86 = .ok (.iastore, 1) := dk_79 (dk_at dksX3_tells_3 14 rfl rfl)
theorem dX3_tells_87 : decode cX3_tells 87 = .ok (.iconst 1, 1) := dk_4 (dk_at dksX3_tells_3 15 rfl rfl)
theorem dX3_tells_88 : decode cX3_tells 88 = .ok (.ireturn, 1) := dk_172 (dk_at dksX3_tells_3 16 rfl rfl)
abbrev cX3_onBridge : ByteArray := prog_14_method_22_code
def yX3_onBridge : MethodName := ⟨RX3, "onBridge", "()I"⟩
def dkwX3_onBridge_1 : List UInt8 := [160, 0, 7, 4, 167, 0, 4, 3, 96, 60, 132, 2, 1, 167, 255, 225, 27, 172]
abbrev dktX3_onBridge_1 : List UInt8 := dkwX3_onBridge_1 ++ []
def dkwX3_onBridge_0 : List UInt8 := [3, 60, 3, 61, 28, 42, 180, 0, 9, 3, 46, 162, 0, 27, 27, 42, 28, 5, 182, 0, 64, 4]
abbrev dktX3_onBridge_0 : List UInt8 := dkwX3_onBridge_0 ++ dktX3_onBridge_1
theorem dksX3_onBridge_0 : cX3_onBridge.data.toList.drop 0 = dktX3_onBridge_0 := by decide +kernel
theorem dksX3_onBridge_1 : cX3_onBridge.data.toList.drop 22 = dktX3_onBridge_1 := dk_seg dksX3_onBridge_0 22 rfl rfl
theorem dX3_onBridge_0 : decode cX3_onBridge 0 = .ok (.iconst 0, 1) := dk_3 (dk_at dksX3_onBridge_0 0 rfl rfl)
theorem dX3_onBridge_1 : decode cX3_onBridge 1 = .ok (.istore_n 1, 1) := dk_60 (dk_at dksX3_onBridge_0 1 rfl rfl)
theorem dX3_onBridge_2 : decode cX3_onBridge 2 = .ok (.iconst 0, 1) := dk_3 (dk_at dksX3_onBridge_0 2 rfl rfl)
theorem dX3_onBridge_3 : decode cX3_onBridge 3 = .ok (.istore_n 2, 1) := dk_61 (dk_at dksX3_onBridge_0 3 rfl rfl)
theorem dX3_onBridge_4 : decode cX3_onBridge 4 = .ok (.iload_n 2, 1) := dk_28 (dk_at dksX3_onBridge_0 4 rfl rfl)
theorem dX3_onBridge_5 : decode cX3_onBridge 5 = .ok (.aload_n 0, 1) := dk_42 (dk_at dksX3_onBridge_0 5 rfl rfl)
theorem dX3_onBridge_6 : decode cX3_onBridge 6 = .ok (.getfield 9, 3) := dk_180 0 9 (dk_at dksX3_onBridge_0 6 rfl rfl)
theorem dX3_onBridge_9 : decode cX3_onBridge 9 = .ok (.iconst 0, 1) := dk_3 (dk_at dksX3_onBridge_0 9 rfl rfl)
theorem dX3_onBridge_10 : decode cX3_onBridge 10 = .ok (.iaload, 1) := dk_46 (dk_at dksX3_onBridge_0 10 rfl rfl)
theorem dX3_onBridge_11 : decode cX3_onBridge 11 = .ok (.if_icmp .ge 27, 3) := dk_162 0 27 (dk_at dksX3_onBridge_0 11 rfl rfl)
theorem dX3_onBridge_14 : decode cX3_onBridge 14 = .ok (.iload_n 1, 1) := dk_27 (dk_at dksX3_onBridge_0 14 rfl rfl)
theorem dX3_onBridge_15 : decode cX3_onBridge 15 = .ok (.aload_n 0, 1) := dk_42 (dk_at dksX3_onBridge_0 15 rfl rfl)
theorem dX3_onBridge_16 : decode cX3_onBridge 16 = .ok (.iload_n 2, 1) := dk_28 (dk_at dksX3_onBridge_0 16 rfl rfl)
theorem dX3_onBridge_17 : decode cX3_onBridge 17 = .ok (.iconst 2, 1) := dk_5 (dk_at dksX3_onBridge_0 17 rfl rfl)
theorem dX3_onBridge_18 : decode cX3_onBridge 18 = .ok (.invokevirtual 64, 3) := dk_182 0 64 (dk_at dksX3_onBridge_0 18 rfl rfl)
theorem dX3_onBridge_21 : decode cX3_onBridge 21 = .ok (.iconst 1, 1) := dk_4 (dk_at dksX3_onBridge_0 21 rfl rfl)
theorem dX3_onBridge_22 : decode cX3_onBridge 22 = .ok (.if_icmp .ne 7, 3) := dk_160 0 7 (dk_at dksX3_onBridge_1 0 rfl rfl)
theorem dX3_onBridge_25 : decode cX3_onBridge 25 = .ok (.iconst 1, 1) := dk_4 (dk_at dksX3_onBridge_1 3 rfl rfl)
theorem dX3_onBridge_26 : decode cX3_onBridge 26 = .ok (.goto 4, 3) := dk_167 0 4 (dk_at dksX3_onBridge_1 4 rfl rfl)
theorem dX3_onBridge_29 : decode cX3_onBridge 29 = .ok (.iconst 0, 1) := dk_3 (dk_at dksX3_onBridge_1 7 rfl rfl)
theorem dX3_onBridge_30 : decode cX3_onBridge 30 = .ok (.iadd, 1) := dk_96 (dk_at dksX3_onBridge_1 8 rfl rfl)
theorem dX3_onBridge_31 : decode cX3_onBridge 31 = .ok (.istore_n 1, 1) := dk_60 (dk_at dksX3_onBridge_1 9 rfl rfl)
theorem dX3_onBridge_32 : decode cX3_onBridge 32 = .ok (.iinc 2 1, 3) := dk_132 2 1 (dk_at dksX3_onBridge_1 10 rfl rfl)
theorem dX3_onBridge_35 : decode cX3_onBridge 35 = .ok (.goto (-31), 3) := dk_167 255 225 (dk_at dksX3_onBridge_1 13 rfl rfl)
theorem dX3_onBridge_38 : decode cX3_onBridge 38 = .ok (.iload_n 1, 1) := dk_27 (dk_at dksX3_onBridge_1 16 rfl rfl)
theorem dX3_onBridge_39 : decode cX3_onBridge 39 = .ok (.ireturn, 1) := dk_172 (dk_at dksX3_onBridge_1 17 rfl rfl)
abbrev cX3_share : ByteArray := prog_14_method_28_code
def yX3_share : MethodName := ⟨RX3, "share", "(I)I"⟩
def dkwX3_share_0 : List UInt8 := [42, 182, 0, 87, 42, 42, 6, 27, 4, 8, 182, 0, 101, 4, 182, 0, 93, 172]
abbrev dktX3_share_0 : List UInt8 := dkwX3_share_0 ++ []
theorem dksX3_share_0 : cX3_share.data.toList.drop 0 = dktX3_share_0 := by decide +kernel
theorem dX3_share_0 : decode cX3_share 0 = .ok (.aload_n 0, 1) := dk_42 (dk_at dksX3_share_0 0 rfl rfl)
theorem dX3_share_1 : decode cX3_share 1 = .ok (.invokevirtual 87, 3) := dk_182 0 87 (dk_at dksX3_share_0 1 rfl rfl)
theorem dX3_share_4 : decode cX3_share 4 = .ok (.aload_n 0, 1) := dk_42 (dk_at dksX3_share_0 4 rfl rfl)
theorem dX3_share_5 : decode cX3_share 5 = .ok (.aload_n 0, 1) := dk_42 (dk_at dksX3_share_0 5 rfl rfl)
theorem dX3_share_6 : decode cX3_share 6 = .ok (.iconst 3, 1) := dk_6 (dk_at dksX3_share_0 6 rfl rfl)
theorem dX3_share_7 : decode cX3_share 7 = .ok (.iload_n 1, 1) := dk_27 (dk_at dksX3_share_0 7 rfl rfl)
theorem dX3_share_8 : decode cX3_share 8 = .ok (.iconst 1, 1) := dk_4 (dk_at dksX3_share_0 8 rfl rfl)
theorem dX3_share_9 : decode cX3_share 9 = .ok (.iconst 5, 1) := dk_8 (dk_at dksX3_share_0 9 rfl rfl)
theorem dX3_share_10 : decode cX3_share 10 = .ok (.invokevirtual 101, 3) := dk_182 0 101 (dk_at dksX3_share_0 10 rfl rfl)
theorem dX3_share_13 : decode cX3_share 13 = .ok (.iconst 1, 1) := dk_4 (dk_at dksX3_share_0 13 rfl rfl)
theorem dX3_share_14 : decode cX3_share 14 = .ok (.invokevirtual 93, 3) := dk_182 0 93 (dk_at dksX3_share_0 14 rfl rfl)
theorem dX3_share_17 : decode cX3_share 17 = .ok (.ireturn, 1) := dk_172 (dk_at dksX3_share_0 17 rfl rfl)
abbrev cX3_spans : ByteArray := prog_14_method_29_code
def yX3_spans : MethodName := ⟨RX3, "spans", "(I)I"⟩
def dkwX3_spans_0 : List UInt8 := [42, 182, 0, 87, 42, 42, 7, 27, 5, 16, 8, 182, 0, 101, 4, 182, 0, 93, 172]
abbrev dktX3_spans_0 : List UInt8 := dkwX3_spans_0 ++ []
theorem dksX3_spans_0 : cX3_spans.data.toList.drop 0 = dktX3_spans_0 := by decide +kernel
theorem dX3_spans_0 : decode cX3_spans 0 = .ok (.aload_n 0, 1) := dk_42 (dk_at dksX3_spans_0 0 rfl rfl)
theorem dX3_spans_1 : decode cX3_spans 1 = .ok (.invokevirtual 87, 3) := dk_182 0 87 (dk_at dksX3_spans_0 1 rfl rfl)
theorem dX3_spans_4 : decode cX3_spans 4 = .ok (.aload_n 0, 1) := dk_42 (dk_at dksX3_spans_0 4 rfl rfl)
theorem dX3_spans_5 : decode cX3_spans 5 = .ok (.aload_n 0, 1) := dk_42 (dk_at dksX3_spans_0 5 rfl rfl)
theorem dX3_spans_6 : decode cX3_spans 6 = .ok (.iconst 4, 1) := dk_7 (dk_at dksX3_spans_0 6 rfl rfl)
theorem dX3_spans_7 : decode cX3_spans 7 = .ok (.iload_n 1, 1) := dk_27 (dk_at dksX3_spans_0 7 rfl rfl)
theorem dX3_spans_8 : decode cX3_spans 8 = .ok (.iconst 2, 1) := dk_5 (dk_at dksX3_spans_0 8 rfl rfl)
theorem dX3_spans_9 : decode cX3_spans 9 = .ok (.bipush 8, 2) := dk_16 8 (dk_at dksX3_spans_0 9 rfl rfl)
theorem dX3_spans_11 : decode cX3_spans 11 = .ok (.invokevirtual 101, 3) := dk_182 0 101 (dk_at dksX3_spans_0 11 rfl rfl)
theorem dX3_spans_14 : decode cX3_spans 14 = .ok (.iconst 1, 1) := dk_4 (dk_at dksX3_spans_0 14 rfl rfl)
theorem dX3_spans_15 : decode cX3_spans 15 = .ok (.invokevirtual 93, 3) := dk_182 0 93 (dk_at dksX3_spans_0 15 rfl rfl)
theorem dX3_spans_18 : decode cX3_spans 18 = .ok (.ireturn, 1) := dk_172 (dk_at dksX3_spans_0 18 rfl rfl)
abbrev cX3_leave : ByteArray := prog_14_method_31_code
def yX3_leave : MethodName := ⟨RX3, "leave", "(I)I"⟩
def dkwX3_leave_0 : List UInt8 := [42, 182, 0, 87, 42, 42, 27, 182, 0, 114, 4, 182, 0, 93, 172]
abbrev dktX3_leave_0 : List UInt8 := dkwX3_leave_0 ++ []
theorem dksX3_leave_0 : cX3_leave.data.toList.drop 0 = dktX3_leave_0 := by decide +kernel
theorem dX3_leave_0 : decode cX3_leave 0 = .ok (.aload_n 0, 1) := dk_42 (dk_at dksX3_leave_0 0 rfl rfl)
theorem dX3_leave_1 : decode cX3_leave 1 = .ok (.invokevirtual 87, 3) := dk_182 0 87 (dk_at dksX3_leave_0 1 rfl rfl)
theorem dX3_leave_4 : decode cX3_leave 4 = .ok (.aload_n 0, 1) := dk_42 (dk_at dksX3_leave_0 4 rfl rfl)
theorem dX3_leave_5 : decode cX3_leave 5 = .ok (.aload_n 0, 1) := dk_42 (dk_at dksX3_leave_0 5 rfl rfl)
theorem dX3_leave_6 : decode cX3_leave 6 = .ok (.iload_n 1, 1) := dk_27 (dk_at dksX3_leave_0 6 rfl rfl)
theorem dX3_leave_7 : decode cX3_leave 7 = .ok (.invokevirtual 114, 3) := dk_182 0 114 (dk_at dksX3_leave_0 7 rfl rfl)
theorem dX3_leave_10 : decode cX3_leave 10 = .ok (.iconst 1, 1) := dk_4 (dk_at dksX3_leave_0 10 rfl rfl)
theorem dX3_leave_11 : decode cX3_leave 11 = .ok (.invokevirtual 93, 3) := dk_182 0 93 (dk_at dksX3_leave_0 11 rfl rfl)
theorem dX3_leave_14 : decode cX3_leave 14 = .ok (.ireturn, 1) := dk_172 (dk_at dksX3_leave_0 14 rfl rfl)
abbrev cX3_leaves : ByteArray := prog_14_method_30_code
def yX3_leaves : MethodName := ⟨RX3, "leaves", "(I)Z"⟩
def dkwX3_leaves_2 : List UInt8 := [96, 79, 42, 42, 42, 27, 3, 182, 0, 64, 182, 0, 111, 181, 0, 37, 4, 172]
abbrev dktX3_leaves_2 : List UInt8 := dkwX3_leaves_2 ++ []
def dkwX3_leaves_1 : List UInt8 := [182, 0, 56, 153, 0, 5, 3, 172, 42, 27, 5, 6, 182, 0, 83, 42, 180, 0, 9, 16, 8, 92, 46, 4]
abbrev dktX3_leaves_1 : List UInt8 := dkwX3_leaves_1 ++ dktX3_leaves_2
def dkwX3_leaves_0 : List UInt8 := [42, 27, 182, 0, 105, 154, 0, 23, 42, 42, 27, 182, 0, 108, 16, 6, 42, 27, 6, 182, 0, 64]
abbrev dktX3_leaves_0 : List UInt8 := dkwX3_leaves_0 ++ dktX3_leaves_1
theorem dksX3_leaves_0 : cX3_leaves.data.toList.drop 0 = dktX3_leaves_0 := by decide +kernel
theorem dksX3_leaves_1 : cX3_leaves.data.toList.drop 22 = dktX3_leaves_1 := dk_seg dksX3_leaves_0 22 rfl rfl
theorem dksX3_leaves_2 : cX3_leaves.data.toList.drop 46 = dktX3_leaves_2 := dk_seg dksX3_leaves_1 24 rfl rfl
theorem dX3_leaves_0 : decode cX3_leaves 0 = .ok (.aload_n 0, 1) := dk_42 (dk_at dksX3_leaves_0 0 rfl rfl)
theorem dX3_leaves_1 : decode cX3_leaves 1 = .ok (.iload_n 1, 1) := dk_27 (dk_at dksX3_leaves_0 1 rfl rfl)
theorem dX3_leaves_2 : decode cX3_leaves 2 = .ok (.invokevirtual 105, 3) := dk_182 0 105 (dk_at dksX3_leaves_0 2 rfl rfl)
theorem dX3_leaves_5 : decode cX3_leaves 5 = .ok (.ifCond .ne 23, 3) := dk_154 0 23 (dk_at dksX3_leaves_0 5 rfl rfl)
theorem dX3_leaves_8 : decode cX3_leaves 8 = .ok (.aload_n 0, 1) := dk_42 (dk_at dksX3_leaves_0 8 rfl rfl)
theorem dX3_leaves_9 : decode cX3_leaves 9 = .ok (.aload_n 0, 1) := dk_42 (dk_at dksX3_leaves_0 9 rfl rfl)
theorem dX3_leaves_10 : decode cX3_leaves 10 = .ok (.iload_n 1, 1) := dk_27 (dk_at dksX3_leaves_0 10 rfl rfl)
theorem dX3_leaves_11 : decode cX3_leaves 11 = .ok (.invokevirtual 108, 3) := dk_182 0 108 (dk_at dksX3_leaves_0 11 rfl rfl)
theorem dX3_leaves_14 : decode cX3_leaves 14 = .ok (.bipush 6, 2) := dk_16 6 (dk_at dksX3_leaves_0 14 rfl rfl)
theorem dX3_leaves_16 : decode cX3_leaves 16 = .ok (.aload_n 0, 1) := dk_42 (dk_at dksX3_leaves_0 16 rfl rfl)
theorem dX3_leaves_17 : decode cX3_leaves 17 = .ok (.iload_n 1, 1) := dk_27 (dk_at dksX3_leaves_0 17 rfl rfl)
theorem dX3_leaves_18 : decode cX3_leaves 18 = .ok (.iconst 3, 1) := dk_6 (dk_at dksX3_leaves_0 18 rfl rfl)
theorem dX3_leaves_19 : decode cX3_leaves 19 = .ok (.invokevirtual 64, 3) := dk_182 0 64 (dk_at dksX3_leaves_0 19 rfl rfl)
theorem dX3_leaves_22 : decode cX3_leaves 22 = .ok (.invokevirtual 56, 3) := dk_182 0 56 (dk_at dksX3_leaves_1 0 rfl rfl)
theorem dX3_leaves_25 : decode cX3_leaves 25 = .ok (.ifCond .eq 5, 3) := dk_153 0 5 (dk_at dksX3_leaves_1 3 rfl rfl)
theorem dX3_leaves_28 : decode cX3_leaves 28 = .ok (.iconst 0, 1) := dk_3 (dk_at dksX3_leaves_1 6 rfl rfl)
theorem dX3_leaves_29 : decode cX3_leaves 29 = .ok (.ireturn, 1) := dk_172 (dk_at dksX3_leaves_1 7 rfl rfl)
theorem dX3_leaves_30 : decode cX3_leaves 30 = .ok (.aload_n 0, 1) := dk_42 (dk_at dksX3_leaves_1 8 rfl rfl)
theorem dX3_leaves_31 : decode cX3_leaves 31 = .ok (.iload_n 1, 1) := dk_27 (dk_at dksX3_leaves_1 9 rfl rfl)
theorem dX3_leaves_32 : decode cX3_leaves 32 = .ok (.iconst 2, 1) := dk_5 (dk_at dksX3_leaves_1 10 rfl rfl)
theorem dX3_leaves_33 : decode cX3_leaves 33 = .ok (.iconst 3, 1) := dk_6 (dk_at dksX3_leaves_1 11 rfl rfl)
theorem dX3_leaves_34 : decode cX3_leaves 34 = .ok (.invokevirtual 83, 3) := dk_182 0 83 (dk_at dksX3_leaves_1 12 rfl rfl)
theorem dX3_leaves_37 : decode cX3_leaves 37 = .ok (.aload_n 0, 1) := dk_42 (dk_at dksX3_leaves_1 15 rfl rfl)
theorem dX3_leaves_38 : decode cX3_leaves 38 = .ok (.getfield 9, 3) := dk_180 0 9 (dk_at dksX3_leaves_1 16 rfl rfl)
theorem dX3_leaves_41 : decode cX3_leaves 41 = .ok (.bipush 8, 2) := dk_16 8 (dk_at dksX3_leaves_1 19 rfl rfl)
theorem dX3_leaves_43 : decode cX3_leaves 43 = .ok (.dup2, 1) := dk_92 (dk_at dksX3_leaves_1 21 rfl rfl)
theorem dX3_leaves_44 : decode cX3_leaves 44 = .ok (.iaload, 1) := dk_46 (dk_at dksX3_leaves_1 22 rfl rfl)
theorem dX3_leaves_45 : decode cX3_leaves 45 = .ok (.iconst 1, 1) := dk_4 (dk_at dksX3_leaves_1 23 rfl rfl)
theorem dX3_leaves_46 : decode cX3_leaves 46 = .ok (.iadd, 1) := dk_96 (dk_at dksX3_leaves_2 0 rfl rfl)
theorem dX3_leaves_47 : decode cX3_leaves 47 = .ok (.iastore, 1) := dk_79 (dk_at dksX3_leaves_2 1 rfl rfl)
theorem dX3_leaves_48 : decode cX3_leaves 48 = .ok (.aload_n 0, 1) := dk_42 (dk_at dksX3_leaves_2 2 rfl rfl)
theorem dX3_leaves_49 : decode cX3_leaves 49 = .ok (.aload_n 0, 1) := dk_42 (dk_at dksX3_leaves_2 3 rfl rfl)
theorem dX3_leaves_50 : decode cX3_leaves 50 = .ok (.aload_n 0, 1) := dk_42 (dk_at dksX3_leaves_2 4 rfl rfl)
theorem dX3_leaves_51 : decode cX3_leaves 51 = .ok (.iload_n 1, 1) := dk_27 (dk_at dksX3_leaves_2 5 rfl rfl)
theorem dX3_leaves_52 : decode cX3_leaves 52 = .ok (.iconst 0, 1) := dk_3 (dk_at dksX3_leaves_2 6 rfl rfl)
theorem dX3_leaves_53 : decode cX3_leaves 53 = .ok (.invokevirtual 64, 3) := dk_182 0 64 (dk_at dksX3_leaves_2 7 rfl rfl)
theorem dX3_leaves_56 : decode cX3_leaves 56 = .ok (.invokevirtual 111, 3) := dk_182 0 111 (dk_at dksX3_leaves_2 10 rfl rfl)
theorem dX3_leaves_59 : decode cX3_leaves 59 = .ok (.putfield 37, 3) := dk_181 0 37 (dk_at dksX3_leaves_2 13 rfl rfl)
theorem dX3_leaves_62 : decode cX3_leaves 62 = .ok (.iconst 1, 1) := dk_4 (dk_at dksX3_leaves_2 16 rfl rfl)
theorem dX3_leaves_63 : decode cX3_leaves 63 = .ok (.ireturn, 1) := dk_172 (dk_at dksX3_leaves_2 17 rfl rfl)
abbrev cX3_isGone : ByteArray := prog_14_method_14_code
def yX3_isGone : MethodName := ⟨RX3, "isGone", "(I)Z"⟩
def dkwX3_isGone_1 : List UInt8 := [6, 27, 182, 0, 56, 172]
abbrev dktX3_isGone_1 : List UInt8 := dkwX3_isGone_1 ++ []
def dkwX3_isGone_0 : List UInt8 := [42, 42, 27, 182, 0, 60, 153, 0, 13, 42, 27, 5, 182, 0, 64, 5, 161, 0, 7, 4, 167, 0, 4, 3]
abbrev dktX3_isGone_0 : List UInt8 := dkwX3_isGone_0 ++ dktX3_isGone_1
theorem dksX3_isGone_0 : cX3_isGone.data.toList.drop 0 = dktX3_isGone_0 := by decide +kernel
theorem dksX3_isGone_1 : cX3_isGone.data.toList.drop 24 = dktX3_isGone_1 := dk_seg dksX3_isGone_0 24 rfl rfl
theorem dX3_isGone_0 : decode cX3_isGone 0 = .ok (.aload_n 0, 1) := dk_42 (dk_at dksX3_isGone_0 0 rfl rfl)
theorem dX3_isGone_1 : decode cX3_isGone 1 = .ok (.aload_n 0, 1) := dk_42 (dk_at dksX3_isGone_0 1 rfl rfl)
theorem dX3_isGone_2 : decode cX3_isGone 2 = .ok (.iload_n 1, 1) := dk_27 (dk_at dksX3_isGone_0 2 rfl rfl)
theorem dX3_isGone_3 : decode cX3_isGone 3 = .ok (.invokevirtual 60, 3) := dk_182 0 60 (dk_at dksX3_isGone_0 3 rfl rfl)
theorem dX3_isGone_6 : decode cX3_isGone 6 = .ok (.ifCond .eq 13, 3) := dk_153 0 13 (dk_at dksX3_isGone_0 6 rfl rfl)
theorem dX3_isGone_9 : decode cX3_isGone 9 = .ok (.aload_n 0, 1) := dk_42 (dk_at dksX3_isGone_0 9 rfl rfl)
theorem dX3_isGone_10 : decode cX3_isGone 10 = .ok (.iload_n 1, 1) := dk_27 (dk_at dksX3_isGone_0 10 rfl rfl)
theorem dX3_isGone_11 : decode cX3_isGone 11 = .ok (.iconst 2, 1) := dk_5 (dk_at dksX3_isGone_0 11 rfl rfl)
theorem dX3_isGone_12 : decode cX3_isGone 12 = .ok (.invokevirtual 64, 3) := dk_182 0 64 (dk_at dksX3_isGone_0 12 rfl rfl)
theorem dX3_isGone_15 : decode cX3_isGone 15 = .ok (.iconst 2, 1) := dk_5 (dk_at dksX3_isGone_0 15 rfl rfl)
theorem dX3_isGone_16 : decode cX3_isGone 16 = .ok (.if_icmp .lt 7, 3) := dk_161 0 7 (dk_at dksX3_isGone_0 16 rfl rfl)
theorem dX3_isGone_19 : decode cX3_isGone 19 = .ok (.iconst 1, 1) := dk_4 (dk_at dksX3_isGone_0 19 rfl rfl)
theorem dX3_isGone_20 : decode cX3_isGone 20 = .ok (.goto 4, 3) := dk_167 0 4 (dk_at dksX3_isGone_0 20 rfl rfl)
theorem dX3_isGone_23 : decode cX3_isGone 23 = .ok (.iconst 0, 1) := dk_3 (dk_at dksX3_isGone_0 23 rfl rfl)
theorem dX3_isGone_24 : decode cX3_isGone 24 = .ok (.iconst 3, 1) := dk_6 (dk_at dksX3_isGone_1 0 rfl rfl)
theorem dX3_isGone_25 : decode cX3_isGone 25 = .ok (.iload_n 1, 1) := dk_27 (dk_at dksX3_isGone_1 1 rfl rfl)
theorem dX3_isGone_26 : decode cX3_isGone 26 = .ok (.invokevirtual 56, 3) := dk_182 0 56 (dk_at dksX3_isGone_1 2 rfl rfl)
theorem dX3_isGone_29 : decode cX3_isGone 29 = .ok (.ireturn, 1) := dk_172 (dk_at dksX3_isGone_1 5 rfl rfl)
abbrev cX3_isCart : ByteArray := prog_14_method_13_code
def yX3_isCart : MethodName := ⟨RX3, "isCart", "(I)Z"⟩
def dkwX3_isCart_0 : List UInt8 := [27, 3, 42, 180, 0, 9, 3, 46, 4, 100, 184, 0, 49, 172]
abbrev dktX3_isCart_0 : List UInt8 := dkwX3_isCart_0 ++ []
theorem dksX3_isCart_0 : cX3_isCart.data.toList.drop 0 = dktX3_isCart_0 := by decide +kernel
theorem dX3_isCart_0 : decode cX3_isCart 0 = .ok (.iload_n 1, 1) := dk_27 (dk_at dksX3_isCart_0 0 rfl rfl)
theorem dX3_isCart_1 : decode cX3_isCart 1 = .ok (.iconst 0, 1) := dk_3 (dk_at dksX3_isCart_0 1 rfl rfl)
theorem dX3_isCart_2 : decode cX3_isCart 2 = .ok (.aload_n 0, 1) := dk_42 (dk_at dksX3_isCart_0 2 rfl rfl)
theorem dX3_isCart_3 : decode cX3_isCart 3 = .ok (.getfield 9, 3) := dk_180 0 9 (dk_at dksX3_isCart_0 3 rfl rfl)
theorem dX3_isCart_6 : decode cX3_isCart 6 = .ok (.iconst 0, 1) := dk_3 (dk_at dksX3_isCart_0 6 rfl rfl)
theorem dX3_isCart_7 : decode cX3_isCart 7 = .ok (.iaload, 1) := dk_46 (dk_at dksX3_isCart_0 7 rfl rfl)
theorem dX3_isCart_8 : decode cX3_isCart 8 = .ok (.iconst 1, 1) := dk_4 (dk_at dksX3_isCart_0 8 rfl rfl)
theorem dX3_isCart_9 : decode cX3_isCart 9 = .ok (.isub, 1) := dk_100 (dk_at dksX3_isCart_0 9 rfl rfl)
theorem dX3_isCart_10 : decode cX3_isCart 10 = .ok (.invokestatic 49, 3) := dk_184 0 49 (dk_at dksX3_isCart_0 10 rfl rfl)
theorem dX3_isCart_13 : decode cX3_isCart 13 = .ok (.ireturn, 1) := dk_172 (dk_at dksX3_isCart_0 13 rfl rfl)
abbrev cX3_isOn : ByteArray := prog_14_method_23_code
def yX3_isOn : MethodName := ⟨RX3, "isOn", "(I)Z"⟩
def dkwX3_isOn_0 : List UInt8 := [42, 27, 5, 182, 0, 64, 4, 160, 0, 7, 4, 167, 0, 4, 3, 172]
abbrev dktX3_isOn_0 : List UInt8 := dkwX3_isOn_0 ++ []
theorem dksX3_isOn_0 : cX3_isOn.data.toList.drop 0 = dktX3_isOn_0 := by decide +kernel
theorem dX3_isOn_0 : decode cX3_isOn 0 = .ok (.aload_n 0, 1) := dk_42 (dk_at dksX3_isOn_0 0 rfl rfl)
theorem dX3_isOn_1 : decode cX3_isOn 1 = .ok (.iload_n 1, 1) := dk_27 (dk_at dksX3_isOn_0 1 rfl rfl)
theorem dX3_isOn_2 : decode cX3_isOn 2 = .ok (.iconst 2, 1) := dk_5 (dk_at dksX3_isOn_0 2 rfl rfl)
theorem dX3_isOn_3 : decode cX3_isOn 3 = .ok (.invokevirtual 64, 3) := dk_182 0 64 (dk_at dksX3_isOn_0 3 rfl rfl)
theorem dX3_isOn_6 : decode cX3_isOn 6 = .ok (.iconst 1, 1) := dk_4 (dk_at dksX3_isOn_0 6 rfl rfl)
theorem dX3_isOn_7 : decode cX3_isOn 7 = .ok (.if_icmp .ne 7, 3) := dk_160 0 7 (dk_at dksX3_isOn_0 7 rfl rfl)
theorem dX3_isOn_10 : decode cX3_isOn 10 = .ok (.iconst 1, 1) := dk_4 (dk_at dksX3_isOn_0 10 rfl rfl)
theorem dX3_isOn_11 : decode cX3_isOn 11 = .ok (.goto 4, 3) := dk_167 0 4 (dk_at dksX3_isOn_0 11 rfl rfl)
theorem dX3_isOn_14 : decode cX3_isOn 14 = .ok (.iconst 0, 1) := dk_3 (dk_at dksX3_isOn_0 14 rfl rfl)
theorem dX3_isOn_15 : decode cX3_isOn 15 = .ok (.ireturn, 1) := dk_172 (dk_at dksX3_isOn_0 15 rfl rfl)
abbrev cX3_rowMany : ByteArray := prog_14_method_16_code
def yX3_rowMany : MethodName := ⟨RX3, "rowMany", "(I)I"⟩
def dkwX3_rowMany_1 : List UInt8 := [4, 167, 0, 4, 3, 96, 61, 132, 3, 1, 167, 255, 226, 28, 172]
abbrev dktX3_rowMany_1 : List UInt8 := dkwX3_rowMany_1 ++ []
def dkwX3_rowMany_0 : List UInt8 := [3, 61, 3, 62, 29, 42, 180, 0, 9, 3, 46, 162, 0, 26, 28, 42, 29, 27, 182, 0, 68, 153, 0, 7]
abbrev dktX3_rowMany_0 : List UInt8 := dkwX3_rowMany_0 ++ dktX3_rowMany_1
theorem dksX3_rowMany_0 : cX3_rowMany.data.toList.drop 0 = dktX3_rowMany_0 := by decide +kernel
theorem dksX3_rowMany_1 : cX3_rowMany.data.toList.drop 24 = dktX3_rowMany_1 := dk_seg dksX3_rowMany_0 24 rfl rfl
theorem dX3_rowMany_0 : decode cX3_rowMany 0 = .ok (.iconst 0, 1) := dk_3 (dk_at dksX3_rowMany_0 0 rfl rfl)
theorem dX3_rowMany_1 : decode cX3_rowMany 1 = .ok (.istore_n 2, 1) := dk_61 (dk_at dksX3_rowMany_0 1 rfl rfl)
theorem dX3_rowMany_2 : decode cX3_rowMany 2 = .ok (.iconst 0, 1) := dk_3 (dk_at dksX3_rowMany_0 2 rfl rfl)
theorem dX3_rowMany_3 : decode cX3_rowMany 3 = .ok (.istore_n 3, 1) := dk_62 (dk_at dksX3_rowMany_0 3 rfl rfl)
theorem dX3_rowMany_4 : decode cX3_rowMany 4 = .ok (.iload_n 3, 1) := dk_29 (dk_at dksX3_rowMany_0 4 rfl rfl)
theorem dX3_rowMany_5 : decode cX3_rowMany 5 = .ok (.aload_n 0, 1) := dk_42 (dk_at dksX3_rowMany_0 5 rfl rfl)
theorem dX3_rowMany_6 : decode cX3_rowMany 6 = .ok (.getfield 9, 3) := dk_180 0 9 (dk_at dksX3_rowMany_0 6 rfl rfl)
theorem dX3_rowMany_9 : decode cX3_rowMany 9 = .ok (.iconst 0, 1) := dk_3 (dk_at dksX3_rowMany_0 9 rfl rfl)
theorem dX3_rowMany_10 : decode cX3_rowMany 10 = .ok (.iaload, 1) := dk_46 (dk_at dksX3_rowMany_0 10 rfl rfl)
theorem dX3_rowMany_11 : decode cX3_rowMany 11 = .ok (.if_icmp .ge 26, 3) := dk_162 0 26 (dk_at dksX3_rowMany_0 11 rfl rfl)
theorem dX3_rowMany_14 : decode cX3_rowMany 14 = .ok (.iload_n 2, 1) := dk_28 (dk_at dksX3_rowMany_0 14 rfl rfl)
theorem dX3_rowMany_15 : decode cX3_rowMany 15 = .ok (.aload_n 0, 1) := dk_42 (dk_at dksX3_rowMany_0 15 rfl rfl)
theorem dX3_rowMany_16 : decode cX3_rowMany 16 = .ok (.iload_n 3, 1) := dk_29 (dk_at dksX3_rowMany_0 16 rfl rfl)
theorem dX3_rowMany_17 : decode cX3_rowMany 17 = .ok (.iload_n 1, 1) := dk_27 (dk_at dksX3_rowMany_0 17 rfl rfl)
theorem dX3_rowMany_18 : decode cX3_rowMany 18 = .ok (.invokevirtual 68, 3) := dk_182 0 68 (dk_at dksX3_rowMany_0 18 rfl rfl)
theorem dX3_rowMany_21 : decode cX3_rowMany 21 = .ok (.ifCond .eq 7, 3) := dk_153 0 7 (dk_at dksX3_rowMany_0 21 rfl rfl)
theorem dX3_rowMany_24 : decode cX3_rowMany 24 = .ok (.iconst 1, 1) := dk_4 (dk_at dksX3_rowMany_1 0 rfl rfl)
theorem dX3_rowMany_25 : decode cX3_rowMany 25 = .ok (.goto 4, 3) := dk_167 0 4 (dk_at dksX3_rowMany_1 1 rfl rfl)
theorem dX3_rowMany_28 : decode cX3_rowMany 28 = .ok (.iconst 0, 1) := dk_3 (dk_at dksX3_rowMany_1 4 rfl rfl)
theorem dX3_rowMany_29 : decode cX3_rowMany 29 = .ok (.iadd, 1) := dk_96 (dk_at dksX3_rowMany_1 5 rfl rfl)
theorem dX3_rowMany_30 : decode cX3_rowMany 30 = .ok (.istore_n 2, 1) := dk_61 (dk_at dksX3_rowMany_1 6 rfl rfl)
theorem dX3_rowMany_31 : decode cX3_rowMany 31 = .ok (.iinc 3 1, 3) := dk_132 3 1 (dk_at dksX3_rowMany_1 7 rfl rfl)
theorem dX3_rowMany_34 : decode cX3_rowMany 34 = .ok (.goto (-30), 3) := dk_167 255 226 (dk_at dksX3_rowMany_1 10 rfl rfl)
theorem dX3_rowMany_37 : decode cX3_rowMany 37 = .ok (.iload_n 2, 1) := dk_28 (dk_at dksX3_rowMany_1 13 rfl rfl)
theorem dX3_rowMany_38 : decode cX3_rowMany 38 = .ok (.ireturn, 1) := dk_172 (dk_at dksX3_rowMany_1 14 rfl rfl)
abbrev cX3_turnRow : ByteArray := prog_14_method_33_code
def yX3_turnRow : MethodName := ⟨RX3, "turnRow", "(I)I"⟩
def dkwX3_turnRow_0 : List UInt8 := [42, 182, 0, 87, 42, 42, 27, 182, 0, 120, 4, 182, 0, 93, 172]
abbrev dktX3_turnRow_0 : List UInt8 := dkwX3_turnRow_0 ++ []
theorem dksX3_turnRow_0 : cX3_turnRow.data.toList.drop 0 = dktX3_turnRow_0 := by decide +kernel
theorem dX3_turnRow_0 : decode cX3_turnRow 0 = .ok (.aload_n 0, 1) := dk_42 (dk_at dksX3_turnRow_0 0 rfl rfl)
theorem dX3_turnRow_1 : decode cX3_turnRow 1 = .ok (.invokevirtual 87, 3) := dk_182 0 87 (dk_at dksX3_turnRow_0 1 rfl rfl)
theorem dX3_turnRow_4 : decode cX3_turnRow 4 = .ok (.aload_n 0, 1) := dk_42 (dk_at dksX3_turnRow_0 4 rfl rfl)
theorem dX3_turnRow_5 : decode cX3_turnRow 5 = .ok (.aload_n 0, 1) := dk_42 (dk_at dksX3_turnRow_0 5 rfl rfl)
theorem dX3_turnRow_6 : decode cX3_turnRow 6 = .ok (.iload_n 1, 1) := dk_27 (dk_at dksX3_turnRow_0 6 rfl rfl)
theorem dX3_turnRow_7 : decode cX3_turnRow 7 = .ok (.invokevirtual 120, 3) := dk_182 0 120 (dk_at dksX3_turnRow_0 7 rfl rfl)
theorem dX3_turnRow_10 : decode cX3_turnRow 10 = .ok (.iconst 1, 1) := dk_4 (dk_at dksX3_turnRow_0 10 rfl rfl)
theorem dX3_turnRow_11 : decode cX3_turnRow 11 = .ok (.invokevirtual 93, 3) := dk_182 0 93 (dk_at dksX3_turnRow_0 11 rfl rfl)
theorem dX3_turnRow_14 : decode cX3_turnRow 14 = .ok (.ireturn, 1) := dk_172 (dk_at dksX3_turnRow_0 14 rfl rfl)
abbrev cX3_turnsRow : ByteArray := prog_14_method_32_code
def yX3_turnsRow : MethodName := ⟨RX3, "turnsRow", "(I)Z"⟩
def dkwX3_turnsRow_3 : List UInt8 := [116, 182, 0, 83, 132, 3, 1, 167, 255, 219, 42, 42, 27, 3, 182, 0, 117, 181, 0, 37, 4, 172]
abbrev dktX3_turnsRow_3 : List UInt8 := dkwX3_turnsRow_3 ++ []
def dkwX3_turnsRow_2 : List UInt8 := [46, 162, 0, 33, 42, 29, 27, 182, 0, 68, 153, 0, 18, 42, 29, 16, 8, 42, 29, 16, 8, 182, 0, 64]
abbrev dktX3_turnsRow_2 : List UInt8 := dkwX3_turnsRow_2 ++ dktX3_turnsRow_3
def dkwX3_turnsRow_1 : List UInt8 := [4, 167, 0, 4, 3, 16, 7, 28, 182, 0, 56, 153, 0, 5, 3, 172, 3, 62, 29, 42, 180, 0, 9, 3]
abbrev dktX3_turnsRow_1 : List UInt8 := dkwX3_turnsRow_1 ++ dktX3_turnsRow_2
def dkwX3_turnsRow_0 : List UInt8 := [42, 27, 3, 4, 182, 0, 76, 153, 0, 5, 3, 172, 42, 27, 182, 0, 111, 61, 42, 28, 5, 162, 0, 7]
abbrev dktX3_turnsRow_0 : List UInt8 := dkwX3_turnsRow_0 ++ dktX3_turnsRow_1
theorem dksX3_turnsRow_0 : cX3_turnsRow.data.toList.drop 0 = dktX3_turnsRow_0 := by decide +kernel
theorem dksX3_turnsRow_1 : cX3_turnsRow.data.toList.drop 24 = dktX3_turnsRow_1 := dk_seg dksX3_turnsRow_0 24 rfl rfl
theorem dksX3_turnsRow_2 : cX3_turnsRow.data.toList.drop 48 = dktX3_turnsRow_2 := dk_seg dksX3_turnsRow_1 24 rfl rfl
theorem dksX3_turnsRow_3 : cX3_turnsRow.data.toList.drop 72 = dktX3_turnsRow_3 := dk_seg dksX3_turnsRow_2 24 rfl rfl
theorem dX3_turnsRow_0 : decode cX3_turnsRow 0 = .ok (.aload_n 0, 1) := dk_42 (dk_at dksX3_turnsRow_0 0 rfl rfl)
theorem dX3_turnsRow_1 : decode cX3_turnsRow 1 = .ok (.iload_n 1, 1) := dk_27 (dk_at dksX3_turnsRow_0 1 rfl rfl)
theorem dX3_turnsRow_2 : decode cX3_turnsRow 2 = .ok (.iconst 0, 1) := dk_3 (dk_at dksX3_turnsRow_0 2 rfl rfl)
theorem dX3_turnsRow_3 : decode cX3_turnsRow 3 = .ok (.iconst 1, 1) := dk_4 (dk_at dksX3_turnsRow_0 3 rfl rfl)
theorem dX3_turnsRow_4 : decode cX3_turnsRow 4 = .ok (.invokevirtual 76, 3) := dk_182 0 76 (dk_at dksX3_turnsRow_0 4 rfl rfl)
theorem dX3_turnsRow_7 : decode cX3_turnsRow 7 = .ok (.ifCond .eq 5, 3) := dk_153 0 5 (dk_at dksX3_turnsRow_0 7 rfl rfl)
theorem dX3_turnsRow_10 : decode cX3_turnsRow 10 = .ok (.iconst 0, 1) := dk_3 (dk_at dksX3_turnsRow_0 10 rfl rfl)
theorem dX3_turnsRow_11 : decode cX3_turnsRow 11 = .ok (.ireturn, 1) := dk_172 (dk_at dksX3_turnsRow_0 11 rfl rfl)
theorem dX3_turnsRow_12 : decode cX3_turnsRow 12 = .ok (.aload_n 0, 1) := dk_42 (dk_at dksX3_turnsRow_0 12 rfl rfl)
theorem dX3_turnsRow_13 : decode cX3_turnsRow 13 = .ok (.iload_n 1, 1) := dk_27 (dk_at dksX3_turnsRow_0 13 rfl rfl)
theorem dX3_turnsRow_14 : decode cX3_turnsRow 14 = .ok (.invokevirtual 111, 3) := dk_182 0 111 (dk_at dksX3_turnsRow_0 14 rfl rfl)
theorem dX3_turnsRow_17 : decode cX3_turnsRow 17 = .ok (.istore_n 2, 1) := dk_61 (dk_at dksX3_turnsRow_0 17 rfl rfl)
theorem dX3_turnsRow_18 : decode cX3_turnsRow 18 = .ok (.aload_n 0, 1) := dk_42 (dk_at dksX3_turnsRow_0 18 rfl rfl)
theorem dX3_turnsRow_19 : decode cX3_turnsRow 19 = .ok (.iload_n 2, 1) := dk_28 (dk_at dksX3_turnsRow_0 19 rfl rfl)
theorem dX3_turnsRow_20 : decode cX3_turnsRow 20 = .ok (.iconst 2, 1) := dk_5 (dk_at dksX3_turnsRow_0 20 rfl rfl)
theorem dX3_turnsRow_21 : decode cX3_turnsRow 21 = .ok (.if_icmp .ge 7, 3) := dk_162 0 7 (dk_at dksX3_turnsRow_0 21 rfl rfl)
theorem dX3_turnsRow_24 : decode cX3_turnsRow 24 = .ok (.iconst 1, 1) := dk_4 (dk_at dksX3_turnsRow_1 0 rfl rfl)
theorem dX3_turnsRow_25 : decode cX3_turnsRow 25 = .ok (.goto 4, 3) := dk_167 0 4 (dk_at dksX3_turnsRow_1 1 rfl rfl)
theorem dX3_turnsRow_28 : decode cX3_turnsRow 28 = .ok (.iconst 0, 1) := dk_3 (dk_at dksX3_turnsRow_1 4 rfl rfl)
theorem dX3_turnsRow_29 : decode cX3_turnsRow 29 = .ok (.bipush 7, 2) := dk_16 7 (dk_at dksX3_turnsRow_1 5 rfl rfl)
theorem dX3_turnsRow_31 : decode cX3_turnsRow 31 = .ok (.iload_n 2, 1) := dk_28 (dk_at dksX3_turnsRow_1 7 rfl rfl)
theorem dX3_turnsRow_32 : decode cX3_turnsRow 32 = .ok (.invokevirtual 56, 3) := dk_182 0 56 (dk_at dksX3_turnsRow_1 8 rfl rfl)
theorem dX3_turnsRow_35 : decode cX3_turnsRow 35 = .ok (.ifCond .eq 5, 3) := dk_153 0 5 (dk_at dksX3_turnsRow_1 11 rfl rfl)
theorem dX3_turnsRow_38 : decode cX3_turnsRow 38 = .ok (.iconst 0, 1) := dk_3 (dk_at dksX3_turnsRow_1 14 rfl rfl)
theorem dX3_turnsRow_39 : decode cX3_turnsRow 39 = .ok (.ireturn, 1) := dk_172 (dk_at dksX3_turnsRow_1 15 rfl rfl)
theorem dX3_turnsRow_40 : decode cX3_turnsRow 40 = .ok (.iconst 0, 1) := dk_3 (dk_at dksX3_turnsRow_1 16 rfl rfl)
theorem dX3_turnsRow_41 : decode cX3_turnsRow 41 = .ok (.istore_n 3, 1) := dk_62 (dk_at dksX3_turnsRow_1 17 rfl rfl)
theorem dX3_turnsRow_42 : decode cX3_turnsRow 42 = .ok (.iload_n 3, 1) := dk_29 (dk_at dksX3_turnsRow_1 18 rfl rfl)
theorem dX3_turnsRow_43 : decode cX3_turnsRow 43 = .ok (.aload_n 0, 1) := dk_42 (dk_at dksX3_turnsRow_1 19 rfl rfl)
theorem dX3_turnsRow_44 : decode cX3_turnsRow 44 = .ok (.getfield 9, 3) := dk_180 0 9 (dk_at dksX3_turnsRow_1 20 rfl rfl)
theorem dX3_turnsRow_47 : decode cX3_turnsRow 47 = .ok (.iconst 0, 1) := dk_3 (dk_at dksX3_turnsRow_1 23 rfl rfl)
theorem dX3_turnsRow_48 : decode cX3_turnsRow 48 = .ok (.iaload, 1) := dk_46 (dk_at dksX3_turnsRow_2 0 rfl rfl)
theorem dX3_turnsRow_49 : decode cX3_turnsRow 49 = .ok (.if_icmp .ge 33, 3) := dk_162 0 33 (dk_at dksX3_turnsRow_2 1 rfl rfl)
theorem dX3_turnsRow_52 : decode cX3_turnsRow 52 = .ok (.aload_n 0, 1) := dk_42 (dk_at dksX3_turnsRow_2 4 rfl rfl)
theorem dX3_turnsRow_53 : decode cX3_turnsRow 53 = .ok (.iload_n 3, 1) := dk_29 (dk_at dksX3_turnsRow_2 5 rfl rfl)
theorem dX3_turnsRow_54 : decode cX3_turnsRow 54 = .ok (.iload_n 1, 1) := dk_27 (dk_at dksX3_turnsRow_2 6 rfl rfl)
theorem dX3_turnsRow_55 : decode cX3_turnsRow 55 = .ok (.invokevirtual 68, 3) := dk_182 0 68 (dk_at dksX3_turnsRow_2 7 rfl rfl)
theorem dX3_turnsRow_58 : decode cX3_turnsRow 58 = .ok (.ifCond .eq 18, 3) := dk_153 0 18 (dk_at dksX3_turnsRow_2 10 rfl rfl)
theorem dX3_turnsRow_61 : decode cX3_turnsRow 61 = .ok (.aload_n 0, 1) := dk_42 (dk_at dksX3_turnsRow_2 13 rfl rfl)
theorem dX3_turnsRow_62 : decode cX3_turnsRow 62 = .ok (.iload_n 3, 1) := dk_29 (dk_at dksX3_turnsRow_2 14 rfl rfl)
theorem dX3_turnsRow_63 : decode cX3_turnsRow 63 = .ok (.bipush 8, 2) := dk_16 8 (dk_at dksX3_turnsRow_2 15 rfl rfl)
theorem dX3_turnsRow_65 : decode cX3_turnsRow 65 = .ok (.aload_n 0, 1) := dk_42 (dk_at dksX3_turnsRow_2 17 rfl rfl)
theorem dX3_turnsRow_66 : decode cX3_turnsRow 66 = .ok (.iload_n 3, 1) := dk_29 (dk_at dksX3_turnsRow_2 18 rfl rfl)
theorem dX3_turnsRow_67 : decode cX3_turnsRow 67 = .ok (.bipush 8, 2) := dk_16 8 (dk_at dksX3_turnsRow_2 19 rfl rfl)
theorem dX3_turnsRow_69 : decode cX3_turnsRow 69 = .ok (.invokevirtual 64, 3) := dk_182 0 64 (dk_at dksX3_turnsRow_2 21 rfl rfl)
theorem dX3_turnsRow_72 : decode cX3_turnsRow 72 = .ok (.ineg, 1) := dk_116 (dk_at dksX3_turnsRow_3 0 rfl rfl)
theorem dX3_turnsRow_73 : decode cX3_turnsRow 73 = .ok (.invokevirtual 83, 3) := dk_182 0 83 (dk_at dksX3_turnsRow_3 1 rfl rfl)
theorem dX3_turnsRow_76 : decode cX3_turnsRow 76 = .ok (.iinc 3 1, 3) := dk_132 3 1 (dk_at dksX3_turnsRow_3 4 rfl rfl)
theorem dX3_turnsRow_79 : decode cX3_turnsRow 79 = .ok (.goto (-37), 3) := dk_167 255 219 (dk_at dksX3_turnsRow_3 7 rfl rfl)
theorem dX3_turnsRow_82 : decode cX3_turnsRow 82 = .ok (.aload_n 0, 1) := dk_42 (dk_at dksX3_turnsRow_3 10 rfl rfl)
theorem dX3_turnsRow_83 : decode cX3_turnsRow 83 = .ok (.aload_n 0, 1) := dk_42 (dk_at dksX3_turnsRow_3 11 rfl rfl)
theorem dX3_turnsRow_84 : decode cX3_turnsRow 84 = .ok (.iload_n 1, 1) := dk_27 (dk_at dksX3_turnsRow_3 12 rfl rfl)
theorem dX3_turnsRow_85 : decode cX3_turnsRow 85 = .ok (.iconst 0, 1) := dk_3 (dk_at dksX3_turnsRow_3 13 rfl rfl)
theorem dX3_turnsRow_86 : decode cX3_turnsRow 86 = .ok (.invokevirtual 117, 3) := dk_182 0 117 (dk_at dksX3_turnsRow_3 14 rfl rfl)
theorem dX3_turnsRow_89 : decode cX3_turnsRow 89 = .ok (.putfield 37, 3) := dk_181 0 37 (dk_at dksX3_turnsRow_3 17 rfl rfl)
theorem dX3_turnsRow_92 : decode cX3_turnsRow 92 = .ok (.iconst 1, 1) := dk_4 (dk_at dksX3_turnsRow_3 20 rfl rfl)
theorem dX3_turnsRow_93 : decode cX3_turnsRow 93 = .ok (.ireturn, 1) := dk_172 (dk_at dksX3_turnsRow_3 21 rfl rfl)
abbrev cX3_rowAt : ByteArray := prog_14_method_18_code
def yX3_rowAt : MethodName := ⟨RX3, "rowAt", "(II)I"⟩
def dkwX3_rowAt_1 : List UInt8 := [182, 0, 72, 28, 160, 0, 5, 29, 172, 132, 3, 1, 167, 255, 223, 2, 172]
abbrev dktX3_rowAt_1 : List UInt8 := dkwX3_rowAt_1 ++ []
def dkwX3_rowAt_0 : List UInt8 := [3, 62, 29, 42, 180, 0, 9, 3, 46, 162, 0, 29, 42, 29, 27, 182, 0, 68, 153, 0, 14, 42, 29]
abbrev dktX3_rowAt_0 : List UInt8 := dkwX3_rowAt_0 ++ dktX3_rowAt_1
theorem dksX3_rowAt_0 : cX3_rowAt.data.toList.drop 0 = dktX3_rowAt_0 := by decide +kernel
theorem dksX3_rowAt_1 : cX3_rowAt.data.toList.drop 23 = dktX3_rowAt_1 := dk_seg dksX3_rowAt_0 23 rfl rfl
theorem dX3_rowAt_0 : decode cX3_rowAt 0 = .ok (.iconst 0, 1) := dk_3 (dk_at dksX3_rowAt_0 0 rfl rfl)
theorem dX3_rowAt_1 : decode cX3_rowAt 1 = .ok (.istore_n 3, 1) := dk_62 (dk_at dksX3_rowAt_0 1 rfl rfl)
theorem dX3_rowAt_2 : decode cX3_rowAt 2 = .ok (.iload_n 3, 1) := dk_29 (dk_at dksX3_rowAt_0 2 rfl rfl)
theorem dX3_rowAt_3 : decode cX3_rowAt 3 = .ok (.aload_n 0, 1) := dk_42 (dk_at dksX3_rowAt_0 3 rfl rfl)
theorem dX3_rowAt_4 : decode cX3_rowAt 4 = .ok (.getfield 9, 3) := dk_180 0 9 (dk_at dksX3_rowAt_0 4 rfl rfl)
theorem dX3_rowAt_7 : decode cX3_rowAt 7 = .ok (.iconst 0, 1) := dk_3 (dk_at dksX3_rowAt_0 7 rfl rfl)
theorem dX3_rowAt_8 : decode cX3_rowAt 8 = .ok (.iaload, 1) := dk_46 (dk_at dksX3_rowAt_0 8 rfl rfl)
theorem dX3_rowAt_9 : decode cX3_rowAt 9 = .ok (.if_icmp .ge 29, 3) := dk_162 0 29 (dk_at dksX3_rowAt_0 9 rfl rfl)
theorem dX3_rowAt_12 : decode cX3_rowAt 12 = .ok (.aload_n 0, 1) := dk_42 (dk_at dksX3_rowAt_0 12 rfl rfl)
theorem dX3_rowAt_13 : decode cX3_rowAt 13 = .ok (.iload_n 3, 1) := dk_29 (dk_at dksX3_rowAt_0 13 rfl rfl)
theorem dX3_rowAt_14 : decode cX3_rowAt 14 = .ok (.iload_n 1, 1) := dk_27 (dk_at dksX3_rowAt_0 14 rfl rfl)
theorem dX3_rowAt_15 : decode cX3_rowAt 15 = .ok (.invokevirtual 68, 3) := dk_182 0 68 (dk_at dksX3_rowAt_0 15 rfl rfl)
theorem dX3_rowAt_18 : decode cX3_rowAt 18 = .ok (.ifCond .eq 14, 3) := dk_153 0 14 (dk_at dksX3_rowAt_0 18 rfl rfl)
theorem dX3_rowAt_21 : decode cX3_rowAt 21 = .ok (.aload_n 0, 1) := dk_42 (dk_at dksX3_rowAt_0 21 rfl rfl)
theorem dX3_rowAt_22 : decode cX3_rowAt 22 = .ok (.iload_n 3, 1) := dk_29 (dk_at dksX3_rowAt_0 22 rfl rfl)
theorem dX3_rowAt_23 : decode cX3_rowAt 23 = .ok (.invokevirtual 72, 3) := dk_182 0 72 (dk_at dksX3_rowAt_1 0 rfl rfl)
theorem dX3_rowAt_26 : decode cX3_rowAt 26 = .ok (.iload_n 2, 1) := dk_28 (dk_at dksX3_rowAt_1 3 rfl rfl)
theorem dX3_rowAt_27 : decode cX3_rowAt 27 = .ok (.if_icmp .ne 5, 3) := dk_160 0 5 (dk_at dksX3_rowAt_1 4 rfl rfl)
theorem dX3_rowAt_30 : decode cX3_rowAt 30 = .ok (.iload_n 3, 1) := dk_29 (dk_at dksX3_rowAt_1 7 rfl rfl)
theorem dX3_rowAt_31 : decode cX3_rowAt 31 = .ok (.ireturn, 1) := dk_172 (dk_at dksX3_rowAt_1 8 rfl rfl)
theorem dX3_rowAt_32 : decode cX3_rowAt 32 = .ok (.iinc 3 1, 3) := dk_132 3 1 (dk_at dksX3_rowAt_1 9 rfl rfl)
theorem dX3_rowAt_35 : decode cX3_rowAt 35 = .ok (.goto (-33), 3) := dk_167 255 223 (dk_at dksX3_rowAt_1 12 rfl rfl)
theorem dX3_rowAt_38 : decode cX3_rowAt 38 = .ok (.iconst (-1), 1) := dk_2 (dk_at dksX3_rowAt_1 15 rfl rfl)
theorem dX3_rowAt_39 : decode cX3_rowAt 39 = .ok (.ireturn, 1) := dk_172 (dk_at dksX3_rowAt_1 16 rfl rfl)
abbrev cX3_placeOf : ByteArray := prog_14_method_17_code
def yX3_placeOf : MethodName := ⟨RX3, "placeOf", "(I)I"⟩
def dkwX3_placeOf_2 : List UInt8 := [167, 0, 4, 3, 96, 61, 132, 3, 1, 167, 255, 204, 28, 172]
abbrev dktX3_placeOf_2 : List UInt8 := dkwX3_placeOf_2 ++ []
def dkwX3_placeOf_1 : List UInt8 := [182, 0, 68, 153, 0, 24, 42, 29, 16, 8, 182, 0, 64, 42, 27, 16, 8, 182, 0, 64, 162, 0, 7, 4]
abbrev dktX3_placeOf_1 : List UInt8 := dkwX3_placeOf_1 ++ dktX3_placeOf_2
def dkwX3_placeOf_0 : List UInt8 := [3, 61, 3, 62, 29, 42, 180, 0, 9, 3, 46, 162, 0, 48, 28, 42, 29, 42, 27, 3, 182, 0, 64]
abbrev dktX3_placeOf_0 : List UInt8 := dkwX3_placeOf_0 ++ dktX3_placeOf_1
theorem dksX3_placeOf_0 : cX3_placeOf.data.toList.drop 0 = dktX3_placeOf_0 := by decide +kernel
theorem dksX3_placeOf_1 : cX3_placeOf.data.toList.drop 23 = dktX3_placeOf_1 := dk_seg dksX3_placeOf_0 23 rfl rfl
theorem dksX3_placeOf_2 : cX3_placeOf.data.toList.drop 47 = dktX3_placeOf_2 := dk_seg dksX3_placeOf_1 24 rfl rfl
theorem dX3_placeOf_0 : decode cX3_placeOf 0 = .ok (.iconst 0, 1) := dk_3 (dk_at dksX3_placeOf_0 0 rfl rfl)
theorem dX3_placeOf_1 : decode cX3_placeOf 1 = .ok (.istore_n 2, 1) := dk_61 (dk_at dksX3_placeOf_0 1 rfl rfl)
theorem dX3_placeOf_2 : decode cX3_placeOf 2 = .ok (.iconst 0, 1) := dk_3 (dk_at dksX3_placeOf_0 2 rfl rfl)
theorem dX3_placeOf_3 : decode cX3_placeOf 3 = .ok (.istore_n 3, 1) := dk_62 (dk_at dksX3_placeOf_0 3 rfl rfl)
theorem dX3_placeOf_4 : decode cX3_placeOf 4 = .ok (.iload_n 3, 1) := dk_29 (dk_at dksX3_placeOf_0 4 rfl rfl)
theorem dX3_placeOf_5 : decode cX3_placeOf 5 = .ok (.aload_n 0, 1) := dk_42 (dk_at dksX3_placeOf_0 5 rfl rfl)
theorem dX3_placeOf_6 : decode cX3_placeOf 6 = .ok (.getfield 9, 3) := dk_180 0 9 (dk_at dksX3_placeOf_0 6 rfl rfl)
theorem dX3_placeOf_9 : decode cX3_placeOf 9 = .ok (.iconst 0, 1) := dk_3 (dk_at dksX3_placeOf_0 9 rfl rfl)
theorem dX3_placeOf_10 : decode cX3_placeOf 10 = .ok (.iaload, 1) := dk_46 (dk_at dksX3_placeOf_0 10 rfl rfl)
theorem dX3_placeOf_11 : decode cX3_placeOf 11 = .ok (.if_icmp .ge 48, 3) := dk_162 0 48 (dk_at dksX3_placeOf_0 11 rfl rfl)
theorem dX3_placeOf_14 : decode cX3_placeOf 14 = .ok (.iload_n 2, 1) := dk_28 (dk_at dksX3_placeOf_0 14 rfl rfl)
theorem dX3_placeOf_15 : decode cX3_placeOf 15 = .ok (.aload_n 0, 1) := dk_42 (dk_at dksX3_placeOf_0 15 rfl rfl)
theorem dX3_placeOf_16 : decode cX3_placeOf 16 = .ok (.iload_n 3, 1) := dk_29 (dk_at dksX3_placeOf_0 16 rfl rfl)
theorem dX3_placeOf_17 : decode cX3_placeOf 17 = .ok (.aload_n 0, 1) := dk_42 (dk_at dksX3_placeOf_0 17 rfl rfl)
theorem dX3_placeOf_18 : decode cX3_placeOf 18 = .ok (.iload_n 1, 1) := dk_27 (dk_at dksX3_placeOf_0 18 rfl rfl)
theorem dX3_placeOf_19 : decode cX3_placeOf 19 = .ok (.iconst 0, 1) := dk_3 (dk_at dksX3_placeOf_0 19 rfl rfl)
theorem dX3_placeOf_20 : decode cX3_placeOf 20 = .ok (.invokevirtual 64, 3) := dk_182 0 64 (dk_at dksX3_placeOf_0 20 rfl rfl)
theorem dX3_placeOf_23 : decode cX3_placeOf 23 = .ok (.invokevirtual 68, 3) := dk_182 0 68 (dk_at dksX3_placeOf_1 0 rfl rfl)
theorem dX3_placeOf_26 : decode cX3_placeOf 26 = .ok (.ifCond .eq 24, 3) := dk_153 0 24 (dk_at dksX3_placeOf_1 3 rfl rfl)
theorem dX3_placeOf_29 : decode cX3_placeOf 29 = .ok (.aload_n 0, 1) := dk_42 (dk_at dksX3_placeOf_1 6 rfl rfl)
theorem dX3_placeOf_30 : decode cX3_placeOf 30 = .ok (.iload_n 3, 1) := dk_29 (dk_at dksX3_placeOf_1 7 rfl rfl)
theorem dX3_placeOf_31 : decode cX3_placeOf 31 = .ok (.bipush 8, 2) := dk_16 8 (dk_at dksX3_placeOf_1 8 rfl rfl)
theorem dX3_placeOf_33 : decode cX3_placeOf 33 = .ok (.invokevirtual 64, 3) := dk_182 0 64 (dk_at dksX3_placeOf_1 10 rfl rfl)
theorem dX3_placeOf_36 : decode cX3_placeOf 36 = .ok (.aload_n 0, 1) := dk_42 (dk_at dksX3_placeOf_1 13 rfl rfl)
theorem dX3_placeOf_37 : decode cX3_placeOf 37 = .ok (.iload_n 1, 1) := dk_27 (dk_at dksX3_placeOf_1 14 rfl rfl)
theorem dX3_placeOf_38 : decode cX3_placeOf 38 = .ok (.bipush 8, 2) := dk_16 8 (dk_at dksX3_placeOf_1 15 rfl rfl)
theorem dX3_placeOf_40 : decode cX3_placeOf 40 = .ok (.invokevirtual 64, 3) := dk_182 0 64 (dk_at dksX3_placeOf_1 17 rfl rfl)
theorem dX3_placeOf_43 : decode cX3_placeOf 43 = .ok (.if_icmp .ge 7, 3) := dk_162 0 7 (dk_at dksX3_placeOf_1 20 rfl rfl)
theorem dX3_placeOf_46 : decode cX3_placeOf 46 = .ok (.iconst 1, 1) := dk_4 (dk_at dksX3_placeOf_1 23 rfl rfl)
theorem dX3_placeOf_47 : decode cX3_placeOf 47 = .ok (.goto 4, 3) := dk_167 0 4 (dk_at dksX3_placeOf_2 0 rfl rfl)
theorem dX3_placeOf_50 : decode cX3_placeOf 50 = .ok (.iconst 0, 1) := dk_3 (dk_at dksX3_placeOf_2 3 rfl rfl)
theorem dX3_placeOf_51 : decode cX3_placeOf 51 = .ok (.iadd, 1) := dk_96 (dk_at dksX3_placeOf_2 4 rfl rfl)
theorem dX3_placeOf_52 : decode cX3_placeOf 52 = .ok (.istore_n 2, 1) := dk_61 (dk_at dksX3_placeOf_2 5 rfl rfl)
theorem dX3_placeOf_53 : decode cX3_placeOf 53 = .ok (.iinc 3 1, 3) := dk_132 3 1 (dk_at dksX3_placeOf_2 6 rfl rfl)
theorem dX3_placeOf_56 : decode cX3_placeOf 56 = .ok (.goto (-52), 3) := dk_167 255 204 (dk_at dksX3_placeOf_2 9 rfl rfl)
theorem dX3_placeOf_59 : decode cX3_placeOf 59 = .ok (.iload_n 2, 1) := dk_28 (dk_at dksX3_placeOf_2 12 rfl rfl)
theorem dX3_placeOf_60 : decode cX3_placeOf 60 = .ok (.ireturn, 1) := dk_172 (dk_at dksX3_placeOf_2 13 rfl rfl)
abbrev cX3_yieldBy : ByteArray := prog_14_method_41_code
def yX3_yieldBy : MethodName := ⟨RX3, "yieldBy", "(I)I"⟩
def dkwX3_yieldBy_0 : List UInt8 := [42, 182, 0, 87, 42, 42, 27, 182, 0, 141, 4, 182, 0, 93, 172]
abbrev dktX3_yieldBy_0 : List UInt8 := dkwX3_yieldBy_0 ++ []
theorem dksX3_yieldBy_0 : cX3_yieldBy.data.toList.drop 0 = dktX3_yieldBy_0 := by decide +kernel
theorem dX3_yieldBy_0 : decode cX3_yieldBy 0 = .ok (.aload_n 0, 1) := dk_42 (dk_at dksX3_yieldBy_0 0 rfl rfl)
theorem dX3_yieldBy_1 : decode cX3_yieldBy 1 = .ok (.invokevirtual 87, 3) := dk_182 0 87 (dk_at dksX3_yieldBy_0 1 rfl rfl)
theorem dX3_yieldBy_4 : decode cX3_yieldBy 4 = .ok (.aload_n 0, 1) := dk_42 (dk_at dksX3_yieldBy_0 4 rfl rfl)
theorem dX3_yieldBy_5 : decode cX3_yieldBy 5 = .ok (.aload_n 0, 1) := dk_42 (dk_at dksX3_yieldBy_0 5 rfl rfl)
theorem dX3_yieldBy_6 : decode cX3_yieldBy 6 = .ok (.iload_n 1, 1) := dk_27 (dk_at dksX3_yieldBy_0 6 rfl rfl)
theorem dX3_yieldBy_7 : decode cX3_yieldBy 7 = .ok (.invokevirtual 141, 3) := dk_182 0 141 (dk_at dksX3_yieldBy_0 7 rfl rfl)
theorem dX3_yieldBy_10 : decode cX3_yieldBy 10 = .ok (.iconst 1, 1) := dk_4 (dk_at dksX3_yieldBy_0 10 rfl rfl)
theorem dX3_yieldBy_11 : decode cX3_yieldBy 11 = .ok (.invokevirtual 93, 3) := dk_182 0 93 (dk_at dksX3_yieldBy_0 11 rfl rfl)
theorem dX3_yieldBy_14 : decode cX3_yieldBy 14 = .ok (.ireturn, 1) := dk_172 (dk_at dksX3_yieldBy_0 14 rfl rfl)
abbrev cX3_yields : ByteArray := prog_14_method_40_code
def yX3_yields : MethodName := ⟨RX3, "yields", "(I)Z"⟩
def dkwX3_yields_2 : List UInt8 := [182, 0, 138, 4, 172]
abbrev dktX3_yields_2 : List UInt8 := dkwX3_yields_2 ++ []
def dkwX3_yields_1 : List UInt8 := [42, 27, 182, 0, 72, 182, 0, 56, 153, 0, 5, 3, 172, 42, 42, 27, 182, 0, 135, 181, 0, 37, 42]
abbrev dktX3_yields_1 : List UInt8 := dkwX3_yields_1 ++ dktX3_yields_2
def dkwX3_yields_0 : List UInt8 := [42, 27, 182, 0, 105, 154, 0, 30, 42, 42, 27, 182, 0, 108, 154, 0, 7, 4, 167, 0, 4, 3, 16, 8]
abbrev dktX3_yields_0 : List UInt8 := dkwX3_yields_0 ++ dktX3_yields_1
theorem dksX3_yields_0 : cX3_yields.data.toList.drop 0 = dktX3_yields_0 := by decide +kernel
theorem dksX3_yields_1 : cX3_yields.data.toList.drop 24 = dktX3_yields_1 := dk_seg dksX3_yields_0 24 rfl rfl
theorem dksX3_yields_2 : cX3_yields.data.toList.drop 47 = dktX3_yields_2 := dk_seg dksX3_yields_1 23 rfl rfl
theorem dX3_yields_0 : decode cX3_yields 0 = .ok (.aload_n 0, 1) := dk_42 (dk_at dksX3_yields_0 0 rfl rfl)
theorem dX3_yields_1 : decode cX3_yields 1 = .ok (.iload_n 1, 1) := dk_27 (dk_at dksX3_yields_0 1 rfl rfl)
theorem dX3_yields_2 : decode cX3_yields 2 = .ok (.invokevirtual 105, 3) := dk_182 0 105 (dk_at dksX3_yields_0 2 rfl rfl)
theorem dX3_yields_5 : decode cX3_yields 5 = .ok (.ifCond .ne 30, 3) := dk_154 0 30 (dk_at dksX3_yields_0 5 rfl rfl)
theorem dX3_yields_8 : decode cX3_yields 8 = .ok (.aload_n 0, 1) := dk_42 (dk_at dksX3_yields_0 8 rfl rfl)
theorem dX3_yields_9 : decode cX3_yields 9 = .ok (.aload_n 0, 1) := dk_42 (dk_at dksX3_yields_0 9 rfl rfl)
theorem dX3_yields_10 : decode cX3_yields 10 = .ok (.iload_n 1, 1) := dk_27 (dk_at dksX3_yields_0 10 rfl rfl)
theorem dX3_yields_11 : decode cX3_yields 11 = .ok (.invokevirtual 108, 3) := dk_182 0 108 (dk_at dksX3_yields_0 11 rfl rfl)
theorem dX3_yields_14 : decode cX3_yields 14 = .ok (.ifCond .ne 7, 3) := dk_154 0 7 (dk_at dksX3_yields_0 14 rfl rfl)
theorem dX3_yields_17 : decode cX3_yields 17 = .ok (.iconst 1, 1) := dk_4 (dk_at dksX3_yields_0 17 rfl rfl)
theorem dX3_yields_18 : decode cX3_yields 18 = .ok (.goto 4, 3) := dk_167 0 4 (dk_at dksX3_yields_0 18 rfl rfl)
theorem dX3_yields_21 : decode cX3_yields 21 = .ok (.iconst 0, 1) := dk_3 (dk_at dksX3_yields_0 21 rfl rfl)
theorem dX3_yields_22 : decode cX3_yields 22 = .ok (.bipush 8, 2) := dk_16 8 (dk_at dksX3_yields_0 22 rfl rfl)
theorem dX3_yields_24 : decode cX3_yields 24 = .ok (.aload_n 0, 1) := dk_42 (dk_at dksX3_yields_1 0 rfl rfl)
theorem dX3_yields_25 : decode cX3_yields 25 = .ok (.iload_n 1, 1) := dk_27 (dk_at dksX3_yields_1 1 rfl rfl)
theorem dX3_yields_26 : decode cX3_yields 26 = .ok (.invokevirtual 72, 3) := dk_182 0 72 (dk_at dksX3_yields_1 2 rfl rfl)
theorem dX3_yields_29 : decode cX3_yields 29 = .ok (.invokevirtual 56, 3) := dk_182 0 56 (dk_at dksX3_yields_1 5 rfl rfl)
theorem dX3_yields_32 : decode cX3_yields 32 = .ok (.ifCond .eq 5, 3) := dk_153 0 5 (dk_at dksX3_yields_1 8 rfl rfl)
theorem dX3_yields_35 : decode cX3_yields 35 = .ok (.iconst 0, 1) := dk_3 (dk_at dksX3_yields_1 11 rfl rfl)
theorem dX3_yields_36 : decode cX3_yields 36 = .ok (.ireturn, 1) := dk_172 (dk_at dksX3_yields_1 12 rfl rfl)
theorem dX3_yields_37 : decode cX3_yields 37 = .ok (.aload_n 0, 1) := dk_42 (dk_at dksX3_yields_1 13 rfl rfl)
theorem dX3_yields_38 : decode cX3_yields 38 = .ok (.aload_n 0, 1) := dk_42 (dk_at dksX3_yields_1 14 rfl rfl)
theorem dX3_yields_39 : decode cX3_yields 39 = .ok (.iload_n 1, 1) := dk_27 (dk_at dksX3_yields_1 15 rfl rfl)
theorem dX3_yields_40 : decode cX3_yields 40 = .ok (.invokevirtual 135, 3) := dk_182 0 135 (dk_at dksX3_yields_1 16 rfl rfl)
theorem dX3_yields_43 : decode cX3_yields 43 = .ok (.putfield 37, 3) := dk_181 0 37 (dk_at dksX3_yields_1 19 rfl rfl)
theorem dX3_yields_46 : decode cX3_yields 46 = .ok (.aload_n 0, 1) := dk_42 (dk_at dksX3_yields_1 22 rfl rfl)
theorem dX3_yields_47 : decode cX3_yields 47 = .ok (.invokevirtual 138, 3) := dk_182 0 138 (dk_at dksX3_yields_2 0 rfl rfl)
theorem dX3_yields_50 : decode cX3_yields 50 = .ok (.iconst 1, 1) := dk_4 (dk_at dksX3_yields_2 3 rfl rfl)
theorem dX3_yields_51 : decode cX3_yields 51 = .ok (.ireturn, 1) := dk_172 (dk_at dksX3_yields_2 4 rfl rfl)
abbrev cX3_turnsRun : ByteArray := prog_14_method_37_code
def yX3_turnsRun : MethodName := ⟨RX3, "turnsRun", "(I)I"⟩
def dkwX3_turnsRun_2 : List UInt8 := [180, 0, 9, 16, 10, 92, 46, 4, 96, 79, 132, 2, 1, 21, 4, 62, 167, 255, 199, 28, 172]
abbrev dktX3_turnsRun_2 : List UInt8 := dkwX3_turnsRun_2 ++ []
def dkwX3_turnsRun_1 : List UInt8 := [182, 0, 64, 100, 182, 0, 83, 42, 29, 8, 42, 29, 8, 182, 0, 64, 4, 96, 182, 0, 83, 42]
abbrev dktX3_turnsRun_1 : List UInt8 := dkwX3_turnsRun_1 ++ dktX3_turnsRun_2
def dkwX3_turnsRun_0 : List UInt8 := [3, 61, 27, 62, 29, 2, 159, 0, 58, 42, 29, 182, 0, 126, 54, 4, 42, 29, 7, 4, 42, 29, 7]
abbrev dktX3_turnsRun_0 : List UInt8 := dkwX3_turnsRun_0 ++ dktX3_turnsRun_1
theorem dksX3_turnsRun_0 : cX3_turnsRun.data.toList.drop 0 = dktX3_turnsRun_0 := by decide +kernel
theorem dksX3_turnsRun_1 : cX3_turnsRun.data.toList.drop 23 = dktX3_turnsRun_1 := dk_seg dksX3_turnsRun_0 23 rfl rfl
theorem dksX3_turnsRun_2 : cX3_turnsRun.data.toList.drop 45 = dktX3_turnsRun_2 := dk_seg dksX3_turnsRun_1 22 rfl rfl
theorem dX3_turnsRun_0 : decode cX3_turnsRun 0 = .ok (.iconst 0, 1) := dk_3 (dk_at dksX3_turnsRun_0 0 rfl rfl)
theorem dX3_turnsRun_1 : decode cX3_turnsRun 1 = .ok (.istore_n 2, 1) := dk_61 (dk_at dksX3_turnsRun_0 1 rfl rfl)
theorem dX3_turnsRun_2 : decode cX3_turnsRun 2 = .ok (.iload_n 1, 1) := dk_27 (dk_at dksX3_turnsRun_0 2 rfl rfl)
theorem dX3_turnsRun_3 : decode cX3_turnsRun 3 = .ok (.istore_n 3, 1) := dk_62 (dk_at dksX3_turnsRun_0 3 rfl rfl)
theorem dX3_turnsRun_4 : decode cX3_turnsRun 4 = .ok (.iload_n 3, 1) := dk_29 (dk_at dksX3_turnsRun_0 4 rfl rfl)
theorem dX3_turnsRun_5 : decode cX3_turnsRun 5 = .ok (.iconst (-1), 1) := dk_2 (dk_at dksX3_turnsRun_0 5 rfl rfl)
theorem dX3_turnsRun_6 : decode cX3_turnsRun 6 = .ok (.if_icmp .eq 58, 3) := dk_159 0 58 (dk_at dksX3_turnsRun_0 6 rfl rfl)
theorem dX3_turnsRun_9 : decode cX3_turnsRun 9 = .ok (.aload_n 0, 1) := dk_42 (dk_at dksX3_turnsRun_0 9 rfl rfl)
theorem dX3_turnsRun_10 : decode cX3_turnsRun 10 = .ok (.iload_n 3, 1) := dk_29 (dk_at dksX3_turnsRun_0 10 rfl rfl)
theorem dX3_turnsRun_11 : decode cX3_turnsRun 11 = .ok (.invokevirtual 126, 3) := dk_182 0 126 (dk_at dksX3_turnsRun_0 11 rfl rfl)
theorem dX3_turnsRun_14 : decode cX3_turnsRun 14 = .ok (.istore 4, 2) := dk_54 4 (dk_at dksX3_turnsRun_0 14 rfl rfl)
theorem dX3_turnsRun_16 : decode cX3_turnsRun 16 = .ok (.aload_n 0, 1) := dk_42 (dk_at dksX3_turnsRun_0 16 rfl rfl)
theorem dX3_turnsRun_17 : decode cX3_turnsRun 17 = .ok (.iload_n 3, 1) := dk_29 (dk_at dksX3_turnsRun_0 17 rfl rfl)
theorem dX3_turnsRun_18 : decode cX3_turnsRun 18 = .ok (.iconst 4, 1) := dk_7 (dk_at dksX3_turnsRun_0 18 rfl rfl)
theorem dX3_turnsRun_19 : decode cX3_turnsRun 19 = .ok (.iconst 1, 1) := dk_4 (dk_at dksX3_turnsRun_0 19 rfl rfl)
theorem dX3_turnsRun_20 : decode cX3_turnsRun 20 = .ok (.aload_n 0, 1) := dk_42 (dk_at dksX3_turnsRun_0 20 rfl rfl)
theorem dX3_turnsRun_21 : decode cX3_turnsRun 21 = .ok (.iload_n 3, 1) := dk_29 (dk_at dksX3_turnsRun_0 21 rfl rfl)
theorem dX3_turnsRun_22 : decode cX3_turnsRun 22 = .ok (.iconst 4, 1) := dk_7 (dk_at dksX3_turnsRun_0 22 rfl rfl)
theorem dX3_turnsRun_23 : decode cX3_turnsRun 23 = .ok (.invokevirtual 64, 3) := dk_182 0 64 (dk_at dksX3_turnsRun_1 0 rfl rfl)
theorem dX3_turnsRun_26 : decode cX3_turnsRun 26 = .ok (.isub, 1) := dk_100 (dk_at dksX3_turnsRun_1 3 rfl rfl)
theorem dX3_turnsRun_27 : decode cX3_turnsRun 27 = .ok (.invokevirtual 83, 3) := dk_182 0 83 (dk_at dksX3_turnsRun_1 4 rfl rfl)
theorem dX3_turnsRun_30 : decode cX3_turnsRun 30 = .ok (.aload_n 0, 1) := dk_42 (dk_at dksX3_turnsRun_1 7 rfl rfl)
theorem dX3_turnsRun_31 : decode cX3_turnsRun 31 = .ok (.iload_n 3, 1) := dk_29 (dk_at dksX3_turnsRun_1 8 rfl rfl)
theorem dX3_turnsRun_32 : decode cX3_turnsRun 32 = .ok (.iconst 5, 1) := dk_8 (dk_at dksX3_turnsRun_1 9 rfl rfl)
theorem dX3_turnsRun_33 : decode cX3_turnsRun 33 = .ok (.aload_n 0, 1) := dk_42 (dk_at dksX3_turnsRun_1 10 rfl rfl)
theorem dX3_turnsRun_34 : decode cX3_turnsRun 34 = .ok (.iload_n 3, 1) := dk_29 (dk_at dksX3_turnsRun_1 11 rfl rfl)
theorem dX3_turnsRun_35 : decode cX3_turnsRun 35 = .ok (.iconst 5, 1) := dk_8 (dk_at dksX3_turnsRun_1 12 rfl rfl)
theorem dX3_turnsRun_36 : decode cX3_turnsRun 36 = .ok (.invokevirtual 64, 3) := dk_182 0 64 (dk_at dksX3_turnsRun_1 13 rfl rfl)
theorem dX3_turnsRun_39 : decode cX3_turnsRun 39 = .ok (.iconst 1, 1) := dk_4 (dk_at dksX3_turnsRun_1 16 rfl rfl)
theorem dX3_turnsRun_40 : decode cX3_turnsRun 40 = .ok (.iadd, 1) := dk_96 (dk_at dksX3_turnsRun_1 17 rfl rfl)
theorem dX3_turnsRun_41 : decode cX3_turnsRun 41 = .ok (.invokevirtual 83, 3) := dk_182 0 83 (dk_at dksX3_turnsRun_1 18 rfl rfl)
theorem dX3_turnsRun_44 : decode cX3_turnsRun 44 = .ok (.aload_n 0, 1) := dk_42 (dk_at dksX3_turnsRun_1 21 rfl rfl)
theorem dX3_turnsRun_45 : decode cX3_turnsRun 45 = .ok (.getfield 9, 3) := dk_180 0 9 (dk_at dksX3_turnsRun_2 0 rfl rfl)
theorem dX3_turnsRun_48 : decode cX3_turnsRun 48 = .ok (.bipush 10, 2) := dk_16 10 (dk_at dksX3_turnsRun_2 3 rfl rfl)
theorem dX3_turnsRun_50 : decode cX3_turnsRun 50 = .ok (.dup2, 1) := dk_92 (dk_at dksX3_turnsRun_2 5 rfl rfl)
theorem dX3_turnsRun_51 : decode cX3_turnsRun 51 = .ok (.iaload, 1) := dk_46 (dk_at dksX3_turnsRun_2 6 rfl rfl)
theorem dX3_turnsRun_52 : decode cX3_turnsRun 52 = .ok (.iconst 1, 1) := dk_4 (dk_at dksX3_turnsRun_2 7 rfl rfl)
theorem dX3_turnsRun_53 : decode cX3_turnsRun 53 = .ok (.iadd, 1) := dk_96 (dk_at dksX3_turnsRun_2 8 rfl rfl)
theorem dX3_turnsRun_54 : decode cX3_turnsRun 54 = .ok (.iastore, 1) := dk_79 (dk_at dksX3_turnsRun_2 9 rfl rfl)
theorem dX3_turnsRun_55 : decode cX3_turnsRun 55 = .ok (.iinc 2 1, 3) := dk_132 2 1 (dk_at dksX3_turnsRun_2 10 rfl rfl)
theorem dX3_turnsRun_58 : decode cX3_turnsRun 58 = .ok (.iload 4, 2) := dk_21 4 (dk_at dksX3_turnsRun_2 13 rfl rfl)
theorem dX3_turnsRun_60 : decode cX3_turnsRun 60 = .ok (.istore_n 3, 1) := dk_62 (dk_at dksX3_turnsRun_2 15 rfl rfl)
theorem dX3_turnsRun_61 : decode cX3_turnsRun 61 = .ok (.goto (-57), 3) := dk_167 255 199 (dk_at dksX3_turnsRun_2 16 rfl rfl)
theorem dX3_turnsRun_64 : decode cX3_turnsRun 64 = .ok (.iload_n 2, 1) := dk_28 (dk_at dksX3_turnsRun_2 19 rfl rfl)
theorem dX3_turnsRun_65 : decode cX3_turnsRun 65 = .ok (.ireturn, 1) := dk_172 (dk_at dksX3_turnsRun_2 20 rfl rfl)
abbrev cX3_behind : ByteArray := prog_14_method_34_code
def yX3_behind : MethodName := ⟨RX3, "behind", "(I)I"⟩
def dkwX3_behind_2 : List UInt8 := [182, 0, 64, 160, 0, 7, 28, 167, 0, 4, 2, 172]
abbrev dktX3_behind_2 : List UInt8 := dkwX3_behind_2 ++ []
def dkwX3_behind_1 : List UInt8 := [6, 182, 0, 64, 4, 96, 182, 0, 123, 61, 28, 2, 159, 0, 22, 42, 28, 7, 182, 0, 64, 42, 27, 7]
abbrev dktX3_behind_1 : List UInt8 := dkwX3_behind_1 ++ dktX3_behind_2
def dkwX3_behind_0 : List UInt8 := [42, 42, 27, 7, 182, 0, 64, 4, 160, 0, 14, 42, 27, 6, 182, 0, 64, 4, 100, 167, 0, 11, 42, 27]
abbrev dktX3_behind_0 : List UInt8 := dkwX3_behind_0 ++ dktX3_behind_1
theorem dksX3_behind_0 : cX3_behind.data.toList.drop 0 = dktX3_behind_0 := by decide +kernel
theorem dksX3_behind_1 : cX3_behind.data.toList.drop 24 = dktX3_behind_1 := dk_seg dksX3_behind_0 24 rfl rfl
theorem dksX3_behind_2 : cX3_behind.data.toList.drop 48 = dktX3_behind_2 := dk_seg dksX3_behind_1 24 rfl rfl
theorem dX3_behind_0 : decode cX3_behind 0 = .ok (.aload_n 0, 1) := dk_42 (dk_at dksX3_behind_0 0 rfl rfl)
theorem dX3_behind_1 : decode cX3_behind 1 = .ok (.aload_n 0, 1) := dk_42 (dk_at dksX3_behind_0 1 rfl rfl)
theorem dX3_behind_2 : decode cX3_behind 2 = .ok (.iload_n 1, 1) := dk_27 (dk_at dksX3_behind_0 2 rfl rfl)
theorem dX3_behind_3 : decode cX3_behind 3 = .ok (.iconst 4, 1) := dk_7 (dk_at dksX3_behind_0 3 rfl rfl)
theorem dX3_behind_4 : decode cX3_behind 4 = .ok (.invokevirtual 64, 3) := dk_182 0 64 (dk_at dksX3_behind_0 4 rfl rfl)
theorem dX3_behind_7 : decode cX3_behind 7 = .ok (.iconst 1, 1) := dk_4 (dk_at dksX3_behind_0 7 rfl rfl)
theorem dX3_behind_8 : decode cX3_behind 8 = .ok (.if_icmp .ne 14, 3) := dk_160 0 14 (dk_at dksX3_behind_0 8 rfl rfl)
theorem dX3_behind_11 : decode cX3_behind 11 = .ok (.aload_n 0, 1) := dk_42 (dk_at dksX3_behind_0 11 rfl rfl)
theorem dX3_behind_12 : decode cX3_behind 12 = .ok (.iload_n 1, 1) := dk_27 (dk_at dksX3_behind_0 12 rfl rfl)
theorem dX3_behind_13 : decode cX3_behind 13 = .ok (.iconst 3, 1) := dk_6 (dk_at dksX3_behind_0 13 rfl rfl)
theorem dX3_behind_14 : decode cX3_behind 14 = .ok (.invokevirtual 64, 3) := dk_182 0 64 (dk_at dksX3_behind_0 14 rfl rfl)
theorem dX3_behind_17 : decode cX3_behind 17 = .ok (.iconst 1, 1) := dk_4 (dk_at dksX3_behind_0 17 rfl rfl)
theorem dX3_behind_18 : decode cX3_behind 18 = .ok (.isub, 1) := dk_100 (dk_at dksX3_behind_0 18 rfl rfl)
theorem dX3_behind_19 : decode cX3_behind 19 = .ok (.goto 11, 3) := dk_167 0 11 (dk_at dksX3_behind_0 19 rfl rfl)
theorem dX3_behind_22 : decode cX3_behind 22 = .ok (.aload_n 0, 1) := dk_42 (dk_at dksX3_behind_0 22 rfl rfl)
theorem dX3_behind_23 : decode cX3_behind 23 = .ok (.iload_n 1, 1) := dk_27 (dk_at dksX3_behind_0 23 rfl rfl)
theorem dX3_behind_24 : decode cX3_behind 24 = .ok (.iconst 3, 1) := dk_6 (dk_at dksX3_behind_1 0 rfl rfl)
theorem dX3_behind_25 : decode cX3_behind 25 = .ok (.invokevirtual 64, 3) := dk_182 0 64 (dk_at dksX3_behind_1 1 rfl rfl)
theorem dX3_behind_28 : decode cX3_behind 28 = .ok (.iconst 1, 1) := dk_4 (dk_at dksX3_behind_1 4 rfl rfl)
theorem dX3_behind_29 : decode cX3_behind 29 = .ok (.iadd, 1) := dk_96 (dk_at dksX3_behind_1 5 rfl rfl)
theorem dX3_behind_30 : decode cX3_behind 30 = .ok (.invokevirtual 123, 3) := dk_182 0 123 (dk_at dksX3_behind_1 6 rfl rfl)
theorem dX3_behind_33 : decode cX3_behind 33 = .ok (.istore_n 2, 1) := dk_61 (dk_at dksX3_behind_1 9 rfl rfl)
theorem dX3_behind_34 : decode cX3_behind 34 = .ok (.iload_n 2, 1) := dk_28 (dk_at dksX3_behind_1 10 rfl rfl)
theorem dX3_behind_35 : decode cX3_behind 35 = .ok (.iconst (-1), 1) := dk_2 (dk_at dksX3_behind_1 11 rfl rfl)
theorem dX3_behind_36 : decode cX3_behind 36 = .ok (.if_icmp .eq 22, 3) := dk_159 0 22 (dk_at dksX3_behind_1 12 rfl rfl)
theorem dX3_behind_39 : decode cX3_behind 39 = .ok (.aload_n 0, 1) := dk_42 (dk_at dksX3_behind_1 15 rfl rfl)
theorem dX3_behind_40 : decode cX3_behind 40 = .ok (.iload_n 2, 1) := dk_28 (dk_at dksX3_behind_1 16 rfl rfl)
theorem dX3_behind_41 : decode cX3_behind 41 = .ok (.iconst 4, 1) := dk_7 (dk_at dksX3_behind_1 17 rfl rfl)
theorem dX3_behind_42 : decode cX3_behind 42 = .ok (.invokevirtual 64, 3) := dk_182 0 64 (dk_at dksX3_behind_1 18 rfl rfl)
theorem dX3_behind_45 : decode cX3_behind 45 = .ok (.aload_n 0, 1) := dk_42 (dk_at dksX3_behind_1 21 rfl rfl)
theorem dX3_behind_46 : decode cX3_behind 46 = .ok (.iload_n 1, 1) := dk_27 (dk_at dksX3_behind_1 22 rfl rfl)
theorem dX3_behind_47 : decode cX3_behind 47 = .ok (.iconst 4, 1) := dk_7 (dk_at dksX3_behind_1 23 rfl rfl)
theorem dX3_behind_48 : decode cX3_behind 48 = .ok (.invokevirtual 64, 3) := dk_182 0 64 (dk_at dksX3_behind_2 0 rfl rfl)
theorem dX3_behind_51 : decode cX3_behind 51 = .ok (.if_icmp .ne 7, 3) := dk_160 0 7 (dk_at dksX3_behind_2 3 rfl rfl)
theorem dX3_behind_54 : decode cX3_behind 54 = .ok (.iload_n 2, 1) := dk_28 (dk_at dksX3_behind_2 6 rfl rfl)
theorem dX3_behind_55 : decode cX3_behind 55 = .ok (.goto 4, 3) := dk_167 0 4 (dk_at dksX3_behind_2 7 rfl rfl)
theorem dX3_behind_58 : decode cX3_behind 58 = .ok (.iconst (-1), 1) := dk_2 (dk_at dksX3_behind_2 10 rfl rfl)
theorem dX3_behind_59 : decode cX3_behind 59 = .ok (.ireturn, 1) := dk_172 (dk_at dksX3_behind_2 11 rfl rfl)
abbrev cX3_cartOn : ByteArray := prog_14_method_21_code
def yX3_cartOn : MethodName := ⟨RX3, "cartOn", "(I)I"⟩
def dkwX3_cartOn_1 : List UInt8 := [6, 182, 0, 64, 27, 160, 0, 5, 28, 172, 132, 2, 1, 167, 255, 221, 2, 172]
abbrev dktX3_cartOn_1 : List UInt8 := dkwX3_cartOn_1 ++ []
def dkwX3_cartOn_0 : List UInt8 := [3, 61, 28, 42, 180, 0, 9, 3, 46, 162, 0, 31, 42, 28, 5, 182, 0, 64, 4, 160, 0, 15, 42, 28]
abbrev dktX3_cartOn_0 : List UInt8 := dkwX3_cartOn_0 ++ dktX3_cartOn_1
theorem dksX3_cartOn_0 : cX3_cartOn.data.toList.drop 0 = dktX3_cartOn_0 := by decide +kernel
theorem dksX3_cartOn_1 : cX3_cartOn.data.toList.drop 24 = dktX3_cartOn_1 := dk_seg dksX3_cartOn_0 24 rfl rfl
theorem dX3_cartOn_0 : decode cX3_cartOn 0 = .ok (.iconst 0, 1) := dk_3 (dk_at dksX3_cartOn_0 0 rfl rfl)
theorem dX3_cartOn_1 : decode cX3_cartOn 1 = .ok (.istore_n 2, 1) := dk_61 (dk_at dksX3_cartOn_0 1 rfl rfl)
theorem dX3_cartOn_2 : decode cX3_cartOn 2 = .ok (.iload_n 2, 1) := dk_28 (dk_at dksX3_cartOn_0 2 rfl rfl)
theorem dX3_cartOn_3 : decode cX3_cartOn 3 = .ok (.aload_n 0, 1) := dk_42 (dk_at dksX3_cartOn_0 3 rfl rfl)
theorem dX3_cartOn_4 : decode cX3_cartOn 4 = .ok (.getfield 9, 3) := dk_180 0 9 (dk_at dksX3_cartOn_0 4 rfl rfl)
theorem dX3_cartOn_7 : decode cX3_cartOn 7 = .ok (.iconst 0, 1) := dk_3 (dk_at dksX3_cartOn_0 7 rfl rfl)
theorem dX3_cartOn_8 : decode cX3_cartOn 8 = .ok (.iaload, 1) := dk_46 (dk_at dksX3_cartOn_0 8 rfl rfl)
theorem dX3_cartOn_9 : decode cX3_cartOn 9 = .ok (.if_icmp .ge 31, 3) := dk_162 0 31 (dk_at dksX3_cartOn_0 9 rfl rfl)
theorem dX3_cartOn_12 : decode cX3_cartOn 12 = .ok (.aload_n 0, 1) := dk_42 (dk_at dksX3_cartOn_0 12 rfl rfl)
theorem dX3_cartOn_13 : decode cX3_cartOn 13 = .ok (.iload_n 2, 1) := dk_28 (dk_at dksX3_cartOn_0 13 rfl rfl)
theorem dX3_cartOn_14 : decode cX3_cartOn 14 = .ok (.iconst 2, 1) := dk_5 (dk_at dksX3_cartOn_0 14 rfl rfl)
theorem dX3_cartOn_15 : decode cX3_cartOn 15 = .ok (.invokevirtual 64, 3) := dk_182 0 64 (dk_at dksX3_cartOn_0 15 rfl rfl)
theorem dX3_cartOn_18 : decode cX3_cartOn 18 = .ok (.iconst 1, 1) := dk_4 (dk_at dksX3_cartOn_0 18 rfl rfl)
theorem dX3_cartOn_19 : decode cX3_cartOn 19 = .ok (.if_icmp .ne 15, 3) := dk_160 0 15 (dk_at dksX3_cartOn_0 19 rfl rfl)
theorem dX3_cartOn_22 : decode cX3_cartOn 22 = .ok (.aload_n 0, 1) := dk_42 (dk_at dksX3_cartOn_0 22 rfl rfl)
theorem dX3_cartOn_23 : decode cX3_cartOn 23 = .ok (.iload_n 2, 1) := dk_28 (dk_at dksX3_cartOn_0 23 rfl rfl)
theorem dX3_cartOn_24 : decode cX3_cartOn 24 = .ok (.iconst 3, 1) := dk_6 (dk_at dksX3_cartOn_1 0 rfl rfl)
theorem dX3_cartOn_25 : decode cX3_cartOn 25 = .ok (.invokevirtual 64, 3) := dk_182 0 64 (dk_at dksX3_cartOn_1 1 rfl rfl)
theorem dX3_cartOn_28 : decode cX3_cartOn 28 = .ok (.iload_n 1, 1) := dk_27 (dk_at dksX3_cartOn_1 4 rfl rfl)
theorem dX3_cartOn_29 : decode cX3_cartOn 29 = .ok (.if_icmp .ne 5, 3) := dk_160 0 5 (dk_at dksX3_cartOn_1 5 rfl rfl)
theorem dX3_cartOn_32 : decode cX3_cartOn 32 = .ok (.iload_n 2, 1) := dk_28 (dk_at dksX3_cartOn_1 8 rfl rfl)
theorem dX3_cartOn_33 : decode cX3_cartOn 33 = .ok (.ireturn, 1) := dk_172 (dk_at dksX3_cartOn_1 9 rfl rfl)
theorem dX3_cartOn_34 : decode cX3_cartOn 34 = .ok (.iinc 2 1, 3) := dk_132 2 1 (dk_at dksX3_cartOn_1 10 rfl rfl)
theorem dX3_cartOn_37 : decode cX3_cartOn 37 = .ok (.goto (-35), 3) := dk_167 255 221 (dk_at dksX3_cartOn_1 13 rfl rfl)
theorem dX3_cartOn_40 : decode cX3_cartOn 40 = .ok (.iconst (-1), 1) := dk_2 (dk_at dksX3_cartOn_1 16 rfl rfl)
theorem dX3_cartOn_41 : decode cX3_cartOn 41 = .ok (.ireturn, 1) := dk_172 (dk_at dksX3_cartOn_1 17 rfl rfl)
abbrev cX3_mendsNoses : ByteArray := prog_14_method_39_code
def yX3_mendsNoses : MethodName := ⟨RX3, "mendsNoses", "()V"⟩
def dkwX3_mendsNoses_3 : List UInt8 := [54, 5, 42, 3, 182, 0, 129, 60, 167, 255, 184, 177]
abbrev dktX3_mendsNoses_3 : List UInt8 := dkwX3_mendsNoses_3 ++ []
def dkwX3_mendsNoses_2 : List UInt8 := [164, 0, 7, 4, 167, 0, 4, 3, 54, 4, 42, 21, 4, 153, 0, 7, 27, 167, 0, 4, 28, 182, 0, 135]
abbrev dktX3_mendsNoses_2 : List UInt8 := dkwX3_mendsNoses_2 ++ dktX3_mendsNoses_3
def dkwX3_mendsNoses_1 : List UInt8 := [42, 27, 182, 0, 132, 42, 28, 182, 0, 132, 100, 62, 29, 155, 0, 12, 29, 154, 0, 12, 27, 28]
abbrev dktX3_mendsNoses_1 : List UInt8 := dkwX3_mendsNoses_1 ++ dktX3_mendsNoses_2
def dkwX3_mendsNoses_0 : List UInt8 := [42, 3, 182, 0, 129, 60, 27, 2, 159, 0, 73, 42, 42, 27, 6, 182, 0, 64, 4, 96, 182, 0, 123, 61]
abbrev dktX3_mendsNoses_0 : List UInt8 := dkwX3_mendsNoses_0 ++ dktX3_mendsNoses_1
theorem dksX3_mendsNoses_0 : cX3_mendsNoses.data.toList.drop 0 = dktX3_mendsNoses_0 := by decide +kernel
theorem dksX3_mendsNoses_1 : cX3_mendsNoses.data.toList.drop 24 = dktX3_mendsNoses_1 := dk_seg dksX3_mendsNoses_0 24 rfl rfl
theorem dksX3_mendsNoses_2 : cX3_mendsNoses.data.toList.drop 46 = dktX3_mendsNoses_2 := dk_seg dksX3_mendsNoses_1 22 rfl rfl
theorem dksX3_mendsNoses_3 : cX3_mendsNoses.data.toList.drop 70 = dktX3_mendsNoses_3 := dk_seg dksX3_mendsNoses_2 24 rfl rfl
theorem dX3_mendsNoses_0 : decode cX3_mendsNoses 0 = .ok (.aload_n 0, 1) := dk_42 (dk_at dksX3_mendsNoses_0 0 rfl rfl)
theorem dX3_mendsNoses_1 : decode cX3_mendsNoses 1 = .ok (.iconst 0, 1) := dk_3 (dk_at dksX3_mendsNoses_0 1 rfl rfl)
theorem dX3_mendsNoses_2 : decode cX3_mendsNoses 2 = .ok (.invokevirtual 129, 3) := dk_182 0 129 (dk_at dksX3_mendsNoses_0 2 rfl rfl)
theorem dX3_mendsNoses_5 : decode cX3_mendsNoses 5 = .ok (.istore_n 1, 1) := dk_60 (dk_at dksX3_mendsNoses_0 5 rfl rfl)
theorem dX3_mendsNoses_6 : decode cX3_mendsNoses 6 = .ok (.iload_n 1, 1) := dk_27 (dk_at dksX3_mendsNoses_0 6 rfl rfl)
theorem dX3_mendsNoses_7 : decode cX3_mendsNoses 7 = .ok (.iconst (-1), 1) := dk_2 (dk_at dksX3_mendsNoses_0 7 rfl rfl)
theorem dX3_mendsNoses_8 : decode cX3_mendsNoses 8 = .ok (.if_icmp .eq 73, 3) := dk_159 0 73 (dk_at dksX3_mendsNoses_0 8 rfl rfl)
theorem dX3_mendsNoses_11 : decode cX3_mendsNoses 11 = .ok (.aload_n 0, 1) := dk_42 (dk_at dksX3_mendsNoses_0 11 rfl rfl)
theorem dX3_mendsNoses_12 : decode cX3_mendsNoses 12 = .ok (.aload_n 0, 1) := dk_42 (dk_at dksX3_mendsNoses_0 12 rfl rfl)
theorem dX3_mendsNoses_13 : decode cX3_mendsNoses 13 = .ok (.iload_n 1, 1) := dk_27 (dk_at dksX3_mendsNoses_0 13 rfl rfl)
theorem dX3_mendsNoses_14 : decode cX3_mendsNoses 14 = .ok (.iconst 3, 1) := dk_6 (dk_at dksX3_mendsNoses_0 14 rfl rfl)
theorem dX3_mendsNoses_15 : decode cX3_mendsNoses 15 = .ok (.invokevirtual 64, 3) := dk_182 0 64 (dk_at dksX3_mendsNoses_0 15 rfl rfl)
theorem dX3_mendsNoses_18 : decode cX3_mendsNoses 18 = .ok (.iconst 1, 1) := dk_4 (dk_at dksX3_mendsNoses_0 18 rfl rfl)
theorem dX3_mendsNoses_19 : decode cX3_mendsNoses 19 = .ok (.iadd, 1) := dk_96 (dk_at dksX3_mendsNoses_0 19 rfl rfl)
theorem dX3_mendsNoses_20 : decode cX3_mendsNoses 20 = .ok (.invokevirtual 123, 3) := dk_182 0 123 (dk_at dksX3_mendsNoses_0 20 rfl rfl)
theorem dX3_mendsNoses_23 : decode cX3_mendsNoses 23 = .ok (.istore_n 2, 1) := dk_61 (dk_at dksX3_mendsNoses_0 23 rfl rfl)
theorem dX3_mendsNoses_24 : decode cX3_mendsNoses 24 = .ok (.aload_n 0, 1) := dk_42 (dk_at dksX3_mendsNoses_1 0 rfl rfl)
theorem dX3_mendsNoses_25 : decode cX3_mendsNoses 25 = .ok (.iload_n 1, 1) := dk_27 (dk_at dksX3_mendsNoses_1 1 rfl rfl)
theorem dX3_mendsNoses_26 : decode cX3_mendsNoses 26 = .ok (.invokevirtual 132, 3) := dk_182 0 132 (dk_at dksX3_mendsNoses_1 2 rfl rfl)
theorem dX3_mendsNoses_29 : decode cX3_mendsNoses 29 = .ok (.aload_n 0, 1) := dk_42 (dk_at dksX3_mendsNoses_1 5 rfl rfl)
theorem dX3_mendsNoses_30 : decode cX3_mendsNoses 30 = .ok (.iload_n 2, 1) := dk_28 (dk_at dksX3_mendsNoses_1 6 rfl rfl)
theorem dX3_mendsNoses_31 : decode cX3_mendsNoses 31 = .ok (.invokevirtual 132, 3) := dk_182 0 132 (dk_at dksX3_mendsNoses_1 7 rfl rfl)
theorem dX3_mendsNoses_34 : decode cX3_mendsNoses 34 = .ok (.isub, 1) := dk_100 (dk_at dksX3_mendsNoses_1 10 rfl rfl)
theorem dX3_mendsNoses_35 : decode cX3_mendsNoses 35 = .ok (.istore_n 3, 1) := dk_62 (dk_at dksX3_mendsNoses_1 11 rfl rfl)
theorem dX3_mendsNoses_36 : decode cX3_mendsNoses 36 = .ok (.iload_n 3, 1) := dk_29 (dk_at dksX3_mendsNoses_1 12 rfl rfl)
theorem dX3_mendsNoses_37 : decode cX3_mendsNoses 37 = .ok (.ifCond .lt 12, 3) := dk_155 0 12 (dk_at dksX3_mendsNoses_1 13 rfl rfl)
theorem dX3_mendsNoses_40 : decode cX3_mendsNoses 40 = .ok (.iload_n 3, 1) := dk_29 (dk_at dksX3_mendsNoses_1 16 rfl rfl)
theorem dX3_mendsNoses_41 : decode cX3_mendsNoses 41 = .ok (.ifCond .ne 12, 3) := dk_154 0 12 (dk_at dksX3_mendsNoses_1 17 rfl rfl)
theorem dX3_mendsNoses_44 : decode cX3_mendsNoses 44 = .ok (.iload_n 1, 1) := dk_27 (dk_at dksX3_mendsNoses_1 20 rfl rfl)
theorem dX3_mendsNoses_45 : decode cX3_mendsNoses 45 = .ok (.iload_n 2, 1) := dk_28 (dk_at dksX3_mendsNoses_1 21 rfl rfl)
theorem dX3_mendsNoses_46 : decode cX3_mendsNoses 46 = .ok (.if_icmp .le 7, 3) := dk_164 0 7 (dk_at dksX3_mendsNoses_2 0 rfl rfl)
theorem dX3_mendsNoses_49 : decode cX3_mendsNoses 49 = .ok (.iconst 1, 1) := dk_4 (dk_at dksX3_mendsNoses_2 3 rfl rfl)
theorem dX3_mendsNoses_50 : decode cX3_mendsNoses 50 = .ok (.goto 4, 3) := dk_167 0 4 (dk_at dksX3_mendsNoses_2 4 rfl rfl)
theorem dX3_mendsNoses_53 : decode cX3_mendsNoses 53 = .ok (.iconst 0, 1) := dk_3 (dk_at dksX3_mendsNoses_2 7 rfl rfl)
theorem dX3_mendsNoses_54 : decode cX3_mendsNoses 54 = .ok (.istore 4, 2) := dk_54 4 (dk_at dksX3_mendsNoses_2 8 rfl rfl)
theorem dX3_mendsNoses_56 : decode cX3_mendsNoses 56 = .ok (.aload_n 0, 1) := dk_42 (dk_at dksX3_mendsNoses_2 10 rfl rfl)
theorem dX3_mendsNoses_57 : decode cX3_mendsNoses 57 = .ok (.iload 4, 2) := dk_21 4 (dk_at dksX3_mendsNoses_2 11 rfl rfl)
theorem dX3_mendsNoses_59 : decode cX3_mendsNoses 59 = .ok (.ifCond .eq 7, 3) := dk_153 0 7 (dk_at dksX3_mendsNoses_2 13 rfl rfl)
theorem dX3_mendsNoses_62 : decode cX3_mendsNoses 62 = .ok (.iload_n 1, 1) := dk_27 (dk_at dksX3_mendsNoses_2 16 rfl rfl)
theorem dX3_mendsNoses_63 : decode cX3_mendsNoses 63 = .ok (.goto 4, 3) := dk_167 0 4 (dk_at dksX3_mendsNoses_2 17 rfl rfl)
theorem dX3_mendsNoses_66 : decode cX3_mendsNoses 66 = .ok (.iload_n 2, 1) := dk_28 (dk_at dksX3_mendsNoses_2 20 rfl rfl)
theorem dX3_mendsNoses_67 : decode cX3_mendsNoses 67 = .ok (.invokevirtual 135, 3) := dk_182 0 135 (dk_at dksX3_mendsNoses_2 21 rfl rfl)
theorem dX3_mendsNoses_70 : decode cX3_mendsNoses 70 = .ok (.istore 5, 2) := dk_54 5 (dk_at dksX3_mendsNoses_3 0 rfl rfl)
theorem dX3_mendsNoses_72 : decode cX3_mendsNoses 72 = .ok (.aload_n 0, 1) := dk_42 (dk_at dksX3_mendsNoses_3 2 rfl rfl)
theorem dX3_mendsNoses_73 : decode cX3_mendsNoses 73 = .ok (.iconst 0, 1) := dk_3 (dk_at dksX3_mendsNoses_3 3 rfl rfl)
theorem dX3_mendsNoses_74 : decode cX3_mendsNoses 74 = .ok (.invokevirtual 129, 3) := dk_182 0 129 (dk_at dksX3_mendsNoses_3 4 rfl rfl)
theorem dX3_mendsNoses_77 : decode cX3_mendsNoses 77 = .ok (.istore_n 1, 1) := dk_60 (dk_at dksX3_mendsNoses_3 7 rfl rfl)
theorem dX3_mendsNoses_78 : decode cX3_mendsNoses 78 = .ok (.goto (-72), 3) := dk_167 255 184 (dk_at dksX3_mendsNoses_3 8 rfl rfl)
theorem dX3_mendsNoses_81 : decode cX3_mendsNoses 81 = .ok (.return_, 1) := dk_177 (dk_at dksX3_mendsNoses_3 11 rfl rfl)
abbrev cX3_nose : ByteArray := prog_14_method_38_code
def yX3_nose : MethodName := ⟨RX3, "nose", "(I)I"⟩
def dkwX3_nose_2 : List UInt8 := [160, 0, 15, 42, 21, 4, 7, 182, 0, 64, 154, 0, 5, 29, 172, 132, 2, 1, 167, 255, 193, 2, 172]
abbrev dktX3_nose_2 : List UInt8 := dkwX3_nose_2 ++ []
def dkwX3_nose_1 : List UInt8 := [182, 0, 123, 54, 4, 29, 2, 159, 0, 31, 21, 4, 2, 159, 0, 25, 42, 29, 7, 182, 0, 64, 4]
abbrev dktX3_nose_1 : List UInt8 := dkwX3_nose_1 ++ dktX3_nose_2
def dkwX3_nose_0 : List UInt8 := [27, 61, 28, 4, 96, 42, 180, 0, 9, 7, 46, 162, 0, 57, 42, 28, 182, 0, 123, 62, 42, 28, 4, 96]
abbrev dktX3_nose_0 : List UInt8 := dkwX3_nose_0 ++ dktX3_nose_1
theorem dksX3_nose_0 : cX3_nose.data.toList.drop 0 = dktX3_nose_0 := by decide +kernel
theorem dksX3_nose_1 : cX3_nose.data.toList.drop 24 = dktX3_nose_1 := dk_seg dksX3_nose_0 24 rfl rfl
theorem dksX3_nose_2 : cX3_nose.data.toList.drop 47 = dktX3_nose_2 := dk_seg dksX3_nose_1 23 rfl rfl
theorem dX3_nose_0 : decode cX3_nose 0 = .ok (.iload_n 1, 1) := dk_27 (dk_at dksX3_nose_0 0 rfl rfl)
theorem dX3_nose_1 : decode cX3_nose 1 = .ok (.istore_n 2, 1) := dk_61 (dk_at dksX3_nose_0 1 rfl rfl)
theorem dX3_nose_2 : decode cX3_nose 2 = .ok (.iload_n 2, 1) := dk_28 (dk_at dksX3_nose_0 2 rfl rfl)
theorem dX3_nose_3 : decode cX3_nose 3 = .ok (.iconst 1, 1) := dk_4 (dk_at dksX3_nose_0 3 rfl rfl)
theorem dX3_nose_4 : decode cX3_nose 4 = .ok (.iadd, 1) := dk_96 (dk_at dksX3_nose_0 4 rfl rfl)
theorem dX3_nose_5 : decode cX3_nose 5 = .ok (.aload_n 0, 1) := dk_42 (dk_at dksX3_nose_0 5 rfl rfl)
theorem dX3_nose_6 : decode cX3_nose 6 = .ok (.getfield 9, 3) := dk_180 0 9 (dk_at dksX3_nose_0 6 rfl rfl)
theorem dX3_nose_9 : decode cX3_nose 9 = .ok (.iconst 4, 1) := dk_7 (dk_at dksX3_nose_0 9 rfl rfl)
theorem dX3_nose_10 : decode cX3_nose 10 = .ok (.iaload, 1) := dk_46 (dk_at dksX3_nose_0 10 rfl rfl)
theorem dX3_nose_11 : decode cX3_nose 11 = .ok (.if_icmp .ge 57, 3) := dk_162 0 57 (dk_at dksX3_nose_0 11 rfl rfl)
theorem dX3_nose_14 : decode cX3_nose 14 = .ok (.aload_n 0, 1) := dk_42 (dk_at dksX3_nose_0 14 rfl rfl)
theorem dX3_nose_15 : decode cX3_nose 15 = .ok (.iload_n 2, 1) := dk_28 (dk_at dksX3_nose_0 15 rfl rfl)
theorem dX3_nose_16 : decode cX3_nose 16 = .ok (.invokevirtual 123, 3) := dk_182 0 123 (dk_at dksX3_nose_0 16 rfl rfl)
theorem dX3_nose_19 : decode cX3_nose 19 = .ok (.istore_n 3, 1) := dk_62 (dk_at dksX3_nose_0 19 rfl rfl)
theorem dX3_nose_20 : decode cX3_nose 20 = .ok (.aload_n 0, 1) := dk_42 (dk_at dksX3_nose_0 20 rfl rfl)
theorem dX3_nose_21 : decode cX3_nose 21 = .ok (.iload_n 2, 1) := dk_28 (dk_at dksX3_nose_0 21 rfl rfl)
theorem dX3_nose_22 : decode cX3_nose 22 = .ok (.iconst 1, 1) := dk_4 (dk_at dksX3_nose_0 22 rfl rfl)
theorem dX3_nose_23 : decode cX3_nose 23 = .ok (.iadd, 1) := dk_96 (dk_at dksX3_nose_0 23 rfl rfl)
theorem dX3_nose_24 : decode cX3_nose 24 = .ok (.invokevirtual 123, 3) := dk_182 0 123 (dk_at dksX3_nose_1 0 rfl rfl)
theorem dX3_nose_27 : decode cX3_nose 27 = .ok (.istore 4, 2) := dk_54 4 (dk_at dksX3_nose_1 3 rfl rfl)
theorem dX3_nose_29 : decode cX3_nose 29 = .ok (.iload_n 3, 1) := dk_29 (dk_at dksX3_nose_1 5 rfl rfl)
theorem dX3_nose_30 : decode cX3_nose 30 = .ok (.iconst (-1), 1) := dk_2 (dk_at dksX3_nose_1 6 rfl rfl)
theorem dX3_nose_31 : decode cX3_nose 31 = .ok (.if_icmp .eq 31, 3) := dk_159 0 31 (dk_at dksX3_nose_1 7 rfl rfl)
theorem dX3_nose_34 : decode cX3_nose 34 = .ok (.iload 4, 2) := dk_21 4 (dk_at dksX3_nose_1 10 rfl rfl)
theorem dX3_nose_36 : decode cX3_nose 36 = .ok (.iconst (-1), 1) := dk_2 (dk_at dksX3_nose_1 12 rfl rfl)
theorem dX3_nose_37 : decode cX3_nose 37 = .ok (.if_icmp .eq 25, 3) := dk_159 0 25 (dk_at dksX3_nose_1 13 rfl rfl)
theorem dX3_nose_40 : decode cX3_nose 40 = .ok (.aload_n 0, 1) := dk_42 (dk_at dksX3_nose_1 16 rfl rfl)
theorem dX3_nose_41 : decode cX3_nose 41 = .ok (.iload_n 3, 1) := dk_29 (dk_at dksX3_nose_1 17 rfl rfl)
theorem dX3_nose_42 : decode cX3_nose 42 = .ok (.iconst 4, 1) := dk_7 (dk_at dksX3_nose_1 18 rfl rfl)
theorem dX3_nose_43 : decode cX3_nose 43 = .ok (.invokevirtual 64, 3) := dk_182 0 64 (dk_at dksX3_nose_1 19 rfl rfl)
theorem dX3_nose_46 : decode cX3_nose 46 = .ok (.iconst 1, 1) := dk_4 (dk_at dksX3_nose_1 22 rfl rfl)
theorem dX3_nose_47 : decode cX3_nose 47 = .ok (.if_icmp .ne 15, 3) := dk_160 0 15 (dk_at dksX3_nose_2 0 rfl rfl)
theorem dX3_nose_50 : decode cX3_nose 50 = .ok (.aload_n 0, 1) := dk_42 (dk_at dksX3_nose_2 3 rfl rfl)
theorem dX3_nose_51 : decode cX3_nose 51 = .ok (.iload 4, 2) := dk_21 4 (dk_at dksX3_nose_2 4 rfl rfl)
theorem dX3_nose_53 : decode cX3_nose 53 = .ok (.iconst 4, 1) := dk_7 (dk_at dksX3_nose_2 6 rfl rfl)
theorem dX3_nose_54 : decode cX3_nose 54 = .ok (.invokevirtual 64, 3) := dk_182 0 64 (dk_at dksX3_nose_2 7 rfl rfl)
theorem dX3_nose_57 : decode cX3_nose 57 = .ok (.ifCond .ne 5, 3) := dk_154 0 5 (dk_at dksX3_nose_2 10 rfl rfl)
theorem dX3_nose_60 : decode cX3_nose 60 = .ok (.iload_n 3, 1) := dk_29 (dk_at dksX3_nose_2 13 rfl rfl)
theorem dX3_nose_61 : decode cX3_nose 61 = .ok (.ireturn, 1) := dk_172 (dk_at dksX3_nose_2 14 rfl rfl)
theorem dX3_nose_62 : decode cX3_nose 62 = .ok (.iinc 2 1, 3) := dk_132 2 1 (dk_at dksX3_nose_2 15 rfl rfl)
theorem dX3_nose_65 : decode cX3_nose 65 = .ok (.goto (-63), 3) := dk_167 255 193 (dk_at dksX3_nose_2 18 rfl rfl)
theorem dX3_nose_68 : decode cX3_nose 68 = .ok (.iconst (-1), 1) := dk_2 (dk_at dksX3_nose_2 21 rfl rfl)
theorem dX3_nose_69 : decode cX3_nose 69 = .ok (.ireturn, 1) := dk_172 (dk_at dksX3_nose_2 22 rfl rfl)
abbrev cX3_loadOfRun : ByteArray := prog_14_method_35_code
def yX3_loadOfRun : MethodName := ⟨RX3, "loadOfRun", "(I)I"⟩
def dkwX3_loadOfRun_1 : List UInt8 := [167, 255, 236, 28, 172]
abbrev dktX3_loadOfRun_1 : List UInt8 := dkwX3_loadOfRun_1 ++ []
def dkwX3_loadOfRun_0 : List UInt8 := [3, 61, 27, 62, 29, 2, 159, 0, 21, 28, 42, 29, 4, 182, 0, 64, 96, 61, 42, 29, 182, 0, 126, 62]
abbrev dktX3_loadOfRun_0 : List UInt8 := dkwX3_loadOfRun_0 ++ dktX3_loadOfRun_1
theorem dksX3_loadOfRun_0 : cX3_loadOfRun.data.toList.drop 0 = dktX3_loadOfRun_0 := by decide +kernel
theorem dksX3_loadOfRun_1 : cX3_loadOfRun.data.toList.drop 24 = dktX3_loadOfRun_1 := dk_seg dksX3_loadOfRun_0 24 rfl rfl
theorem dX3_loadOfRun_0 : decode cX3_loadOfRun 0 = .ok (.iconst 0, 1) := dk_3 (dk_at dksX3_loadOfRun_0 0 rfl rfl)
theorem dX3_loadOfRun_1 : decode cX3_loadOfRun 1 = .ok (.istore_n 2, 1) := dk_61 (dk_at dksX3_loadOfRun_0 1 rfl rfl)
theorem dX3_loadOfRun_2 : decode cX3_loadOfRun 2 = .ok (.iload_n 1, 1) := dk_27 (dk_at dksX3_loadOfRun_0 2 rfl rfl)
theorem dX3_loadOfRun_3 : decode cX3_loadOfRun 3 = .ok (.istore_n 3, 1) := dk_62 (dk_at dksX3_loadOfRun_0 3 rfl rfl)
theorem dX3_loadOfRun_4 : decode cX3_loadOfRun 4 = .ok (.iload_n 3, 1) := dk_29 (dk_at dksX3_loadOfRun_0 4 rfl rfl)
theorem dX3_loadOfRun_5 : decode cX3_loadOfRun 5 = .ok (.iconst (-1), 1) := dk_2 (dk_at dksX3_loadOfRun_0 5 rfl rfl)
theorem dX3_loadOfRun_6 : decode cX3_loadOfRun 6 = .ok (.if_icmp .eq 21, 3) := dk_159 0 21 (dk_at dksX3_loadOfRun_0 6 rfl rfl)
theorem dX3_loadOfRun_9 : decode cX3_loadOfRun 9 = .ok (.iload_n 2, 1) := dk_28 (dk_at dksX3_loadOfRun_0 9 rfl rfl)
theorem dX3_loadOfRun_10 : decode cX3_loadOfRun 10 = .ok (.aload_n 0, 1) := dk_42 (dk_at dksX3_loadOfRun_0 10 rfl rfl)
theorem dX3_loadOfRun_11 : decode cX3_loadOfRun 11 = .ok (.iload_n 3, 1) := dk_29 (dk_at dksX3_loadOfRun_0 11 rfl rfl)
theorem dX3_loadOfRun_12 : decode cX3_loadOfRun 12 = .ok (.iconst 1, 1) := dk_4 (dk_at dksX3_loadOfRun_0 12 rfl rfl)
theorem dX3_loadOfRun_13 : decode cX3_loadOfRun 13 = .ok (.invokevirtual 64, 3) := dk_182 0 64 (dk_at dksX3_loadOfRun_0 13 rfl rfl)
theorem dX3_loadOfRun_16 : decode cX3_loadOfRun 16 = .ok (.iadd, 1) := dk_96 (dk_at dksX3_loadOfRun_0 16 rfl rfl)
theorem dX3_loadOfRun_17 : decode cX3_loadOfRun 17 = .ok (.istore_n 2, 1) := dk_61 (dk_at dksX3_loadOfRun_0 17 rfl rfl)
theorem dX3_loadOfRun_18 : decode cX3_loadOfRun 18 = .ok (.aload_n 0, 1) := dk_42 (dk_at dksX3_loadOfRun_0 18 rfl rfl)
theorem dX3_loadOfRun_19 : decode cX3_loadOfRun 19 = .ok (.iload_n 3, 1) := dk_29 (dk_at dksX3_loadOfRun_0 19 rfl rfl)
theorem dX3_loadOfRun_20 : decode cX3_loadOfRun 20 = .ok (.invokevirtual 126, 3) := dk_182 0 126 (dk_at dksX3_loadOfRun_0 20 rfl rfl)
theorem dX3_loadOfRun_23 : decode cX3_loadOfRun 23 = .ok (.istore_n 3, 1) := dk_62 (dk_at dksX3_loadOfRun_0 23 rfl rfl)
theorem dX3_loadOfRun_24 : decode cX3_loadOfRun 24 = .ok (.goto (-20), 3) := dk_167 255 236 (dk_at dksX3_loadOfRun_1 0 rfl rfl)
theorem dX3_loadOfRun_27 : decode cX3_loadOfRun 27 = .ok (.iload_n 2, 1) := dk_28 (dk_at dksX3_loadOfRun_1 3 rfl rfl)
theorem dX3_loadOfRun_28 : decode cX3_loadOfRun 28 = .ok (.ireturn, 1) := dk_172 (dk_at dksX3_loadOfRun_1 4 rfl rfl)
abbrev cX3_tick : ByteArray := prog_14_method_50_code
def yX3_tick : MethodName := ⟨RX3, "tick", "(I)I"⟩
def dkwX3_tick_0 : List UInt8 := [42, 182, 0, 87, 42, 42, 27, 182, 0, 169, 4, 182, 0, 93, 172]
abbrev dktX3_tick_0 : List UInt8 := dkwX3_tick_0 ++ []
theorem dksX3_tick_0 : cX3_tick.data.toList.drop 0 = dktX3_tick_0 := by decide +kernel
theorem dX3_tick_0 : decode cX3_tick 0 = .ok (.aload_n 0, 1) := dk_42 (dk_at dksX3_tick_0 0 rfl rfl)
theorem dX3_tick_1 : decode cX3_tick 1 = .ok (.invokevirtual 87, 3) := dk_182 0 87 (dk_at dksX3_tick_0 1 rfl rfl)
theorem dX3_tick_4 : decode cX3_tick 4 = .ok (.aload_n 0, 1) := dk_42 (dk_at dksX3_tick_0 4 rfl rfl)
theorem dX3_tick_5 : decode cX3_tick 5 = .ok (.aload_n 0, 1) := dk_42 (dk_at dksX3_tick_0 5 rfl rfl)
theorem dX3_tick_6 : decode cX3_tick 6 = .ok (.iload_n 1, 1) := dk_27 (dk_at dksX3_tick_0 6 rfl rfl)
theorem dX3_tick_7 : decode cX3_tick 7 = .ok (.invokevirtual 169, 3) := dk_182 0 169 (dk_at dksX3_tick_0 7 rfl rfl)
theorem dX3_tick_10 : decode cX3_tick 10 = .ok (.iconst 1, 1) := dk_4 (dk_at dksX3_tick_0 10 rfl rfl)
theorem dX3_tick_11 : decode cX3_tick 11 = .ok (.invokevirtual 93, 3) := dk_182 0 93 (dk_at dksX3_tick_0 11 rfl rfl)
theorem dX3_tick_14 : decode cX3_tick 14 = .ok (.ireturn, 1) := dk_172 (dk_at dksX3_tick_0 14 rfl rfl)
abbrev cX3_ticks : ByteArray := prog_14_method_49_code
def yX3_ticks : MethodName := ⟨RX3, "ticks", "(I)Z"⟩
def dkwX3_ticks_1 : List UInt8 := [162, 0, 22, 42, 89, 180, 0, 37, 42, 182, 0, 166, 96, 181, 0, 37, 132, 2, 1, 167, 255, 235, 4, 172]
abbrev dktX3_ticks_1 : List UInt8 := dkwX3_ticks_1 ++ []
def dkwX3_ticks_0 : List UInt8 := [42, 27, 4, 16, 20, 182, 0, 76, 153, 0, 5, 3, 172, 42, 3, 181, 0, 37, 3, 61, 28, 27]
abbrev dktX3_ticks_0 : List UInt8 := dkwX3_ticks_0 ++ dktX3_ticks_1
theorem dksX3_ticks_0 : cX3_ticks.data.toList.drop 0 = dktX3_ticks_0 := by decide +kernel
theorem dksX3_ticks_1 : cX3_ticks.data.toList.drop 22 = dktX3_ticks_1 := dk_seg dksX3_ticks_0 22 rfl rfl
theorem dX3_ticks_0 : decode cX3_ticks 0 = .ok (.aload_n 0, 1) := dk_42 (dk_at dksX3_ticks_0 0 rfl rfl)
theorem dX3_ticks_1 : decode cX3_ticks 1 = .ok (.iload_n 1, 1) := dk_27 (dk_at dksX3_ticks_0 1 rfl rfl)
theorem dX3_ticks_2 : decode cX3_ticks 2 = .ok (.iconst 1, 1) := dk_4 (dk_at dksX3_ticks_0 2 rfl rfl)
theorem dX3_ticks_3 : decode cX3_ticks 3 = .ok (.bipush 20, 2) := dk_16 20 (dk_at dksX3_ticks_0 3 rfl rfl)
theorem dX3_ticks_5 : decode cX3_ticks 5 = .ok (.invokevirtual 76, 3) := dk_182 0 76 (dk_at dksX3_ticks_0 5 rfl rfl)
theorem dX3_ticks_8 : decode cX3_ticks 8 = .ok (.ifCond .eq 5, 3) := dk_153 0 5 (dk_at dksX3_ticks_0 8 rfl rfl)
theorem dX3_ticks_11 : decode cX3_ticks 11 = .ok (.iconst 0, 1) := dk_3 (dk_at dksX3_ticks_0 11 rfl rfl)
theorem dX3_ticks_12 : decode cX3_ticks 12 = .ok (.ireturn, 1) := dk_172 (dk_at dksX3_ticks_0 12 rfl rfl)
theorem dX3_ticks_13 : decode cX3_ticks 13 = .ok (.aload_n 0, 1) := dk_42 (dk_at dksX3_ticks_0 13 rfl rfl)
theorem dX3_ticks_14 : decode cX3_ticks 14 = .ok (.iconst 0, 1) := dk_3 (dk_at dksX3_ticks_0 14 rfl rfl)
theorem dX3_ticks_15 : decode cX3_ticks 15 = .ok (.putfield 37, 3) := dk_181 0 37 (dk_at dksX3_ticks_0 15 rfl rfl)
theorem dX3_ticks_18 : decode cX3_ticks 18 = .ok (.iconst 0, 1) := dk_3 (dk_at dksX3_ticks_0 18 rfl rfl)
theorem dX3_ticks_19 : decode cX3_ticks 19 = .ok (.istore_n 2, 1) := dk_61 (dk_at dksX3_ticks_0 19 rfl rfl)
theorem dX3_ticks_20 : decode cX3_ticks 20 = .ok (.iload_n 2, 1) := dk_28 (dk_at dksX3_ticks_0 20 rfl rfl)
theorem dX3_ticks_21 : decode cX3_ticks 21 = .ok (.iload_n 1, 1) := dk_27 (dk_at dksX3_ticks_0 21 rfl rfl)
theorem dX3_ticks_22 : decode cX3_ticks 22 = .ok (.if_icmp .ge 22, 3) := dk_162 0 22 (dk_at dksX3_ticks_1 0 rfl rfl)
theorem dX3_ticks_25 : decode cX3_ticks 25 = .ok (.aload_n 0, 1) := dk_42 (dk_at dksX3_ticks_1 3 rfl rfl)
theorem dX3_ticks_26 : decode cX3_ticks 26 = .ok (.dup, 1) := dk_89 (dk_at dksX3_ticks_1 4 rfl rfl)
theorem dX3_ticks_27 : decode cX3_ticks 27 = .ok (.getfield 37, 3) := dk_180 0 37 (dk_at dksX3_ticks_1 5 rfl rfl)
theorem dX3_ticks_30 : decode cX3_ticks 30 = .ok (.aload_n 0, 1) := dk_42 (dk_at dksX3_ticks_1 8 rfl rfl)
theorem dX3_ticks_31 : decode cX3_ticks 31 = .ok (.invokevirtual 166, 3) := dk_182 0 166 (dk_at dksX3_ticks_1 9 rfl rfl)
theorem dX3_ticks_34 : decode cX3_ticks 34 = .ok (.iadd, 1) := dk_96 (dk_at dksX3_ticks_1 12 rfl rfl)
theorem dX3_ticks_35 : decode cX3_ticks 35 = .ok (.putfield 37, 3) := dk_181 0 37 (dk_at dksX3_ticks_1 13 rfl rfl)
theorem dX3_ticks_38 : decode cX3_ticks 38 = .ok (.iinc 2 1, 3) := dk_132 2 1 (dk_at dksX3_ticks_1 16 rfl rfl)
theorem dX3_ticks_41 : decode cX3_ticks 41 = .ok (.goto (-21), 3) := dk_167 255 235 (dk_at dksX3_ticks_1 19 rfl rfl)
theorem dX3_ticks_44 : decode cX3_ticks 44 = .ok (.iconst 1, 1) := dk_4 (dk_at dksX3_ticks_1 22 rfl rfl)
theorem dX3_ticks_45 : decode cX3_ticks 45 = .ok (.ireturn, 1) := dk_172 (dk_at dksX3_ticks_1 23 rfl rfl)
abbrev cX3_goesBy : ByteArray := prog_14_method_48_code
def yX3_goesBy : MethodName := ⟨RX3, "goesBy", "()I"⟩
def dkwX3_goesBy_3 : List UInt8 := [132, 2, 1, 167, 255, 218, 27, 172]
abbrev dktX3_goesBy_3 : List UInt8 := dkwX3_goesBy_3 ++ []
def dkwX3_goesBy_2 : List UInt8 := [182, 0, 64, 154, 0, 19, 42, 28, 16, 7, 42, 28, 16, 7, 182, 0, 64, 4, 96, 182, 0, 83]
abbrev dktX3_goesBy_2 : List UInt8 := dkwX3_goesBy_2 ++ dktX3_goesBy_3
def dkwX3_goesBy_1 : List UInt8 := [180, 0, 9, 4, 92, 46, 4, 96, 79, 3, 61, 28, 42, 180, 0, 9, 3, 46, 162, 0, 34, 42, 28, 5]
abbrev dktX3_goesBy_1 : List UInt8 := dkwX3_goesBy_1 ++ dktX3_goesBy_2
def dkwX3_goesBy_0 : List UInt8 := [42, 182, 0, 156, 60, 42, 182, 0, 159, 42, 3, 182, 0, 162, 42, 4, 182, 0, 162, 42, 182, 0, 138, 42]
abbrev dktX3_goesBy_0 : List UInt8 := dkwX3_goesBy_0 ++ dktX3_goesBy_1
theorem dksX3_goesBy_0 : cX3_goesBy.data.toList.drop 0 = dktX3_goesBy_0 := by decide +kernel
theorem dksX3_goesBy_1 : cX3_goesBy.data.toList.drop 24 = dktX3_goesBy_1 := dk_seg dksX3_goesBy_0 24 rfl rfl
theorem dksX3_goesBy_2 : cX3_goesBy.data.toList.drop 48 = dktX3_goesBy_2 := dk_seg dksX3_goesBy_1 24 rfl rfl
theorem dksX3_goesBy_3 : cX3_goesBy.data.toList.drop 70 = dktX3_goesBy_3 := dk_seg dksX3_goesBy_2 22 rfl rfl
theorem dX3_goesBy_0 : decode cX3_goesBy 0 = .ok (.aload_n 0, 1) := dk_42 (dk_at dksX3_goesBy_0 0 rfl rfl)
theorem dX3_goesBy_1 : decode cX3_goesBy 1 = .ok (.invokevirtual 156, 3) := dk_182 0 156 (dk_at dksX3_goesBy_0 1 rfl rfl)
theorem dX3_goesBy_4 : decode cX3_goesBy 4 = .ok (.istore_n 1, 1) := dk_60 (dk_at dksX3_goesBy_0 4 rfl rfl)
theorem dX3_goesBy_5 : decode cX3_goesBy 5 = .ok (.aload_n 0, 1) := dk_42 (dk_at dksX3_goesBy_0 5 rfl rfl)
theorem dX3_goesBy_6 : decode cX3_goesBy 6 = .ok (.invokevirtual 159, 3) := dk_182 0 159 (dk_at dksX3_goesBy_0 6 rfl rfl)
theorem dX3_goesBy_9 : decode cX3_goesBy 9 = .ok (.aload_n 0, 1) := dk_42 (dk_at dksX3_goesBy_0 9 rfl rfl)
theorem dX3_goesBy_10 : decode cX3_goesBy 10 = .ok (.iconst 0, 1) := dk_3 (dk_at dksX3_goesBy_0 10 rfl rfl)
theorem dX3_goesBy_11 : decode cX3_goesBy 11 = .ok (.invokevirtual 162, 3) := dk_182 0 162 (dk_at dksX3_goesBy_0 11 rfl rfl)
theorem dX3_goesBy_14 : decode cX3_goesBy 14 = .ok (.aload_n 0, 1) := dk_42 (dk_at dksX3_goesBy_0 14 rfl rfl)
theorem dX3_goesBy_15 : decode cX3_goesBy 15 = .ok (.iconst 1, 1) := dk_4 (dk_at dksX3_goesBy_0 15 rfl rfl)
theorem dX3_goesBy_16 : decode cX3_goesBy 16 = .ok (.invokevirtual 162, 3) := dk_182 0 162 (dk_at dksX3_goesBy_0 16 rfl rfl)
theorem dX3_goesBy_19 : decode cX3_goesBy 19 = .ok (.aload_n 0, 1) := dk_42 (dk_at dksX3_goesBy_0 19 rfl rfl)
theorem dX3_goesBy_20 : decode cX3_goesBy 20 = .ok (.invokevirtual 138, 3) := dk_182 0 138 (dk_at dksX3_goesBy_0 20 rfl rfl)
theorem dX3_goesBy_23 : decode cX3_goesBy 23 = .ok (.aload_n 0, 1) := dk_42 (dk_at dksX3_goesBy_0 23 rfl rfl)
theorem dX3_goesBy_24 : decode cX3_goesBy 24 = .ok (.getfield 9, 3) := dk_180 0 9 (dk_at dksX3_goesBy_1 0 rfl rfl)
theorem dX3_goesBy_27 : decode cX3_goesBy 27 = .ok (.iconst 1, 1) := dk_4 (dk_at dksX3_goesBy_1 3 rfl rfl)
theorem dX3_goesBy_28 : decode cX3_goesBy 28 = .ok (.dup2, 1) := dk_92 (dk_at dksX3_goesBy_1 4 rfl rfl)
theorem dX3_goesBy_29 : decode cX3_goesBy 29 = .ok (.iaload, 1) := dk_46 (dk_at dksX3_goesBy_1 5 rfl rfl)
theorem dX3_goesBy_30 : decode cX3_goesBy 30 = .ok (.iconst 1, 1) := dk_4 (dk_at dksX3_goesBy_1 6 rfl rfl)
theorem dX3_goesBy_31 : decode cX3_goesBy 31 = .ok (.iadd, 1) := dk_96 (dk_at dksX3_goesBy_1 7 rfl rfl)
theorem dX3_goesBy_32 : decode cX3_goesBy 32 = .ok (.iastore, 1) := dk_79 (dk_at dksX3_goesBy_1 8 rfl rfl)
theorem dX3_goesBy_33 : decode cX3_goesBy 33 = .ok (.iconst 0, 1) := dk_3 (dk_at dksX3_goesBy_1 9 rfl rfl)
theorem dX3_goesBy_34 : decode cX3_goesBy 34 = .ok (.istore_n 2, 1) := dk_61 (dk_at dksX3_goesBy_1 10 rfl rfl)
theorem dX3_goesBy_35 : decode cX3_goesBy 35 = .ok (.iload_n 2, 1) := dk_28 (dk_at dksX3_goesBy_1 11 rfl rfl)
theorem dX3_goesBy_36 : decode cX3_goesBy 36 = .ok (.aload_n 0, 1) := dk_42 (dk_at dksX3_goesBy_1 12 rfl rfl)
theorem dX3_goesBy_37 : decode cX3_goesBy 37 = .ok (.getfield 9, 3) := dk_180 0 9 (dk_at dksX3_goesBy_1 13 rfl rfl)
theorem dX3_goesBy_40 : decode cX3_goesBy 40 = .ok (.iconst 0, 1) := dk_3 (dk_at dksX3_goesBy_1 16 rfl rfl)
theorem dX3_goesBy_41 : decode cX3_goesBy 41 = .ok (.iaload, 1) := dk_46 (dk_at dksX3_goesBy_1 17 rfl rfl)
theorem dX3_goesBy_42 : decode cX3_goesBy 42 = .ok (.if_icmp .ge 34, 3) := dk_162 0 34 (dk_at dksX3_goesBy_1 18 rfl rfl)
theorem dX3_goesBy_45 : decode cX3_goesBy 45 = .ok (.aload_n 0, 1) := dk_42 (dk_at dksX3_goesBy_1 21 rfl rfl)
theorem dX3_goesBy_46 : decode cX3_goesBy 46 = .ok (.iload_n 2, 1) := dk_28 (dk_at dksX3_goesBy_1 22 rfl rfl)
theorem dX3_goesBy_47 : decode cX3_goesBy 47 = .ok (.iconst 2, 1) := dk_5 (dk_at dksX3_goesBy_1 23 rfl rfl)
theorem dX3_goesBy_48 : decode cX3_goesBy 48 = .ok (.invokevirtual 64, 3) := dk_182 0 64 (dk_at dksX3_goesBy_2 0 rfl rfl)
theorem dX3_goesBy_51 : decode cX3_goesBy 51 = .ok (.ifCond .ne 19, 3) := dk_154 0 19 (dk_at dksX3_goesBy_2 3 rfl rfl)
theorem dX3_goesBy_54 : decode cX3_goesBy 54 = .ok (.aload_n 0, 1) := dk_42 (dk_at dksX3_goesBy_2 6 rfl rfl)
theorem dX3_goesBy_55 : decode cX3_goesBy 55 = .ok (.iload_n 2, 1) := dk_28 (dk_at dksX3_goesBy_2 7 rfl rfl)
theorem dX3_goesBy_56 : decode cX3_goesBy 56 = .ok (.bipush 7, 2) := dk_16 7 (dk_at dksX3_goesBy_2 8 rfl rfl)
theorem dX3_goesBy_58 : decode cX3_goesBy 58 = .ok (.aload_n 0, 1) := dk_42 (dk_at dksX3_goesBy_2 10 rfl rfl)
theorem dX3_goesBy_59 : decode cX3_goesBy 59 = .ok (.iload_n 2, 1) := dk_28 (dk_at dksX3_goesBy_2 11 rfl rfl)
theorem dX3_goesBy_60 : decode cX3_goesBy 60 = .ok (.bipush 7, 2) := dk_16 7 (dk_at dksX3_goesBy_2 12 rfl rfl)
theorem dX3_goesBy_62 : decode cX3_goesBy 62 = .ok (.invokevirtual 64, 3) := dk_182 0 64 (dk_at dksX3_goesBy_2 14 rfl rfl)
theorem dX3_goesBy_65 : decode cX3_goesBy 65 = .ok (.iconst 1, 1) := dk_4 (dk_at dksX3_goesBy_2 17 rfl rfl)
theorem dX3_goesBy_66 : decode cX3_goesBy 66 = .ok (.iadd, 1) := dk_96 (dk_at dksX3_goesBy_2 18 rfl rfl)
theorem dX3_goesBy_67 : decode cX3_goesBy 67 = .ok (.invokevirtual 83, 3) := dk_182 0 83 (dk_at dksX3_goesBy_2 19 rfl rfl)
theorem dX3_goesBy_70 : decode cX3_goesBy 70 = .ok (.iinc 2 1, 3) := dk_132 2 1 (dk_at dksX3_goesBy_3 0 rfl rfl)
theorem dX3_goesBy_73 : decode cX3_goesBy 73 = .ok (.goto (-38), 3) := dk_167 255 218 (dk_at dksX3_goesBy_3 3 rfl rfl)
theorem dX3_goesBy_76 : decode cX3_goesBy 76 = .ok (.iload_n 1, 1) := dk_27 (dk_at dksX3_goesBy_3 6 rfl rfl)
theorem dX3_goesBy_77 : decode cX3_goesBy 77 = .ok (.ireturn, 1) := dk_172 (dk_at dksX3_goesBy_3 7 rfl rfl)
abbrev cX3_allGoOn : ByteArray := prog_14_method_43_code
def yX3_allGoOn : MethodName := ⟨RX3, "allGoOn", "()I"⟩
def dkwX3_allGoOn_4 : List UInt8 := [182, 0, 144, 153, 0, 7, 4, 167, 0, 4, 3, 96, 60, 132, 2, 1, 167, 255, 207, 27, 172]
abbrev dktX3_allGoOn_4 : List UInt8 := dkwX3_allGoOn_4 ++ []
def dkwX3_allGoOn_3 : List UInt8 := [42, 28, 182, 0, 123, 62, 27, 29, 2, 159, 0, 24, 42, 29, 7, 182, 0, 64, 154, 0, 15, 42, 29]
abbrev dktX3_allGoOn_3 : List UInt8 := dkwX3_allGoOn_3 ++ dktX3_allGoOn_4
def dkwX3_allGoOn_2 : List UInt8 := [167, 0, 4, 3, 96, 60, 132, 2, 255, 167, 255, 212, 3, 61, 28, 42, 180, 0, 9, 7, 46, 162, 0, 45]
abbrev dktX3_allGoOn_2 : List UInt8 := dkwX3_allGoOn_2 ++ dktX3_allGoOn_3
def dkwX3_allGoOn_1 : List UInt8 := [159, 0, 25, 42, 29, 7, 182, 0, 64, 4, 160, 0, 15, 42, 29, 182, 0, 144, 153, 0, 7, 4]
abbrev dktX3_allGoOn_1 : List UInt8 := dkwX3_allGoOn_1 ++ dktX3_allGoOn_2
def dkwX3_allGoOn_0 : List UInt8 := [3, 60, 42, 180, 0, 9, 7, 46, 4, 100, 61, 28, 155, 0, 46, 42, 28, 182, 0, 123, 62, 27, 29, 2]
abbrev dktX3_allGoOn_0 : List UInt8 := dkwX3_allGoOn_0 ++ dktX3_allGoOn_1
theorem dksX3_allGoOn_0 : cX3_allGoOn.data.toList.drop 0 = dktX3_allGoOn_0 := by decide +kernel
theorem dksX3_allGoOn_1 : cX3_allGoOn.data.toList.drop 24 = dktX3_allGoOn_1 := dk_seg dksX3_allGoOn_0 24 rfl rfl
theorem dksX3_allGoOn_2 : cX3_allGoOn.data.toList.drop 46 = dktX3_allGoOn_2 := dk_seg dksX3_allGoOn_1 22 rfl rfl
theorem dksX3_allGoOn_3 : cX3_allGoOn.data.toList.drop 70 = dktX3_allGoOn_3 := dk_seg dksX3_allGoOn_2 24 rfl rfl
theorem dksX3_allGoOn_4 : cX3_allGoOn.data.toList.drop 93 = dktX3_allGoOn_4 := dk_seg dksX3_allGoOn_3 23 rfl rfl
theorem dX3_allGoOn_0 : decode cX3_allGoOn 0 = .ok (.iconst 0, 1) := dk_3 (dk_at dksX3_allGoOn_0 0 rfl rfl)
theorem dX3_allGoOn_1 : decode cX3_allGoOn 1 = .ok (.istore_n 1, 1) := dk_60 (dk_at dksX3_allGoOn_0 1 rfl rfl)
theorem dX3_allGoOn_2 : decode cX3_allGoOn 2 = .ok (.aload_n 0, 1) := dk_42 (dk_at dksX3_allGoOn_0 2 rfl rfl)
theorem dX3_allGoOn_3 : decode cX3_allGoOn 3 = .ok (.getfield 9, 3) := dk_180 0 9 (dk_at dksX3_allGoOn_0 3 rfl rfl)
theorem dX3_allGoOn_6 : decode cX3_allGoOn 6 = .ok (.iconst 4, 1) := dk_7 (dk_at dksX3_allGoOn_0 6 rfl rfl)
theorem dX3_allGoOn_7 : decode cX3_allGoOn 7 = .ok (.iaload, 1) := dk_46 (dk_at dksX3_allGoOn_0 7 rfl rfl)
theorem dX3_allGoOn_8 : decode cX3_allGoOn 8 = .ok (.iconst 1, 1) := dk_4 (dk_at dksX3_allGoOn_0 8 rfl rfl)
theorem dX3_allGoOn_9 : decode cX3_allGoOn 9 = .ok (.isub, 1) := dk_100 (dk_at dksX3_allGoOn_0 9 rfl rfl)
theorem dX3_allGoOn_10 : decode cX3_allGoOn 10 = .ok (.istore_n 2, 1) := dk_61 (dk_at dksX3_allGoOn_0 10 rfl rfl)
theorem dX3_allGoOn_11 : decode cX3_allGoOn 11 = .ok (.iload_n 2, 1) := dk_28 (dk_at dksX3_allGoOn_0 11 rfl rfl)
theorem dX3_allGoOn_12 : decode cX3_allGoOn 12 = .ok (.ifCond .lt 46, 3) := dk_155 0 46 (dk_at dksX3_allGoOn_0 12 rfl rfl)
theorem dX3_allGoOn_15 : decode cX3_allGoOn 15 = .ok (.aload_n 0, 1) := dk_42 (dk_at dksX3_allGoOn_0 15 rfl rfl)
theorem dX3_allGoOn_16 : decode cX3_allGoOn 16 = .ok (.iload_n 2, 1) := dk_28 (dk_at dksX3_allGoOn_0 16 rfl rfl)
theorem dX3_allGoOn_17 : decode cX3_allGoOn 17 = .ok (.invokevirtual 123, 3) := dk_182 0 123 (dk_at dksX3_allGoOn_0 17 rfl rfl)
theorem dX3_allGoOn_20 : decode cX3_allGoOn 20 = .ok (.istore_n 3, 1) := dk_62 (dk_at dksX3_allGoOn_0 20 rfl rfl)
theorem dX3_allGoOn_21 : decode cX3_allGoOn 21 = .ok (.iload_n 1, 1) := dk_27 (dk_at dksX3_allGoOn_0 21 rfl rfl)
theorem dX3_allGoOn_22 : decode cX3_allGoOn 22 = .ok (.iload_n 3, 1) := dk_29 (dk_at dksX3_allGoOn_0 22 rfl rfl)
theorem dX3_allGoOn_23 : decode cX3_allGoOn 23 = .ok (.iconst (-1), 1) := dk_2 (dk_at dksX3_allGoOn_0 23 rfl rfl)
theorem dX3_allGoOn_24 : decode cX3_allGoOn 24 = .ok (.if_icmp .eq 25, 3) := dk_159 0 25 (dk_at dksX3_allGoOn_1 0 rfl rfl)
theorem dX3_allGoOn_27 : decode cX3_allGoOn 27 = .ok (.aload_n 0, 1) := dk_42 (dk_at dksX3_allGoOn_1 3 rfl rfl)
theorem dX3_allGoOn_28 : decode cX3_allGoOn 28 = .ok (.iload_n 3, 1) := dk_29 (dk_at dksX3_allGoOn_1 4 rfl rfl)
theorem dX3_allGoOn_29 : decode cX3_allGoOn 29 = .ok (.iconst 4, 1) := dk_7 (dk_at dksX3_allGoOn_1 5 rfl rfl)
theorem dX3_allGoOn_30 : decode cX3_allGoOn 30 = .ok (.invokevirtual 64, 3) := dk_182 0 64 (dk_at dksX3_allGoOn_1 6 rfl rfl)
theorem dX3_allGoOn_33 : decode cX3_allGoOn 33 = .ok (.iconst 1, 1) := dk_4 (dk_at dksX3_allGoOn_1 9 rfl rfl)
theorem dX3_allGoOn_34 : decode cX3_allGoOn 34 = .ok (.if_icmp .ne 15, 3) := dk_160 0 15 (dk_at dksX3_allGoOn_1 10 rfl rfl)
theorem dX3_allGoOn_37 : decode cX3_allGoOn 37 = .ok (.aload_n 0, 1) := dk_42 (dk_at dksX3_allGoOn_1 13 rfl rfl)
theorem dX3_allGoOn_38 : decode cX3_allGoOn 38 = .ok (.iload_n 3, 1) := dk_29 (dk_at dksX3_allGoOn_1 14 rfl rfl)
theorem dX3_allGoOn_39 : decode cX3_allGoOn 39 = .ok (.invokevirtual 144, 3) := dk_182 0 144 (dk_at dksX3_allGoOn_1 15 rfl rfl)
theorem dX3_allGoOn_42 : decode cX3_allGoOn 42 = .ok (.ifCond .eq 7, 3) := dk_153 0 7 (dk_at dksX3_allGoOn_1 18 rfl rfl)
theorem dX3_allGoOn_45 : decode cX3_allGoOn 45 = .ok (.iconst 1, 1) := dk_4 (dk_at dksX3_allGoOn_1 21 rfl rfl)
theorem dX3_allGoOn_46 : decode cX3_allGoOn 46 = .ok (.goto 4, 3) := dk_167 0 4 (dk_at dksX3_allGoOn_2 0 rfl rfl)
theorem dX3_allGoOn_49 : decode cX3_allGoOn 49 = .ok (.iconst 0, 1) := dk_3 (dk_at dksX3_allGoOn_2 3 rfl rfl)
theorem dX3_allGoOn_50 : decode cX3_allGoOn 50 = .ok (.iadd, 1) := dk_96 (dk_at dksX3_allGoOn_2 4 rfl rfl)
theorem dX3_allGoOn_51 : decode cX3_allGoOn 51 = .ok (.istore_n 1, 1) := dk_60 (dk_at dksX3_allGoOn_2 5 rfl rfl)
theorem dX3_allGoOn_52 : decode cX3_allGoOn 52 = .ok (.iinc 2 (-1), 3) := dk_132 2 255 (dk_at dksX3_allGoOn_2 6 rfl rfl)
theorem dX3_allGoOn_55 : decode cX3_allGoOn 55 = .ok (.goto (-44), 3) := dk_167 255 212 (dk_at dksX3_allGoOn_2 9 rfl rfl)
theorem dX3_allGoOn_58 : decode cX3_allGoOn 58 = .ok (.iconst 0, 1) := dk_3 (dk_at dksX3_allGoOn_2 12 rfl rfl)
theorem dX3_allGoOn_59 : decode cX3_allGoOn 59 = .ok (.istore_n 2, 1) := dk_61 (dk_at dksX3_allGoOn_2 13 rfl rfl)
theorem dX3_allGoOn_60 : decode cX3_allGoOn 60 = .ok (.iload_n 2, 1) := dk_28 (dk_at dksX3_allGoOn_2 14 rfl rfl)
theorem dX3_allGoOn_61 : decode cX3_allGoOn 61 = .ok (.aload_n 0, 1) := dk_42 (dk_at dksX3_allGoOn_2 15 rfl rfl)
theorem dX3_allGoOn_62 : decode cX3_allGoOn 62 = .ok (.getfield 9, 3) := dk_180 0 9 (dk_at dksX3_allGoOn_2 16 rfl rfl)
theorem dX3_allGoOn_65 : decode cX3_allGoOn 65 = .ok (.iconst 4, 1) := dk_7 (dk_at dksX3_allGoOn_2 19 rfl rfl)
theorem dX3_allGoOn_66 : decode cX3_allGoOn 66 = .ok (.iaload, 1) := dk_46 (dk_at dksX3_allGoOn_2 20 rfl rfl)
theorem dX3_allGoOn_67 : decode cX3_allGoOn 67 = .ok (.if_icmp .ge 45, 3) := dk_162 0 45 (dk_at dksX3_allGoOn_2 21 rfl rfl)
theorem dX3_allGoOn_70 : decode cX3_allGoOn 70 = .ok (.aload_n 0, 1) := dk_42 (dk_at dksX3_allGoOn_3 0 rfl rfl)
theorem dX3_allGoOn_71 : decode cX3_allGoOn 71 = .ok (.iload_n 2, 1) := dk_28 (dk_at dksX3_allGoOn_3 1 rfl rfl)
theorem dX3_allGoOn_72 : decode cX3_allGoOn 72 = .ok (.invokevirtual 123, 3) := dk_182 0 123 (dk_at dksX3_allGoOn_3 2 rfl rfl)
theorem dX3_allGoOn_75 : decode cX3_allGoOn 75 = .ok (.istore_n 3, 1) := dk_62 (dk_at dksX3_allGoOn_3 5 rfl rfl)
theorem dX3_allGoOn_76 : decode cX3_allGoOn 76 = .ok (.iload_n 1, 1) := dk_27 (dk_at dksX3_allGoOn_3 6 rfl rfl)
theorem dX3_allGoOn_77 : decode cX3_allGoOn 77 = .ok (.iload_n 3, 1) := dk_29 (dk_at dksX3_allGoOn_3 7 rfl rfl)
theorem dX3_allGoOn_78 : decode cX3_allGoOn 78 = .ok (.iconst (-1), 1) := dk_2 (dk_at dksX3_allGoOn_3 8 rfl rfl)
theorem dX3_allGoOn_79 : decode cX3_allGoOn 79 = .ok (.if_icmp .eq 24, 3) := dk_159 0 24 (dk_at dksX3_allGoOn_3 9 rfl rfl)
theorem dX3_allGoOn_82 : decode cX3_allGoOn 82 = .ok (.aload_n 0, 1) := dk_42 (dk_at dksX3_allGoOn_3 12 rfl rfl)
theorem dX3_allGoOn_83 : decode cX3_allGoOn 83 = .ok (.iload_n 3, 1) := dk_29 (dk_at dksX3_allGoOn_3 13 rfl rfl)
theorem dX3_allGoOn_84 : decode cX3_allGoOn 84 = .ok (.iconst 4, 1) := dk_7 (dk_at dksX3_allGoOn_3 14 rfl rfl)
theorem dX3_allGoOn_85 : decode cX3_allGoOn 85 = .ok (.invokevirtual 64, 3) := dk_182 0 64 (dk_at dksX3_allGoOn_3 15 rfl rfl)
theorem dX3_allGoOn_88 : decode cX3_allGoOn 88 = .ok (.ifCond .ne 15, 3) := dk_154 0 15 (dk_at dksX3_allGoOn_3 18 rfl rfl)
theorem dX3_allGoOn_91 : decode cX3_allGoOn 91 = .ok (.aload_n 0, 1) := dk_42 (dk_at dksX3_allGoOn_3 21 rfl rfl)
theorem dX3_allGoOn_92 : decode cX3_allGoOn 92 = .ok (.iload_n 3, 1) := dk_29 (dk_at dksX3_allGoOn_3 22 rfl rfl)
theorem dX3_allGoOn_93 : decode cX3_allGoOn 93 = .ok (.invokevirtual 144, 3) := dk_182 0 144 (dk_at dksX3_allGoOn_4 0 rfl rfl)
theorem dX3_allGoOn_96 : decode cX3_allGoOn 96 = .ok (.ifCond .eq 7, 3) := dk_153 0 7 (dk_at dksX3_allGoOn_4 3 rfl rfl)
theorem dX3_allGoOn_99 : decode cX3_allGoOn 99 = .ok (.iconst 1, 1) := dk_4 (dk_at dksX3_allGoOn_4 6 rfl rfl)
theorem dX3_allGoOn_100 : decode cX3_allGoOn 100 = .ok (.goto 4, 3) := dk_167 0 4 (dk_at dksX3_allGoOn_4 7 rfl rfl)
theorem dX3_allGoOn_103 : decode cX3_allGoOn 103 = .ok (.iconst 0, 1) := dk_3 (dk_at dksX3_allGoOn_4 10 rfl rfl)
theorem dX3_allGoOn_104 : decode cX3_allGoOn 104 = .ok (.iadd, 1) := dk_96 (dk_at dksX3_allGoOn_4 11 rfl rfl)
theorem dX3_allGoOn_105 : decode cX3_allGoOn 105 = .ok (.istore_n 1, 1) := dk_60 (dk_at dksX3_allGoOn_4 12 rfl rfl)
theorem dX3_allGoOn_106 : decode cX3_allGoOn 106 = .ok (.iinc 2 1, 3) := dk_132 2 1 (dk_at dksX3_allGoOn_4 13 rfl rfl)
theorem dX3_allGoOn_109 : decode cX3_allGoOn 109 = .ok (.goto (-49), 3) := dk_167 255 207 (dk_at dksX3_allGoOn_4 16 rfl rfl)
theorem dX3_allGoOn_112 : decode cX3_allGoOn 112 = .ok (.iload_n 1, 1) := dk_27 (dk_at dksX3_allGoOn_4 19 rfl rfl)
theorem dX3_allGoOn_113 : decode cX3_allGoOn 113 = .ok (.ireturn, 1) := dk_172 (dk_at dksX3_allGoOn_4 20 rfl rfl)
abbrev cX3_goesOn : ByteArray := prog_14_method_42_code
def yX3_goesOn : MethodName := ⟨RX3, "goesOn", "(I)Z"⟩
def dkwX3_goesOn_7 : List UInt8 := [42, 180, 0, 9, 16, 7, 92, 46, 4, 96, 79, 21, 4, 154, 0, 7, 4, 167, 0, 4, 3, 172]
abbrev dktX3_goesOn_7 : List UInt8 := dkwX3_goesOn_7 ++ []
def dkwX3_goesOn_6 : List UInt8 := [21, 5, 182, 0, 83, 21, 4, 154, 0, 28, 42, 27, 16, 9, 42, 180, 0, 9, 16, 7, 46, 182, 0, 83]
abbrev dktX3_goesOn_6 : List UInt8 := dkwX3_goesOn_6 ++ dktX3_goesOn_7
def dkwX3_goesOn_5 : List UInt8 := [27, 5, 21, 4, 153, 0, 7, 3, 167, 0, 4, 5, 182, 0, 83, 21, 4, 153, 0, 12, 42, 27, 16, 8]
abbrev dktX3_goesOn_5 : List UInt8 := dkwX3_goesOn_5 ++ dktX3_goesOn_6
def dkwX3_goesOn_4 : List UInt8 := [3, 54, 4, 42, 42, 27, 3, 182, 0, 64, 4, 182, 0, 79, 54, 5, 42, 27, 6, 2, 182, 0, 83, 42]
abbrev dktX3_goesOn_4 : List UInt8 := dkwX3_goesOn_4 ++ dktX3_goesOn_5
def dkwX3_goesOn_3 : List UInt8 := [182, 0, 83, 3, 172, 42, 27, 3, 182, 0, 64, 42, 27, 7, 182, 0, 64, 160, 0, 7, 4, 167, 0, 4]
abbrev dktX3_goesOn_3 : List UInt8 := dkwX3_goesOn_3 ++ dktX3_goesOn_4
def dkwX3_goesOn_2 : List UInt8 := [46, 4, 100, 184, 0, 49, 153, 0, 21, 42, 29, 182, 0, 123, 2, 160, 0, 10, 42, 27, 6, 29]
abbrev dktX3_goesOn_2 : List UInt8 := dkwX3_goesOn_2 ++ dktX3_goesOn_3
def dkwX3_goesOn_1 : List UInt8 := [182, 0, 64, 4, 96, 167, 0, 11, 42, 27, 6, 182, 0, 64, 4, 100, 62, 29, 3, 42, 180, 0, 9, 7]
abbrev dktX3_goesOn_1 : List UInt8 := dkwX3_goesOn_1 ++ dktX3_goesOn_2
def dkwX3_goesOn_0 : List UInt8 := [42, 27, 7, 182, 0, 64, 4, 160, 0, 7, 4, 167, 0, 4, 3, 61, 28, 153, 0, 14, 42, 27, 6]
abbrev dktX3_goesOn_0 : List UInt8 := dkwX3_goesOn_0 ++ dktX3_goesOn_1
theorem dksX3_goesOn_0 : cX3_goesOn.data.toList.drop 0 = dktX3_goesOn_0 := by decide +kernel
theorem dksX3_goesOn_1 : cX3_goesOn.data.toList.drop 23 = dktX3_goesOn_1 := dk_seg dksX3_goesOn_0 23 rfl rfl
theorem dksX3_goesOn_2 : cX3_goesOn.data.toList.drop 47 = dktX3_goesOn_2 := dk_seg dksX3_goesOn_1 24 rfl rfl
theorem dksX3_goesOn_3 : cX3_goesOn.data.toList.drop 69 = dktX3_goesOn_3 := dk_seg dksX3_goesOn_2 22 rfl rfl
theorem dksX3_goesOn_4 : cX3_goesOn.data.toList.drop 93 = dktX3_goesOn_4 := dk_seg dksX3_goesOn_3 24 rfl rfl
theorem dksX3_goesOn_5 : cX3_goesOn.data.toList.drop 117 = dktX3_goesOn_5 := dk_seg dksX3_goesOn_4 24 rfl rfl
theorem dksX3_goesOn_6 : cX3_goesOn.data.toList.drop 141 = dktX3_goesOn_6 := dk_seg dksX3_goesOn_5 24 rfl rfl
theorem dksX3_goesOn_7 : cX3_goesOn.data.toList.drop 165 = dktX3_goesOn_7 := dk_seg dksX3_goesOn_6 24 rfl rfl
theorem dX3_goesOn_0 : decode cX3_goesOn 0 = .ok (.aload_n 0, 1) := dk_42 (dk_at dksX3_goesOn_0 0 rfl rfl)
theorem dX3_goesOn_1 : decode cX3_goesOn 1 = .ok (.iload_n 1, 1) := dk_27 (dk_at dksX3_goesOn_0 1 rfl rfl)
theorem dX3_goesOn_2 : decode cX3_goesOn 2 = .ok (.iconst 4, 1) := dk_7 (dk_at dksX3_goesOn_0 2 rfl rfl)
theorem dX3_goesOn_3 : decode cX3_goesOn 3 = .ok (.invokevirtual 64, 3) := dk_182 0 64 (dk_at dksX3_goesOn_0 3 rfl rfl)
theorem dX3_goesOn_6 : decode cX3_goesOn 6 = .ok (.iconst 1, 1) := dk_4 (dk_at dksX3_goesOn_0 6 rfl rfl)
theorem dX3_goesOn_7 : decode cX3_goesOn 7 = .ok (.if_icmp .ne 7, 3) := dk_160 0 7 (dk_at dksX3_goesOn_0 7 rfl rfl)
theorem dX3_goesOn_10 : decode cX3_goesOn 10 = .ok (.iconst 1, 1) := dk_4 (dk_at dksX3_goesOn_0 10 rfl rfl)
theorem dX3_goesOn_11 : decode cX3_goesOn 11 = .ok (.goto 4, 3) := dk_167 0 4 (dk_at dksX3_goesOn_0 11 rfl rfl)
theorem dX3_goesOn_14 : decode cX3_goesOn 14 = .ok (.iconst 0, 1) := dk_3 (dk_at dksX3_goesOn_0 14 rfl rfl)
theorem dX3_goesOn_15 : decode cX3_goesOn 15 = .ok (.istore_n 2, 1) := dk_61 (dk_at dksX3_goesOn_0 15 rfl rfl)
theorem dX3_goesOn_16 : decode cX3_goesOn 16 = .ok (.iload_n 2, 1) := dk_28 (dk_at dksX3_goesOn_0 16 rfl rfl)
theorem dX3_goesOn_17 : decode cX3_goesOn 17 = .ok (.ifCond .eq 14, 3) := dk_153 0 14 (dk_at dksX3_goesOn_0 17 rfl rfl)
theorem dX3_goesOn_20 : decode cX3_goesOn 20 = .ok (.aload_n 0, 1) := dk_42 (dk_at dksX3_goesOn_0 20 rfl rfl)
theorem dX3_goesOn_21 : decode cX3_goesOn 21 = .ok (.iload_n 1, 1) := dk_27 (dk_at dksX3_goesOn_0 21 rfl rfl)
theorem dX3_goesOn_22 : decode cX3_goesOn 22 = .ok (.iconst 3, 1) := dk_6 (dk_at dksX3_goesOn_0 22 rfl rfl)
theorem dX3_goesOn_23 : decode cX3_goesOn 23 = .ok (.invokevirtual 64, 3) := dk_182 0 64 (dk_at dksX3_goesOn_1 0 rfl rfl)
theorem dX3_goesOn_26 : decode cX3_goesOn 26 = .ok (.iconst 1, 1) := dk_4 (dk_at dksX3_goesOn_1 3 rfl rfl)
theorem dX3_goesOn_27 : decode cX3_goesOn 27 = .ok (.iadd, 1) := dk_96 (dk_at dksX3_goesOn_1 4 rfl rfl)
theorem dX3_goesOn_28 : decode cX3_goesOn 28 = .ok (.goto 11, 3) := dk_167 0 11 (dk_at dksX3_goesOn_1 5 rfl rfl)
theorem dX3_goesOn_31 : decode cX3_goesOn 31 = .ok (.aload_n 0, 1) := dk_42 (dk_at dksX3_goesOn_1 8 rfl rfl)
theorem dX3_goesOn_32 : decode cX3_goesOn 32 = .ok (.iload_n 1, 1) := dk_27 (dk_at dksX3_goesOn_1 9 rfl rfl)
theorem dX3_goesOn_33 : decode cX3_goesOn 33 = .ok (.iconst 3, 1) := dk_6 (dk_at dksX3_goesOn_1 10 rfl rfl)
theorem dX3_goesOn_34 : decode cX3_goesOn 34 = .ok (.invokevirtual 64, 3) := dk_182 0 64 (dk_at dksX3_goesOn_1 11 rfl rfl)
theorem dX3_goesOn_37 : decode cX3_goesOn 37 = .ok (.iconst 1, 1) := dk_4 (dk_at dksX3_goesOn_1 14 rfl rfl)
theorem dX3_goesOn_38 : decode cX3_goesOn 38 = .ok (.isub, 1) := dk_100 (dk_at dksX3_goesOn_1 15 rfl rfl)
theorem dX3_goesOn_39 : decode cX3_goesOn 39 = .ok (.istore_n 3, 1) := dk_62 (dk_at dksX3_goesOn_1 16 rfl rfl)
theorem dX3_goesOn_40 : decode cX3_goesOn 40 = .ok (.iload_n 3, 1) := dk_29 (dk_at dksX3_goesOn_1 17 rfl rfl)
theorem dX3_goesOn_41 : decode cX3_goesOn 41 = .ok (.iconst 0, 1) := dk_3 (dk_at dksX3_goesOn_1 18 rfl rfl)
theorem dX3_goesOn_42 : decode cX3_goesOn 42 = .ok (.aload_n 0, 1) := dk_42 (dk_at dksX3_goesOn_1 19 rfl rfl)
theorem dX3_goesOn_43 : decode cX3_goesOn 43 = .ok (.getfield 9, 3) := dk_180 0 9 (dk_at dksX3_goesOn_1 20 rfl rfl)
theorem dX3_goesOn_46 : decode cX3_goesOn 46 = .ok (.iconst 4, 1) := dk_7 (dk_at dksX3_goesOn_1 23 rfl rfl)
theorem dX3_goesOn_47 : decode cX3_goesOn 47 = .ok (.iaload, 1) := dk_46 (dk_at dksX3_goesOn_2 0 rfl rfl)
theorem dX3_goesOn_48 : decode cX3_goesOn 48 = .ok (.iconst 1, 1) := dk_4 (dk_at dksX3_goesOn_2 1 rfl rfl)
theorem dX3_goesOn_49 : decode cX3_goesOn 49 = .ok (.isub, 1) := dk_100 (dk_at dksX3_goesOn_2 2 rfl rfl)
theorem dX3_goesOn_50 : decode cX3_goesOn 50 = .ok (.invokestatic 49, 3) := dk_184 0 49 (dk_at dksX3_goesOn_2 3 rfl rfl)
theorem dX3_goesOn_53 : decode cX3_goesOn 53 = .ok (.ifCond .eq 21, 3) := dk_153 0 21 (dk_at dksX3_goesOn_2 6 rfl rfl)
theorem dX3_goesOn_56 : decode cX3_goesOn 56 = .ok (.aload_n 0, 1) := dk_42 (dk_at dksX3_goesOn_2 9 rfl rfl)
theorem dX3_goesOn_57 : decode cX3_goesOn 57 = .ok (.iload_n 3, 1) := dk_29 (dk_at dksX3_goesOn_2 10 rfl rfl)
theorem dX3_goesOn_58 : decode cX3_goesOn 58 = .ok (.invokevirtual 123, 3) := dk_182 0 123 (dk_at dksX3_goesOn_2 11 rfl rfl)
theorem dX3_goesOn_61 : decode cX3_goesOn 61 = .ok (.iconst (-1), 1) := dk_2 (dk_at dksX3_goesOn_2 14 rfl rfl)
theorem dX3_goesOn_62 : decode cX3_goesOn 62 = .ok (.if_icmp .ne 10, 3) := dk_160 0 10 (dk_at dksX3_goesOn_2 15 rfl rfl)
theorem dX3_goesOn_65 : decode cX3_goesOn 65 = .ok (.aload_n 0, 1) := dk_42 (dk_at dksX3_goesOn_2 18 rfl rfl)
theorem dX3_goesOn_66 : decode cX3_goesOn 66 = .ok (.iload_n 1, 1) := dk_27 (dk_at dksX3_goesOn_2 19 rfl rfl)
theorem dX3_goesOn_67 : decode cX3_goesOn 67 = .ok (.iconst 3, 1) := dk_6 (dk_at dksX3_goesOn_2 20 rfl rfl)
theorem dX3_goesOn_68 : decode cX3_goesOn 68 = .ok (.iload_n 3, 1) := dk_29 (dk_at dksX3_goesOn_2 21 rfl rfl)
theorem dX3_goesOn_69 : decode cX3_goesOn 69 = .ok (.invokevirtual 83, 3) := dk_182 0 83 (dk_at dksX3_goesOn_3 0 rfl rfl)
theorem dX3_goesOn_72 : decode cX3_goesOn 72 = .ok (.iconst 0, 1) := dk_3 (dk_at dksX3_goesOn_3 3 rfl rfl)
theorem dX3_goesOn_73 : decode cX3_goesOn 73 = .ok (.ireturn, 1) := dk_172 (dk_at dksX3_goesOn_3 4 rfl rfl)
theorem dX3_goesOn_74 : decode cX3_goesOn 74 = .ok (.aload_n 0, 1) := dk_42 (dk_at dksX3_goesOn_3 5 rfl rfl)
theorem dX3_goesOn_75 : decode cX3_goesOn 75 = .ok (.iload_n 1, 1) := dk_27 (dk_at dksX3_goesOn_3 6 rfl rfl)
theorem dX3_goesOn_76 : decode cX3_goesOn 76 = .ok (.iconst 0, 1) := dk_3 (dk_at dksX3_goesOn_3 7 rfl rfl)
theorem dX3_goesOn_77 : decode cX3_goesOn 77 = .ok (.invokevirtual 64, 3) := dk_182 0 64 (dk_at dksX3_goesOn_3 8 rfl rfl)
theorem dX3_goesOn_80 : decode cX3_goesOn 80 = .ok (.aload_n 0, 1) := dk_42 (dk_at dksX3_goesOn_3 11 rfl rfl)
theorem dX3_goesOn_81 : decode cX3_goesOn 81 = .ok (.iload_n 1, 1) := dk_27 (dk_at dksX3_goesOn_3 12 rfl rfl)
theorem dX3_goesOn_82 : decode cX3_goesOn 82 = .ok (.iconst 4, 1) := dk_7 (dk_at dksX3_goesOn_3 13 rfl rfl)
theorem dX3_goesOn_83 : decode cX3_goesOn 83 = .ok (.invokevirtual 64, 3) := dk_182 0 64 (dk_at dksX3_goesOn_3 14 rfl rfl)
theorem dX3_goesOn_86 : decode cX3_goesOn 86 = .ok (.if_icmp .ne 7, 3) := dk_160 0 7 (dk_at dksX3_goesOn_3 17 rfl rfl)
theorem dX3_goesOn_89 : decode cX3_goesOn 89 = .ok (.iconst 1, 1) := dk_4 (dk_at dksX3_goesOn_3 20 rfl rfl)
theorem dX3_goesOn_90 : decode cX3_goesOn 90 = .ok (.goto 4, 3) := dk_167 0 4 (dk_at dksX3_goesOn_3 21 rfl rfl)
theorem dX3_goesOn_93 : decode cX3_goesOn 93 = .ok (.iconst 0, 1) := dk_3 (dk_at dksX3_goesOn_4 0 rfl rfl)
theorem dX3_goesOn_94 : decode cX3_goesOn 94 = .ok (.istore 4, 2) := dk_54 4 (dk_at dksX3_goesOn_4 1 rfl rfl)
theorem dX3_goesOn_96 : decode cX3_goesOn 96 = .ok (.aload_n 0, 1) := dk_42 (dk_at dksX3_goesOn_4 3 rfl rfl)
theorem dX3_goesOn_97 : decode cX3_goesOn 97 = .ok (.aload_n 0, 1) := dk_42 (dk_at dksX3_goesOn_4 4 rfl rfl)
theorem dX3_goesOn_98 : decode cX3_goesOn 98 = .ok (.iload_n 1, 1) := dk_27 (dk_at dksX3_goesOn_4 5 rfl rfl)
theorem dX3_goesOn_99 : decode cX3_goesOn 99 = .ok (.iconst 0, 1) := dk_3 (dk_at dksX3_goesOn_4 6 rfl rfl)
theorem dX3_goesOn_100 : decode cX3_goesOn 100 = .ok (.invokevirtual 64, 3) := dk_182 0 64 (dk_at dksX3_goesOn_4 7 rfl rfl)
theorem dX3_goesOn_103 : decode cX3_goesOn 103 = .ok (.iconst 1, 1) := dk_4 (dk_at dksX3_goesOn_4 10 rfl rfl)
theorem dX3_goesOn_104 : decode cX3_goesOn 104 = .ok (.invokevirtual 79, 3) := dk_182 0 79 (dk_at dksX3_goesOn_4 11 rfl rfl)
theorem dX3_goesOn_107 : decode cX3_goesOn 107 = .ok (.istore 5, 2) := dk_54 5 (dk_at dksX3_goesOn_4 14 rfl rfl)
theorem dX3_goesOn_109 : decode cX3_goesOn 109 = .ok (.aload_n 0, 1) := dk_42 (dk_at dksX3_goesOn_4 16 rfl rfl)
theorem dX3_goesOn_110 : decode cX3_goesOn 110 = .ok (.iload_n 1, 1) := dk_27 (dk_at dksX3_goesOn_4 17 rfl rfl)
theorem dX3_goesOn_111 : decode cX3_goesOn 111 = .ok (.iconst 3, 1) := dk_6 (dk_at dksX3_goesOn_4 18 rfl rfl)
theorem dX3_goesOn_112 : decode cX3_goesOn 112 = .ok (.iconst (-1), 1) := dk_2 (dk_at dksX3_goesOn_4 19 rfl rfl)
theorem dX3_goesOn_113 : decode cX3_goesOn 113 = .ok (.invokevirtual 83, 3) := dk_182 0 83 (dk_at dksX3_goesOn_4 20 rfl rfl)
theorem dX3_goesOn_116 : decode cX3_goesOn 116 = .ok (.aload_n 0, 1) := dk_42 (dk_at dksX3_goesOn_4 23 rfl rfl)
theorem dX3_goesOn_117 : decode cX3_goesOn 117 = .ok (.iload_n 1, 1) := dk_27 (dk_at dksX3_goesOn_5 0 rfl rfl)
theorem dX3_goesOn_118 : decode cX3_goesOn 118 = .ok (.iconst 2, 1) := dk_5 (dk_at dksX3_goesOn_5 1 rfl rfl)
theorem dX3_goesOn_119 : decode cX3_goesOn 119 = .ok (.iload 4, 2) := dk_21 4 (dk_at dksX3_goesOn_5 2 rfl rfl)
theorem dX3_goesOn_121 : decode cX3_goesOn 121 = .ok (.ifCond .eq 7, 3) := dk_153 0 7 (dk_at dksX3_goesOn_5 4 rfl rfl)
theorem dX3_goesOn_124 : decode cX3_goesOn 124 = .ok (.iconst 0, 1) := dk_3 (dk_at dksX3_goesOn_5 7 rfl rfl)
theorem dX3_goesOn_125 : decode cX3_goesOn 125 = .ok (.goto 4, 3) := dk_167 0 4 (dk_at dksX3_goesOn_5 8 rfl rfl)
theorem dX3_goesOn_128 : decode cX3_goesOn 128 = .ok (.iconst 2, 1) := dk_5 (dk_at dksX3_goesOn_5 11 rfl rfl)
theorem dX3_goesOn_129 : decode cX3_goesOn 129 = .ok (.invokevirtual 83, 3) := dk_182 0 83 (dk_at dksX3_goesOn_5 12 rfl rfl)
theorem dX3_goesOn_132 : decode cX3_goesOn 132 = .ok (.iload 4, 2) := dk_21 4 (dk_at dksX3_goesOn_5 15 rfl rfl)
theorem dX3_goesOn_134 : decode cX3_goesOn 134 = .ok (.ifCond .eq 12, 3) := dk_153 0 12 (dk_at dksX3_goesOn_5 17 rfl rfl)
theorem dX3_goesOn_137 : decode cX3_goesOn 137 = .ok (.aload_n 0, 1) := dk_42 (dk_at dksX3_goesOn_5 20 rfl rfl)
theorem dX3_goesOn_138 : decode cX3_goesOn 138 = .ok (.iload_n 1, 1) := dk_27 (dk_at dksX3_goesOn_5 21 rfl rfl)
theorem dX3_goesOn_139 : decode cX3_goesOn 139 = .ok (.bipush 8, 2) := dk_16 8 (dk_at dksX3_goesOn_5 22 rfl rfl)
theorem dX3_goesOn_141 : decode cX3_goesOn 141 = .ok (.iload 5, 2) := dk_21 5 (dk_at dksX3_goesOn_6 0 rfl rfl)
theorem dX3_goesOn_143 : decode cX3_goesOn 143 = .ok (.invokevirtual 83, 3) := dk_182 0 83 (dk_at dksX3_goesOn_6 2 rfl rfl)
theorem dX3_goesOn_146 : decode cX3_goesOn 146 = .ok (.iload 4, 2) := dk_21 4 (dk_at dksX3_goesOn_6 5 rfl rfl)
theorem dX3_goesOn_148 : decode cX3_goesOn 148 = .ok (.ifCond .ne 28, 3) := dk_154 0 28 (dk_at dksX3_goesOn_6 7 rfl rfl)
theorem dX3_goesOn_151 : decode cX3_goesOn 151 = .ok (.aload_n 0, 1) := dk_42 (dk_at dksX3_goesOn_6 10 rfl rfl)
theorem dX3_goesOn_152 : decode cX3_goesOn 152 = .ok (.iload_n 1, 1) := dk_27 (dk_at dksX3_goesOn_6 11 rfl rfl)
theorem dX3_goesOn_153 : decode cX3_goesOn 153 = .ok (.bipush 9, 2) := dk_16 9 (dk_at dksX3_goesOn_6 12 rfl rfl)
theorem dX3_goesOn_155 : decode cX3_goesOn 155 = .ok (.aload_n 0, 1) := dk_42 (dk_at dksX3_goesOn_6 14 rfl rfl)
theorem dX3_goesOn_156 : decode cX3_goesOn 156 = .ok (.getfield 9, 3) := dk_180 0 9 (dk_at dksX3_goesOn_6 15 rfl rfl)
theorem dX3_goesOn_159 : decode cX3_goesOn 159 = .ok (.bipush 7, 2) := dk_16 7 (dk_at dksX3_goesOn_6 18 rfl rfl)
theorem dX3_goesOn_161 : decode cX3_goesOn 161 = .ok (.iaload, 1) := dk_46 (dk_at dksX3_goesOn_6 20 rfl rfl)
theorem dX3_goesOn_162 : decode cX3_goesOn 162 = .ok (.invokevirtual 83, 3) := dk_182 0 83 (dk_at dksX3_goesOn_6 21 rfl rfl)
theorem dX3_goesOn_165 : decode cX3_goesOn 165 = .ok (.aload_n 0, 1) := dk_42 (dk_at dksX3_goesOn_7 0 rfl rfl)
theorem dX3_goesOn_166 : decode cX3_goesOn 166 = .ok (.getfield 9, 3) := dk_180 0 9 (dk_at dksX3_goesOn_7 1 rfl rfl)
theorem dX3_goesOn_169 : decode cX3_goesOn 169 = .ok (.bipush 7, 2) := dk_16 7 (dk_at dksX3_goesOn_7 4 rfl rfl)
theorem dX3_goesOn_171 : decode cX3_goesOn 171 = .ok (.dup2, 1) := dk_92 (dk_at dksX3_goesOn_7 6 rfl rfl)
theorem dX3_goesOn_172 : decode cX3_goesOn 172 = .ok (.iaload, 1) := dk_46 (dk_at dksX3_goesOn_7 7 rfl rfl)
theorem dX3_goesOn_173 : decode cX3_goesOn 173 = .ok (.iconst 1, 1) := dk_4 (dk_at dksX3_goesOn_7 8 rfl rfl)
theorem dX3_goesOn_174 : decode cX3_goesOn 174 = .ok (.iadd, 1) := dk_96 (dk_at dksX3_goesOn_7 9 rfl rfl)
theorem dX3_goesOn_175 : decode cX3_goesOn 175 = .ok (.iastore, 1) := dk_79 (dk_at dksX3_goesOn_7 10 rfl rfl)
theorem dX3_goesOn_176 : decode cX3_goesOn 176 = .ok (.iload 4, 2) := dk_21 4 (dk_at dksX3_goesOn_7 11 rfl rfl)
theorem dX3_goesOn_178 : decode cX3_goesOn 178 = .ok (.ifCond .ne 7, 3) := dk_154 0 7 (dk_at dksX3_goesOn_7 13 rfl rfl)
theorem dX3_goesOn_181 : decode cX3_goesOn 181 = .ok (.iconst 1, 1) := dk_4 (dk_at dksX3_goesOn_7 16 rfl rfl)
theorem dX3_goesOn_182 : decode cX3_goesOn 182 = .ok (.goto 4, 3) := dk_167 0 4 (dk_at dksX3_goesOn_7 17 rfl rfl)
theorem dX3_goesOn_185 : decode cX3_goesOn 185 = .ok (.iconst 0, 1) := dk_3 (dk_at dksX3_goesOn_7 20 rfl rfl)
theorem dX3_goesOn_186 : decode cX3_goesOn 186 = .ok (.ireturn, 1) := dk_172 (dk_at dksX3_goesOn_7 21 rfl rfl)
abbrev cX3_looksAtTurn : ByteArray := prog_14_method_46_code
def yX3_looksAtTurn : MethodName := ⟨RX3, "looksAtTurn", "()V"⟩
def dkwX3_looksAtTurn_3 : List UInt8 := [180, 0, 9, 16, 6, 3, 79, 177]
abbrev dktX3_looksAtTurn_3 : List UInt8 := dkwX3_looksAtTurn_3 ++ []
def dkwX3_looksAtTurn_2 : List UInt8 := [153, 0, 13, 42, 4, 27, 100, 182, 0, 111, 154, 0, 4, 177, 42, 180, 0, 9, 8, 4, 27, 100, 79, 42]
abbrev dktX3_looksAtTurn_2 : List UInt8 := dkwX3_looksAtTurn_2 ++ dktX3_looksAtTurn_3
def dkwX3_looksAtTurn_1 : List UInt8 := [180, 0, 9, 6, 46, 161, 0, 7, 4, 167, 0, 4, 3, 61, 42, 182, 0, 97, 157, 0, 17, 28]
abbrev dktX3_looksAtTurn_1 : List UInt8 := dkwX3_looksAtTurn_1 ++ dktX3_looksAtTurn_2
def dkwX3_looksAtTurn_0 : List UInt8 := [42, 180, 0, 9, 8, 46, 60, 42, 27, 182, 0, 111, 153, 0, 19, 42, 180, 0, 9, 16, 6, 46, 42]
abbrev dktX3_looksAtTurn_0 : List UInt8 := dkwX3_looksAtTurn_0 ++ dktX3_looksAtTurn_1
theorem dksX3_looksAtTurn_0 : cX3_looksAtTurn.data.toList.drop 0 = dktX3_looksAtTurn_0 := by decide +kernel
theorem dksX3_looksAtTurn_1 : cX3_looksAtTurn.data.toList.drop 23 = dktX3_looksAtTurn_1 := dk_seg dksX3_looksAtTurn_0 23 rfl rfl
theorem dksX3_looksAtTurn_2 : cX3_looksAtTurn.data.toList.drop 45 = dktX3_looksAtTurn_2 := dk_seg dksX3_looksAtTurn_1 22 rfl rfl
theorem dksX3_looksAtTurn_3 : cX3_looksAtTurn.data.toList.drop 69 = dktX3_looksAtTurn_3 := dk_seg dksX3_looksAtTurn_2 24 rfl rfl
theorem dX3_looksAtTurn_0 : decode cX3_looksAtTurn 0 = .ok (.aload_n 0, 1) := dk_42 (dk_at dksX3_looksAtTurn_0 0 rfl rfl)
theorem dX3_looksAtTurn_1 : decode cX3_looksAtTurn 1 = .ok (.getfield 9, 3) := dk_180 0 9 (dk_at dksX3_looksAtTurn_0 1 rfl rfl)
theorem dX3_looksAtTurn_4 : decode cX3_looksAtTurn 4 = .ok (.iconst 5, 1) := dk_8 (dk_at dksX3_looksAtTurn_0 4 rfl rfl)
theorem dX3_looksAtTurn_5 : decode cX3_looksAtTurn 5 = .ok (.iaload, 1) := dk_46 (dk_at dksX3_looksAtTurn_0 5 rfl rfl)
theorem dX3_looksAtTurn_6 : decode cX3_looksAtTurn 6 = .ok (.istore_n 1, 1) := dk_60 (dk_at dksX3_looksAtTurn_0 6 rfl rfl)
theorem dX3_looksAtTurn_7 : decode cX3_looksAtTurn 7 = .ok (.aload_n 0, 1) := dk_42 (dk_at dksX3_looksAtTurn_0 7 rfl rfl)
theorem dX3_looksAtTurn_8 : decode cX3_looksAtTurn 8 = .ok (.iload_n 1, 1) := dk_27 (dk_at dksX3_looksAtTurn_0 8 rfl rfl)
theorem dX3_looksAtTurn_9 : decode cX3_looksAtTurn 9 = .ok (.invokevirtual 111, 3) := dk_182 0 111 (dk_at dksX3_looksAtTurn_0 9 rfl rfl)
theorem dX3_looksAtTurn_12 : decode cX3_looksAtTurn 12 = .ok (.ifCond .eq 19, 3) := dk_153 0 19 (dk_at dksX3_looksAtTurn_0 12 rfl rfl)
theorem dX3_looksAtTurn_15 : decode cX3_looksAtTurn 15 = .ok (.aload_n 0, 1) := dk_42 (dk_at dksX3_looksAtTurn_0 15 rfl rfl)
theorem dX3_looksAtTurn_16 : decode cX3_looksAtTurn 16 = .ok (.getfield 9, 3) := dk_180 0 9 (dk_at dksX3_looksAtTurn_0 16 rfl rfl)
theorem dX3_looksAtTurn_19 : decode cX3_looksAtTurn 19 = .ok (.bipush 6, 2) := dk_16 6 (dk_at dksX3_looksAtTurn_0 19 rfl rfl)
theorem dX3_looksAtTurn_21 : decode cX3_looksAtTurn 21 = .ok (.iaload, 1) := dk_46 (dk_at dksX3_looksAtTurn_0 21 rfl rfl)
theorem dX3_looksAtTurn_22 : decode cX3_looksAtTurn 22 = .ok (.aload_n 0, 1) := dk_42 (dk_at dksX3_looksAtTurn_0 22 rfl rfl)
theorem dX3_looksAtTurn_23 : decode cX3_looksAtTurn 23 = .ok (.getfield 9, 3) := dk_180 0 9 (dk_at dksX3_looksAtTurn_1 0 rfl rfl)
theorem dX3_looksAtTurn_26 : decode cX3_looksAtTurn 26 = .ok (.iconst 3, 1) := dk_6 (dk_at dksX3_looksAtTurn_1 3 rfl rfl)
theorem dX3_looksAtTurn_27 : decode cX3_looksAtTurn 27 = .ok (.iaload, 1) := dk_46 (dk_at dksX3_looksAtTurn_1 4 rfl rfl)
theorem dX3_looksAtTurn_28 : decode cX3_looksAtTurn 28 = .ok (.if_icmp .lt 7, 3) := dk_161 0 7 (dk_at dksX3_looksAtTurn_1 5 rfl rfl)
theorem dX3_looksAtTurn_31 : decode cX3_looksAtTurn 31 = .ok (.iconst 1, 1) := dk_4 (dk_at dksX3_looksAtTurn_1 8 rfl rfl)
theorem dX3_looksAtTurn_32 : decode cX3_looksAtTurn 32 = .ok (.goto 4, 3) := dk_167 0 4 (dk_at dksX3_looksAtTurn_1 9 rfl rfl)
theorem dX3_looksAtTurn_35 : decode cX3_looksAtTurn 35 = .ok (.iconst 0, 1) := dk_3 (dk_at dksX3_looksAtTurn_1 12 rfl rfl)
theorem dX3_looksAtTurn_36 : decode cX3_looksAtTurn 36 = .ok (.istore_n 2, 1) := dk_61 (dk_at dksX3_looksAtTurn_1 13 rfl rfl)
theorem dX3_looksAtTurn_37 : decode cX3_looksAtTurn 37 = .ok (.aload_n 0, 1) := dk_42 (dk_at dksX3_looksAtTurn_1 14 rfl rfl)
theorem dX3_looksAtTurn_38 : decode cX3_looksAtTurn 38 = .ok (.invokevirtual 97, 3) := dk_182 0 97 (dk_at dksX3_looksAtTurn_1 15 rfl rfl)
theorem dX3_looksAtTurn_41 : decode cX3_looksAtTurn 41 = .ok (.ifCond .gt 17, 3) := dk_157 0 17 (dk_at dksX3_looksAtTurn_1 18 rfl rfl)
theorem dX3_looksAtTurn_44 : decode cX3_looksAtTurn 44 = .ok (.iload_n 2, 1) := dk_28 (dk_at dksX3_looksAtTurn_1 21 rfl rfl)
theorem dX3_looksAtTurn_45 : decode cX3_looksAtTurn 45 = .ok (.ifCond .eq 13, 3) := dk_153 0 13 (dk_at dksX3_looksAtTurn_2 0 rfl rfl)
theorem dX3_looksAtTurn_48 : decode cX3_looksAtTurn 48 = .ok (.aload_n 0, 1) := dk_42 (dk_at dksX3_looksAtTurn_2 3 rfl rfl)
theorem dX3_looksAtTurn_49 : decode cX3_looksAtTurn 49 = .ok (.iconst 1, 1) := dk_4 (dk_at dksX3_looksAtTurn_2 4 rfl rfl)
theorem dX3_looksAtTurn_50 : decode cX3_looksAtTurn 50 = .ok (.iload_n 1, 1) := dk_27 (dk_at dksX3_looksAtTurn_2 5 rfl rfl)
theorem dX3_looksAtTurn_51 : decode cX3_looksAtTurn 51 = .ok (.isub, 1) := dk_100 (dk_at dksX3_looksAtTurn_2 6 rfl rfl)
theorem dX3_looksAtTurn_52 : decode cX3_looksAtTurn 52 = .ok (.invokevirtual 111, 3) := dk_182 0 111 (dk_at dksX3_looksAtTurn_2 7 rfl rfl)
theorem dX3_looksAtTurn_55 : decode cX3_looksAtTurn 55 = .ok (.ifCond .ne 4, 3) := dk_154 0 4 (dk_at dksX3_looksAtTurn_2 10 rfl rfl)
theorem dX3_looksAtTurn_58 : decode cX3_looksAtTurn 58 = .ok (.return_, 1) := dk_177 (dk_at dksX3_looksAtTurn_2 13 rfl rfl)
theorem dX3_looksAtTurn_59 : decode cX3_looksAtTurn 59 = .ok (.aload_n 0, 1) := dk_42 (dk_at dksX3_looksAtTurn_2 14 rfl rfl)
theorem dX3_looksAtTurn_60 : decode cX3_looksAtTurn 60 = .ok (.getfield 9, 3) := dk_180 0 9 (dk_at dksX3_looksAtTurn_2 15 rfl rfl)
theorem dX3_looksAtTurn_63 : decode cX3_looksAtTurn 63 = .ok (.iconst 5, 1) := dk_8 (dk_at dksX3_looksAtTurn_2 18 rfl rfl)
theorem dX3_looksAtTurn_64 : decode cX3_looksAtTurn 64 = .ok (.iconst 1, 1) := dk_4 (dk_at dksX3_looksAtTurn_2 19 rfl rfl)
theorem dX3_looksAtTurn_65 : decode cX3_looksAtTurn 65 = .ok (.iload_n 1, 1) := dk_27 (dk_at dksX3_looksAtTurn_2 20 rfl rfl)
theorem dX3_looksAtTurn_66 : decode cX3_looksAtTurn 66 = .ok (.isub, 1) := dk_100 (dk_at dksX3_looksAtTurn_2 21 rfl rfl)
theorem dX3_looksAtTurn_67 : decode cX3_looksAtTurn 67 = .ok (.iastore, 1) := dk_79 (dk_at dksX3_looksAtTurn_2 22 rfl rfl)
theorem dX3_looksAtTurn_68 : decode cX3_looksAtTurn 68 = .ok (.aload_n 0, 1) := dk_42 (dk_at dksX3_looksAtTurn_2 23 rfl rfl)
theorem dX3_looksAtTurn_69 : decode cX3_looksAtTurn 69 = .ok (.getfield 9, 3) := dk_180 0 9 (dk_at dksX3_looksAtTurn_3 0 rfl rfl)
theorem dX3_looksAtTurn_72 : decode cX3_looksAtTurn 72 = .ok (.bipush 6, 2) := dk_16 6 (dk_at dksX3_looksAtTurn_3 3 rfl rfl)
theorem dX3_looksAtTurn_74 : decode cX3_looksAtTurn 74 = .ok (.iconst 0, 1) := dk_3 (dk_at dksX3_looksAtTurn_3 5 rfl rfl)
theorem dX3_looksAtTurn_75 : decode cX3_looksAtTurn 75 = .ok (.iastore, 1) := dk_79 (dk_at dksX3_looksAtTurn_3 6 rfl rfl)
theorem dX3_looksAtTurn_76 : decode cX3_looksAtTurn 76 = .ok (.return_, 1) := dk_177 (dk_at dksX3_looksAtTurn_3 7 rfl rfl)
abbrev cX3_sends : ByteArray := prog_14_method_47_code
def yX3_sends : MethodName := ⟨RX3, "sends", "(I)V"⟩
def dkwX3_sends_4 : List UInt8 := [160, 0, 7, 4, 167, 0, 4, 3, 96, 79, 177]
abbrev dktX3_sends_4 : List UInt8 := dkwX3_sends_4 ++ []
def dkwX3_sends_3 : List UInt8 := [16, 9, 92, 46, 4, 96, 79, 42, 180, 0, 9, 16, 6, 92, 46, 42, 180, 0, 9, 8, 46, 27]
abbrev dktX3_sends_3 : List UInt8 := dkwX3_sends_3 ++ dktX3_sends_4
def dkwX3_sends_2 : List UInt8 := [182, 0, 83, 42, 29, 6, 28, 182, 0, 83, 42, 29, 7, 4, 27, 100, 182, 0, 83, 42, 180, 0, 9]
abbrev dktX3_sends_2 : List UInt8 := dkwX3_sends_2 ++ dktX3_sends_3
def dkwX3_sends_1 : List UInt8 := [42, 28, 182, 0, 123, 2, 160, 0, 11, 42, 27, 182, 0, 153, 154, 0, 4, 177, 42, 29, 5, 4]
abbrev dktX3_sends_1 : List UInt8 := dkwX3_sends_1 ++ dktX3_sends_2
def dkwX3_sends_0 : List UInt8 := [27, 154, 0, 7, 3, 167, 0, 11, 42, 180, 0, 9, 7, 46, 4, 100, 61, 42, 27, 3, 182, 0, 117, 62]
abbrev dktX3_sends_0 : List UInt8 := dkwX3_sends_0 ++ dktX3_sends_1
theorem dksX3_sends_0 : cX3_sends.data.toList.drop 0 = dktX3_sends_0 := by decide +kernel
theorem dksX3_sends_1 : cX3_sends.data.toList.drop 24 = dktX3_sends_1 := dk_seg dksX3_sends_0 24 rfl rfl
theorem dksX3_sends_2 : cX3_sends.data.toList.drop 46 = dktX3_sends_2 := dk_seg dksX3_sends_1 22 rfl rfl
theorem dksX3_sends_3 : cX3_sends.data.toList.drop 69 = dktX3_sends_3 := dk_seg dksX3_sends_2 23 rfl rfl
theorem dksX3_sends_4 : cX3_sends.data.toList.drop 91 = dktX3_sends_4 := dk_seg dksX3_sends_3 22 rfl rfl
theorem dX3_sends_0 : decode cX3_sends 0 = .ok (.iload_n 1, 1) := dk_27 (dk_at dksX3_sends_0 0 rfl rfl)
theorem dX3_sends_1 : decode cX3_sends 1 = .ok (.ifCond .ne 7, 3) := dk_154 0 7 (dk_at dksX3_sends_0 1 rfl rfl)
theorem dX3_sends_4 : decode cX3_sends 4 = .ok (.iconst 0, 1) := dk_3 (dk_at dksX3_sends_0 4 rfl rfl)
theorem dX3_sends_5 : decode cX3_sends 5 = .ok (.goto 11, 3) := dk_167 0 11 (dk_at dksX3_sends_0 5 rfl rfl)
theorem dX3_sends_8 : decode cX3_sends 8 = .ok (.aload_n 0, 1) := dk_42 (dk_at dksX3_sends_0 8 rfl rfl)
theorem dX3_sends_9 : decode cX3_sends 9 = .ok (.getfield 9, 3) := dk_180 0 9 (dk_at dksX3_sends_0 9 rfl rfl)
theorem dX3_sends_12 : decode cX3_sends 12 = .ok (.iconst 4, 1) := dk_7 (dk_at dksX3_sends_0 12 rfl rfl)
theorem dX3_sends_13 : decode cX3_sends 13 = .ok (.iaload, 1) := dk_46 (dk_at dksX3_sends_0 13 rfl rfl)
theorem dX3_sends_14 : decode cX3_sends 14 = .ok (.iconst 1, 1) := dk_4 (dk_at dksX3_sends_0 14 rfl rfl)
theorem dX3_sends_15 : decode cX3_sends 15 = .ok (.isub, 1) := dk_100 (dk_at dksX3_sends_0 15 rfl rfl)
theorem dX3_sends_16 : decode cX3_sends 16 = .ok (.istore_n 2, 1) := dk_61 (dk_at dksX3_sends_0 16 rfl rfl)
theorem dX3_sends_17 : decode cX3_sends 17 = .ok (.aload_n 0, 1) := dk_42 (dk_at dksX3_sends_0 17 rfl rfl)
theorem dX3_sends_18 : decode cX3_sends 18 = .ok (.iload_n 1, 1) := dk_27 (dk_at dksX3_sends_0 18 rfl rfl)
theorem dX3_sends_19 : decode cX3_sends 19 = .ok (.iconst 0, 1) := dk_3 (dk_at dksX3_sends_0 19 rfl rfl)
theorem dX3_sends_20 : decode cX3_sends 20 = .ok (.invokevirtual 117, 3) := dk_182 0 117 (dk_at dksX3_sends_0 20 rfl rfl)
theorem dX3_sends_23 : decode cX3_sends 23 = .ok (.istore_n 3, 1) := dk_62 (dk_at dksX3_sends_0 23 rfl rfl)
theorem dX3_sends_24 : decode cX3_sends 24 = .ok (.aload_n 0, 1) := dk_42 (dk_at dksX3_sends_1 0 rfl rfl)
theorem dX3_sends_25 : decode cX3_sends 25 = .ok (.iload_n 2, 1) := dk_28 (dk_at dksX3_sends_1 1 rfl rfl)
theorem dX3_sends_26 : decode cX3_sends 26 = .ok (.invokevirtual 123, 3) := dk_182 0 123 (dk_at dksX3_sends_1 2 rfl rfl)
theorem dX3_sends_29 : decode cX3_sends 29 = .ok (.iconst (-1), 1) := dk_2 (dk_at dksX3_sends_1 5 rfl rfl)
theorem dX3_sends_30 : decode cX3_sends 30 = .ok (.if_icmp .ne 11, 3) := dk_160 0 11 (dk_at dksX3_sends_1 6 rfl rfl)
theorem dX3_sends_33 : decode cX3_sends 33 = .ok (.aload_n 0, 1) := dk_42 (dk_at dksX3_sends_1 9 rfl rfl)
theorem dX3_sends_34 : decode cX3_sends 34 = .ok (.iload_n 1, 1) := dk_27 (dk_at dksX3_sends_1 10 rfl rfl)
theorem dX3_sends_35 : decode cX3_sends 35 = .ok (.invokevirtual 153, 3) := dk_182 0 153 (dk_at dksX3_sends_1 11 rfl rfl)
theorem dX3_sends_38 : decode cX3_sends 38 = .ok (.ifCond .ne 4, 3) := dk_154 0 4 (dk_at dksX3_sends_1 14 rfl rfl)
theorem dX3_sends_41 : decode cX3_sends 41 = .ok (.return_, 1) := dk_177 (dk_at dksX3_sends_1 17 rfl rfl)
theorem dX3_sends_42 : decode cX3_sends 42 = .ok (.aload_n 0, 1) := dk_42 (dk_at dksX3_sends_1 18 rfl rfl)
theorem dX3_sends_43 : decode cX3_sends 43 = .ok (.iload_n 3, 1) := dk_29 (dk_at dksX3_sends_1 19 rfl rfl)
theorem dX3_sends_44 : decode cX3_sends 44 = .ok (.iconst 2, 1) := dk_5 (dk_at dksX3_sends_1 20 rfl rfl)
theorem dX3_sends_45 : decode cX3_sends 45 = .ok (.iconst 1, 1) := dk_4 (dk_at dksX3_sends_1 21 rfl rfl)
theorem dX3_sends_46 : decode cX3_sends 46 = .ok (.invokevirtual 83, 3) := dk_182 0 83 (dk_at dksX3_sends_2 0 rfl rfl)
theorem dX3_sends_49 : decode cX3_sends 49 = .ok (.aload_n 0, 1) := dk_42 (dk_at dksX3_sends_2 3 rfl rfl)
theorem dX3_sends_50 : decode cX3_sends 50 = .ok (.iload_n 3, 1) := dk_29 (dk_at dksX3_sends_2 4 rfl rfl)
theorem dX3_sends_51 : decode cX3_sends 51 = .ok (.iconst 3, 1) := dk_6 (dk_at dksX3_sends_2 5 rfl rfl)
theorem dX3_sends_52 : decode cX3_sends 52 = .ok (.iload_n 2, 1) := dk_28 (dk_at dksX3_sends_2 6 rfl rfl)
theorem dX3_sends_53 : decode cX3_sends 53 = .ok (.invokevirtual 83, 3) := dk_182 0 83 (dk_at dksX3_sends_2 7 rfl rfl)
theorem dX3_sends_56 : decode cX3_sends 56 = .ok (.aload_n 0, 1) := dk_42 (dk_at dksX3_sends_2 10 rfl rfl)
theorem dX3_sends_57 : decode cX3_sends 57 = .ok (.iload_n 3, 1) := dk_29 (dk_at dksX3_sends_2 11 rfl rfl)
theorem dX3_sends_58 : decode cX3_sends 58 = .ok (.iconst 4, 1) := dk_7 (dk_at dksX3_sends_2 12 rfl rfl)
theorem dX3_sends_59 : decode cX3_sends 59 = .ok (.iconst 1, 1) := dk_4 (dk_at dksX3_sends_2 13 rfl rfl)
theorem dX3_sends_60 : decode cX3_sends 60 = .ok (.iload_n 1, 1) := dk_27 (dk_at dksX3_sends_2 14 rfl rfl)
theorem dX3_sends_61 : decode cX3_sends 61 = .ok (.isub, 1) := dk_100 (dk_at dksX3_sends_2 15 rfl rfl)
theorem dX3_sends_62 : decode cX3_sends 62 = .ok (.invokevirtual 83, 3) := dk_182 0 83 (dk_at dksX3_sends_2 16 rfl rfl)
theorem dX3_sends_65 : decode cX3_sends 65 = .ok (.aload_n 0, 1) := dk_42 (dk_at dksX3_sends_2 19 rfl rfl)
theorem dX3_sends_66 : decode cX3_sends 66 = .ok (.getfield 9, 3) := dk_180 0 9 (dk_at dksX3_sends_2 20 rfl rfl)
theorem dX3_sends_69 : decode cX3_sends 69 = .ok (.bipush 9, 2) := dk_16 9 (dk_at dksX3_sends_3 0 rfl rfl)
theorem dX3_sends_71 : decode cX3_sends 71 = .ok (.dup2, 1) := dk_92 (dk_at dksX3_sends_3 2 rfl rfl)
theorem dX3_sends_72 : decode cX3_sends 72 = .ok (.iaload, 1) := dk_46 (dk_at dksX3_sends_3 3 rfl rfl)
theorem dX3_sends_73 : decode cX3_sends 73 = .ok (.iconst 1, 1) := dk_4 (dk_at dksX3_sends_3 4 rfl rfl)
theorem dX3_sends_74 : decode cX3_sends 74 = .ok (.iadd, 1) := dk_96 (dk_at dksX3_sends_3 5 rfl rfl)
theorem dX3_sends_75 : decode cX3_sends 75 = .ok (.iastore, 1) := dk_79 (dk_at dksX3_sends_3 6 rfl rfl)
theorem dX3_sends_76 : decode cX3_sends 76 = .ok (.aload_n 0, 1) := dk_42 (dk_at dksX3_sends_3 7 rfl rfl)
theorem dX3_sends_77 : decode cX3_sends 77 = .ok (.getfield 9, 3) := dk_180 0 9 (dk_at dksX3_sends_3 8 rfl rfl)
theorem dX3_sends_80 : decode cX3_sends 80 = .ok (.bipush 6, 2) := dk_16 6 (dk_at dksX3_sends_3 11 rfl rfl)
theorem dX3_sends_82 : decode cX3_sends 82 = .ok (.dup2, 1) := dk_92 (dk_at dksX3_sends_3 13 rfl rfl)
theorem dX3_sends_83 : decode cX3_sends 83 = .ok (.iaload, 1) := dk_46 (dk_at dksX3_sends_3 14 rfl rfl)
theorem dX3_sends_84 : decode cX3_sends 84 = .ok (.aload_n 0, 1) := dk_42 (dk_at dksX3_sends_3 15 rfl rfl)
theorem dX3_sends_85 : decode cX3_sends 85 = .ok (.getfield 9, 3) := dk_180 0 9 (dk_at dksX3_sends_3 16 rfl rfl)
theorem dX3_sends_88 : decode cX3_sends 88 = .ok (.iconst 5, 1) := dk_8 (dk_at dksX3_sends_3 19 rfl rfl)
theorem dX3_sends_89 : decode cX3_sends 89 = .ok (.iaload, 1) := dk_46 (dk_at dksX3_sends_3 20 rfl rfl)
theorem dX3_sends_90 : decode cX3_sends 90 = .ok (.iload_n 1, 1) := dk_27 (dk_at dksX3_sends_3 21 rfl rfl)
theorem dX3_sends_91 : decode cX3_sends 91 = .ok (.if_icmp .ne 7, 3) := dk_160 0 7 (dk_at dksX3_sends_4 0 rfl rfl)
theorem dX3_sends_94 : decode cX3_sends 94 = .ok (.iconst 1, 1) := dk_4 (dk_at dksX3_sends_4 3 rfl rfl)
theorem dX3_sends_95 : decode cX3_sends 95 = .ok (.goto 4, 3) := dk_167 0 4 (dk_at dksX3_sends_4 4 rfl rfl)
theorem dX3_sends_98 : decode cX3_sends 98 = .ok (.iconst 0, 1) := dk_3 (dk_at dksX3_sends_4 7 rfl rfl)
theorem dX3_sends_99 : decode cX3_sends 99 = .ok (.iadd, 1) := dk_96 (dk_at dksX3_sends_4 8 rfl rfl)
theorem dX3_sends_100 : decode cX3_sends 100 = .ok (.iastore, 1) := dk_79 (dk_at dksX3_sends_4 9 rfl rfl)
theorem dX3_sends_101 : decode cX3_sends 101 = .ok (.return_, 1) := dk_177 (dk_at dksX3_sends_4 10 rfl rfl)
abbrev cX3_maySend : ByteArray := prog_14_method_45_code
def yX3_maySend : MethodName := ⟨RX3, "maySend", "(I)Z"⟩
def dkwX3_maySend_6 : List UInt8 := [54, 4, 21, 4, 157, 0, 12, 21, 4, 154, 0, 11, 27, 154, 0, 7, 4, 167, 0, 4, 3, 172]
abbrev dktX3_maySend_6 : List UInt8 := dkwX3_maySend_6 ++ []
def dkwX3_maySend_5 : List UInt8 := [27, 100, 182, 0, 150, 100, 167, 0, 18, 42, 28, 16, 7, 182, 0, 64, 42, 29, 16, 7, 182, 0, 64, 100]
abbrev dktX3_maySend_5 : List UInt8 := dkwX3_maySend_5 ++ dktX3_maySend_6
def dkwX3_maySend_4 : List UInt8 := [29, 2, 160, 0, 5, 4, 172, 42, 180, 0, 9, 5, 46, 5, 160, 0, 19, 42, 27, 182, 0, 150, 42, 4]
abbrev dktX3_maySend_4 : List UInt8 := dkwX3_maySend_4 ++ dktX3_maySend_5
def dkwX3_maySend_3 : List UInt8 := [180, 0, 9, 6, 46, 162, 0, 7, 4, 167, 0, 4, 3, 172, 42, 180, 0, 9, 5, 46, 6, 160, 0, 10]
abbrev dktX3_maySend_3 : List UInt8 := dkwX3_maySend_3 ++ dktX3_maySend_4
def dkwX3_maySend_2 : List UInt8 := [5, 46, 4, 160, 0, 35, 42, 180, 0, 9, 8, 46, 27, 160, 0, 23, 42, 180, 0, 9, 16, 6, 46, 42]
abbrev dktX3_maySend_2 : List UInt8 := dkwX3_maySend_2 ++ dktX3_maySend_3
def dkwX3_maySend_1 : List UInt8 := [180, 0, 9, 5, 46, 154, 0, 5, 4, 172, 42, 27, 182, 0, 147, 153, 0, 5, 3, 172, 42, 180, 0, 9]
abbrev dktX3_maySend_1 : List UInt8 := dkwX3_maySend_1 ++ dktX3_maySend_2
def dkwX3_maySend_0 : List UInt8 := [42, 27, 3, 182, 0, 117, 61, 42, 4, 27, 100, 3, 182, 0, 117, 62, 28, 2, 160, 0, 5, 3, 172, 42]
abbrev dktX3_maySend_0 : List UInt8 := dkwX3_maySend_0 ++ dktX3_maySend_1
theorem dksX3_maySend_0 : cX3_maySend.data.toList.drop 0 = dktX3_maySend_0 := by decide +kernel
theorem dksX3_maySend_1 : cX3_maySend.data.toList.drop 24 = dktX3_maySend_1 := dk_seg dksX3_maySend_0 24 rfl rfl
theorem dksX3_maySend_2 : cX3_maySend.data.toList.drop 48 = dktX3_maySend_2 := dk_seg dksX3_maySend_1 24 rfl rfl
theorem dksX3_maySend_3 : cX3_maySend.data.toList.drop 72 = dktX3_maySend_3 := dk_seg dksX3_maySend_2 24 rfl rfl
theorem dksX3_maySend_4 : cX3_maySend.data.toList.drop 96 = dktX3_maySend_4 := dk_seg dksX3_maySend_3 24 rfl rfl
theorem dksX3_maySend_5 : cX3_maySend.data.toList.drop 120 = dktX3_maySend_5 := dk_seg dksX3_maySend_4 24 rfl rfl
theorem dksX3_maySend_6 : cX3_maySend.data.toList.drop 144 = dktX3_maySend_6 := dk_seg dksX3_maySend_5 24 rfl rfl
theorem dX3_maySend_0 : decode cX3_maySend 0 = .ok (.aload_n 0, 1) := dk_42 (dk_at dksX3_maySend_0 0 rfl rfl)
theorem dX3_maySend_1 : decode cX3_maySend 1 = .ok (.iload_n 1, 1) := dk_27 (dk_at dksX3_maySend_0 1 rfl rfl)
theorem dX3_maySend_2 : decode cX3_maySend 2 = .ok (.iconst 0, 1) := dk_3 (dk_at dksX3_maySend_0 2 rfl rfl)
theorem dX3_maySend_3 : decode cX3_maySend 3 = .ok (.invokevirtual 117, 3) := dk_182 0 117 (dk_at dksX3_maySend_0 3 rfl rfl)
theorem dX3_maySend_6 : decode cX3_maySend 6 = .ok (.istore_n 2, 1) := dk_61 (dk_at dksX3_maySend_0 6 rfl rfl)
theorem dX3_maySend_7 : decode cX3_maySend 7 = .ok (.aload_n 0, 1) := dk_42 (dk_at dksX3_maySend_0 7 rfl rfl)
theorem dX3_maySend_8 : decode cX3_maySend 8 = .ok (.iconst 1, 1) := dk_4 (dk_at dksX3_maySend_0 8 rfl rfl)
theorem dX3_maySend_9 : decode cX3_maySend 9 = .ok (.iload_n 1, 1) := dk_27 (dk_at dksX3_maySend_0 9 rfl rfl)
theorem dX3_maySend_10 : decode cX3_maySend 10 = .ok (.isub, 1) := dk_100 (dk_at dksX3_maySend_0 10 rfl rfl)
theorem dX3_maySend_11 : decode cX3_maySend 11 = .ok (.iconst 0, 1) := dk_3 (dk_at dksX3_maySend_0 11 rfl rfl)
theorem dX3_maySend_12 : decode cX3_maySend 12 = .ok (.invokevirtual 117, 3) := dk_182 0 117 (dk_at dksX3_maySend_0 12 rfl rfl)
theorem dX3_maySend_15 : decode cX3_maySend 15 = .ok (.istore_n 3, 1) := dk_62 (dk_at dksX3_maySend_0 15 rfl rfl)
theorem dX3_maySend_16 : decode cX3_maySend 16 = .ok (.iload_n 2, 1) := dk_28 (dk_at dksX3_maySend_0 16 rfl rfl)
theorem dX3_maySend_17 : decode cX3_maySend 17 = .ok (.iconst (-1), 1) := dk_2 (dk_at dksX3_maySend_0 17 rfl rfl)
theorem dX3_maySend_18 : decode cX3_maySend 18 = .ok (.if_icmp .ne 5, 3) := dk_160 0 5 (dk_at dksX3_maySend_0 18 rfl rfl)
theorem dX3_maySend_21 : decode cX3_maySend 21 = .ok (.iconst 0, 1) := dk_3 (dk_at dksX3_maySend_0 21 rfl rfl)
theorem dX3_maySend_22 : decode cX3_maySend 22 = .ok (.ireturn, 1) := dk_172 (dk_at dksX3_maySend_0 22 rfl rfl)
theorem dX3_maySend_23 : decode cX3_maySend 23 = .ok (.aload_n 0, 1) := dk_42 (dk_at dksX3_maySend_0 23 rfl rfl)
theorem dX3_maySend_24 : decode cX3_maySend 24 = .ok (.getfield 9, 3) := dk_180 0 9 (dk_at dksX3_maySend_1 0 rfl rfl)
theorem dX3_maySend_27 : decode cX3_maySend 27 = .ok (.iconst 2, 1) := dk_5 (dk_at dksX3_maySend_1 3 rfl rfl)
theorem dX3_maySend_28 : decode cX3_maySend 28 = .ok (.iaload, 1) := dk_46 (dk_at dksX3_maySend_1 4 rfl rfl)
theorem dX3_maySend_29 : decode cX3_maySend 29 = .ok (.ifCond .ne 5, 3) := dk_154 0 5 (dk_at dksX3_maySend_1 5 rfl rfl)
theorem dX3_maySend_32 : decode cX3_maySend 32 = .ok (.iconst 1, 1) := dk_4 (dk_at dksX3_maySend_1 8 rfl rfl)
theorem dX3_maySend_33 : decode cX3_maySend 33 = .ok (.ireturn, 1) := dk_172 (dk_at dksX3_maySend_1 9 rfl rfl)
theorem dX3_maySend_34 : decode cX3_maySend 34 = .ok (.aload_n 0, 1) := dk_42 (dk_at dksX3_maySend_1 10 rfl rfl)
theorem dX3_maySend_35 : decode cX3_maySend 35 = .ok (.iload_n 1, 1) := dk_27 (dk_at dksX3_maySend_1 11 rfl rfl)
theorem dX3_maySend_36 : decode cX3_maySend 36 = .ok (.invokevirtual 147, 3) := dk_182 0 147 (dk_at dksX3_maySend_1 12 rfl rfl)
theorem dX3_maySend_39 : decode cX3_maySend 39 = .ok (.ifCond .eq 5, 3) := dk_153 0 5 (dk_at dksX3_maySend_1 15 rfl rfl)
theorem dX3_maySend_42 : decode cX3_maySend 42 = .ok (.iconst 0, 1) := dk_3 (dk_at dksX3_maySend_1 18 rfl rfl)
theorem dX3_maySend_43 : decode cX3_maySend 43 = .ok (.ireturn, 1) := dk_172 (dk_at dksX3_maySend_1 19 rfl rfl)
theorem dX3_maySend_44 : decode cX3_maySend 44 = .ok (.aload_n 0, 1) := dk_42 (dk_at dksX3_maySend_1 20 rfl rfl)
theorem dX3_maySend_45 : decode cX3_maySend 45 = .ok (.getfield 9, 3) := dk_180 0 9 (dk_at dksX3_maySend_1 21 rfl rfl)
theorem dX3_maySend_48 : decode cX3_maySend 48 = .ok (.iconst 2, 1) := dk_5 (dk_at dksX3_maySend_2 0 rfl rfl)
theorem dX3_maySend_49 : decode cX3_maySend 49 = .ok (.iaload, 1) := dk_46 (dk_at dksX3_maySend_2 1 rfl rfl)
theorem dX3_maySend_50 : decode cX3_maySend 50 = .ok (.iconst 1, 1) := dk_4 (dk_at dksX3_maySend_2 2 rfl rfl)
theorem dX3_maySend_51 : decode cX3_maySend 51 = .ok (.if_icmp .ne 35, 3) := dk_160 0 35 (dk_at dksX3_maySend_2 3 rfl rfl)
theorem dX3_maySend_54 : decode cX3_maySend 54 = .ok (.aload_n 0, 1) := dk_42 (dk_at dksX3_maySend_2 6 rfl rfl)
theorem dX3_maySend_55 : decode cX3_maySend 55 = .ok (.getfield 9, 3) := dk_180 0 9 (dk_at dksX3_maySend_2 7 rfl rfl)
theorem dX3_maySend_58 : decode cX3_maySend 58 = .ok (.iconst 5, 1) := dk_8 (dk_at dksX3_maySend_2 10 rfl rfl)
theorem dX3_maySend_59 : decode cX3_maySend 59 = .ok (.iaload, 1) := dk_46 (dk_at dksX3_maySend_2 11 rfl rfl)
theorem dX3_maySend_60 : decode cX3_maySend 60 = .ok (.iload_n 1, 1) := dk_27 (dk_at dksX3_maySend_2 12 rfl rfl)
theorem dX3_maySend_61 : decode cX3_maySend 61 = .ok (.if_icmp .ne 23, 3) := dk_160 0 23 (dk_at dksX3_maySend_2 13 rfl rfl)
theorem dX3_maySend_64 : decode cX3_maySend 64 = .ok (.aload_n 0, 1) := dk_42 (dk_at dksX3_maySend_2 16 rfl rfl)
theorem dX3_maySend_65 : decode cX3_maySend 65 = .ok (.getfield 9, 3) := dk_180 0 9 (dk_at dksX3_maySend_2 17 rfl rfl)
theorem dX3_maySend_68 : decode cX3_maySend 68 = .ok (.bipush 6, 2) := dk_16 6 (dk_at dksX3_maySend_2 20 rfl rfl)
theorem dX3_maySend_70 : decode cX3_maySend 70 = .ok (.iaload, 1) := dk_46 (dk_at dksX3_maySend_2 22 rfl rfl)
theorem dX3_maySend_71 : decode cX3_maySend 71 = .ok (.aload_n 0, 1) := dk_42 (dk_at dksX3_maySend_2 23 rfl rfl)
theorem dX3_maySend_72 : decode cX3_maySend 72 = .ok (.getfield 9, 3) := dk_180 0 9 (dk_at dksX3_maySend_3 0 rfl rfl)
theorem dX3_maySend_75 : decode cX3_maySend 75 = .ok (.iconst 3, 1) := dk_6 (dk_at dksX3_maySend_3 3 rfl rfl)
theorem dX3_maySend_76 : decode cX3_maySend 76 = .ok (.iaload, 1) := dk_46 (dk_at dksX3_maySend_3 4 rfl rfl)
theorem dX3_maySend_77 : decode cX3_maySend 77 = .ok (.if_icmp .ge 7, 3) := dk_162 0 7 (dk_at dksX3_maySend_3 5 rfl rfl)
theorem dX3_maySend_80 : decode cX3_maySend 80 = .ok (.iconst 1, 1) := dk_4 (dk_at dksX3_maySend_3 8 rfl rfl)
theorem dX3_maySend_81 : decode cX3_maySend 81 = .ok (.goto 4, 3) := dk_167 0 4 (dk_at dksX3_maySend_3 9 rfl rfl)
theorem dX3_maySend_84 : decode cX3_maySend 84 = .ok (.iconst 0, 1) := dk_3 (dk_at dksX3_maySend_3 12 rfl rfl)
theorem dX3_maySend_85 : decode cX3_maySend 85 = .ok (.ireturn, 1) := dk_172 (dk_at dksX3_maySend_3 13 rfl rfl)
theorem dX3_maySend_86 : decode cX3_maySend 86 = .ok (.aload_n 0, 1) := dk_42 (dk_at dksX3_maySend_3 14 rfl rfl)
theorem dX3_maySend_87 : decode cX3_maySend 87 = .ok (.getfield 9, 3) := dk_180 0 9 (dk_at dksX3_maySend_3 15 rfl rfl)
theorem dX3_maySend_90 : decode cX3_maySend 90 = .ok (.iconst 2, 1) := dk_5 (dk_at dksX3_maySend_3 18 rfl rfl)
theorem dX3_maySend_91 : decode cX3_maySend 91 = .ok (.iaload, 1) := dk_46 (dk_at dksX3_maySend_3 19 rfl rfl)
theorem dX3_maySend_92 : decode cX3_maySend 92 = .ok (.iconst 3, 1) := dk_6 (dk_at dksX3_maySend_3 20 rfl rfl)
theorem dX3_maySend_93 : decode cX3_maySend 93 = .ok (.if_icmp .ne 10, 3) := dk_160 0 10 (dk_at dksX3_maySend_3 21 rfl rfl)
theorem dX3_maySend_96 : decode cX3_maySend 96 = .ok (.iload_n 3, 1) := dk_29 (dk_at dksX3_maySend_4 0 rfl rfl)
theorem dX3_maySend_97 : decode cX3_maySend 97 = .ok (.iconst (-1), 1) := dk_2 (dk_at dksX3_maySend_4 1 rfl rfl)
theorem dX3_maySend_98 : decode cX3_maySend 98 = .ok (.if_icmp .ne 5, 3) := dk_160 0 5 (dk_at dksX3_maySend_4 2 rfl rfl)
theorem dX3_maySend_101 : decode cX3_maySend 101 = .ok (.iconst 1, 1) := dk_4 (dk_at dksX3_maySend_4 5 rfl rfl)
theorem dX3_maySend_102 : decode cX3_maySend 102 = .ok (.ireturn, 1) := dk_172 (dk_at dksX3_maySend_4 6 rfl rfl)
theorem dX3_maySend_103 : decode cX3_maySend 103 = .ok (.aload_n 0, 1) := dk_42 (dk_at dksX3_maySend_4 7 rfl rfl)
theorem dX3_maySend_104 : decode cX3_maySend 104 = .ok (.getfield 9, 3) := dk_180 0 9 (dk_at dksX3_maySend_4 8 rfl rfl)
theorem dX3_maySend_107 : decode cX3_maySend 107 = .ok (.iconst 2, 1) := dk_5 (dk_at dksX3_maySend_4 11 rfl rfl)
theorem dX3_maySend_108 : decode cX3_maySend 108 = .ok (.iaload, 1) := dk_46 (dk_at dksX3_maySend_4 12 rfl rfl)
theorem dX3_maySend_109 : decode cX3_maySend 109 = .ok (.iconst 2, 1) := dk_5 (dk_at dksX3_maySend_4 13 rfl rfl)
theorem dX3_maySend_110 : decode cX3_maySend 110 = .ok (.if_icmp .ne 19, 3) := dk_160 0 19 (dk_at dksX3_maySend_4 14 rfl rfl)
theorem dX3_maySend_113 : decode cX3_maySend 113 = .ok (.aload_n 0, 1) := dk_42 (dk_at dksX3_maySend_4 17 rfl rfl)
theorem dX3_maySend_114 : decode cX3_maySend 114 = .ok (.iload_n 1, 1) := dk_27 (dk_at dksX3_maySend_4 18 rfl rfl)
theorem dX3_maySend_115 : decode cX3_maySend 115 = .ok (.invokevirtual 150, 3) := dk_182 0 150 (dk_at dksX3_maySend_4 19 rfl rfl)
theorem dX3_maySend_118 : decode cX3_maySend 118 = .ok (.aload_n 0, 1) := dk_42 (dk_at dksX3_maySend_4 22 rfl rfl)
theorem dX3_maySend_119 : decode cX3_maySend 119 = .ok (.iconst 1, 1) := dk_4 (dk_at dksX3_maySend_4 23 rfl rfl)
theorem dX3_maySend_120 : decode cX3_maySend 120 = .ok (.iload_n 1, 1) := dk_27 (dk_at dksX3_maySend_5 0 rfl rfl)
theorem dX3_maySend_121 : decode cX3_maySend 121 = .ok (.isub, 1) := dk_100 (dk_at dksX3_maySend_5 1 rfl rfl)
theorem dX3_maySend_122 : decode cX3_maySend 122 = .ok (.invokevirtual 150, 3) := dk_182 0 150 (dk_at dksX3_maySend_5 2 rfl rfl)
theorem dX3_maySend_125 : decode cX3_maySend 125 = .ok (.isub, 1) := dk_100 (dk_at dksX3_maySend_5 5 rfl rfl)
theorem dX3_maySend_126 : decode cX3_maySend 126 = .ok (.goto 18, 3) := dk_167 0 18 (dk_at dksX3_maySend_5 6 rfl rfl)
theorem dX3_maySend_129 : decode cX3_maySend 129 = .ok (.aload_n 0, 1) := dk_42 (dk_at dksX3_maySend_5 9 rfl rfl)
theorem dX3_maySend_130 : decode cX3_maySend 130 = .ok (.iload_n 2, 1) := dk_28 (dk_at dksX3_maySend_5 10 rfl rfl)
theorem dX3_maySend_131 : decode cX3_maySend 131 = .ok (.bipush 7, 2) := dk_16 7 (dk_at dksX3_maySend_5 11 rfl rfl)
theorem dX3_maySend_133 : decode cX3_maySend 133 = .ok (.invokevirtual 64, 3) := dk_182 0 64 (dk_at dksX3_maySend_5 13 rfl rfl)
theorem dX3_maySend_136 : decode cX3_maySend 136 = .ok (.aload_n 0, 1) := dk_42 (dk_at dksX3_maySend_5 16 rfl rfl)
theorem dX3_maySend_137 : decode cX3_maySend 137 = .ok (.iload_n 3, 1) := dk_29 (dk_at dksX3_maySend_5 17 rfl rfl)
theorem dX3_maySend_138 : decode cX3_maySend 138 = .ok (.bipush 7, 2) := dk_16 7 (dk_at dksX3_maySend_5 18 rfl rfl)
theorem dX3_maySend_140 : decode cX3_maySend 140 = .ok (.invokevirtual 64, 3) := dk_182 0 64 (dk_at dksX3_maySend_5 20 rfl rfl)
theorem dX3_maySend_143 : decode cX3_maySend 143 = .ok (.isub, 1) := dk_100 (dk_at dksX3_maySend_5 23 rfl rfl)
theorem dX3_maySend_144 : decode cX3_maySend 144 = .ok (.istore 4, 2) := dk_54 4 (dk_at dksX3_maySend_6 0 rfl rfl)
theorem dX3_maySend_146 : decode cX3_maySend 146 = .ok (.iload 4, 2) := dk_21 4 (dk_at dksX3_maySend_6 2 rfl rfl)
theorem dX3_maySend_148 : decode cX3_maySend 148 = .ok (.ifCond .gt 12, 3) := dk_157 0 12 (dk_at dksX3_maySend_6 4 rfl rfl)
theorem dX3_maySend_151 : decode cX3_maySend 151 = .ok (.iload 4, 2) := dk_21 4 (dk_at dksX3_maySend_6 7 rfl rfl)
theorem dX3_maySend_153 : decode cX3_maySend 153 = .ok (.ifCond .ne 11, 3) := dk_154 0 11 (dk_at dksX3_maySend_6 9 rfl rfl)
theorem dX3_maySend_156 : decode cX3_maySend 156 = .ok (.iload_n 1, 1) := dk_27 (dk_at dksX3_maySend_6 12 rfl rfl)
theorem dX3_maySend_157 : decode cX3_maySend 157 = .ok (.ifCond .ne 7, 3) := dk_154 0 7 (dk_at dksX3_maySend_6 13 rfl rfl)
theorem dX3_maySend_160 : decode cX3_maySend 160 = .ok (.iconst 1, 1) := dk_4 (dk_at dksX3_maySend_6 16 rfl rfl)
theorem dX3_maySend_161 : decode cX3_maySend 161 = .ok (.goto 4, 3) := dk_167 0 4 (dk_at dksX3_maySend_6 17 rfl rfl)
theorem dX3_maySend_164 : decode cX3_maySend 164 = .ok (.iconst 0, 1) := dk_3 (dk_at dksX3_maySend_6 20 rfl rfl)
theorem dX3_maySend_165 : decode cX3_maySend 165 = .ok (.ireturn, 1) := dk_172 (dk_at dksX3_maySend_6 21 rfl rfl)
abbrev cX3_headsTo : ByteArray := prog_14_method_44_code
def yX3_headsTo : MethodName := ⟨RX3, "headsTo", "(I)Z"⟩
def dkwX3_headsTo_1 : List UInt8 := [182, 0, 64, 27, 160, 0, 5, 4, 172, 132, 2, 1, 167, 255, 223, 3, 172]
abbrev dktX3_headsTo_1 : List UInt8 := dkwX3_headsTo_1 ++ []
def dkwX3_headsTo_0 : List UInt8 := [3, 61, 28, 42, 180, 0, 9, 3, 46, 162, 0, 29, 42, 28, 182, 0, 108, 153, 0, 15, 42, 28, 7]
abbrev dktX3_headsTo_0 : List UInt8 := dkwX3_headsTo_0 ++ dktX3_headsTo_1
theorem dksX3_headsTo_0 : cX3_headsTo.data.toList.drop 0 = dktX3_headsTo_0 := by decide +kernel
theorem dksX3_headsTo_1 : cX3_headsTo.data.toList.drop 23 = dktX3_headsTo_1 := dk_seg dksX3_headsTo_0 23 rfl rfl
theorem dX3_headsTo_0 : decode cX3_headsTo 0 = .ok (.iconst 0, 1) := dk_3 (dk_at dksX3_headsTo_0 0 rfl rfl)
theorem dX3_headsTo_1 : decode cX3_headsTo 1 = .ok (.istore_n 2, 1) := dk_61 (dk_at dksX3_headsTo_0 1 rfl rfl)
theorem dX3_headsTo_2 : decode cX3_headsTo 2 = .ok (.iload_n 2, 1) := dk_28 (dk_at dksX3_headsTo_0 2 rfl rfl)
theorem dX3_headsTo_3 : decode cX3_headsTo 3 = .ok (.aload_n 0, 1) := dk_42 (dk_at dksX3_headsTo_0 3 rfl rfl)
theorem dX3_headsTo_4 : decode cX3_headsTo 4 = .ok (.getfield 9, 3) := dk_180 0 9 (dk_at dksX3_headsTo_0 4 rfl rfl)
theorem dX3_headsTo_7 : decode cX3_headsTo 7 = .ok (.iconst 0, 1) := dk_3 (dk_at dksX3_headsTo_0 7 rfl rfl)
theorem dX3_headsTo_8 : decode cX3_headsTo 8 = .ok (.iaload, 1) := dk_46 (dk_at dksX3_headsTo_0 8 rfl rfl)
theorem dX3_headsTo_9 : decode cX3_headsTo 9 = .ok (.if_icmp .ge 29, 3) := dk_162 0 29 (dk_at dksX3_headsTo_0 9 rfl rfl)
theorem dX3_headsTo_12 : decode cX3_headsTo 12 = .ok (.aload_n 0, 1) := dk_42 (dk_at dksX3_headsTo_0 12 rfl rfl)
theorem dX3_headsTo_13 : decode cX3_headsTo 13 = .ok (.iload_n 2, 1) := dk_28 (dk_at dksX3_headsTo_0 13 rfl rfl)
theorem dX3_headsTo_14 : decode cX3_headsTo 14 = .ok (.invokevirtual 108, 3) := dk_182 0 108 (dk_at dksX3_headsTo_0 14 rfl rfl)
theorem dX3_headsTo_17 : decode cX3_headsTo 17 = .ok (.ifCond .eq 15, 3) := dk_153 0 15 (dk_at dksX3_headsTo_0 17 rfl rfl)
theorem dX3_headsTo_20 : decode cX3_headsTo 20 = .ok (.aload_n 0, 1) := dk_42 (dk_at dksX3_headsTo_0 20 rfl rfl)
theorem dX3_headsTo_21 : decode cX3_headsTo 21 = .ok (.iload_n 2, 1) := dk_28 (dk_at dksX3_headsTo_0 21 rfl rfl)
theorem dX3_headsTo_22 : decode cX3_headsTo 22 = .ok (.iconst 4, 1) := dk_7 (dk_at dksX3_headsTo_0 22 rfl rfl)
theorem dX3_headsTo_23 : decode cX3_headsTo 23 = .ok (.invokevirtual 64, 3) := dk_182 0 64 (dk_at dksX3_headsTo_1 0 rfl rfl)
theorem dX3_headsTo_26 : decode cX3_headsTo 26 = .ok (.iload_n 1, 1) := dk_27 (dk_at dksX3_headsTo_1 3 rfl rfl)
theorem dX3_headsTo_27 : decode cX3_headsTo 27 = .ok (.if_icmp .ne 5, 3) := dk_160 0 5 (dk_at dksX3_headsTo_1 4 rfl rfl)
theorem dX3_headsTo_30 : decode cX3_headsTo 30 = .ok (.iconst 1, 1) := dk_4 (dk_at dksX3_headsTo_1 7 rfl rfl)
theorem dX3_headsTo_31 : decode cX3_headsTo 31 = .ok (.ireturn, 1) := dk_172 (dk_at dksX3_headsTo_1 8 rfl rfl)
theorem dX3_headsTo_32 : decode cX3_headsTo 32 = .ok (.iinc 2 1, 3) := dk_132 2 1 (dk_at dksX3_headsTo_1 9 rfl rfl)
theorem dX3_headsTo_35 : decode cX3_headsTo 35 = .ok (.goto (-33), 3) := dk_167 255 223 (dk_at dksX3_headsTo_1 12 rfl rfl)
theorem dX3_headsTo_38 : decode cX3_headsTo 38 = .ok (.iconst 0, 1) := dk_3 (dk_at dksX3_headsTo_1 15 rfl rfl)
theorem dX3_headsTo_39 : decode cX3_headsTo 39 = .ok (.ireturn, 1) := dk_172 (dk_at dksX3_headsTo_1 16 rfl rfl)
abbrev cX3_loadsOf : ByteArray := prog_14_method_19_code
def yX3_loadsOf : MethodName := ⟨RX3, "loadsOf", "(I)I"⟩
def dkwX3_loadsOf_1 : List UInt8 := [42, 29, 4, 182, 0, 64, 167, 0, 4, 3, 96, 61, 132, 3, 1, 167, 255, 221, 28, 172]
abbrev dktX3_loadsOf_1 : List UInt8 := dkwX3_loadsOf_1 ++ []
def dkwX3_loadsOf_0 : List UInt8 := [3, 61, 3, 62, 29, 42, 180, 0, 9, 3, 46, 162, 0, 31, 28, 42, 29, 27, 182, 0, 68, 153, 0, 12]
abbrev dktX3_loadsOf_0 : List UInt8 := dkwX3_loadsOf_0 ++ dktX3_loadsOf_1
theorem dksX3_loadsOf_0 : cX3_loadsOf.data.toList.drop 0 = dktX3_loadsOf_0 := by decide +kernel
theorem dksX3_loadsOf_1 : cX3_loadsOf.data.toList.drop 24 = dktX3_loadsOf_1 := dk_seg dksX3_loadsOf_0 24 rfl rfl
theorem dX3_loadsOf_0 : decode cX3_loadsOf 0 = .ok (.iconst 0, 1) := dk_3 (dk_at dksX3_loadsOf_0 0 rfl rfl)
theorem dX3_loadsOf_1 : decode cX3_loadsOf 1 = .ok (.istore_n 2, 1) := dk_61 (dk_at dksX3_loadsOf_0 1 rfl rfl)
theorem dX3_loadsOf_2 : decode cX3_loadsOf 2 = .ok (.iconst 0, 1) := dk_3 (dk_at dksX3_loadsOf_0 2 rfl rfl)
theorem dX3_loadsOf_3 : decode cX3_loadsOf 3 = .ok (.istore_n 3, 1) := dk_62 (dk_at dksX3_loadsOf_0 3 rfl rfl)
theorem dX3_loadsOf_4 : decode cX3_loadsOf 4 = .ok (.iload_n 3, 1) := dk_29 (dk_at dksX3_loadsOf_0 4 rfl rfl)
theorem dX3_loadsOf_5 : decode cX3_loadsOf 5 = .ok (.aload_n 0, 1) := dk_42 (dk_at dksX3_loadsOf_0 5 rfl rfl)
theorem dX3_loadsOf_6 : decode cX3_loadsOf 6 = .ok (.getfield 9, 3) := dk_180 0 9 (dk_at dksX3_loadsOf_0 6 rfl rfl)
theorem dX3_loadsOf_9 : decode cX3_loadsOf 9 = .ok (.iconst 0, 1) := dk_3 (dk_at dksX3_loadsOf_0 9 rfl rfl)
theorem dX3_loadsOf_10 : decode cX3_loadsOf 10 = .ok (.iaload, 1) := dk_46 (dk_at dksX3_loadsOf_0 10 rfl rfl)
theorem dX3_loadsOf_11 : decode cX3_loadsOf 11 = .ok (.if_icmp .ge 31, 3) := dk_162 0 31 (dk_at dksX3_loadsOf_0 11 rfl rfl)
theorem dX3_loadsOf_14 : decode cX3_loadsOf 14 = .ok (.iload_n 2, 1) := dk_28 (dk_at dksX3_loadsOf_0 14 rfl rfl)
theorem dX3_loadsOf_15 : decode cX3_loadsOf 15 = .ok (.aload_n 0, 1) := dk_42 (dk_at dksX3_loadsOf_0 15 rfl rfl)
theorem dX3_loadsOf_16 : decode cX3_loadsOf 16 = .ok (.iload_n 3, 1) := dk_29 (dk_at dksX3_loadsOf_0 16 rfl rfl)
theorem dX3_loadsOf_17 : decode cX3_loadsOf 17 = .ok (.iload_n 1, 1) := dk_27 (dk_at dksX3_loadsOf_0 17 rfl rfl)
theorem dX3_loadsOf_18 : decode cX3_loadsOf 18 = .ok (.invokevirtual 68, 3) := dk_182 0 68 (dk_at dksX3_loadsOf_0 18 rfl rfl)
theorem dX3_loadsOf_21 : decode cX3_loadsOf 21 = .ok (.ifCond .eq 12, 3) := dk_153 0 12 (dk_at dksX3_loadsOf_0 21 rfl rfl)
theorem dX3_loadsOf_24 : decode cX3_loadsOf 24 = .ok (.aload_n 0, 1) := dk_42 (dk_at dksX3_loadsOf_1 0 rfl rfl)
theorem dX3_loadsOf_25 : decode cX3_loadsOf 25 = .ok (.iload_n 3, 1) := dk_29 (dk_at dksX3_loadsOf_1 1 rfl rfl)
theorem dX3_loadsOf_26 : decode cX3_loadsOf 26 = .ok (.iconst 1, 1) := dk_4 (dk_at dksX3_loadsOf_1 2 rfl rfl)
theorem dX3_loadsOf_27 : decode cX3_loadsOf 27 = .ok (.invokevirtual 64, 3) := dk_182 0 64 (dk_at dksX3_loadsOf_1 3 rfl rfl)
theorem dX3_loadsOf_30 : decode cX3_loadsOf 30 = .ok (.goto 4, 3) := dk_167 0 4 (dk_at dksX3_loadsOf_1 6 rfl rfl)
theorem dX3_loadsOf_33 : decode cX3_loadsOf 33 = .ok (.iconst 0, 1) := dk_3 (dk_at dksX3_loadsOf_1 9 rfl rfl)
theorem dX3_loadsOf_34 : decode cX3_loadsOf 34 = .ok (.iadd, 1) := dk_96 (dk_at dksX3_loadsOf_1 10 rfl rfl)
theorem dX3_loadsOf_35 : decode cX3_loadsOf 35 = .ok (.istore_n 2, 1) := dk_61 (dk_at dksX3_loadsOf_1 11 rfl rfl)
theorem dX3_loadsOf_36 : decode cX3_loadsOf 36 = .ok (.iinc 3 1, 3) := dk_132 3 1 (dk_at dksX3_loadsOf_1 12 rfl rfl)
theorem dX3_loadsOf_39 : decode cX3_loadsOf 39 = .ok (.goto (-35), 3) := dk_167 255 221 (dk_at dksX3_loadsOf_1 15 rfl rfl)
theorem dX3_loadsOf_42 : decode cX3_loadsOf 42 = .ok (.iload_n 2, 1) := dk_28 (dk_at dksX3_loadsOf_1 18 rfl rfl)
theorem dX3_loadsOf_43 : decode cX3_loadsOf 43 = .ok (.ireturn, 1) := dk_172 (dk_at dksX3_loadsOf_1 19 rfl rfl)
abbrev cX3_cartOf : ByteArray := prog_14_method_51_code
def yX3_cartOf : MethodName := ⟨RX3, "cartOf", "(II)I"⟩
def dkwX3_cartOf_5 : List UInt8 := [27, 182, 0, 72, 167, 0, 4, 2, 172, 42, 27, 28, 182, 0, 64, 172]
abbrev dktX3_cartOf_5 : List UInt8 := dkwX3_cartOf_5 ++ []
def dkwX3_cartOf_4 : List UInt8 := [153, 0, 12, 42, 27, 7, 182, 0, 64, 167, 0, 4, 2, 172, 42, 27, 5, 182, 0, 64, 154, 0, 11, 42]
abbrev dktX3_cartOf_4 : List UInt8 := dkwX3_cartOf_4 ++ dktX3_cartOf_5
def dkwX3_cartOf_3 : List UInt8 := [42, 27, 182, 0, 108, 153, 0, 12, 42, 27, 6, 182, 0, 64, 167, 0, 4, 2, 172, 42, 27, 182, 0, 108]
abbrev dktX3_cartOf_3 : List UInt8 := dkwX3_cartOf_3 ++ dktX3_cartOf_4
def dkwX3_cartOf_2 : List UInt8 := [170, 0, 0, 0, 0, 0, 92, 0, 0, 0, 3, 0, 0, 0, 7, 0, 0, 0, 35, 0, 0, 0, 54, 0, 0, 0, 92, 0, 0, 0, 92, 0, 0, 0, 73]
abbrev dktX3_cartOf_2 : List UInt8 := dkwX3_cartOf_2 ++ dktX3_cartOf_3
def dkwX3_cartOf_1 : List UInt8 := [167, 0, 4, 5, 181, 0, 27, 42, 180, 0, 27, 153, 0, 5, 3, 172, 28]
abbrev dktX3_cartOf_1 : List UInt8 := dkwX3_cartOf_1 ++ dktX3_cartOf_2
def dkwX3_cartOf_0 : List UInt8 := [42, 42, 27, 182, 0, 60, 154, 0, 7, 4, 167, 0, 18, 28, 3, 16, 7, 184, 0, 49, 153, 0, 7, 3]
abbrev dktX3_cartOf_0 : List UInt8 := dkwX3_cartOf_0 ++ dktX3_cartOf_1
theorem dksX3_cartOf_0 : cX3_cartOf.data.toList.drop 0 = dktX3_cartOf_0 := by decide +kernel
theorem dksX3_cartOf_1 : cX3_cartOf.data.toList.drop 24 = dktX3_cartOf_1 := dk_seg dksX3_cartOf_0 24 rfl rfl
theorem dksX3_cartOf_2 : cX3_cartOf.data.toList.drop 41 = dktX3_cartOf_2 := dk_seg dksX3_cartOf_1 17 rfl rfl
theorem dksX3_cartOf_3 : cX3_cartOf.data.toList.drop 76 = dktX3_cartOf_3 := dk_seg dksX3_cartOf_2 35 rfl rfl
theorem dksX3_cartOf_4 : cX3_cartOf.data.toList.drop 100 = dktX3_cartOf_4 := dk_seg dksX3_cartOf_3 24 rfl rfl
theorem dksX3_cartOf_5 : cX3_cartOf.data.toList.drop 124 = dktX3_cartOf_5 := dk_seg dksX3_cartOf_4 24 rfl rfl
theorem dX3_cartOf_0 : decode cX3_cartOf 0 = .ok (.aload_n 0, 1) := dk_42 (dk_at dksX3_cartOf_0 0 rfl rfl)
theorem dX3_cartOf_1 : decode cX3_cartOf 1 = .ok (.aload_n 0, 1) := dk_42 (dk_at dksX3_cartOf_0 1 rfl rfl)
theorem dX3_cartOf_2 : decode cX3_cartOf 2 = .ok (.iload_n 1, 1) := dk_27 (dk_at dksX3_cartOf_0 2 rfl rfl)
theorem dX3_cartOf_3 : decode cX3_cartOf 3 = .ok (.invokevirtual 60, 3) := dk_182 0 60 (dk_at dksX3_cartOf_0 3 rfl rfl)
theorem dX3_cartOf_6 : decode cX3_cartOf 6 = .ok (.ifCond .ne 7, 3) := dk_154 0 7 (dk_at dksX3_cartOf_0 6 rfl rfl)
theorem dX3_cartOf_9 : decode cX3_cartOf 9 = .ok (.iconst 1, 1) := dk_4 (dk_at dksX3_cartOf_0 9 rfl rfl)
theorem dX3_cartOf_10 : decode cX3_cartOf 10 = .ok (.goto 18, 3) := dk_167 0 18 (dk_at dksX3_cartOf_0 10 rfl rfl)
theorem dX3_cartOf_13 : decode cX3_cartOf 13 = .ok (.iload_n 2, 1) := dk_28 (dk_at dksX3_cartOf_0 13 rfl rfl)
theorem dX3_cartOf_14 : decode cX3_cartOf 14 = .ok (.iconst 0, 1) := dk_3 (dk_at dksX3_cartOf_0 14 rfl rfl)
theorem dX3_cartOf_15 : decode cX3_cartOf 15 = .ok (.bipush 7, 2) := dk_16 7 (dk_at dksX3_cartOf_0 15 rfl rfl)
theorem dX3_cartOf_17 : decode cX3_cartOf 17 = .ok (.invokestatic 49, 3) := dk_184 0 49 (dk_at dksX3_cartOf_0 17 rfl rfl)
theorem dX3_cartOf_20 : decode cX3_cartOf 20 = .ok (.ifCond .eq 7, 3) := dk_153 0 7 (dk_at dksX3_cartOf_0 20 rfl rfl)
theorem dX3_cartOf_23 : decode cX3_cartOf 23 = .ok (.iconst 0, 1) := dk_3 (dk_at dksX3_cartOf_0 23 rfl rfl)
theorem dX3_cartOf_24 : decode cX3_cartOf 24 = .ok (.goto 4, 3) := dk_167 0 4 (dk_at dksX3_cartOf_1 0 rfl rfl)
theorem dX3_cartOf_27 : decode cX3_cartOf 27 = .ok (.iconst 2, 1) := dk_5 (dk_at dksX3_cartOf_1 3 rfl rfl)
theorem dX3_cartOf_28 : decode cX3_cartOf 28 = .ok (.putfield 27, 3) := dk_181 0 27 (dk_at dksX3_cartOf_1 4 rfl rfl)
theorem dX3_cartOf_31 : decode cX3_cartOf 31 = .ok (.aload_n 0, 1) := dk_42 (dk_at dksX3_cartOf_1 7 rfl rfl)
theorem dX3_cartOf_32 : decode cX3_cartOf 32 = .ok (.getfield 27, 3) := dk_180 0 27 (dk_at dksX3_cartOf_1 8 rfl rfl)
theorem dX3_cartOf_35 : decode cX3_cartOf 35 = .ok (.ifCond .eq 5, 3) := dk_153 0 5 (dk_at dksX3_cartOf_1 11 rfl rfl)
theorem dX3_cartOf_38 : decode cX3_cartOf 38 = .ok (.iconst 0, 1) := dk_3 (dk_at dksX3_cartOf_1 14 rfl rfl)
theorem dX3_cartOf_39 : decode cX3_cartOf 39 = .ok (.ireturn, 1) := dk_172 (dk_at dksX3_cartOf_1 15 rfl rfl)
theorem dX3_cartOf_40 : decode cX3_cartOf 40 = .ok (.iload_n 2, 1) := dk_28 (dk_at dksX3_cartOf_1 16 rfl rfl)
theorem dX3_cartOf_41 : decode cX3_cartOf 41 = .ok (.tableswitch 92 3 7 #[35, 54, 92, 92, 73], 35) := by decide +kernel
theorem dX3_cartOf_76 : decode cX3_cartOf 76 = .ok (.aload_n 0, 1) := dk_42 (dk_at dksX3_cartOf_3 0 rfl rfl)
theorem dX3_cartOf_77 : decode cX3_cartOf 77 = .ok (.iload_n 1, 1) := dk_27 (dk_at dksX3_cartOf_3 1 rfl rfl)
theorem dX3_cartOf_78 : decode cX3_cartOf 78 = .ok (.invokevirtual 108, 3) := dk_182 0 108 (dk_at dksX3_cartOf_3 2 rfl rfl)
theorem dX3_cartOf_81 : decode cX3_cartOf 81 = .ok (.ifCond .eq 12, 3) := dk_153 0 12 (dk_at dksX3_cartOf_3 5 rfl rfl)
theorem dX3_cartOf_84 : decode cX3_cartOf 84 = .ok (.aload_n 0, 1) := dk_42 (dk_at dksX3_cartOf_3 8 rfl rfl)
theorem dX3_cartOf_85 : decode cX3_cartOf 85 = .ok (.iload_n 1, 1) := dk_27 (dk_at dksX3_cartOf_3 9 rfl rfl)
theorem dX3_cartOf_86 : decode cX3_cartOf 86 = .ok (.iconst 3, 1) := dk_6 (dk_at dksX3_cartOf_3 10 rfl rfl)
theorem dX3_cartOf_87 : decode cX3_cartOf 87 = .ok (.invokevirtual 64, 3) := dk_182 0 64 (dk_at dksX3_cartOf_3 11 rfl rfl)
theorem dX3_cartOf_90 : decode cX3_cartOf 90 = .ok (.goto 4, 3) := dk_167 0 4 (dk_at dksX3_cartOf_3 14 rfl rfl)
theorem dX3_cartOf_93 : decode cX3_cartOf 93 = .ok (.iconst (-1), 1) := dk_2 (dk_at dksX3_cartOf_3 17 rfl rfl)
theorem dX3_cartOf_94 : decode cX3_cartOf 94 = .ok (.ireturn, 1) := dk_172 (dk_at dksX3_cartOf_3 18 rfl rfl)
theorem dX3_cartOf_95 : decode cX3_cartOf 95 = .ok (.aload_n 0, 1) := dk_42 (dk_at dksX3_cartOf_3 19 rfl rfl)
theorem dX3_cartOf_96 : decode cX3_cartOf 96 = .ok (.iload_n 1, 1) := dk_27 (dk_at dksX3_cartOf_3 20 rfl rfl)
theorem dX3_cartOf_97 : decode cX3_cartOf 97 = .ok (.invokevirtual 108, 3) := dk_182 0 108 (dk_at dksX3_cartOf_3 21 rfl rfl)
theorem dX3_cartOf_100 : decode cX3_cartOf 100 = .ok (.ifCond .eq 12, 3) := dk_153 0 12 (dk_at dksX3_cartOf_4 0 rfl rfl)
theorem dX3_cartOf_103 : decode cX3_cartOf 103 = .ok (.aload_n 0, 1) := dk_42 (dk_at dksX3_cartOf_4 3 rfl rfl)
theorem dX3_cartOf_104 : decode cX3_cartOf 104 = .ok (.iload_n 1, 1) := dk_27 (dk_at dksX3_cartOf_4 4 rfl rfl)
theorem dX3_cartOf_105 : decode cX3_cartOf 105 = .ok (.iconst 4, 1) := dk_7 (dk_at dksX3_cartOf_4 5 rfl rfl)
theorem dX3_cartOf_106 : decode cX3_cartOf 106 = .ok (.invokevirtual 64, 3) := dk_182 0 64 (dk_at dksX3_cartOf_4 6 rfl rfl)
theorem dX3_cartOf_109 : decode cX3_cartOf 109 = .ok (.goto 4, 3) := dk_167 0 4 (dk_at dksX3_cartOf_4 9 rfl rfl)
theorem dX3_cartOf_112 : decode cX3_cartOf 112 = .ok (.iconst (-1), 1) := dk_2 (dk_at dksX3_cartOf_4 12 rfl rfl)
theorem dX3_cartOf_113 : decode cX3_cartOf 113 = .ok (.ireturn, 1) := dk_172 (dk_at dksX3_cartOf_4 13 rfl rfl)
theorem dX3_cartOf_114 : decode cX3_cartOf 114 = .ok (.aload_n 0, 1) := dk_42 (dk_at dksX3_cartOf_4 14 rfl rfl)
theorem dX3_cartOf_115 : decode cX3_cartOf 115 = .ok (.iload_n 1, 1) := dk_27 (dk_at dksX3_cartOf_4 15 rfl rfl)
theorem dX3_cartOf_116 : decode cX3_cartOf 116 = .ok (.iconst 2, 1) := dk_5 (dk_at dksX3_cartOf_4 16 rfl rfl)
theorem dX3_cartOf_117 : decode cX3_cartOf 117 = .ok (.invokevirtual 64, 3) := dk_182 0 64 (dk_at dksX3_cartOf_4 17 rfl rfl)
theorem dX3_cartOf_120 : decode cX3_cartOf 120 = .ok (.ifCond .ne 11, 3) := dk_154 0 11 (dk_at dksX3_cartOf_4 20 rfl rfl)
theorem dX3_cartOf_123 : decode cX3_cartOf 123 = .ok (.aload_n 0, 1) := dk_42 (dk_at dksX3_cartOf_4 23 rfl rfl)
theorem dX3_cartOf_124 : decode cX3_cartOf 124 = .ok (.iload_n 1, 1) := dk_27 (dk_at dksX3_cartOf_5 0 rfl rfl)
theorem dX3_cartOf_125 : decode cX3_cartOf 125 = .ok (.invokevirtual 72, 3) := dk_182 0 72 (dk_at dksX3_cartOf_5 1 rfl rfl)
theorem dX3_cartOf_128 : decode cX3_cartOf 128 = .ok (.goto 4, 3) := dk_167 0 4 (dk_at dksX3_cartOf_5 4 rfl rfl)
theorem dX3_cartOf_131 : decode cX3_cartOf 131 = .ok (.iconst (-1), 1) := dk_2 (dk_at dksX3_cartOf_5 7 rfl rfl)
theorem dX3_cartOf_132 : decode cX3_cartOf 132 = .ok (.ireturn, 1) := dk_172 (dk_at dksX3_cartOf_5 8 rfl rfl)
theorem dX3_cartOf_133 : decode cX3_cartOf 133 = .ok (.aload_n 0, 1) := dk_42 (dk_at dksX3_cartOf_5 9 rfl rfl)
theorem dX3_cartOf_134 : decode cX3_cartOf 134 = .ok (.iload_n 1, 1) := dk_27 (dk_at dksX3_cartOf_5 10 rfl rfl)
theorem dX3_cartOf_135 : decode cX3_cartOf 135 = .ok (.iload_n 2, 1) := dk_28 (dk_at dksX3_cartOf_5 11 rfl rfl)
theorem dX3_cartOf_136 : decode cX3_cartOf 136 = .ok (.invokevirtual 64, 3) := dk_182 0 64 (dk_at dksX3_cartOf_5 12 rfl rfl)
theorem dX3_cartOf_139 : decode cX3_cartOf 139 = .ok (.ireturn, 1) := dk_172 (dk_at dksX3_cartOf_5 15 rfl rfl)
abbrev cX3_waited : ByteArray := prog_14_method_52_code
def yX3_waited : MethodName := ⟨RX3, "waited", "(I)I"⟩
def dkwX3_waited_0 : List UInt8 := [42, 42, 27, 182, 0, 60, 182, 0, 172, 153, 0, 13, 42, 27, 16, 7, 182, 0, 64, 167, 0, 4, 3, 172]
abbrev dktX3_waited_0 : List UInt8 := dkwX3_waited_0 ++ []
theorem dksX3_waited_0 : cX3_waited.data.toList.drop 0 = dktX3_waited_0 := by decide +kernel
theorem dX3_waited_0 : decode cX3_waited 0 = .ok (.aload_n 0, 1) := dk_42 (dk_at dksX3_waited_0 0 rfl rfl)
theorem dX3_waited_1 : decode cX3_waited 1 = .ok (.aload_n 0, 1) := dk_42 (dk_at dksX3_waited_0 1 rfl rfl)
theorem dX3_waited_2 : decode cX3_waited 2 = .ok (.iload_n 1, 1) := dk_27 (dk_at dksX3_waited_0 2 rfl rfl)
theorem dX3_waited_3 : decode cX3_waited 3 = .ok (.invokevirtual 60, 3) := dk_182 0 60 (dk_at dksX3_waited_0 3 rfl rfl)
theorem dX3_waited_6 : decode cX3_waited 6 = .ok (.invokevirtual 172, 3) := dk_182 0 172 (dk_at dksX3_waited_0 6 rfl rfl)
theorem dX3_waited_9 : decode cX3_waited 9 = .ok (.ifCond .eq 13, 3) := dk_153 0 13 (dk_at dksX3_waited_0 9 rfl rfl)
theorem dX3_waited_12 : decode cX3_waited 12 = .ok (.aload_n 0, 1) := dk_42 (dk_at dksX3_waited_0 12 rfl rfl)
theorem dX3_waited_13 : decode cX3_waited 13 = .ok (.iload_n 1, 1) := dk_27 (dk_at dksX3_waited_0 13 rfl rfl)
theorem dX3_waited_14 : decode cX3_waited 14 = .ok (.bipush 7, 2) := dk_16 7 (dk_at dksX3_waited_0 14 rfl rfl)
theorem dX3_waited_16 : decode cX3_waited 16 = .ok (.invokevirtual 64, 3) := dk_182 0 64 (dk_at dksX3_waited_0 16 rfl rfl)
theorem dX3_waited_19 : decode cX3_waited 19 = .ok (.goto 4, 3) := dk_167 0 4 (dk_at dksX3_waited_0 19 rfl rfl)
theorem dX3_waited_22 : decode cX3_waited 22 = .ok (.iconst 0, 1) := dk_3 (dk_at dksX3_waited_0 22 rfl rfl)
theorem dX3_waited_23 : decode cX3_waited 23 = .ok (.ireturn, 1) := dk_172 (dk_at dksX3_waited_0 23 rfl rfl)
abbrev cX3_isThere : ByteArray := prog_14_method_8_code
def yX3_isThere : MethodName := ⟨RX3, "isThere", "(Z)Z"⟩
def dkwX3_isThere_0 : List UInt8 := [42, 27, 153, 0, 7, 3, 167, 0, 4, 4, 181, 0, 27, 27, 172]
abbrev dktX3_isThere_0 : List UInt8 := dkwX3_isThere_0 ++ []
theorem dksX3_isThere_0 : cX3_isThere.data.toList.drop 0 = dktX3_isThere_0 := by decide +kernel
theorem dX3_isThere_0 : decode cX3_isThere 0 = .ok (.aload_n 0, 1) := dk_42 (dk_at dksX3_isThere_0 0 rfl rfl)
theorem dX3_isThere_1 : decode cX3_isThere 1 = .ok (.iload_n 1, 1) := dk_27 (dk_at dksX3_isThere_0 1 rfl rfl)
theorem dX3_isThere_2 : decode cX3_isThere 2 = .ok (.ifCond .eq 7, 3) := dk_153 0 7 (dk_at dksX3_isThere_0 2 rfl rfl)
theorem dX3_isThere_5 : decode cX3_isThere 5 = .ok (.iconst 0, 1) := dk_3 (dk_at dksX3_isThere_0 5 rfl rfl)
theorem dX3_isThere_6 : decode cX3_isThere 6 = .ok (.goto 4, 3) := dk_167 0 4 (dk_at dksX3_isThere_0 6 rfl rfl)
theorem dX3_isThere_9 : decode cX3_isThere 9 = .ok (.iconst 1, 1) := dk_4 (dk_at dksX3_isThere_0 9 rfl rfl)
theorem dX3_isThere_10 : decode cX3_isThere 10 = .ok (.putfield 27, 3) := dk_181 0 27 (dk_at dksX3_isThere_0 10 rfl rfl)
theorem dX3_isThere_13 : decode cX3_isThere 13 = .ok (.iload_n 1, 1) := dk_27 (dk_at dksX3_isThere_0 13 rfl rfl)
theorem dX3_isThere_14 : decode cX3_isThere 14 = .ok (.ireturn, 1) := dk_172 (dk_at dksX3_isThere_0 14 rfl rfl)
abbrev cX3_waitedAgain : ByteArray := prog_14_method_53_code
def yX3_waitedAgain : MethodName := ⟨RX3, "waitedAgain", "(I)I"⟩
def dkwX3_waitedAgain_0 : List UInt8 := [42, 27, 182, 0, 176, 172]
abbrev dktX3_waitedAgain_0 : List UInt8 := dkwX3_waitedAgain_0 ++ []
theorem dksX3_waitedAgain_0 : cX3_waitedAgain.data.toList.drop 0 = dktX3_waitedAgain_0 := by decide +kernel
theorem dX3_waitedAgain_0 : decode cX3_waitedAgain 0 = .ok (.aload_n 0, 1) := dk_42 (dk_at dksX3_waitedAgain_0 0 rfl rfl)
theorem dX3_waitedAgain_1 : decode cX3_waitedAgain 1 = .ok (.iload_n 1, 1) := dk_27 (dk_at dksX3_waitedAgain_0 1 rfl rfl)
theorem dX3_waitedAgain_2 : decode cX3_waitedAgain 2 = .ok (.invokevirtual 176, 3) := dk_182 0 176 (dk_at dksX3_waitedAgain_0 2 rfl rfl)
theorem dX3_waitedAgain_5 : decode cX3_waitedAgain 5 = .ok (.ireturn, 1) := dk_172 (dk_at dksX3_waitedAgain_0 5 rfl rfl)
abbrev cX3_waiting : ByteArray := prog_14_method_55_code
def yX3_waiting : MethodName := ⟨RX3, "waiting", "(II)I"⟩
def dkwX3_waiting_1 : List UInt8 := [167, 0, 4, 3, 172]
abbrev dktX3_waiting_1 : List UInt8 := dkwX3_waiting_1 ++ []
def dkwX3_waiting_0 : List UInt8 := [42, 27, 3, 4, 184, 0, 49, 182, 0, 172, 153, 0, 16, 42, 42, 27, 28, 182, 0, 117, 182, 0, 179]
abbrev dktX3_waiting_0 : List UInt8 := dkwX3_waiting_0 ++ dktX3_waiting_1
theorem dksX3_waiting_0 : cX3_waiting.data.toList.drop 0 = dktX3_waiting_0 := by decide +kernel
theorem dksX3_waiting_1 : cX3_waiting.data.toList.drop 23 = dktX3_waiting_1 := dk_seg dksX3_waiting_0 23 rfl rfl
theorem dX3_waiting_0 : decode cX3_waiting 0 = .ok (.aload_n 0, 1) := dk_42 (dk_at dksX3_waiting_0 0 rfl rfl)
theorem dX3_waiting_1 : decode cX3_waiting 1 = .ok (.iload_n 1, 1) := dk_27 (dk_at dksX3_waiting_0 1 rfl rfl)
theorem dX3_waiting_2 : decode cX3_waiting 2 = .ok (.iconst 0, 1) := dk_3 (dk_at dksX3_waiting_0 2 rfl rfl)
theorem dX3_waiting_3 : decode cX3_waiting 3 = .ok (.iconst 1, 1) := dk_4 (dk_at dksX3_waiting_0 3 rfl rfl)
theorem dX3_waiting_4 : decode cX3_waiting 4 = .ok (.invokestatic 49, 3) := dk_184 0 49 (dk_at dksX3_waiting_0 4 rfl rfl)
theorem dX3_waiting_7 : decode cX3_waiting 7 = .ok (.invokevirtual 172, 3) := dk_182 0 172 (dk_at dksX3_waiting_0 7 rfl rfl)
theorem dX3_waiting_10 : decode cX3_waiting 10 = .ok (.ifCond .eq 16, 3) := dk_153 0 16 (dk_at dksX3_waiting_0 10 rfl rfl)
theorem dX3_waiting_13 : decode cX3_waiting 13 = .ok (.aload_n 0, 1) := dk_42 (dk_at dksX3_waiting_0 13 rfl rfl)
theorem dX3_waiting_14 : decode cX3_waiting 14 = .ok (.aload_n 0, 1) := dk_42 (dk_at dksX3_waiting_0 14 rfl rfl)
theorem dX3_waiting_15 : decode cX3_waiting 15 = .ok (.iload_n 1, 1) := dk_27 (dk_at dksX3_waiting_0 15 rfl rfl)
theorem dX3_waiting_16 : decode cX3_waiting 16 = .ok (.iload_n 2, 1) := dk_28 (dk_at dksX3_waiting_0 16 rfl rfl)
theorem dX3_waiting_17 : decode cX3_waiting 17 = .ok (.invokevirtual 117, 3) := dk_182 0 117 (dk_at dksX3_waiting_0 17 rfl rfl)
theorem dX3_waiting_20 : decode cX3_waiting 20 = .ok (.invokevirtual 179, 3) := dk_182 0 179 (dk_at dksX3_waiting_0 20 rfl rfl)
theorem dX3_waiting_23 : decode cX3_waiting 23 = .ok (.goto 4, 3) := dk_167 0 4 (dk_at dksX3_waiting_1 0 rfl rfl)
theorem dX3_waiting_26 : decode cX3_waiting 26 = .ok (.iconst 0, 1) := dk_3 (dk_at dksX3_waiting_1 3 rfl rfl)
theorem dX3_waiting_27 : decode cX3_waiting 27 = .ok (.ireturn, 1) := dk_172 (dk_at dksX3_waiting_1 4 rfl rfl)
abbrev cX3_found : ByteArray := prog_14_method_54_code
def yX3_found : MethodName := ⟨RX3, "found", "(I)I"⟩
def dkwX3_found_1 : List UInt8 := [172]
abbrev dktX3_found_1 : List UInt8 := dkwX3_found_1 ++ []
def dkwX3_found_0 : List UInt8 := [42, 27, 2, 160, 0, 7, 5, 167, 0, 4, 3, 181, 0, 27, 27, 2, 160, 0, 7, 3, 167, 0, 4, 27]
abbrev dktX3_found_0 : List UInt8 := dkwX3_found_0 ++ dktX3_found_1
theorem dksX3_found_0 : cX3_found.data.toList.drop 0 = dktX3_found_0 := by decide +kernel
theorem dksX3_found_1 : cX3_found.data.toList.drop 24 = dktX3_found_1 := dk_seg dksX3_found_0 24 rfl rfl
theorem dX3_found_0 : decode cX3_found 0 = .ok (.aload_n 0, 1) := dk_42 (dk_at dksX3_found_0 0 rfl rfl)
theorem dX3_found_1 : decode cX3_found 1 = .ok (.iload_n 1, 1) := dk_27 (dk_at dksX3_found_0 1 rfl rfl)
theorem dX3_found_2 : decode cX3_found 2 = .ok (.iconst (-1), 1) := dk_2 (dk_at dksX3_found_0 2 rfl rfl)
theorem dX3_found_3 : decode cX3_found 3 = .ok (.if_icmp .ne 7, 3) := dk_160 0 7 (dk_at dksX3_found_0 3 rfl rfl)
theorem dX3_found_6 : decode cX3_found 6 = .ok (.iconst 2, 1) := dk_5 (dk_at dksX3_found_0 6 rfl rfl)
theorem dX3_found_7 : decode cX3_found 7 = .ok (.goto 4, 3) := dk_167 0 4 (dk_at dksX3_found_0 7 rfl rfl)
theorem dX3_found_10 : decode cX3_found 10 = .ok (.iconst 0, 1) := dk_3 (dk_at dksX3_found_0 10 rfl rfl)
theorem dX3_found_11 : decode cX3_found 11 = .ok (.putfield 27, 3) := dk_181 0 27 (dk_at dksX3_found_0 11 rfl rfl)
theorem dX3_found_14 : decode cX3_found 14 = .ok (.iload_n 1, 1) := dk_27 (dk_at dksX3_found_0 14 rfl rfl)
theorem dX3_found_15 : decode cX3_found 15 = .ok (.iconst (-1), 1) := dk_2 (dk_at dksX3_found_0 15 rfl rfl)
theorem dX3_found_16 : decode cX3_found 16 = .ok (.if_icmp .ne 7, 3) := dk_160 0 7 (dk_at dksX3_found_0 16 rfl rfl)
theorem dX3_found_19 : decode cX3_found 19 = .ok (.iconst 0, 1) := dk_3 (dk_at dksX3_found_0 19 rfl rfl)
theorem dX3_found_20 : decode cX3_found 20 = .ok (.goto 4, 3) := dk_167 0 4 (dk_at dksX3_found_0 20 rfl rfl)
theorem dX3_found_23 : decode cX3_found 23 = .ok (.iload_n 1, 1) := dk_27 (dk_at dksX3_found_0 23 rfl rfl)
theorem dX3_found_24 : decode cX3_found 24 = .ok (.ireturn, 1) := dk_172 (dk_at dksX3_found_1 0 rfl rfl)
abbrev cX3_rowLoad : ByteArray := prog_14_method_56_code
def yX3_rowLoad : MethodName := ⟨RX3, "rowLoad", "(I)I"⟩
def dkwX3_rowLoad_0 : List UInt8 := [42, 27, 3, 4, 184, 0, 49, 182, 0, 172, 153, 0, 11, 42, 27, 182, 0, 150, 167, 0, 4, 3, 172]
abbrev dktX3_rowLoad_0 : List UInt8 := dkwX3_rowLoad_0 ++ []
theorem dksX3_rowLoad_0 : cX3_rowLoad.data.toList.drop 0 = dktX3_rowLoad_0 := by decide +kernel
theorem dX3_rowLoad_0 : decode cX3_rowLoad 0 = .ok (.aload_n 0, 1) := dk_42 (dk_at dksX3_rowLoad_0 0 rfl rfl)
theorem dX3_rowLoad_1 : decode cX3_rowLoad 1 = .ok (.iload_n 1, 1) := dk_27 (dk_at dksX3_rowLoad_0 1 rfl rfl)
theorem dX3_rowLoad_2 : decode cX3_rowLoad 2 = .ok (.iconst 0, 1) := dk_3 (dk_at dksX3_rowLoad_0 2 rfl rfl)
theorem dX3_rowLoad_3 : decode cX3_rowLoad 3 = .ok (.iconst 1, 1) := dk_4 (dk_at dksX3_rowLoad_0 3 rfl rfl)
theorem dX3_rowLoad_4 : decode cX3_rowLoad 4 = .ok (.invokestatic 49, 3) := dk_184 0 49 (dk_at dksX3_rowLoad_0 4 rfl rfl)
theorem dX3_rowLoad_7 : decode cX3_rowLoad 7 = .ok (.invokevirtual 172, 3) := dk_182 0 172 (dk_at dksX3_rowLoad_0 7 rfl rfl)
theorem dX3_rowLoad_10 : decode cX3_rowLoad 10 = .ok (.ifCond .eq 11, 3) := dk_153 0 11 (dk_at dksX3_rowLoad_0 10 rfl rfl)
theorem dX3_rowLoad_13 : decode cX3_rowLoad 13 = .ok (.aload_n 0, 1) := dk_42 (dk_at dksX3_rowLoad_0 13 rfl rfl)
theorem dX3_rowLoad_14 : decode cX3_rowLoad 14 = .ok (.iload_n 1, 1) := dk_27 (dk_at dksX3_rowLoad_0 14 rfl rfl)
theorem dX3_rowLoad_15 : decode cX3_rowLoad 15 = .ok (.invokevirtual 150, 3) := dk_182 0 150 (dk_at dksX3_rowLoad_0 15 rfl rfl)
theorem dX3_rowLoad_18 : decode cX3_rowLoad 18 = .ok (.goto 4, 3) := dk_167 0 4 (dk_at dksX3_rowLoad_0 18 rfl rfl)
theorem dX3_rowLoad_21 : decode cX3_rowLoad 21 = .ok (.iconst 0, 1) := dk_3 (dk_at dksX3_rowLoad_0 21 rfl rfl)
theorem dX3_rowLoad_22 : decode cX3_rowLoad 22 = .ok (.ireturn, 1) := dk_172 (dk_at dksX3_rowLoad_0 22 rfl rfl)
abbrev cX3_onSpan : ByteArray := prog_14_method_57_code
def yX3_onSpan : MethodName := ⟨RX3, "onSpan", "(I)I"⟩
def dkwX3_onSpan_1 : List UInt8 := [182, 0, 123, 167, 0, 4, 3, 172]
abbrev dktX3_onSpan_1 : List UInt8 := dkwX3_onSpan_1 ++ []
def dkwX3_onSpan_0 : List UInt8 := [42, 27, 3, 42, 180, 0, 9, 7, 46, 4, 100, 184, 0, 49, 182, 0, 172, 153, 0, 11, 42, 27]
abbrev dktX3_onSpan_0 : List UInt8 := dkwX3_onSpan_0 ++ dktX3_onSpan_1
theorem dksX3_onSpan_0 : cX3_onSpan.data.toList.drop 0 = dktX3_onSpan_0 := by decide +kernel
theorem dksX3_onSpan_1 : cX3_onSpan.data.toList.drop 22 = dktX3_onSpan_1 := dk_seg dksX3_onSpan_0 22 rfl rfl
theorem dX3_onSpan_0 : decode cX3_onSpan 0 = .ok (.aload_n 0, 1) := dk_42 (dk_at dksX3_onSpan_0 0 rfl rfl)
theorem dX3_onSpan_1 : decode cX3_onSpan 1 = .ok (.iload_n 1, 1) := dk_27 (dk_at dksX3_onSpan_0 1 rfl rfl)
theorem dX3_onSpan_2 : decode cX3_onSpan 2 = .ok (.iconst 0, 1) := dk_3 (dk_at dksX3_onSpan_0 2 rfl rfl)
theorem dX3_onSpan_3 : decode cX3_onSpan 3 = .ok (.aload_n 0, 1) := dk_42 (dk_at dksX3_onSpan_0 3 rfl rfl)
theorem dX3_onSpan_4 : decode cX3_onSpan 4 = .ok (.getfield 9, 3) := dk_180 0 9 (dk_at dksX3_onSpan_0 4 rfl rfl)
theorem dX3_onSpan_7 : decode cX3_onSpan 7 = .ok (.iconst 4, 1) := dk_7 (dk_at dksX3_onSpan_0 7 rfl rfl)
theorem dX3_onSpan_8 : decode cX3_onSpan 8 = .ok (.iaload, 1) := dk_46 (dk_at dksX3_onSpan_0 8 rfl rfl)
theorem dX3_onSpan_9 : decode cX3_onSpan 9 = .ok (.iconst 1, 1) := dk_4 (dk_at dksX3_onSpan_0 9 rfl rfl)
theorem dX3_onSpan_10 : decode cX3_onSpan 10 = .ok (.isub, 1) := dk_100 (dk_at dksX3_onSpan_0 10 rfl rfl)
theorem dX3_onSpan_11 : decode cX3_onSpan 11 = .ok (.invokestatic 49, 3) := dk_184 0 49 (dk_at dksX3_onSpan_0 11 rfl rfl)
theorem dX3_onSpan_14 : decode cX3_onSpan 14 = .ok (.invokevirtual 172, 3) := dk_182 0 172 (dk_at dksX3_onSpan_0 14 rfl rfl)
theorem dX3_onSpan_17 : decode cX3_onSpan 17 = .ok (.ifCond .eq 11, 3) := dk_153 0 11 (dk_at dksX3_onSpan_0 17 rfl rfl)
theorem dX3_onSpan_20 : decode cX3_onSpan 20 = .ok (.aload_n 0, 1) := dk_42 (dk_at dksX3_onSpan_0 20 rfl rfl)
theorem dX3_onSpan_21 : decode cX3_onSpan 21 = .ok (.iload_n 1, 1) := dk_27 (dk_at dksX3_onSpan_0 21 rfl rfl)
theorem dX3_onSpan_22 : decode cX3_onSpan 22 = .ok (.invokevirtual 123, 3) := dk_182 0 123 (dk_at dksX3_onSpan_1 0 rfl rfl)
theorem dX3_onSpan_25 : decode cX3_onSpan 25 = .ok (.goto 4, 3) := dk_167 0 4 (dk_at dksX3_onSpan_1 3 rfl rfl)
theorem dX3_onSpan_28 : decode cX3_onSpan 28 = .ok (.iconst 0, 1) := dk_3 (dk_at dksX3_onSpan_1 6 rfl rfl)
theorem dX3_onSpan_29 : decode cX3_onSpan 29 = .ok (.ireturn, 1) := dk_172 (dk_at dksX3_onSpan_1 7 rfl rfl)
abbrev cX3_runLoad : ByteArray := prog_14_method_59_code
def yX3_runLoad : MethodName := ⟨RX3, "runLoad", "(I)I"⟩
def dkwX3_runLoad_0 : List UInt8 := [42, 27, 182, 0, 182, 153, 0, 11, 42, 27, 182, 0, 132, 167, 0, 4, 3, 172]
abbrev dktX3_runLoad_0 : List UInt8 := dkwX3_runLoad_0 ++ []
theorem dksX3_runLoad_0 : cX3_runLoad.data.toList.drop 0 = dktX3_runLoad_0 := by decide +kernel
theorem dX3_runLoad_0 : decode cX3_runLoad 0 = .ok (.aload_n 0, 1) := dk_42 (dk_at dksX3_runLoad_0 0 rfl rfl)
theorem dX3_runLoad_1 : decode cX3_runLoad 1 = .ok (.iload_n 1, 1) := dk_27 (dk_at dksX3_runLoad_0 1 rfl rfl)
theorem dX3_runLoad_2 : decode cX3_runLoad 2 = .ok (.invokevirtual 182, 3) := dk_182 0 182 (dk_at dksX3_runLoad_0 2 rfl rfl)
theorem dX3_runLoad_5 : decode cX3_runLoad 5 = .ok (.ifCond .eq 11, 3) := dk_153 0 11 (dk_at dksX3_runLoad_0 5 rfl rfl)
theorem dX3_runLoad_8 : decode cX3_runLoad 8 = .ok (.aload_n 0, 1) := dk_42 (dk_at dksX3_runLoad_0 8 rfl rfl)
theorem dX3_runLoad_9 : decode cX3_runLoad 9 = .ok (.iload_n 1, 1) := dk_27 (dk_at dksX3_runLoad_0 9 rfl rfl)
theorem dX3_runLoad_10 : decode cX3_runLoad 10 = .ok (.invokevirtual 132, 3) := dk_182 0 132 (dk_at dksX3_runLoad_0 10 rfl rfl)
theorem dX3_runLoad_13 : decode cX3_runLoad 13 = .ok (.goto 4, 3) := dk_167 0 4 (dk_at dksX3_runLoad_0 13 rfl rfl)
theorem dX3_runLoad_16 : decode cX3_runLoad 16 = .ok (.iconst 0, 1) := dk_3 (dk_at dksX3_runLoad_0 16 rfl rfl)
theorem dX3_runLoad_17 : decode cX3_runLoad 17 = .ok (.ireturn, 1) := dk_172 (dk_at dksX3_runLoad_0 17 rfl rfl)
abbrev cX3_isThereOn : ByteArray := prog_14_method_58_code
def yX3_isThereOn : MethodName := ⟨RX3, "isThereOn", "(I)Z"⟩
def dkwX3_isThereOn_1 : List UInt8 := [167, 0, 4, 5, 181, 0, 27, 42, 180, 0, 27, 154, 0, 7, 4, 167, 0, 4, 3, 172]
abbrev dktX3_isThereOn_1 : List UInt8 := dkwX3_isThereOn_1 ++ []
def dkwX3_isThereOn_0 : List UInt8 := [42, 42, 27, 182, 0, 60, 154, 0, 7, 4, 167, 0, 16, 42, 27, 182, 0, 108, 153, 0, 7, 3]
abbrev dktX3_isThereOn_0 : List UInt8 := dkwX3_isThereOn_0 ++ dktX3_isThereOn_1
theorem dksX3_isThereOn_0 : cX3_isThereOn.data.toList.drop 0 = dktX3_isThereOn_0 := by decide +kernel
theorem dksX3_isThereOn_1 : cX3_isThereOn.data.toList.drop 22 = dktX3_isThereOn_1 := dk_seg dksX3_isThereOn_0 22 rfl rfl
theorem dX3_isThereOn_0 : decode cX3_isThereOn 0 = .ok (.aload_n 0, 1) := dk_42 (dk_at dksX3_isThereOn_0 0 rfl rfl)
theorem dX3_isThereOn_1 : decode cX3_isThereOn 1 = .ok (.aload_n 0, 1) := dk_42 (dk_at dksX3_isThereOn_0 1 rfl rfl)
theorem dX3_isThereOn_2 : decode cX3_isThereOn 2 = .ok (.iload_n 1, 1) := dk_27 (dk_at dksX3_isThereOn_0 2 rfl rfl)
theorem dX3_isThereOn_3 : decode cX3_isThereOn 3 = .ok (.invokevirtual 60, 3) := dk_182 0 60 (dk_at dksX3_isThereOn_0 3 rfl rfl)
theorem dX3_isThereOn_6 : decode cX3_isThereOn 6 = .ok (.ifCond .ne 7, 3) := dk_154 0 7 (dk_at dksX3_isThereOn_0 6 rfl rfl)
theorem dX3_isThereOn_9 : decode cX3_isThereOn 9 = .ok (.iconst 1, 1) := dk_4 (dk_at dksX3_isThereOn_0 9 rfl rfl)
theorem dX3_isThereOn_10 : decode cX3_isThereOn 10 = .ok (.goto 16, 3) := dk_167 0 16 (dk_at dksX3_isThereOn_0 10 rfl rfl)
theorem dX3_isThereOn_13 : decode cX3_isThereOn 13 = .ok (.aload_n 0, 1) := dk_42 (dk_at dksX3_isThereOn_0 13 rfl rfl)
theorem dX3_isThereOn_14 : decode cX3_isThereOn 14 = .ok (.iload_n 1, 1) := dk_27 (dk_at dksX3_isThereOn_0 14 rfl rfl)
theorem dX3_isThereOn_15 : decode cX3_isThereOn 15 = .ok (.invokevirtual 108, 3) := dk_182 0 108 (dk_at dksX3_isThereOn_0 15 rfl rfl)
theorem dX3_isThereOn_18 : decode cX3_isThereOn 18 = .ok (.ifCond .eq 7, 3) := dk_153 0 7 (dk_at dksX3_isThereOn_0 18 rfl rfl)
theorem dX3_isThereOn_21 : decode cX3_isThereOn 21 = .ok (.iconst 0, 1) := dk_3 (dk_at dksX3_isThereOn_0 21 rfl rfl)
theorem dX3_isThereOn_22 : decode cX3_isThereOn 22 = .ok (.goto 4, 3) := dk_167 0 4 (dk_at dksX3_isThereOn_1 0 rfl rfl)
theorem dX3_isThereOn_25 : decode cX3_isThereOn 25 = .ok (.iconst 2, 1) := dk_5 (dk_at dksX3_isThereOn_1 3 rfl rfl)
theorem dX3_isThereOn_26 : decode cX3_isThereOn 26 = .ok (.putfield 27, 3) := dk_181 0 27 (dk_at dksX3_isThereOn_1 4 rfl rfl)
theorem dX3_isThereOn_29 : decode cX3_isThereOn 29 = .ok (.aload_n 0, 1) := dk_42 (dk_at dksX3_isThereOn_1 7 rfl rfl)
theorem dX3_isThereOn_30 : decode cX3_isThereOn 30 = .ok (.getfield 27, 3) := dk_180 0 27 (dk_at dksX3_isThereOn_1 8 rfl rfl)
theorem dX3_isThereOn_33 : decode cX3_isThereOn 33 = .ok (.ifCond .ne 7, 3) := dk_154 0 7 (dk_at dksX3_isThereOn_1 11 rfl rfl)
theorem dX3_isThereOn_36 : decode cX3_isThereOn 36 = .ok (.iconst 1, 1) := dk_4 (dk_at dksX3_isThereOn_1 14 rfl rfl)
theorem dX3_isThereOn_37 : decode cX3_isThereOn 37 = .ok (.goto 4, 3) := dk_167 0 4 (dk_at dksX3_isThereOn_1 15 rfl rfl)
theorem dX3_isThereOn_40 : decode cX3_isThereOn 40 = .ok (.iconst 0, 1) := dk_3 (dk_at dksX3_isThereOn_1 18 rfl rfl)
theorem dX3_isThereOn_41 : decode cX3_isThereOn 41 = .ok (.ireturn, 1) := dk_172 (dk_at dksX3_isThereOn_1 19 rfl rfl)
abbrev cX3_runLoadAgain : ByteArray := prog_14_method_60_code
def yX3_runLoadAgain : MethodName := ⟨RX3, "runLoadAgain", "(I)I"⟩
def dkwX3_runLoadAgain_0 : List UInt8 := [42, 27, 182, 0, 185, 172]
abbrev dktX3_runLoadAgain_0 : List UInt8 := dkwX3_runLoadAgain_0 ++ []
theorem dksX3_runLoadAgain_0 : cX3_runLoadAgain.data.toList.drop 0 = dktX3_runLoadAgain_0 := by decide +kernel
theorem dX3_runLoadAgain_0 : decode cX3_runLoadAgain 0 = .ok (.aload_n 0, 1) := dk_42 (dk_at dksX3_runLoadAgain_0 0 rfl rfl)
theorem dX3_runLoadAgain_1 : decode cX3_runLoadAgain 1 = .ok (.iload_n 1, 1) := dk_27 (dk_at dksX3_runLoadAgain_0 1 rfl rfl)
theorem dX3_runLoadAgain_2 : decode cX3_runLoadAgain 2 = .ok (.invokevirtual 185, 3) := dk_182 0 185 (dk_at dksX3_runLoadAgain_0 2 rfl rfl)
theorem dX3_runLoadAgain_5 : decode cX3_runLoadAgain 5 = .ok (.ireturn, 1) := dk_172 (dk_at dksX3_runLoadAgain_0 5 rfl rfl)
abbrev cX3_runEnd : ByteArray := prog_14_method_61_code
def yX3_runEnd : MethodName := ⟨RX3, "runEnd", "(I)I"⟩
def dkwX3_runEnd_0 : List UInt8 := [42, 27, 182, 0, 182, 153, 0, 11, 42, 27, 182, 0, 188, 167, 0, 4, 3, 172]
abbrev dktX3_runEnd_0 : List UInt8 := dkwX3_runEnd_0 ++ []
theorem dksX3_runEnd_0 : cX3_runEnd.data.toList.drop 0 = dktX3_runEnd_0 := by decide +kernel
theorem dX3_runEnd_0 : decode cX3_runEnd 0 = .ok (.aload_n 0, 1) := dk_42 (dk_at dksX3_runEnd_0 0 rfl rfl)
theorem dX3_runEnd_1 : decode cX3_runEnd 1 = .ok (.iload_n 1, 1) := dk_27 (dk_at dksX3_runEnd_0 1 rfl rfl)
theorem dX3_runEnd_2 : decode cX3_runEnd 2 = .ok (.invokevirtual 182, 3) := dk_182 0 182 (dk_at dksX3_runEnd_0 2 rfl rfl)
theorem dX3_runEnd_5 : decode cX3_runEnd 5 = .ok (.ifCond .eq 11, 3) := dk_153 0 11 (dk_at dksX3_runEnd_0 5 rfl rfl)
theorem dX3_runEnd_8 : decode cX3_runEnd 8 = .ok (.aload_n 0, 1) := dk_42 (dk_at dksX3_runEnd_0 8 rfl rfl)
theorem dX3_runEnd_9 : decode cX3_runEnd 9 = .ok (.iload_n 1, 1) := dk_27 (dk_at dksX3_runEnd_0 9 rfl rfl)
theorem dX3_runEnd_10 : decode cX3_runEnd 10 = .ok (.invokevirtual 188, 3) := dk_182 0 188 (dk_at dksX3_runEnd_0 10 rfl rfl)
theorem dX3_runEnd_13 : decode cX3_runEnd 13 = .ok (.goto 4, 3) := dk_167 0 4 (dk_at dksX3_runEnd_0 13 rfl rfl)
theorem dX3_runEnd_16 : decode cX3_runEnd 16 = .ok (.iconst 0, 1) := dk_3 (dk_at dksX3_runEnd_0 16 rfl rfl)
theorem dX3_runEnd_17 : decode cX3_runEnd 17 = .ok (.ireturn, 1) := dk_172 (dk_at dksX3_runEnd_0 17 rfl rfl)
abbrev cX3_lastOfRun : ByteArray := prog_14_method_36_code
def yX3_lastOfRun : MethodName := ⟨RX3, "lastOfRun", "(I)I"⟩
def dkwX3_lastOfRun_0 : List UInt8 := [27, 61, 27, 62, 29, 2, 159, 0, 14, 29, 61, 42, 29, 182, 0, 126, 62, 167, 255, 243, 28, 172]
abbrev dktX3_lastOfRun_0 : List UInt8 := dkwX3_lastOfRun_0 ++ []
theorem dksX3_lastOfRun_0 : cX3_lastOfRun.data.toList.drop 0 = dktX3_lastOfRun_0 := by decide +kernel
theorem dX3_lastOfRun_0 : decode cX3_lastOfRun 0 = .ok (.iload_n 1, 1) := dk_27 (dk_at dksX3_lastOfRun_0 0 rfl rfl)
theorem dX3_lastOfRun_1 : decode cX3_lastOfRun 1 = .ok (.istore_n 2, 1) := dk_61 (dk_at dksX3_lastOfRun_0 1 rfl rfl)
theorem dX3_lastOfRun_2 : decode cX3_lastOfRun 2 = .ok (.iload_n 1, 1) := dk_27 (dk_at dksX3_lastOfRun_0 2 rfl rfl)
theorem dX3_lastOfRun_3 : decode cX3_lastOfRun 3 = .ok (.istore_n 3, 1) := dk_62 (dk_at dksX3_lastOfRun_0 3 rfl rfl)
theorem dX3_lastOfRun_4 : decode cX3_lastOfRun 4 = .ok (.iload_n 3, 1) := dk_29 (dk_at dksX3_lastOfRun_0 4 rfl rfl)
theorem dX3_lastOfRun_5 : decode cX3_lastOfRun 5 = .ok (.iconst (-1), 1) := dk_2 (dk_at dksX3_lastOfRun_0 5 rfl rfl)
theorem dX3_lastOfRun_6 : decode cX3_lastOfRun 6 = .ok (.if_icmp .eq 14, 3) := dk_159 0 14 (dk_at dksX3_lastOfRun_0 6 rfl rfl)
theorem dX3_lastOfRun_9 : decode cX3_lastOfRun 9 = .ok (.iload_n 3, 1) := dk_29 (dk_at dksX3_lastOfRun_0 9 rfl rfl)
theorem dX3_lastOfRun_10 : decode cX3_lastOfRun 10 = .ok (.istore_n 2, 1) := dk_61 (dk_at dksX3_lastOfRun_0 10 rfl rfl)
theorem dX3_lastOfRun_11 : decode cX3_lastOfRun 11 = .ok (.aload_n 0, 1) := dk_42 (dk_at dksX3_lastOfRun_0 11 rfl rfl)
theorem dX3_lastOfRun_12 : decode cX3_lastOfRun 12 = .ok (.iload_n 3, 1) := dk_29 (dk_at dksX3_lastOfRun_0 12 rfl rfl)
theorem dX3_lastOfRun_13 : decode cX3_lastOfRun 13 = .ok (.invokevirtual 126, 3) := dk_182 0 126 (dk_at dksX3_lastOfRun_0 13 rfl rfl)
theorem dX3_lastOfRun_16 : decode cX3_lastOfRun 16 = .ok (.istore_n 3, 1) := dk_62 (dk_at dksX3_lastOfRun_0 16 rfl rfl)
theorem dX3_lastOfRun_17 : decode cX3_lastOfRun 17 = .ok (.goto (-13), 3) := dk_167 255 243 (dk_at dksX3_lastOfRun_0 17 rfl rfl)
theorem dX3_lastOfRun_20 : decode cX3_lastOfRun 20 = .ok (.iload_n 2, 1) := dk_28 (dk_at dksX3_lastOfRun_0 20 rfl rfl)
theorem dX3_lastOfRun_21 : decode cX3_lastOfRun 21 = .ok (.ireturn, 1) := dk_172 (dk_at dksX3_lastOfRun_0 21 rfl rfl)
abbrev cX3_ahead : ByteArray := prog_14_method_62_code
def yX3_ahead : MethodName := ⟨RX3, "ahead", "(I)I"⟩
def dkwX3_ahead_3 : List UInt8 := [167, 255, 221, 42, 6, 181, 0, 27, 3, 172]
abbrev dktX3_ahead_3 : List UInt8 := dkwX3_ahead_3 ++ []
def dkwX3_ahead_2 : List UInt8 := [153, 0, 25, 42, 29, 182, 0, 123, 2, 159, 0, 9, 42, 29, 182, 0, 123, 172, 29, 28, 96, 62]
abbrev dktX3_ahead_2 : List UInt8 := dkwX3_ahead_2 ++ dktX3_ahead_3
def dkwX3_ahead_1 : List UInt8 := [2, 61, 42, 27, 6, 182, 0, 64, 28, 96, 62, 29, 3, 42, 180, 0, 9, 7, 46, 4, 100, 184, 0, 49]
abbrev dktX3_ahead_1 : List UInt8 := dkwX3_ahead_1 ++ dktX3_ahead_2
def dkwX3_ahead_0 : List UInt8 := [42, 27, 182, 0, 182, 154, 0, 5, 3, 172, 42, 27, 7, 182, 0, 64, 4, 160, 0, 7, 4, 167, 0, 4]
abbrev dktX3_ahead_0 : List UInt8 := dkwX3_ahead_0 ++ dktX3_ahead_1
theorem dksX3_ahead_0 : cX3_ahead.data.toList.drop 0 = dktX3_ahead_0 := by decide +kernel
theorem dksX3_ahead_1 : cX3_ahead.data.toList.drop 24 = dktX3_ahead_1 := dk_seg dksX3_ahead_0 24 rfl rfl
theorem dksX3_ahead_2 : cX3_ahead.data.toList.drop 48 = dktX3_ahead_2 := dk_seg dksX3_ahead_1 24 rfl rfl
theorem dksX3_ahead_3 : cX3_ahead.data.toList.drop 70 = dktX3_ahead_3 := dk_seg dksX3_ahead_2 22 rfl rfl
theorem dX3_ahead_0 : decode cX3_ahead 0 = .ok (.aload_n 0, 1) := dk_42 (dk_at dksX3_ahead_0 0 rfl rfl)
theorem dX3_ahead_1 : decode cX3_ahead 1 = .ok (.iload_n 1, 1) := dk_27 (dk_at dksX3_ahead_0 1 rfl rfl)
theorem dX3_ahead_2 : decode cX3_ahead 2 = .ok (.invokevirtual 182, 3) := dk_182 0 182 (dk_at dksX3_ahead_0 2 rfl rfl)
theorem dX3_ahead_5 : decode cX3_ahead 5 = .ok (.ifCond .ne 5, 3) := dk_154 0 5 (dk_at dksX3_ahead_0 5 rfl rfl)
theorem dX3_ahead_8 : decode cX3_ahead 8 = .ok (.iconst 0, 1) := dk_3 (dk_at dksX3_ahead_0 8 rfl rfl)
theorem dX3_ahead_9 : decode cX3_ahead 9 = .ok (.ireturn, 1) := dk_172 (dk_at dksX3_ahead_0 9 rfl rfl)
theorem dX3_ahead_10 : decode cX3_ahead 10 = .ok (.aload_n 0, 1) := dk_42 (dk_at dksX3_ahead_0 10 rfl rfl)
theorem dX3_ahead_11 : decode cX3_ahead 11 = .ok (.iload_n 1, 1) := dk_27 (dk_at dksX3_ahead_0 11 rfl rfl)
theorem dX3_ahead_12 : decode cX3_ahead 12 = .ok (.iconst 4, 1) := dk_7 (dk_at dksX3_ahead_0 12 rfl rfl)
theorem dX3_ahead_13 : decode cX3_ahead 13 = .ok (.invokevirtual 64, 3) := dk_182 0 64 (dk_at dksX3_ahead_0 13 rfl rfl)
theorem dX3_ahead_16 : decode cX3_ahead 16 = .ok (.iconst 1, 1) := dk_4 (dk_at dksX3_ahead_0 16 rfl rfl)
theorem dX3_ahead_17 : decode cX3_ahead 17 = .ok (.if_icmp .ne 7, 3) := dk_160 0 7 (dk_at dksX3_ahead_0 17 rfl rfl)
theorem dX3_ahead_20 : decode cX3_ahead 20 = .ok (.iconst 1, 1) := dk_4 (dk_at dksX3_ahead_0 20 rfl rfl)
theorem dX3_ahead_21 : decode cX3_ahead 21 = .ok (.goto 4, 3) := dk_167 0 4 (dk_at dksX3_ahead_0 21 rfl rfl)
theorem dX3_ahead_24 : decode cX3_ahead 24 = .ok (.iconst (-1), 1) := dk_2 (dk_at dksX3_ahead_1 0 rfl rfl)
theorem dX3_ahead_25 : decode cX3_ahead 25 = .ok (.istore_n 2, 1) := dk_61 (dk_at dksX3_ahead_1 1 rfl rfl)
theorem dX3_ahead_26 : decode cX3_ahead 26 = .ok (.aload_n 0, 1) := dk_42 (dk_at dksX3_ahead_1 2 rfl rfl)
theorem dX3_ahead_27 : decode cX3_ahead 27 = .ok (.iload_n 1, 1) := dk_27 (dk_at dksX3_ahead_1 3 rfl rfl)
theorem dX3_ahead_28 : decode cX3_ahead 28 = .ok (.iconst 3, 1) := dk_6 (dk_at dksX3_ahead_1 4 rfl rfl)
theorem dX3_ahead_29 : decode cX3_ahead 29 = .ok (.invokevirtual 64, 3) := dk_182 0 64 (dk_at dksX3_ahead_1 5 rfl rfl)
theorem dX3_ahead_32 : decode cX3_ahead 32 = .ok (.iload_n 2, 1) := dk_28 (dk_at dksX3_ahead_1 8 rfl rfl)
theorem dX3_ahead_33 : decode cX3_ahead 33 = .ok (.iadd, 1) := dk_96 (dk_at dksX3_ahead_1 9 rfl rfl)
theorem dX3_ahead_34 : decode cX3_ahead 34 = .ok (.istore_n 3, 1) := dk_62 (dk_at dksX3_ahead_1 10 rfl rfl)
theorem dX3_ahead_35 : decode cX3_ahead 35 = .ok (.iload_n 3, 1) := dk_29 (dk_at dksX3_ahead_1 11 rfl rfl)
theorem dX3_ahead_36 : decode cX3_ahead 36 = .ok (.iconst 0, 1) := dk_3 (dk_at dksX3_ahead_1 12 rfl rfl)
theorem dX3_ahead_37 : decode cX3_ahead 37 = .ok (.aload_n 0, 1) := dk_42 (dk_at dksX3_ahead_1 13 rfl rfl)
theorem dX3_ahead_38 : decode cX3_ahead 38 = .ok (.getfield 9, 3) := dk_180 0 9 (dk_at dksX3_ahead_1 14 rfl rfl)
theorem dX3_ahead_41 : decode cX3_ahead 41 = .ok (.iconst 4, 1) := dk_7 (dk_at dksX3_ahead_1 17 rfl rfl)
theorem dX3_ahead_42 : decode cX3_ahead 42 = .ok (.iaload, 1) := dk_46 (dk_at dksX3_ahead_1 18 rfl rfl)
theorem dX3_ahead_43 : decode cX3_ahead 43 = .ok (.iconst 1, 1) := dk_4 (dk_at dksX3_ahead_1 19 rfl rfl)
theorem dX3_ahead_44 : decode cX3_ahead 44 = .ok (.isub, 1) := dk_100 (dk_at dksX3_ahead_1 20 rfl rfl)
theorem dX3_ahead_45 : decode cX3_ahead 45 = .ok (.invokestatic 49, 3) := dk_184 0 49 (dk_at dksX3_ahead_1 21 rfl rfl)
theorem dX3_ahead_48 : decode cX3_ahead 48 = .ok (.ifCond .eq 25, 3) := dk_153 0 25 (dk_at dksX3_ahead_2 0 rfl rfl)
theorem dX3_ahead_51 : decode cX3_ahead 51 = .ok (.aload_n 0, 1) := dk_42 (dk_at dksX3_ahead_2 3 rfl rfl)
theorem dX3_ahead_52 : decode cX3_ahead 52 = .ok (.iload_n 3, 1) := dk_29 (dk_at dksX3_ahead_2 4 rfl rfl)
theorem dX3_ahead_53 : decode cX3_ahead 53 = .ok (.invokevirtual 123, 3) := dk_182 0 123 (dk_at dksX3_ahead_2 5 rfl rfl)
theorem dX3_ahead_56 : decode cX3_ahead 56 = .ok (.iconst (-1), 1) := dk_2 (dk_at dksX3_ahead_2 8 rfl rfl)
theorem dX3_ahead_57 : decode cX3_ahead 57 = .ok (.if_icmp .eq 9, 3) := dk_159 0 9 (dk_at dksX3_ahead_2 9 rfl rfl)
theorem dX3_ahead_60 : decode cX3_ahead 60 = .ok (.aload_n 0, 1) := dk_42 (dk_at dksX3_ahead_2 12 rfl rfl)
theorem dX3_ahead_61 : decode cX3_ahead 61 = .ok (.iload_n 3, 1) := dk_29 (dk_at dksX3_ahead_2 13 rfl rfl)
theorem dX3_ahead_62 : decode cX3_ahead 62 = .ok (.invokevirtual 123, 3) := dk_182 0 123 (dk_at dksX3_ahead_2 14 rfl rfl)
theorem dX3_ahead_65 : decode cX3_ahead 65 = .ok (.ireturn, 1) := dk_172 (dk_at dksX3_ahead_2 17 rfl rfl)
theorem dX3_ahead_66 : decode cX3_ahead 66 = .ok (.iload_n 3, 1) := dk_29 (dk_at dksX3_ahead_2 18 rfl rfl)
theorem dX3_ahead_67 : decode cX3_ahead 67 = .ok (.iload_n 2, 1) := dk_28 (dk_at dksX3_ahead_2 19 rfl rfl)
theorem dX3_ahead_68 : decode cX3_ahead 68 = .ok (.iadd, 1) := dk_96 (dk_at dksX3_ahead_2 20 rfl rfl)
theorem dX3_ahead_69 : decode cX3_ahead 69 = .ok (.istore_n 3, 1) := dk_62 (dk_at dksX3_ahead_2 21 rfl rfl)
theorem dX3_ahead_70 : decode cX3_ahead 70 = .ok (.goto (-35), 3) := dk_167 255 221 (dk_at dksX3_ahead_3 0 rfl rfl)
theorem dX3_ahead_73 : decode cX3_ahead 73 = .ok (.aload_n 0, 1) := dk_42 (dk_at dksX3_ahead_3 3 rfl rfl)
theorem dX3_ahead_74 : decode cX3_ahead 74 = .ok (.iconst 3, 1) := dk_6 (dk_at dksX3_ahead_3 4 rfl rfl)
theorem dX3_ahead_75 : decode cX3_ahead 75 = .ok (.putfield 27, 3) := dk_181 0 27 (dk_at dksX3_ahead_3 5 rfl rfl)
theorem dX3_ahead_78 : decode cX3_ahead 78 = .ok (.iconst 0, 1) := dk_3 (dk_at dksX3_ahead_3 8 rfl rfl)
theorem dX3_ahead_79 : decode cX3_ahead 79 = .ok (.ireturn, 1) := dk_172 (dk_at dksX3_ahead_3 9 rfl rfl)
abbrev cX3_spansLeft : ByteArray := prog_14_method_63_code
def yX3_spansLeft : MethodName := ⟨RX3, "spansLeft", "(I)I"⟩
def dkwX3_spansLeft_1 : List UInt8 := [180, 0, 9, 7, 46, 42, 27, 6, 182, 0, 64, 100, 167, 0, 11, 42, 27, 6, 182, 0, 64, 4, 96, 172]
abbrev dktX3_spansLeft_1 : List UInt8 := dkwX3_spansLeft_1 ++ []
def dkwX3_spansLeft_0 : List UInt8 := [42, 27, 182, 0, 182, 154, 0, 7, 3, 167, 0, 37, 42, 27, 7, 182, 0, 64, 4, 160, 0, 19, 42]
abbrev dktX3_spansLeft_0 : List UInt8 := dkwX3_spansLeft_0 ++ dktX3_spansLeft_1
theorem dksX3_spansLeft_0 : cX3_spansLeft.data.toList.drop 0 = dktX3_spansLeft_0 := by decide +kernel
theorem dksX3_spansLeft_1 : cX3_spansLeft.data.toList.drop 23 = dktX3_spansLeft_1 := dk_seg dksX3_spansLeft_0 23 rfl rfl
theorem dX3_spansLeft_0 : decode cX3_spansLeft 0 = .ok (.aload_n 0, 1) := dk_42 (dk_at dksX3_spansLeft_0 0 rfl rfl)
theorem dX3_spansLeft_1 : decode cX3_spansLeft 1 = .ok (.iload_n 1, 1) := dk_27 (dk_at dksX3_spansLeft_0 1 rfl rfl)
theorem dX3_spansLeft_2 : decode cX3_spansLeft 2 = .ok (.invokevirtual 182, 3) := dk_182 0 182 (dk_at dksX3_spansLeft_0 2 rfl rfl)
theorem dX3_spansLeft_5 : decode cX3_spansLeft 5 = .ok (.ifCond .ne 7, 3) := dk_154 0 7 (dk_at dksX3_spansLeft_0 5 rfl rfl)
theorem dX3_spansLeft_8 : decode cX3_spansLeft 8 = .ok (.iconst 0, 1) := dk_3 (dk_at dksX3_spansLeft_0 8 rfl rfl)
theorem dX3_spansLeft_9 : decode cX3_spansLeft 9 = .ok (.goto 37, 3) := dk_167 0 37 (dk_at dksX3_spansLeft_0 9 rfl rfl)
theorem dX3_spansLeft_12 : decode cX3_spansLeft 12 = .ok (.aload_n 0, 1) := dk_42 (dk_at dksX3_spansLeft_0 12 rfl rfl)
theorem dX3_spansLeft_13 : decode cX3_spansLeft 13 = .ok (.iload_n 1, 1) := dk_27 (dk_at dksX3_spansLeft_0 13 rfl rfl)
theorem dX3_spansLeft_14 : decode cX3_spansLeft 14 = .ok (.iconst 4, 1) := dk_7 (dk_at dksX3_spansLeft_0 14 rfl rfl)
theorem dX3_spansLeft_15 : decode cX3_spansLeft 15 = .ok (.invokevirtual 64, 3) := dk_182 0 64 (dk_at dksX3_spansLeft_0 15 rfl rfl)
theorem dX3_spansLeft_18 : decode cX3_spansLeft 18 = .ok (.iconst 1, 1) := dk_4 (dk_at dksX3_spansLeft_0 18 rfl rfl)
theorem dX3_spansLeft_19 : decode cX3_spansLeft 19 = .ok (.if_icmp .ne 19, 3) := dk_160 0 19 (dk_at dksX3_spansLeft_0 19 rfl rfl)
theorem dX3_spansLeft_22 : decode cX3_spansLeft 22 = .ok (.aload_n 0, 1) := dk_42 (dk_at dksX3_spansLeft_0 22 rfl rfl)
theorem dX3_spansLeft_23 : decode cX3_spansLeft 23 = .ok (.getfield 9, 3) := dk_180 0 9 (dk_at dksX3_spansLeft_1 0 rfl rfl)
theorem dX3_spansLeft_26 : decode cX3_spansLeft 26 = .ok (.iconst 4, 1) := dk_7 (dk_at dksX3_spansLeft_1 3 rfl rfl)
theorem dX3_spansLeft_27 : decode cX3_spansLeft 27 = .ok (.iaload, 1) := dk_46 (dk_at dksX3_spansLeft_1 4 rfl rfl)
theorem dX3_spansLeft_28 : decode cX3_spansLeft 28 = .ok (.aload_n 0, 1) := dk_42 (dk_at dksX3_spansLeft_1 5 rfl rfl)
theorem dX3_spansLeft_29 : decode cX3_spansLeft 29 = .ok (.iload_n 1, 1) := dk_27 (dk_at dksX3_spansLeft_1 6 rfl rfl)
theorem dX3_spansLeft_30 : decode cX3_spansLeft 30 = .ok (.iconst 3, 1) := dk_6 (dk_at dksX3_spansLeft_1 7 rfl rfl)
theorem dX3_spansLeft_31 : decode cX3_spansLeft 31 = .ok (.invokevirtual 64, 3) := dk_182 0 64 (dk_at dksX3_spansLeft_1 8 rfl rfl)
theorem dX3_spansLeft_34 : decode cX3_spansLeft 34 = .ok (.isub, 1) := dk_100 (dk_at dksX3_spansLeft_1 11 rfl rfl)
theorem dX3_spansLeft_35 : decode cX3_spansLeft 35 = .ok (.goto 11, 3) := dk_167 0 11 (dk_at dksX3_spansLeft_1 12 rfl rfl)
theorem dX3_spansLeft_38 : decode cX3_spansLeft 38 = .ok (.aload_n 0, 1) := dk_42 (dk_at dksX3_spansLeft_1 15 rfl rfl)
theorem dX3_spansLeft_39 : decode cX3_spansLeft 39 = .ok (.iload_n 1, 1) := dk_27 (dk_at dksX3_spansLeft_1 16 rfl rfl)
theorem dX3_spansLeft_40 : decode cX3_spansLeft 40 = .ok (.iconst 3, 1) := dk_6 (dk_at dksX3_spansLeft_1 17 rfl rfl)
theorem dX3_spansLeft_41 : decode cX3_spansLeft 41 = .ok (.invokevirtual 64, 3) := dk_182 0 64 (dk_at dksX3_spansLeft_1 18 rfl rfl)
theorem dX3_spansLeft_44 : decode cX3_spansLeft 44 = .ok (.iconst 1, 1) := dk_4 (dk_at dksX3_spansLeft_1 21 rfl rfl)
theorem dX3_spansLeft_45 : decode cX3_spansLeft 45 = .ok (.iadd, 1) := dk_96 (dk_at dksX3_spansLeft_1 22 rfl rfl)
theorem dX3_spansLeft_46 : decode cX3_spansLeft 46 = .ok (.ireturn, 1) := dk_172 (dk_at dksX3_spansLeft_1 23 rfl rfl)
abbrev cX3_may : ByteArray := prog_14_method_64_code
def yX3_may : MethodName := ⟨RX3, "may", "(I)Z"⟩
def dkwX3_may_1 : List UInt8 := [167, 0, 4, 3, 172]
abbrev dktX3_may_1 : List UInt8 := dkwX3_may_1 ++ []
def dkwX3_may_0 : List UInt8 := [42, 27, 3, 4, 184, 0, 49, 182, 0, 172, 153, 0, 15, 42, 27, 182, 0, 153, 153, 0, 7, 4]
abbrev dktX3_may_0 : List UInt8 := dkwX3_may_0 ++ dktX3_may_1
theorem dksX3_may_0 : cX3_may.data.toList.drop 0 = dktX3_may_0 := by decide +kernel
theorem dksX3_may_1 : cX3_may.data.toList.drop 22 = dktX3_may_1 := dk_seg dksX3_may_0 22 rfl rfl
theorem dX3_may_0 : decode cX3_may 0 = .ok (.aload_n 0, 1) := dk_42 (dk_at dksX3_may_0 0 rfl rfl)
theorem dX3_may_1 : decode cX3_may 1 = .ok (.iload_n 1, 1) := dk_27 (dk_at dksX3_may_0 1 rfl rfl)
theorem dX3_may_2 : decode cX3_may 2 = .ok (.iconst 0, 1) := dk_3 (dk_at dksX3_may_0 2 rfl rfl)
theorem dX3_may_3 : decode cX3_may 3 = .ok (.iconst 1, 1) := dk_4 (dk_at dksX3_may_0 3 rfl rfl)
theorem dX3_may_4 : decode cX3_may 4 = .ok (.invokestatic 49, 3) := dk_184 0 49 (dk_at dksX3_may_0 4 rfl rfl)
theorem dX3_may_7 : decode cX3_may 7 = .ok (.invokevirtual 172, 3) := dk_182 0 172 (dk_at dksX3_may_0 7 rfl rfl)
theorem dX3_may_10 : decode cX3_may 10 = .ok (.ifCond .eq 15, 3) := dk_153 0 15 (dk_at dksX3_may_0 10 rfl rfl)
theorem dX3_may_13 : decode cX3_may 13 = .ok (.aload_n 0, 1) := dk_42 (dk_at dksX3_may_0 13 rfl rfl)
theorem dX3_may_14 : decode cX3_may 14 = .ok (.iload_n 1, 1) := dk_27 (dk_at dksX3_may_0 14 rfl rfl)
theorem dX3_may_15 : decode cX3_may 15 = .ok (.invokevirtual 153, 3) := dk_182 0 153 (dk_at dksX3_may_0 15 rfl rfl)
theorem dX3_may_18 : decode cX3_may 18 = .ok (.ifCond .eq 7, 3) := dk_153 0 7 (dk_at dksX3_may_0 18 rfl rfl)
theorem dX3_may_21 : decode cX3_may 21 = .ok (.iconst 1, 1) := dk_4 (dk_at dksX3_may_0 21 rfl rfl)
theorem dX3_may_22 : decode cX3_may 22 = .ok (.goto 4, 3) := dk_167 0 4 (dk_at dksX3_may_1 0 rfl rfl)
theorem dX3_may_25 : decode cX3_may 25 = .ok (.iconst 0, 1) := dk_3 (dk_at dksX3_may_1 3 rfl rfl)
theorem dX3_may_26 : decode cX3_may 26 = .ok (.ireturn, 1) := dk_172 (dk_at dksX3_may_1 4 rfl rfl)
abbrev cX3_turn : ByteArray := prog_14_method_65_code
def yX3_turn : MethodName := ⟨RX3, "turn", "()I"⟩
def dkwX3_turn_0 : List UInt8 := [42, 3, 181, 0, 27, 42, 180, 0, 9, 8, 46, 172]
abbrev dktX3_turn_0 : List UInt8 := dkwX3_turn_0 ++ []
theorem dksX3_turn_0 : cX3_turn.data.toList.drop 0 = dktX3_turn_0 := by decide +kernel
theorem dX3_turn_0 : decode cX3_turn 0 = .ok (.aload_n 0, 1) := dk_42 (dk_at dksX3_turn_0 0 rfl rfl)
theorem dX3_turn_1 : decode cX3_turn 1 = .ok (.iconst 0, 1) := dk_3 (dk_at dksX3_turn_0 1 rfl rfl)
theorem dX3_turn_2 : decode cX3_turn 2 = .ok (.putfield 27, 3) := dk_181 0 27 (dk_at dksX3_turn_0 2 rfl rfl)
theorem dX3_turn_5 : decode cX3_turn 5 = .ok (.aload_n 0, 1) := dk_42 (dk_at dksX3_turn_0 5 rfl rfl)
theorem dX3_turn_6 : decode cX3_turn 6 = .ok (.getfield 9, 3) := dk_180 0 9 (dk_at dksX3_turn_0 6 rfl rfl)
theorem dX3_turn_9 : decode cX3_turn 9 = .ok (.iconst 5, 1) := dk_8 (dk_at dksX3_turn_0 9 rfl rfl)
theorem dX3_turn_10 : decode cX3_turn 10 = .ok (.iaload, 1) := dk_46 (dk_at dksX3_turn_0 10 rfl rfl)
theorem dX3_turn_11 : decode cX3_turn 11 = .ok (.ireturn, 1) := dk_172 (dk_at dksX3_turn_0 11 rfl rfl)
abbrev cX3_noses : ByteArray := prog_14_method_66_code
def yX3_noses : MethodName := ⟨RX3, "noses", "()I"⟩
def dkwX3_noses_1 : List UInt8 := [6, 182, 0, 64, 4, 96, 182, 0, 129, 61, 167, 255, 235, 27, 172]
abbrev dktX3_noses_1 : List UInt8 := dkwX3_noses_1 ++ []
def dkwX3_noses_0 : List UInt8 := [42, 3, 181, 0, 27, 3, 60, 42, 3, 182, 0, 129, 61, 28, 2, 159, 0, 22, 132, 1, 1, 42, 42, 28]
abbrev dktX3_noses_0 : List UInt8 := dkwX3_noses_0 ++ dktX3_noses_1
theorem dksX3_noses_0 : cX3_noses.data.toList.drop 0 = dktX3_noses_0 := by decide +kernel
theorem dksX3_noses_1 : cX3_noses.data.toList.drop 24 = dktX3_noses_1 := dk_seg dksX3_noses_0 24 rfl rfl
theorem dX3_noses_0 : decode cX3_noses 0 = .ok (.aload_n 0, 1) := dk_42 (dk_at dksX3_noses_0 0 rfl rfl)
theorem dX3_noses_1 : decode cX3_noses 1 = .ok (.iconst 0, 1) := dk_3 (dk_at dksX3_noses_0 1 rfl rfl)
theorem dX3_noses_2 : decode cX3_noses 2 = .ok (.putfield 27, 3) := dk_181 0 27 (dk_at dksX3_noses_0 2 rfl rfl)
theorem dX3_noses_5 : decode cX3_noses 5 = .ok (.iconst 0, 1) := dk_3 (dk_at dksX3_noses_0 5 rfl rfl)
theorem dX3_noses_6 : decode cX3_noses 6 = .ok (.istore_n 1, 1) := dk_60 (dk_at dksX3_noses_0 6 rfl rfl)
theorem dX3_noses_7 : decode cX3_noses 7 = .ok (.aload_n 0, 1) := dk_42 (dk_at dksX3_noses_0 7 rfl rfl)
theorem dX3_noses_8 : decode cX3_noses 8 = .ok (.iconst 0, 1) := dk_3 (dk_at dksX3_noses_0 8 rfl rfl)
theorem dX3_noses_9 : decode cX3_noses 9 = .ok (.invokevirtual 129, 3) := dk_182 0 129 (dk_at dksX3_noses_0 9 rfl rfl)
theorem dX3_noses_12 : decode cX3_noses 12 = .ok (.istore_n 2, 1) := dk_61 (dk_at dksX3_noses_0 12 rfl rfl)
theorem dX3_noses_13 : decode cX3_noses 13 = .ok (.iload_n 2, 1) := dk_28 (dk_at dksX3_noses_0 13 rfl rfl)
theorem dX3_noses_14 : decode cX3_noses 14 = .ok (.iconst (-1), 1) := dk_2 (dk_at dksX3_noses_0 14 rfl rfl)
theorem dX3_noses_15 : decode cX3_noses 15 = .ok (.if_icmp .eq 22, 3) := dk_159 0 22 (dk_at dksX3_noses_0 15 rfl rfl)
theorem dX3_noses_18 : decode cX3_noses 18 = .ok (.iinc 1 1, 3) := dk_132 1 1 (dk_at dksX3_noses_0 18 rfl rfl)
theorem dX3_noses_21 : decode cX3_noses 21 = .ok (.aload_n 0, 1) := dk_42 (dk_at dksX3_noses_0 21 rfl rfl)
theorem dX3_noses_22 : decode cX3_noses 22 = .ok (.aload_n 0, 1) := dk_42 (dk_at dksX3_noses_0 22 rfl rfl)
theorem dX3_noses_23 : decode cX3_noses 23 = .ok (.iload_n 2, 1) := dk_28 (dk_at dksX3_noses_0 23 rfl rfl)
theorem dX3_noses_24 : decode cX3_noses 24 = .ok (.iconst 3, 1) := dk_6 (dk_at dksX3_noses_1 0 rfl rfl)
theorem dX3_noses_25 : decode cX3_noses 25 = .ok (.invokevirtual 64, 3) := dk_182 0 64 (dk_at dksX3_noses_1 1 rfl rfl)
theorem dX3_noses_28 : decode cX3_noses 28 = .ok (.iconst 1, 1) := dk_4 (dk_at dksX3_noses_1 4 rfl rfl)
theorem dX3_noses_29 : decode cX3_noses 29 = .ok (.iadd, 1) := dk_96 (dk_at dksX3_noses_1 5 rfl rfl)
theorem dX3_noses_30 : decode cX3_noses 30 = .ok (.invokevirtual 129, 3) := dk_182 0 129 (dk_at dksX3_noses_1 6 rfl rfl)
theorem dX3_noses_33 : decode cX3_noses 33 = .ok (.istore_n 2, 1) := dk_61 (dk_at dksX3_noses_1 9 rfl rfl)
theorem dX3_noses_34 : decode cX3_noses 34 = .ok (.goto (-21), 3) := dk_167 255 235 (dk_at dksX3_noses_1 10 rfl rfl)
theorem dX3_noses_37 : decode cX3_noses 37 = .ok (.iload_n 1, 1) := dk_27 (dk_at dksX3_noses_1 13 rfl rfl)
theorem dX3_noses_38 : decode cX3_noses 38 = .ok (.ireturn, 1) := dk_172 (dk_at dksX3_noses_1 14 rfl rfl)
abbrev cX3_passed : ByteArray := prog_14_method_67_code
def yX3_passed : MethodName := ⟨RX3, "passed", "(I)I"⟩
def dkwX3_passed_2 : List UInt8 := [132, 2, 1, 167, 255, 208, 42, 4, 181, 0, 27, 3, 172]
abbrev dktX3_passed_2 : List UInt8 := dkwX3_passed_2 ++ []
def dkwX3_passed_1 : List UInt8 := [28, 16, 9, 182, 0, 64, 27, 160, 0, 7, 4, 167, 0, 4, 3, 182, 0, 172, 153, 0, 5, 28, 172]
abbrev dktX3_passed_1 : List UInt8 := dkwX3_passed_1 ++ dktX3_passed_2
def dkwX3_passed_0 : List UInt8 := [3, 61, 28, 42, 180, 0, 9, 3, 46, 162, 0, 44, 42, 42, 28, 5, 182, 0, 64, 5, 160, 0, 18, 42]
abbrev dktX3_passed_0 : List UInt8 := dkwX3_passed_0 ++ dktX3_passed_1
theorem dksX3_passed_0 : cX3_passed.data.toList.drop 0 = dktX3_passed_0 := by decide +kernel
theorem dksX3_passed_1 : cX3_passed.data.toList.drop 24 = dktX3_passed_1 := dk_seg dksX3_passed_0 24 rfl rfl
theorem dksX3_passed_2 : cX3_passed.data.toList.drop 47 = dktX3_passed_2 := dk_seg dksX3_passed_1 23 rfl rfl
theorem dX3_passed_0 : decode cX3_passed 0 = .ok (.iconst 0, 1) := dk_3 (dk_at dksX3_passed_0 0 rfl rfl)
theorem dX3_passed_1 : decode cX3_passed 1 = .ok (.istore_n 2, 1) := dk_61 (dk_at dksX3_passed_0 1 rfl rfl)
theorem dX3_passed_2 : decode cX3_passed 2 = .ok (.iload_n 2, 1) := dk_28 (dk_at dksX3_passed_0 2 rfl rfl)
theorem dX3_passed_3 : decode cX3_passed 3 = .ok (.aload_n 0, 1) := dk_42 (dk_at dksX3_passed_0 3 rfl rfl)
theorem dX3_passed_4 : decode cX3_passed 4 = .ok (.getfield 9, 3) := dk_180 0 9 (dk_at dksX3_passed_0 4 rfl rfl)
theorem dX3_passed_7 : decode cX3_passed 7 = .ok (.iconst 0, 1) := dk_3 (dk_at dksX3_passed_0 7 rfl rfl)
theorem dX3_passed_8 : decode cX3_passed 8 = .ok (.iaload, 1) := dk_46 (dk_at dksX3_passed_0 8 rfl rfl)
theorem dX3_passed_9 : decode cX3_passed 9 = .ok (.if_icmp .ge 44, 3) := dk_162 0 44 (dk_at dksX3_passed_0 9 rfl rfl)
theorem dX3_passed_12 : decode cX3_passed 12 = .ok (.aload_n 0, 1) := dk_42 (dk_at dksX3_passed_0 12 rfl rfl)
theorem dX3_passed_13 : decode cX3_passed 13 = .ok (.aload_n 0, 1) := dk_42 (dk_at dksX3_passed_0 13 rfl rfl)
theorem dX3_passed_14 : decode cX3_passed 14 = .ok (.iload_n 2, 1) := dk_28 (dk_at dksX3_passed_0 14 rfl rfl)
theorem dX3_passed_15 : decode cX3_passed 15 = .ok (.iconst 2, 1) := dk_5 (dk_at dksX3_passed_0 15 rfl rfl)
theorem dX3_passed_16 : decode cX3_passed 16 = .ok (.invokevirtual 64, 3) := dk_182 0 64 (dk_at dksX3_passed_0 16 rfl rfl)
theorem dX3_passed_19 : decode cX3_passed 19 = .ok (.iconst 2, 1) := dk_5 (dk_at dksX3_passed_0 19 rfl rfl)
theorem dX3_passed_20 : decode cX3_passed 20 = .ok (.if_icmp .ne 18, 3) := dk_160 0 18 (dk_at dksX3_passed_0 20 rfl rfl)
theorem dX3_passed_23 : decode cX3_passed 23 = .ok (.aload_n 0, 1) := dk_42 (dk_at dksX3_passed_0 23 rfl rfl)
theorem dX3_passed_24 : decode cX3_passed 24 = .ok (.iload_n 2, 1) := dk_28 (dk_at dksX3_passed_1 0 rfl rfl)
theorem dX3_passed_25 : decode cX3_passed 25 = .ok (.bipush 9, 2) := dk_16 9 (dk_at dksX3_passed_1 1 rfl rfl)
theorem dX3_passed_27 : decode cX3_passed 27 = .ok (.invokevirtual 64, 3) := dk_182 0 64 (dk_at dksX3_passed_1 3 rfl rfl)
theorem dX3_passed_30 : decode cX3_passed 30 = .ok (.iload_n 1, 1) := dk_27 (dk_at dksX3_passed_1 6 rfl rfl)
theorem dX3_passed_31 : decode cX3_passed 31 = .ok (.if_icmp .ne 7, 3) := dk_160 0 7 (dk_at dksX3_passed_1 7 rfl rfl)
theorem dX3_passed_34 : decode cX3_passed 34 = .ok (.iconst 1, 1) := dk_4 (dk_at dksX3_passed_1 10 rfl rfl)
theorem dX3_passed_35 : decode cX3_passed 35 = .ok (.goto 4, 3) := dk_167 0 4 (dk_at dksX3_passed_1 11 rfl rfl)
theorem dX3_passed_38 : decode cX3_passed 38 = .ok (.iconst 0, 1) := dk_3 (dk_at dksX3_passed_1 14 rfl rfl)
theorem dX3_passed_39 : decode cX3_passed 39 = .ok (.invokevirtual 172, 3) := dk_182 0 172 (dk_at dksX3_passed_1 15 rfl rfl)
theorem dX3_passed_42 : decode cX3_passed 42 = .ok (.ifCond .eq 5, 3) := dk_153 0 5 (dk_at dksX3_passed_1 18 rfl rfl)
theorem dX3_passed_45 : decode cX3_passed 45 = .ok (.iload_n 2, 1) := dk_28 (dk_at dksX3_passed_1 21 rfl rfl)
theorem dX3_passed_46 : decode cX3_passed 46 = .ok (.ireturn, 1) := dk_172 (dk_at dksX3_passed_1 22 rfl rfl)
theorem dX3_passed_47 : decode cX3_passed 47 = .ok (.iinc 2 1, 3) := dk_132 2 1 (dk_at dksX3_passed_2 0 rfl rfl)
theorem dX3_passed_50 : decode cX3_passed 50 = .ok (.goto (-48), 3) := dk_167 255 208 (dk_at dksX3_passed_2 3 rfl rfl)
theorem dX3_passed_53 : decode cX3_passed 53 = .ok (.aload_n 0, 1) := dk_42 (dk_at dksX3_passed_2 6 rfl rfl)
theorem dX3_passed_54 : decode cX3_passed 54 = .ok (.iconst 1, 1) := dk_4 (dk_at dksX3_passed_2 7 rfl rfl)
theorem dX3_passed_55 : decode cX3_passed 55 = .ok (.putfield 27, 3) := dk_181 0 27 (dk_at dksX3_passed_2 8 rfl rfl)
theorem dX3_passed_58 : decode cX3_passed 58 = .ok (.iconst 0, 1) := dk_3 (dk_at dksX3_passed_2 11 rfl rfl)
theorem dX3_passed_59 : decode cX3_passed 59 = .ok (.ireturn, 1) := dk_172 (dk_at dksX3_passed_2 12 rfl rfl)
abbrev cX3_wouldPass : ByteArray := prog_14_method_68_code
def yX3_wouldPass : MethodName := ⟨RX3, "wouldPass", "(I)I"⟩
def dkwX3_wouldPass_2 : List UInt8 := [3, 182, 0, 30, 28, 172]
abbrev dktX3_wouldPass_2 : List UInt8 := dkwX3_wouldPass_2 ++ []
def dkwX3_wouldPass_1 : List UInt8 := [61, 3, 62, 29, 27, 162, 0, 16, 28, 42, 182, 0, 166, 96, 61, 132, 3, 1, 167, 255, 241, 42, 16, 11]
abbrev dktX3_wouldPass_1 : List UInt8 := dkwX3_wouldPass_1 ++ dktX3_wouldPass_2
def dkwX3_wouldPass_0 : List UInt8 := [42, 27, 3, 16, 20, 184, 0, 49, 182, 0, 172, 154, 0, 5, 3, 172, 42, 3, 16, 11, 182, 0, 30, 3]
abbrev dktX3_wouldPass_0 : List UInt8 := dkwX3_wouldPass_0 ++ dktX3_wouldPass_1
theorem dksX3_wouldPass_0 : cX3_wouldPass.data.toList.drop 0 = dktX3_wouldPass_0 := by decide +kernel
theorem dksX3_wouldPass_1 : cX3_wouldPass.data.toList.drop 24 = dktX3_wouldPass_1 := dk_seg dksX3_wouldPass_0 24 rfl rfl
theorem dksX3_wouldPass_2 : cX3_wouldPass.data.toList.drop 48 = dktX3_wouldPass_2 := dk_seg dksX3_wouldPass_1 24 rfl rfl
theorem dX3_wouldPass_0 : decode cX3_wouldPass 0 = .ok (.aload_n 0, 1) := dk_42 (dk_at dksX3_wouldPass_0 0 rfl rfl)
theorem dX3_wouldPass_1 : decode cX3_wouldPass 1 = .ok (.iload_n 1, 1) := dk_27 (dk_at dksX3_wouldPass_0 1 rfl rfl)
theorem dX3_wouldPass_2 : decode cX3_wouldPass 2 = .ok (.iconst 0, 1) := dk_3 (dk_at dksX3_wouldPass_0 2 rfl rfl)
theorem dX3_wouldPass_3 : decode cX3_wouldPass 3 = .ok (.bipush 20, 2) := dk_16 20 (dk_at dksX3_wouldPass_0 3 rfl rfl)
theorem dX3_wouldPass_5 : decode cX3_wouldPass 5 = .ok (.invokestatic 49, 3) := dk_184 0 49 (dk_at dksX3_wouldPass_0 5 rfl rfl)
theorem dX3_wouldPass_8 : decode cX3_wouldPass 8 = .ok (.invokevirtual 172, 3) := dk_182 0 172 (dk_at dksX3_wouldPass_0 8 rfl rfl)
theorem dX3_wouldPass_11 : decode cX3_wouldPass 11 = .ok (.ifCond .ne 5, 3) := dk_154 0 5 (dk_at dksX3_wouldPass_0 11 rfl rfl)
theorem dX3_wouldPass_14 : decode cX3_wouldPass 14 = .ok (.iconst 0, 1) := dk_3 (dk_at dksX3_wouldPass_0 14 rfl rfl)
theorem dX3_wouldPass_15 : decode cX3_wouldPass 15 = .ok (.ireturn, 1) := dk_172 (dk_at dksX3_wouldPass_0 15 rfl rfl)
theorem dX3_wouldPass_16 : decode cX3_wouldPass 16 = .ok (.aload_n 0, 1) := dk_42 (dk_at dksX3_wouldPass_0 16 rfl rfl)
theorem dX3_wouldPass_17 : decode cX3_wouldPass 17 = .ok (.iconst 0, 1) := dk_3 (dk_at dksX3_wouldPass_0 17 rfl rfl)
theorem dX3_wouldPass_18 : decode cX3_wouldPass 18 = .ok (.bipush 11, 2) := dk_16 11 (dk_at dksX3_wouldPass_0 18 rfl rfl)
theorem dX3_wouldPass_20 : decode cX3_wouldPass 20 = .ok (.invokevirtual 30, 3) := dk_182 0 30 (dk_at dksX3_wouldPass_0 20 rfl rfl)
theorem dX3_wouldPass_23 : decode cX3_wouldPass 23 = .ok (.iconst 0, 1) := dk_3 (dk_at dksX3_wouldPass_0 23 rfl rfl)
theorem dX3_wouldPass_24 : decode cX3_wouldPass 24 = .ok (.istore_n 2, 1) := dk_61 (dk_at dksX3_wouldPass_1 0 rfl rfl)
theorem dX3_wouldPass_25 : decode cX3_wouldPass 25 = .ok (.iconst 0, 1) := dk_3 (dk_at dksX3_wouldPass_1 1 rfl rfl)
theorem dX3_wouldPass_26 : decode cX3_wouldPass 26 = .ok (.istore_n 3, 1) := dk_62 (dk_at dksX3_wouldPass_1 2 rfl rfl)
theorem dX3_wouldPass_27 : decode cX3_wouldPass 27 = .ok (.iload_n 3, 1) := dk_29 (dk_at dksX3_wouldPass_1 3 rfl rfl)
theorem dX3_wouldPass_28 : decode cX3_wouldPass 28 = .ok (.iload_n 1, 1) := dk_27 (dk_at dksX3_wouldPass_1 4 rfl rfl)
theorem dX3_wouldPass_29 : decode cX3_wouldPass 29 = .ok (.if_icmp .ge 16, 3) := dk_162 0 16 (dk_at dksX3_wouldPass_1 5 rfl rfl)
theorem dX3_wouldPass_32 : decode cX3_wouldPass 32 = .ok (.iload_n 2, 1) := dk_28 (dk_at dksX3_wouldPass_1 8 rfl rfl)
theorem dX3_wouldPass_33 : decode cX3_wouldPass 33 = .ok (.aload_n 0, 1) := dk_42 (dk_at dksX3_wouldPass_1 9 rfl rfl)
theorem dX3_wouldPass_34 : decode cX3_wouldPass 34 = .ok (.invokevirtual 166, 3) := dk_182 0 166 (dk_at dksX3_wouldPass_1 10 rfl rfl)
theorem dX3_wouldPass_37 : decode cX3_wouldPass 37 = .ok (.iadd, 1) := dk_96 (dk_at dksX3_wouldPass_1 13 rfl rfl)
theorem dX3_wouldPass_38 : decode cX3_wouldPass 38 = .ok (.istore_n 2, 1) := dk_61 (dk_at dksX3_wouldPass_1 14 rfl rfl)
theorem dX3_wouldPass_39 : decode cX3_wouldPass 39 = .ok (.iinc 3 1, 3) := dk_132 3 1 (dk_at dksX3_wouldPass_1 15 rfl rfl)
theorem dX3_wouldPass_42 : decode cX3_wouldPass 42 = .ok (.goto (-15), 3) := dk_167 255 241 (dk_at dksX3_wouldPass_1 18 rfl rfl)
theorem dX3_wouldPass_45 : decode cX3_wouldPass 45 = .ok (.aload_n 0, 1) := dk_42 (dk_at dksX3_wouldPass_1 21 rfl rfl)
theorem dX3_wouldPass_46 : decode cX3_wouldPass 46 = .ok (.bipush 11, 2) := dk_16 11 (dk_at dksX3_wouldPass_1 22 rfl rfl)
theorem dX3_wouldPass_48 : decode cX3_wouldPass 48 = .ok (.iconst 0, 1) := dk_3 (dk_at dksX3_wouldPass_2 0 rfl rfl)
theorem dX3_wouldPass_49 : decode cX3_wouldPass 49 = .ok (.invokevirtual 30, 3) := dk_182 0 30 (dk_at dksX3_wouldPass_2 1 rfl rfl)
theorem dX3_wouldPass_52 : decode cX3_wouldPass 52 = .ok (.iload_n 2, 1) := dk_28 (dk_at dksX3_wouldPass_2 4 rfl rfl)
theorem dX3_wouldPass_53 : decode cX3_wouldPass 53 = .ok (.ireturn, 1) := dk_172 (dk_at dksX3_wouldPass_2 5 rfl rfl)
abbrev cX3_over : ByteArray := prog_14_method_70_code
def yX3_over : MethodName := ⟨RX3, "over", "()I"⟩
def dkwX3_over_2 : List UInt8 := [182, 0, 172, 153, 0, 7, 27, 167, 0, 4, 3, 172]
abbrev dktX3_over_2 : List UInt8 := dkwX3_over_2 ++ []
def dkwX3_over_1 : List UInt8 := [182, 0, 166, 61, 132, 1, 1, 167, 255, 235, 42, 182, 0, 191, 61, 42, 16, 11, 3, 182, 0, 30, 42, 28]
abbrev dktX3_over_1 : List UInt8 := dkwX3_over_1 ++ dktX3_over_2
def dkwX3_over_0 : List UInt8 := [42, 3, 16, 11, 182, 0, 30, 3, 60, 27, 16, 99, 162, 0, 21, 42, 182, 0, 191, 154, 0, 14, 42]
abbrev dktX3_over_0 : List UInt8 := dkwX3_over_0 ++ dktX3_over_1
theorem dksX3_over_0 : cX3_over.data.toList.drop 0 = dktX3_over_0 := by decide +kernel
theorem dksX3_over_1 : cX3_over.data.toList.drop 23 = dktX3_over_1 := dk_seg dksX3_over_0 23 rfl rfl
theorem dksX3_over_2 : cX3_over.data.toList.drop 47 = dktX3_over_2 := dk_seg dksX3_over_1 24 rfl rfl
theorem dX3_over_0 : decode cX3_over 0 = .ok (.aload_n 0, 1) := dk_42 (dk_at dksX3_over_0 0 rfl rfl)
theorem dX3_over_1 : decode cX3_over 1 = .ok (.iconst 0, 1) := dk_3 (dk_at dksX3_over_0 1 rfl rfl)
theorem dX3_over_2 : decode cX3_over 2 = .ok (.bipush 11, 2) := dk_16 11 (dk_at dksX3_over_0 2 rfl rfl)
theorem dX3_over_4 : decode cX3_over 4 = .ok (.invokevirtual 30, 3) := dk_182 0 30 (dk_at dksX3_over_0 4 rfl rfl)
theorem dX3_over_7 : decode cX3_over 7 = .ok (.iconst 0, 1) := dk_3 (dk_at dksX3_over_0 7 rfl rfl)
theorem dX3_over_8 : decode cX3_over 8 = .ok (.istore_n 1, 1) := dk_60 (dk_at dksX3_over_0 8 rfl rfl)
theorem dX3_over_9 : decode cX3_over 9 = .ok (.iload_n 1, 1) := dk_27 (dk_at dksX3_over_0 9 rfl rfl)
theorem dX3_over_10 : decode cX3_over 10 = .ok (.bipush 99, 2) := dk_16 99 (dk_at dksX3_over_0 10 rfl rfl)
theorem dX3_over_12 : decode cX3_over 12 = .ok (.if_icmp .ge 21, 3) := dk_162 0 21 (dk_at dksX3_over_0 12 rfl rfl)
theorem dX3_over_15 : decode cX3_over 15 = .ok (.aload_n 0, 1) := dk_42 (dk_at dksX3_over_0 15 rfl rfl)
theorem dX3_over_16 : decode cX3_over 16 = .ok (.invokevirtual 191, 3) := dk_182 0 191 (dk_at dksX3_over_0 16 rfl rfl)
theorem dX3_over_19 : decode cX3_over 19 = .ok (.ifCond .ne 14, 3) := dk_154 0 14 (dk_at dksX3_over_0 19 rfl rfl)
theorem dX3_over_22 : decode cX3_over 22 = .ok (.aload_n 0, 1) := dk_42 (dk_at dksX3_over_0 22 rfl rfl)
theorem dX3_over_23 : decode cX3_over 23 = .ok (.invokevirtual 166, 3) := dk_182 0 166 (dk_at dksX3_over_1 0 rfl rfl)
theorem dX3_over_26 : decode cX3_over 26 = .ok (.istore_n 2, 1) := dk_61 (dk_at dksX3_over_1 3 rfl rfl)
theorem dX3_over_27 : decode cX3_over 27 = .ok (.iinc 1 1, 3) := dk_132 1 1 (dk_at dksX3_over_1 4 rfl rfl)
theorem dX3_over_30 : decode cX3_over 30 = .ok (.goto (-21), 3) := dk_167 255 235 (dk_at dksX3_over_1 7 rfl rfl)
theorem dX3_over_33 : decode cX3_over 33 = .ok (.aload_n 0, 1) := dk_42 (dk_at dksX3_over_1 10 rfl rfl)
theorem dX3_over_34 : decode cX3_over 34 = .ok (.invokevirtual 191, 3) := dk_182 0 191 (dk_at dksX3_over_1 11 rfl rfl)
theorem dX3_over_37 : decode cX3_over 37 = .ok (.istore_n 2, 1) := dk_61 (dk_at dksX3_over_1 14 rfl rfl)
theorem dX3_over_38 : decode cX3_over 38 = .ok (.aload_n 0, 1) := dk_42 (dk_at dksX3_over_1 15 rfl rfl)
theorem dX3_over_39 : decode cX3_over 39 = .ok (.bipush 11, 2) := dk_16 11 (dk_at dksX3_over_1 16 rfl rfl)
theorem dX3_over_41 : decode cX3_over 41 = .ok (.iconst 0, 1) := dk_3 (dk_at dksX3_over_1 18 rfl rfl)
theorem dX3_over_42 : decode cX3_over 42 = .ok (.invokevirtual 30, 3) := dk_182 0 30 (dk_at dksX3_over_1 19 rfl rfl)
theorem dX3_over_45 : decode cX3_over 45 = .ok (.aload_n 0, 1) := dk_42 (dk_at dksX3_over_1 22 rfl rfl)
theorem dX3_over_46 : decode cX3_over 46 = .ok (.iload_n 2, 1) := dk_28 (dk_at dksX3_over_1 23 rfl rfl)
theorem dX3_over_47 : decode cX3_over 47 = .ok (.invokevirtual 172, 3) := dk_182 0 172 (dk_at dksX3_over_2 0 rfl rfl)
theorem dX3_over_50 : decode cX3_over 50 = .ok (.ifCond .eq 7, 3) := dk_153 0 7 (dk_at dksX3_over_2 3 rfl rfl)
theorem dX3_over_53 : decode cX3_over 53 = .ok (.iload_n 1, 1) := dk_27 (dk_at dksX3_over_2 6 rfl rfl)
theorem dX3_over_54 : decode cX3_over 54 = .ok (.goto 4, 3) := dk_167 0 4 (dk_at dksX3_over_2 7 rfl rfl)
theorem dX3_over_57 : decode cX3_over 57 = .ok (.iconst 0, 1) := dk_3 (dk_at dksX3_over_2 10 rfl rfl)
theorem dX3_over_58 : decode cX3_over 58 = .ok (.ireturn, 1) := dk_172 (dk_at dksX3_over_2 11 rfl rfl)
abbrev cX3_isOver : ByteArray := prog_14_method_69_code
def yX3_isOver : MethodName := ⟨RX3, "isOver", "()Z"⟩
def dkwX3_isOver_1 : List UInt8 := [172]
abbrev dktX3_isOver_1 : List UInt8 := dkwX3_isOver_1 ++ []
def dkwX3_isOver_0 : List UInt8 := [42, 182, 0, 97, 42, 3, 182, 0, 111, 96, 42, 4, 182, 0, 111, 96, 154, 0, 7, 4, 167, 0, 4, 3]
abbrev dktX3_isOver_0 : List UInt8 := dkwX3_isOver_0 ++ dktX3_isOver_1
theorem dksX3_isOver_0 : cX3_isOver.data.toList.drop 0 = dktX3_isOver_0 := by decide +kernel
theorem dksX3_isOver_1 : cX3_isOver.data.toList.drop 24 = dktX3_isOver_1 := dk_seg dksX3_isOver_0 24 rfl rfl
theorem dX3_isOver_0 : decode cX3_isOver 0 = .ok (.aload_n 0, 1) := dk_42 (dk_at dksX3_isOver_0 0 rfl rfl)
theorem dX3_isOver_1 : decode cX3_isOver 1 = .ok (.invokevirtual 97, 3) := dk_182 0 97 (dk_at dksX3_isOver_0 1 rfl rfl)
theorem dX3_isOver_4 : decode cX3_isOver 4 = .ok (.aload_n 0, 1) := dk_42 (dk_at dksX3_isOver_0 4 rfl rfl)
theorem dX3_isOver_5 : decode cX3_isOver 5 = .ok (.iconst 0, 1) := dk_3 (dk_at dksX3_isOver_0 5 rfl rfl)
theorem dX3_isOver_6 : decode cX3_isOver 6 = .ok (.invokevirtual 111, 3) := dk_182 0 111 (dk_at dksX3_isOver_0 6 rfl rfl)
theorem dX3_isOver_9 : decode cX3_isOver 9 = .ok (.iadd, 1) := dk_96 (dk_at dksX3_isOver_0 9 rfl rfl)
theorem dX3_isOver_10 : decode cX3_isOver 10 = .ok (.aload_n 0, 1) := dk_42 (dk_at dksX3_isOver_0 10 rfl rfl)
theorem dX3_isOver_11 : decode cX3_isOver 11 = .ok (.iconst 1, 1) := dk_4 (dk_at dksX3_isOver_0 11 rfl rfl)
theorem dX3_isOver_12 : decode cX3_isOver 12 = .ok (.invokevirtual 111, 3) := dk_182 0 111 (dk_at dksX3_isOver_0 12 rfl rfl)
theorem dX3_isOver_15 : decode cX3_isOver 15 = .ok (.iadd, 1) := dk_96 (dk_at dksX3_isOver_0 15 rfl rfl)
theorem dX3_isOver_16 : decode cX3_isOver 16 = .ok (.ifCond .ne 7, 3) := dk_154 0 7 (dk_at dksX3_isOver_0 16 rfl rfl)
theorem dX3_isOver_19 : decode cX3_isOver 19 = .ok (.iconst 1, 1) := dk_4 (dk_at dksX3_isOver_0 19 rfl rfl)
theorem dX3_isOver_20 : decode cX3_isOver 20 = .ok (.goto 4, 3) := dk_167 0 4 (dk_at dksX3_isOver_0 20 rfl rfl)
theorem dX3_isOver_23 : decode cX3_isOver 23 = .ok (.iconst 0, 1) := dk_3 (dk_at dksX3_isOver_0 23 rfl rfl)
theorem dX3_isOver_24 : decode cX3_isOver 24 = .ok (.ireturn, 1) := dk_172 (dk_at dksX3_isOver_1 0 rfl rfl)
abbrev cX3_longest : ByteArray := prog_14_method_72_code
def yX3_longest : MethodName := ⟨RX3, "longest", "(I)I"⟩
def dkwX3_longest_5 : List UInt8 := [172, 132, 2, 1, 167, 255, 135, 42, 4, 181, 0, 27, 3, 172]
abbrev dktX3_longest_5 : List UInt8 := dkwX3_longest_5 ++ []
def dkwX3_longest_4 : List UInt8 := [28, 182, 0, 195, 153, 0, 12, 29, 27, 160, 0, 7, 4, 167, 0, 4, 3, 182, 0, 172, 153, 0, 5, 28]
abbrev dktX3_longest_4 : List UInt8 := dkwX3_longest_4 ++ dktX3_longest_5
def dkwX3_longest_3 : List UInt8 := [160, 0, 13, 21, 4, 28, 162, 0, 7, 4, 167, 0, 4, 3, 96, 62, 132, 4, 1, 167, 255, 183, 42, 42]
abbrev dktX3_longest_3 : List UInt8 := dkwX3_longest_3 ++ dktX3_longest_4
def dkwX3_longest_2 : List UInt8 := [16, 7, 182, 0, 64, 163, 0, 27, 42, 21, 4, 16, 7, 182, 0, 64, 42, 28, 16, 7, 182, 0, 64]
abbrev dktX3_longest_2 : List UInt8 := dkwX3_longest_2 ++ dktX3_longest_3
def dkwX3_longest_1 : List UInt8 := [46, 162, 0, 68, 29, 42, 21, 4, 182, 0, 195, 153, 0, 49, 42, 21, 4, 16, 7, 182, 0, 64, 42, 28]
abbrev dktX3_longest_1 : List UInt8 := dkwX3_longest_1 ++ dktX3_longest_2
def dkwX3_longest_0 : List UInt8 := [3, 61, 28, 42, 180, 0, 9, 3, 46, 162, 0, 117, 3, 62, 3, 54, 4, 21, 4, 42, 180, 0, 9, 3]
abbrev dktX3_longest_0 : List UInt8 := dkwX3_longest_0 ++ dktX3_longest_1
theorem dksX3_longest_0 : cX3_longest.data.toList.drop 0 = dktX3_longest_0 := by decide +kernel
theorem dksX3_longest_1 : cX3_longest.data.toList.drop 24 = dktX3_longest_1 := dk_seg dksX3_longest_0 24 rfl rfl
theorem dksX3_longest_2 : cX3_longest.data.toList.drop 48 = dktX3_longest_2 := dk_seg dksX3_longest_1 24 rfl rfl
theorem dksX3_longest_3 : cX3_longest.data.toList.drop 71 = dktX3_longest_3 := dk_seg dksX3_longest_2 23 rfl rfl
theorem dksX3_longest_4 : cX3_longest.data.toList.drop 95 = dktX3_longest_4 := dk_seg dksX3_longest_3 24 rfl rfl
theorem dksX3_longest_5 : cX3_longest.data.toList.drop 119 = dktX3_longest_5 := dk_seg dksX3_longest_4 24 rfl rfl
theorem dX3_longest_0 : decode cX3_longest 0 = .ok (.iconst 0, 1) := dk_3 (dk_at dksX3_longest_0 0 rfl rfl)
theorem dX3_longest_1 : decode cX3_longest 1 = .ok (.istore_n 2, 1) := dk_61 (dk_at dksX3_longest_0 1 rfl rfl)
theorem dX3_longest_2 : decode cX3_longest 2 = .ok (.iload_n 2, 1) := dk_28 (dk_at dksX3_longest_0 2 rfl rfl)
theorem dX3_longest_3 : decode cX3_longest 3 = .ok (.aload_n 0, 1) := dk_42 (dk_at dksX3_longest_0 3 rfl rfl)
theorem dX3_longest_4 : decode cX3_longest 4 = .ok (.getfield 9, 3) := dk_180 0 9 (dk_at dksX3_longest_0 4 rfl rfl)
theorem dX3_longest_7 : decode cX3_longest 7 = .ok (.iconst 0, 1) := dk_3 (dk_at dksX3_longest_0 7 rfl rfl)
theorem dX3_longest_8 : decode cX3_longest 8 = .ok (.iaload, 1) := dk_46 (dk_at dksX3_longest_0 8 rfl rfl)
theorem dX3_longest_9 : decode cX3_longest 9 = .ok (.if_icmp .ge 117, 3) := dk_162 0 117 (dk_at dksX3_longest_0 9 rfl rfl)
theorem dX3_longest_12 : decode cX3_longest 12 = .ok (.iconst 0, 1) := dk_3 (dk_at dksX3_longest_0 12 rfl rfl)
theorem dX3_longest_13 : decode cX3_longest 13 = .ok (.istore_n 3, 1) := dk_62 (dk_at dksX3_longest_0 13 rfl rfl)
theorem dX3_longest_14 : decode cX3_longest 14 = .ok (.iconst 0, 1) := dk_3 (dk_at dksX3_longest_0 14 rfl rfl)
theorem dX3_longest_15 : decode cX3_longest 15 = .ok (.istore 4, 2) := dk_54 4 (dk_at dksX3_longest_0 15 rfl rfl)
theorem dX3_longest_17 : decode cX3_longest 17 = .ok (.iload 4, 2) := dk_21 4 (dk_at dksX3_longest_0 17 rfl rfl)
theorem dX3_longest_19 : decode cX3_longest 19 = .ok (.aload_n 0, 1) := dk_42 (dk_at dksX3_longest_0 19 rfl rfl)
theorem dX3_longest_20 : decode cX3_longest 20 = .ok (.getfield 9, 3) := dk_180 0 9 (dk_at dksX3_longest_0 20 rfl rfl)
theorem dX3_longest_23 : decode cX3_longest 23 = .ok (.iconst 0, 1) := dk_3 (dk_at dksX3_longest_0 23 rfl rfl)
theorem dX3_longest_24 : decode cX3_longest 24 = .ok (.iaload, 1) := dk_46 (dk_at dksX3_longest_1 0 rfl rfl)
theorem dX3_longest_25 : decode cX3_longest 25 = .ok (.if_icmp .ge 68, 3) := dk_162 0 68 (dk_at dksX3_longest_1 1 rfl rfl)
theorem dX3_longest_28 : decode cX3_longest 28 = .ok (.iload_n 3, 1) := dk_29 (dk_at dksX3_longest_1 4 rfl rfl)
theorem dX3_longest_29 : decode cX3_longest 29 = .ok (.aload_n 0, 1) := dk_42 (dk_at dksX3_longest_1 5 rfl rfl)
theorem dX3_longest_30 : decode cX3_longest 30 = .ok (.iload 4, 2) := dk_21 4 (dk_at dksX3_longest_1 6 rfl rfl)
theorem dX3_longest_32 : decode cX3_longest 32 = .ok (.invokevirtual 195, 3) := dk_182 0 195 (dk_at dksX3_longest_1 8 rfl rfl)
theorem dX3_longest_35 : decode cX3_longest 35 = .ok (.ifCond .eq 49, 3) := dk_153 0 49 (dk_at dksX3_longest_1 11 rfl rfl)
theorem dX3_longest_38 : decode cX3_longest 38 = .ok (.aload_n 0, 1) := dk_42 (dk_at dksX3_longest_1 14 rfl rfl)
theorem dX3_longest_39 : decode cX3_longest 39 = .ok (.iload 4, 2) := dk_21 4 (dk_at dksX3_longest_1 15 rfl rfl)
theorem dX3_longest_41 : decode cX3_longest 41 = .ok (.bipush 7, 2) := dk_16 7 (dk_at dksX3_longest_1 17 rfl rfl)
theorem dX3_longest_43 : decode cX3_longest 43 = .ok (.invokevirtual 64, 3) := dk_182 0 64 (dk_at dksX3_longest_1 19 rfl rfl)
theorem dX3_longest_46 : decode cX3_longest 46 = .ok (.aload_n 0, 1) := dk_42 (dk_at dksX3_longest_1 22 rfl rfl)
theorem dX3_longest_47 : decode cX3_longest 47 = .ok (.iload_n 2, 1) := dk_28 (dk_at dksX3_longest_1 23 rfl rfl)
theorem dX3_longest_48 : decode cX3_longest 48 = .ok (.bipush 7, 2) := dk_16 7 (dk_at dksX3_longest_2 0 rfl rfl)
theorem dX3_longest_50 : decode cX3_longest 50 = .ok (.invokevirtual 64, 3) := dk_182 0 64 (dk_at dksX3_longest_2 2 rfl rfl)
theorem dX3_longest_53 : decode cX3_longest 53 = .ok (.if_icmp .gt 27, 3) := dk_163 0 27 (dk_at dksX3_longest_2 5 rfl rfl)
theorem dX3_longest_56 : decode cX3_longest 56 = .ok (.aload_n 0, 1) := dk_42 (dk_at dksX3_longest_2 8 rfl rfl)
theorem dX3_longest_57 : decode cX3_longest 57 = .ok (.iload 4, 2) := dk_21 4 (dk_at dksX3_longest_2 9 rfl rfl)
theorem dX3_longest_59 : decode cX3_longest 59 = .ok (.bipush 7, 2) := dk_16 7 (dk_at dksX3_longest_2 11 rfl rfl)
theorem dX3_longest_61 : decode cX3_longest 61 = .ok (.invokevirtual 64, 3) := dk_182 0 64 (dk_at dksX3_longest_2 13 rfl rfl)
theorem dX3_longest_64 : decode cX3_longest 64 = .ok (.aload_n 0, 1) := dk_42 (dk_at dksX3_longest_2 16 rfl rfl)
theorem dX3_longest_65 : decode cX3_longest 65 = .ok (.iload_n 2, 1) := dk_28 (dk_at dksX3_longest_2 17 rfl rfl)
theorem dX3_longest_66 : decode cX3_longest 66 = .ok (.bipush 7, 2) := dk_16 7 (dk_at dksX3_longest_2 18 rfl rfl)
theorem dX3_longest_68 : decode cX3_longest 68 = .ok (.invokevirtual 64, 3) := dk_182 0 64 (dk_at dksX3_longest_2 20 rfl rfl)
theorem dX3_longest_71 : decode cX3_longest 71 = .ok (.if_icmp .ne 13, 3) := dk_160 0 13 (dk_at dksX3_longest_3 0 rfl rfl)
theorem dX3_longest_74 : decode cX3_longest 74 = .ok (.iload 4, 2) := dk_21 4 (dk_at dksX3_longest_3 3 rfl rfl)
theorem dX3_longest_76 : decode cX3_longest 76 = .ok (.iload_n 2, 1) := dk_28 (dk_at dksX3_longest_3 5 rfl rfl)
theorem dX3_longest_77 : decode cX3_longest 77 = .ok (.if_icmp .ge 7, 3) := dk_162 0 7 (dk_at dksX3_longest_3 6 rfl rfl)
theorem dX3_longest_80 : decode cX3_longest 80 = .ok (.iconst 1, 1) := dk_4 (dk_at dksX3_longest_3 9 rfl rfl)
theorem dX3_longest_81 : decode cX3_longest 81 = .ok (.goto 4, 3) := dk_167 0 4 (dk_at dksX3_longest_3 10 rfl rfl)
theorem dX3_longest_84 : decode cX3_longest 84 = .ok (.iconst 0, 1) := dk_3 (dk_at dksX3_longest_3 13 rfl rfl)
theorem dX3_longest_85 : decode cX3_longest 85 = .ok (.iadd, 1) := dk_96 (dk_at dksX3_longest_3 14 rfl rfl)
theorem dX3_longest_86 : decode cX3_longest 86 = .ok (.istore_n 3, 1) := dk_62 (dk_at dksX3_longest_3 15 rfl rfl)
theorem dX3_longest_87 : decode cX3_longest 87 = .ok (.iinc 4 1, 3) := dk_132 4 1 (dk_at dksX3_longest_3 16 rfl rfl)
theorem dX3_longest_90 : decode cX3_longest 90 = .ok (.goto (-73), 3) := dk_167 255 183 (dk_at dksX3_longest_3 19 rfl rfl)
theorem dX3_longest_93 : decode cX3_longest 93 = .ok (.aload_n 0, 1) := dk_42 (dk_at dksX3_longest_3 22 rfl rfl)
theorem dX3_longest_94 : decode cX3_longest 94 = .ok (.aload_n 0, 1) := dk_42 (dk_at dksX3_longest_3 23 rfl rfl)
theorem dX3_longest_95 : decode cX3_longest 95 = .ok (.iload_n 2, 1) := dk_28 (dk_at dksX3_longest_4 0 rfl rfl)
theorem dX3_longest_96 : decode cX3_longest 96 = .ok (.invokevirtual 195, 3) := dk_182 0 195 (dk_at dksX3_longest_4 1 rfl rfl)
theorem dX3_longest_99 : decode cX3_longest 99 = .ok (.ifCond .eq 12, 3) := dk_153 0 12 (dk_at dksX3_longest_4 4 rfl rfl)
theorem dX3_longest_102 : decode cX3_longest 102 = .ok (.iload_n 3, 1) := dk_29 (dk_at dksX3_longest_4 7 rfl rfl)
theorem dX3_longest_103 : decode cX3_longest 103 = .ok (.iload_n 1, 1) := dk_27 (dk_at dksX3_longest_4 8 rfl rfl)
theorem dX3_longest_104 : decode cX3_longest 104 = .ok (.if_icmp .ne 7, 3) := dk_160 0 7 (dk_at dksX3_longest_4 9 rfl rfl)
theorem dX3_longest_107 : decode cX3_longest 107 = .ok (.iconst 1, 1) := dk_4 (dk_at dksX3_longest_4 12 rfl rfl)
theorem dX3_longest_108 : decode cX3_longest 108 = .ok (.goto 4, 3) := dk_167 0 4 (dk_at dksX3_longest_4 13 rfl rfl)
theorem dX3_longest_111 : decode cX3_longest 111 = .ok (.iconst 0, 1) := dk_3 (dk_at dksX3_longest_4 16 rfl rfl)
theorem dX3_longest_112 : decode cX3_longest 112 = .ok (.invokevirtual 172, 3) := dk_182 0 172 (dk_at dksX3_longest_4 17 rfl rfl)
theorem dX3_longest_115 : decode cX3_longest 115 = .ok (.ifCond .eq 5, 3) := dk_153 0 5 (dk_at dksX3_longest_4 20 rfl rfl)
theorem dX3_longest_118 : decode cX3_longest 118 = .ok (.iload_n 2, 1) := dk_28 (dk_at dksX3_longest_4 23 rfl rfl)
theorem dX3_longest_119 : decode cX3_longest 119 = .ok (.ireturn, 1) := dk_172 (dk_at dksX3_longest_5 0 rfl rfl)
theorem dX3_longest_120 : decode cX3_longest 120 = .ok (.iinc 2 1, 3) := dk_132 2 1 (dk_at dksX3_longest_5 1 rfl rfl)
theorem dX3_longest_123 : decode cX3_longest 123 = .ok (.goto (-121), 3) := dk_167 255 135 (dk_at dksX3_longest_5 4 rfl rfl)
theorem dX3_longest_126 : decode cX3_longest 126 = .ok (.aload_n 0, 1) := dk_42 (dk_at dksX3_longest_5 7 rfl rfl)
theorem dX3_longest_127 : decode cX3_longest 127 = .ok (.iconst 1, 1) := dk_4 (dk_at dksX3_longest_5 8 rfl rfl)
theorem dX3_longest_128 : decode cX3_longest 128 = .ok (.putfield 27, 3) := dk_181 0 27 (dk_at dksX3_longest_5 9 rfl rfl)
theorem dX3_longest_131 : decode cX3_longest 131 = .ok (.iconst 0, 1) := dk_3 (dk_at dksX3_longest_5 12 rfl rfl)
theorem dX3_longest_132 : decode cX3_longest 132 = .ok (.ireturn, 1) := dk_172 (dk_at dksX3_longest_5 13 rfl rfl)
abbrev cX3_isHere : ByteArray := prog_14_method_71_code
def yX3_isHere : MethodName := ⟨RX3, "isHere", "(I)Z"⟩
def dkwX3_isHere_0 : List UInt8 := [42, 27, 5, 182, 0, 64, 4, 163, 0, 7, 4, 167, 0, 4, 3, 172]
abbrev dktX3_isHere_0 : List UInt8 := dkwX3_isHere_0 ++ []
theorem dksX3_isHere_0 : cX3_isHere.data.toList.drop 0 = dktX3_isHere_0 := by decide +kernel
theorem dX3_isHere_0 : decode cX3_isHere 0 = .ok (.aload_n 0, 1) := dk_42 (dk_at dksX3_isHere_0 0 rfl rfl)
theorem dX3_isHere_1 : decode cX3_isHere 1 = .ok (.iload_n 1, 1) := dk_27 (dk_at dksX3_isHere_0 1 rfl rfl)
theorem dX3_isHere_2 : decode cX3_isHere 2 = .ok (.iconst 2, 1) := dk_5 (dk_at dksX3_isHere_0 2 rfl rfl)
theorem dX3_isHere_3 : decode cX3_isHere 3 = .ok (.invokevirtual 64, 3) := dk_182 0 64 (dk_at dksX3_isHere_0 3 rfl rfl)
theorem dX3_isHere_6 : decode cX3_isHere 6 = .ok (.iconst 1, 1) := dk_4 (dk_at dksX3_isHere_0 6 rfl rfl)
theorem dX3_isHere_7 : decode cX3_isHere 7 = .ok (.if_icmp .gt 7, 3) := dk_163 0 7 (dk_at dksX3_isHere_0 7 rfl rfl)
theorem dX3_isHere_10 : decode cX3_isHere 10 = .ok (.iconst 1, 1) := dk_4 (dk_at dksX3_isHere_0 10 rfl rfl)
theorem dX3_isHere_11 : decode cX3_isHere 11 = .ok (.goto 4, 3) := dk_167 0 4 (dk_at dksX3_isHere_0 11 rfl rfl)
theorem dX3_isHere_14 : decode cX3_isHere 14 = .ok (.iconst 0, 1) := dk_3 (dk_at dksX3_isHere_0 14 rfl rfl)
theorem dX3_isHere_15 : decode cX3_isHere 15 = .ok (.ireturn, 1) := dk_172 (dk_at dksX3_isHere_0 15 rfl rfl)
abbrev cX3_mildest : ByteArray := prog_14_method_73_code
def yX3_mildest : MethodName := ⟨RX3, "mildest", "()I"⟩
def dkwX3_mildest_3 : List UInt8 := [167, 0, 4, 3, 172]
abbrev dktX3_mildest_3 : List UInt8 := dkwX3_mildest_3 ++ []
def dkwX3_mildest_2 : List UInt8 := [132, 2, 1, 167, 255, 213, 42, 27, 2, 159, 0, 7, 4, 167, 0, 4, 3, 182, 0, 172, 153, 0, 7, 27]
abbrev dktX3_mildest_2 : List UInt8 := dkwX3_mildest_2 ++ dktX3_mildest_3
def dkwX3_mildest_1 : List UInt8 := [160, 0, 7, 3, 167, 0, 9, 42, 27, 8, 182, 0, 64, 164, 0, 7, 28, 167, 0, 4, 27, 60]
abbrev dktX3_mildest_1 : List UInt8 := dkwX3_mildest_1 ++ dktX3_mildest_2
def dkwX3_mildest_0 : List UInt8 := [2, 60, 3, 61, 28, 42, 180, 0, 9, 3, 46, 162, 0, 39, 42, 28, 8, 182, 0, 64, 27, 2]
abbrev dktX3_mildest_0 : List UInt8 := dkwX3_mildest_0 ++ dktX3_mildest_1
theorem dksX3_mildest_0 : cX3_mildest.data.toList.drop 0 = dktX3_mildest_0 := by decide +kernel
theorem dksX3_mildest_1 : cX3_mildest.data.toList.drop 22 = dktX3_mildest_1 := dk_seg dksX3_mildest_0 22 rfl rfl
theorem dksX3_mildest_2 : cX3_mildest.data.toList.drop 44 = dktX3_mildest_2 := dk_seg dksX3_mildest_1 22 rfl rfl
theorem dksX3_mildest_3 : cX3_mildest.data.toList.drop 68 = dktX3_mildest_3 := dk_seg dksX3_mildest_2 24 rfl rfl
theorem dX3_mildest_0 : decode cX3_mildest 0 = .ok (.iconst (-1), 1) := dk_2 (dk_at dksX3_mildest_0 0 rfl rfl)
theorem dX3_mildest_1 : decode cX3_mildest 1 = .ok (.istore_n 1, 1) := dk_60 (dk_at dksX3_mildest_0 1 rfl rfl)
theorem dX3_mildest_2 : decode cX3_mildest 2 = .ok (.iconst 0, 1) := dk_3 (dk_at dksX3_mildest_0 2 rfl rfl)
theorem dX3_mildest_3 : decode cX3_mildest 3 = .ok (.istore_n 2, 1) := dk_61 (dk_at dksX3_mildest_0 3 rfl rfl)
theorem dX3_mildest_4 : decode cX3_mildest 4 = .ok (.iload_n 2, 1) := dk_28 (dk_at dksX3_mildest_0 4 rfl rfl)
theorem dX3_mildest_5 : decode cX3_mildest 5 = .ok (.aload_n 0, 1) := dk_42 (dk_at dksX3_mildest_0 5 rfl rfl)
theorem dX3_mildest_6 : decode cX3_mildest 6 = .ok (.getfield 9, 3) := dk_180 0 9 (dk_at dksX3_mildest_0 6 rfl rfl)
theorem dX3_mildest_9 : decode cX3_mildest 9 = .ok (.iconst 0, 1) := dk_3 (dk_at dksX3_mildest_0 9 rfl rfl)
theorem dX3_mildest_10 : decode cX3_mildest 10 = .ok (.iaload, 1) := dk_46 (dk_at dksX3_mildest_0 10 rfl rfl)
theorem dX3_mildest_11 : decode cX3_mildest 11 = .ok (.if_icmp .ge 39, 3) := dk_162 0 39 (dk_at dksX3_mildest_0 11 rfl rfl)
theorem dX3_mildest_14 : decode cX3_mildest 14 = .ok (.aload_n 0, 1) := dk_42 (dk_at dksX3_mildest_0 14 rfl rfl)
theorem dX3_mildest_15 : decode cX3_mildest 15 = .ok (.iload_n 2, 1) := dk_28 (dk_at dksX3_mildest_0 15 rfl rfl)
theorem dX3_mildest_16 : decode cX3_mildest 16 = .ok (.iconst 5, 1) := dk_8 (dk_at dksX3_mildest_0 16 rfl rfl)
theorem dX3_mildest_17 : decode cX3_mildest 17 = .ok (.invokevirtual 64, 3) := dk_182 0 64 (dk_at dksX3_mildest_0 17 rfl rfl)
theorem dX3_mildest_20 : decode cX3_mildest 20 = .ok (.iload_n 1, 1) := dk_27 (dk_at dksX3_mildest_0 20 rfl rfl)
theorem dX3_mildest_21 : decode cX3_mildest 21 = .ok (.iconst (-1), 1) := dk_2 (dk_at dksX3_mildest_0 21 rfl rfl)
theorem dX3_mildest_22 : decode cX3_mildest 22 = .ok (.if_icmp .ne 7, 3) := dk_160 0 7 (dk_at dksX3_mildest_1 0 rfl rfl)
theorem dX3_mildest_25 : decode cX3_mildest 25 = .ok (.iconst 0, 1) := dk_3 (dk_at dksX3_mildest_1 3 rfl rfl)
theorem dX3_mildest_26 : decode cX3_mildest 26 = .ok (.goto 9, 3) := dk_167 0 9 (dk_at dksX3_mildest_1 4 rfl rfl)
theorem dX3_mildest_29 : decode cX3_mildest 29 = .ok (.aload_n 0, 1) := dk_42 (dk_at dksX3_mildest_1 7 rfl rfl)
theorem dX3_mildest_30 : decode cX3_mildest 30 = .ok (.iload_n 1, 1) := dk_27 (dk_at dksX3_mildest_1 8 rfl rfl)
theorem dX3_mildest_31 : decode cX3_mildest 31 = .ok (.iconst 5, 1) := dk_8 (dk_at dksX3_mildest_1 9 rfl rfl)
theorem dX3_mildest_32 : decode cX3_mildest 32 = .ok (.invokevirtual 64, 3) := dk_182 0 64 (dk_at dksX3_mildest_1 10 rfl rfl)
theorem dX3_mildest_35 : decode cX3_mildest 35 = .ok (.if_icmp .le 7, 3) := dk_164 0 7 (dk_at dksX3_mildest_1 13 rfl rfl)
theorem dX3_mildest_38 : decode cX3_mildest 38 = .ok (.iload_n 2, 1) := dk_28 (dk_at dksX3_mildest_1 16 rfl rfl)
theorem dX3_mildest_39 : decode cX3_mildest 39 = .ok (.goto 4, 3) := dk_167 0 4 (dk_at dksX3_mildest_1 17 rfl rfl)
theorem dX3_mildest_42 : decode cX3_mildest 42 = .ok (.iload_n 1, 1) := dk_27 (dk_at dksX3_mildest_1 20 rfl rfl)
theorem dX3_mildest_43 : decode cX3_mildest 43 = .ok (.istore_n 1, 1) := dk_60 (dk_at dksX3_mildest_1 21 rfl rfl)
theorem dX3_mildest_44 : decode cX3_mildest 44 = .ok (.iinc 2 1, 3) := dk_132 2 1 (dk_at dksX3_mildest_2 0 rfl rfl)
theorem dX3_mildest_47 : decode cX3_mildest 47 = .ok (.goto (-43), 3) := dk_167 255 213 (dk_at dksX3_mildest_2 3 rfl rfl)
theorem dX3_mildest_50 : decode cX3_mildest 50 = .ok (.aload_n 0, 1) := dk_42 (dk_at dksX3_mildest_2 6 rfl rfl)
theorem dX3_mildest_51 : decode cX3_mildest 51 = .ok (.iload_n 1, 1) := dk_27 (dk_at dksX3_mildest_2 7 rfl rfl)
theorem dX3_mildest_52 : decode cX3_mildest 52 = .ok (.iconst (-1), 1) := dk_2 (dk_at dksX3_mildest_2 8 rfl rfl)
theorem dX3_mildest_53 : decode cX3_mildest 53 = .ok (.if_icmp .eq 7, 3) := dk_159 0 7 (dk_at dksX3_mildest_2 9 rfl rfl)
theorem dX3_mildest_56 : decode cX3_mildest 56 = .ok (.iconst 1, 1) := dk_4 (dk_at dksX3_mildest_2 12 rfl rfl)
theorem dX3_mildest_57 : decode cX3_mildest 57 = .ok (.goto 4, 3) := dk_167 0 4 (dk_at dksX3_mildest_2 13 rfl rfl)
theorem dX3_mildest_60 : decode cX3_mildest 60 = .ok (.iconst 0, 1) := dk_3 (dk_at dksX3_mildest_2 16 rfl rfl)
theorem dX3_mildest_61 : decode cX3_mildest 61 = .ok (.invokevirtual 172, 3) := dk_182 0 172 (dk_at dksX3_mildest_2 17 rfl rfl)
theorem dX3_mildest_64 : decode cX3_mildest 64 = .ok (.ifCond .eq 7, 3) := dk_153 0 7 (dk_at dksX3_mildest_2 20 rfl rfl)
theorem dX3_mildest_67 : decode cX3_mildest 67 = .ok (.iload_n 1, 1) := dk_27 (dk_at dksX3_mildest_2 23 rfl rfl)
theorem dX3_mildest_68 : decode cX3_mildest 68 = .ok (.goto 4, 3) := dk_167 0 4 (dk_at dksX3_mildest_3 0 rfl rfl)
theorem dX3_mildest_71 : decode cX3_mildest 71 = .ok (.iconst 0, 1) := dk_3 (dk_at dksX3_mildest_3 3 rfl rfl)
theorem dX3_mildest_72 : decode cX3_mildest 72 = .ok (.ireturn, 1) := dk_172 (dk_at dksX3_mildest_3 4 rfl rfl)
abbrev cX3_heaviest : ByteArray := prog_14_method_74_code
def yX3_heaviest : MethodName := ⟨RX3, "heaviest", "()I"⟩
def dkwX3_heaviest_3 : List UInt8 := [167, 0, 4, 3, 172]
abbrev dktX3_heaviest_3 : List UInt8 := dkwX3_heaviest_3 ++ []
def dkwX3_heaviest_2 : List UInt8 := [132, 2, 1, 167, 255, 209, 42, 27, 2, 159, 0, 7, 4, 167, 0, 4, 3, 182, 0, 172, 153, 0, 7, 27]
abbrev dktX3_heaviest_2 : List UInt8 := dkwX3_heaviest_2 ++ dktX3_heaviest_3
def dkwX3_heaviest_1 : List UInt8 := [159, 0, 18, 42, 28, 4, 182, 0, 64, 42, 27, 4, 182, 0, 64, 164, 0, 7, 28, 167, 0, 4, 27, 60]
abbrev dktX3_heaviest_1 : List UInt8 := dkwX3_heaviest_1 ++ dktX3_heaviest_2
def dkwX3_heaviest_0 : List UInt8 := [2, 60, 3, 61, 28, 42, 180, 0, 9, 3, 46, 162, 0, 43, 42, 28, 182, 0, 195, 153, 0, 27, 27, 2]
abbrev dktX3_heaviest_0 : List UInt8 := dkwX3_heaviest_0 ++ dktX3_heaviest_1
theorem dksX3_heaviest_0 : cX3_heaviest.data.toList.drop 0 = dktX3_heaviest_0 := by decide +kernel
theorem dksX3_heaviest_1 : cX3_heaviest.data.toList.drop 24 = dktX3_heaviest_1 := dk_seg dksX3_heaviest_0 24 rfl rfl
theorem dksX3_heaviest_2 : cX3_heaviest.data.toList.drop 48 = dktX3_heaviest_2 := dk_seg dksX3_heaviest_1 24 rfl rfl
theorem dksX3_heaviest_3 : cX3_heaviest.data.toList.drop 72 = dktX3_heaviest_3 := dk_seg dksX3_heaviest_2 24 rfl rfl
theorem dX3_heaviest_0 : decode cX3_heaviest 0 = .ok (.iconst (-1), 1) := dk_2 (dk_at dksX3_heaviest_0 0 rfl rfl)
theorem dX3_heaviest_1 : decode cX3_heaviest 1 = .ok (.istore_n 1, 1) := dk_60 (dk_at dksX3_heaviest_0 1 rfl rfl)
theorem dX3_heaviest_2 : decode cX3_heaviest 2 = .ok (.iconst 0, 1) := dk_3 (dk_at dksX3_heaviest_0 2 rfl rfl)
theorem dX3_heaviest_3 : decode cX3_heaviest 3 = .ok (.istore_n 2, 1) := dk_61 (dk_at dksX3_heaviest_0 3 rfl rfl)
theorem dX3_heaviest_4 : decode cX3_heaviest 4 = .ok (.iload_n 2, 1) := dk_28 (dk_at dksX3_heaviest_0 4 rfl rfl)
theorem dX3_heaviest_5 : decode cX3_heaviest 5 = .ok (.aload_n 0, 1) := dk_42 (dk_at dksX3_heaviest_0 5 rfl rfl)
theorem dX3_heaviest_6 : decode cX3_heaviest 6 = .ok (.getfield 9, 3) := dk_180 0 9 (dk_at dksX3_heaviest_0 6 rfl rfl)
theorem dX3_heaviest_9 : decode cX3_heaviest 9 = .ok (.iconst 0, 1) := dk_3 (dk_at dksX3_heaviest_0 9 rfl rfl)
theorem dX3_heaviest_10 : decode cX3_heaviest 10 = .ok (.iaload, 1) := dk_46 (dk_at dksX3_heaviest_0 10 rfl rfl)
theorem dX3_heaviest_11 : decode cX3_heaviest 11 = .ok (.if_icmp .ge 43, 3) := dk_162 0 43 (dk_at dksX3_heaviest_0 11 rfl rfl)
theorem dX3_heaviest_14 : decode cX3_heaviest 14 = .ok (.aload_n 0, 1) := dk_42 (dk_at dksX3_heaviest_0 14 rfl rfl)
theorem dX3_heaviest_15 : decode cX3_heaviest 15 = .ok (.iload_n 2, 1) := dk_28 (dk_at dksX3_heaviest_0 15 rfl rfl)
theorem dX3_heaviest_16 : decode cX3_heaviest 16 = .ok (.invokevirtual 195, 3) := dk_182 0 195 (dk_at dksX3_heaviest_0 16 rfl rfl)
theorem dX3_heaviest_19 : decode cX3_heaviest 19 = .ok (.ifCond .eq 27, 3) := dk_153 0 27 (dk_at dksX3_heaviest_0 19 rfl rfl)
theorem dX3_heaviest_22 : decode cX3_heaviest 22 = .ok (.iload_n 1, 1) := dk_27 (dk_at dksX3_heaviest_0 22 rfl rfl)
theorem dX3_heaviest_23 : decode cX3_heaviest 23 = .ok (.iconst (-1), 1) := dk_2 (dk_at dksX3_heaviest_0 23 rfl rfl)
theorem dX3_heaviest_24 : decode cX3_heaviest 24 = .ok (.if_icmp .eq 18, 3) := dk_159 0 18 (dk_at dksX3_heaviest_1 0 rfl rfl)
theorem dX3_heaviest_27 : decode cX3_heaviest 27 = .ok (.aload_n 0, 1) := dk_42 (dk_at dksX3_heaviest_1 3 rfl rfl)
theorem dX3_heaviest_28 : decode cX3_heaviest 28 = .ok (.iload_n 2, 1) := dk_28 (dk_at dksX3_heaviest_1 4 rfl rfl)
theorem dX3_heaviest_29 : decode cX3_heaviest 29 = .ok (.iconst 1, 1) := dk_4 (dk_at dksX3_heaviest_1 5 rfl rfl)
theorem dX3_heaviest_30 : decode cX3_heaviest 30 = .ok (.invokevirtual 64, 3) := dk_182 0 64 (dk_at dksX3_heaviest_1 6 rfl rfl)
theorem dX3_heaviest_33 : decode cX3_heaviest 33 = .ok (.aload_n 0, 1) := dk_42 (dk_at dksX3_heaviest_1 9 rfl rfl)
theorem dX3_heaviest_34 : decode cX3_heaviest 34 = .ok (.iload_n 1, 1) := dk_27 (dk_at dksX3_heaviest_1 10 rfl rfl)
theorem dX3_heaviest_35 : decode cX3_heaviest 35 = .ok (.iconst 1, 1) := dk_4 (dk_at dksX3_heaviest_1 11 rfl rfl)
theorem dX3_heaviest_36 : decode cX3_heaviest 36 = .ok (.invokevirtual 64, 3) := dk_182 0 64 (dk_at dksX3_heaviest_1 12 rfl rfl)
theorem dX3_heaviest_39 : decode cX3_heaviest 39 = .ok (.if_icmp .le 7, 3) := dk_164 0 7 (dk_at dksX3_heaviest_1 15 rfl rfl)
theorem dX3_heaviest_42 : decode cX3_heaviest 42 = .ok (.iload_n 2, 1) := dk_28 (dk_at dksX3_heaviest_1 18 rfl rfl)
theorem dX3_heaviest_43 : decode cX3_heaviest 43 = .ok (.goto 4, 3) := dk_167 0 4 (dk_at dksX3_heaviest_1 19 rfl rfl)
theorem dX3_heaviest_46 : decode cX3_heaviest 46 = .ok (.iload_n 1, 1) := dk_27 (dk_at dksX3_heaviest_1 22 rfl rfl)
theorem dX3_heaviest_47 : decode cX3_heaviest 47 = .ok (.istore_n 1, 1) := dk_60 (dk_at dksX3_heaviest_1 23 rfl rfl)
theorem dX3_heaviest_48 : decode cX3_heaviest 48 = .ok (.iinc 2 1, 3) := dk_132 2 1 (dk_at dksX3_heaviest_2 0 rfl rfl)
theorem dX3_heaviest_51 : decode cX3_heaviest 51 = .ok (.goto (-47), 3) := dk_167 255 209 (dk_at dksX3_heaviest_2 3 rfl rfl)
theorem dX3_heaviest_54 : decode cX3_heaviest 54 = .ok (.aload_n 0, 1) := dk_42 (dk_at dksX3_heaviest_2 6 rfl rfl)
theorem dX3_heaviest_55 : decode cX3_heaviest 55 = .ok (.iload_n 1, 1) := dk_27 (dk_at dksX3_heaviest_2 7 rfl rfl)
theorem dX3_heaviest_56 : decode cX3_heaviest 56 = .ok (.iconst (-1), 1) := dk_2 (dk_at dksX3_heaviest_2 8 rfl rfl)
theorem dX3_heaviest_57 : decode cX3_heaviest 57 = .ok (.if_icmp .eq 7, 3) := dk_159 0 7 (dk_at dksX3_heaviest_2 9 rfl rfl)
theorem dX3_heaviest_60 : decode cX3_heaviest 60 = .ok (.iconst 1, 1) := dk_4 (dk_at dksX3_heaviest_2 12 rfl rfl)
theorem dX3_heaviest_61 : decode cX3_heaviest 61 = .ok (.goto 4, 3) := dk_167 0 4 (dk_at dksX3_heaviest_2 13 rfl rfl)
theorem dX3_heaviest_64 : decode cX3_heaviest 64 = .ok (.iconst 0, 1) := dk_3 (dk_at dksX3_heaviest_2 16 rfl rfl)
theorem dX3_heaviest_65 : decode cX3_heaviest 65 = .ok (.invokevirtual 172, 3) := dk_182 0 172 (dk_at dksX3_heaviest_2 17 rfl rfl)
theorem dX3_heaviest_68 : decode cX3_heaviest 68 = .ok (.ifCond .eq 7, 3) := dk_153 0 7 (dk_at dksX3_heaviest_2 20 rfl rfl)
theorem dX3_heaviest_71 : decode cX3_heaviest 71 = .ok (.iload_n 1, 1) := dk_27 (dk_at dksX3_heaviest_2 23 rfl rfl)
theorem dX3_heaviest_72 : decode cX3_heaviest 72 = .ok (.goto 4, 3) := dk_167 0 4 (dk_at dksX3_heaviest_3 0 rfl rfl)
theorem dX3_heaviest_75 : decode cX3_heaviest 75 = .ok (.iconst 0, 1) := dk_3 (dk_at dksX3_heaviest_3 3 rfl rfl)
theorem dX3_heaviest_76 : decode cX3_heaviest 76 = .ok (.ireturn, 1) := dk_172 (dk_at dksX3_heaviest_3 4 rfl rfl)
abbrev cX3_isTold : ByteArray := prog_14_method_75_code
def yX3_isTold : MethodName := ⟨RX3, "isTold", "()Z"⟩
def dkwX3_isTold_0 : List UInt8 := [42, 3, 181, 0, 27, 4, 172]
abbrev dktX3_isTold_0 : List UInt8 := dkwX3_isTold_0 ++ []
theorem dksX3_isTold_0 : cX3_isTold.data.toList.drop 0 = dktX3_isTold_0 := by decide +kernel
theorem dX3_isTold_0 : decode cX3_isTold 0 = .ok (.aload_n 0, 1) := dk_42 (dk_at dksX3_isTold_0 0 rfl rfl)
theorem dX3_isTold_1 : decode cX3_isTold 1 = .ok (.iconst 0, 1) := dk_3 (dk_at dksX3_isTold_0 1 rfl rfl)
theorem dX3_isTold_2 : decode cX3_isTold 2 = .ok (.putfield 27, 3) := dk_181 0 27 (dk_at dksX3_isTold_0 2 rfl rfl)
theorem dX3_isTold_5 : decode cX3_isTold 5 = .ok (.iconst 1, 1) := dk_4 (dk_at dksX3_isTold_0 5 rfl rfl)
theorem dX3_isTold_6 : decode cX3_isTold 6 = .ok (.ireturn, 1) := dk_172 (dk_at dksX3_isTold_0 6 rfl rfl)
abbrev cX3_append : ByteArray := prog_14_method_76_code
def yX3_append : MethodName := ⟨RX3, "append", "(C)I"⟩
def dkwX3_append_2 : List UInt8 := [42, 180, 0, 198, 27, 85, 42, 89, 180, 0, 198, 4, 96, 181, 0, 198, 42, 180, 0, 198, 172]
abbrev dktX3_append_2 : List UInt8 := dkwX3_append_2 ++ []
def dkwX3_append_1 : List UInt8 := [160, 0, 7, 5, 167, 0, 4, 3, 181, 0, 27, 42, 180, 0, 27, 153, 0, 5, 3, 172, 42, 180, 0, 13]
abbrev dktX3_append_1 : List UInt8 := dkwX3_append_1 ++ dktX3_append_2
def dkwX3_append_0 : List UInt8 := [42, 27, 16, 32, 16, 126, 184, 0, 49, 154, 0, 7, 4, 167, 0, 17, 42, 180, 0, 198, 16, 60]
abbrev dktX3_append_0 : List UInt8 := dkwX3_append_0 ++ dktX3_append_1
theorem dksX3_append_0 : cX3_append.data.toList.drop 0 = dktX3_append_0 := by decide +kernel
theorem dksX3_append_1 : cX3_append.data.toList.drop 22 = dktX3_append_1 := dk_seg dksX3_append_0 22 rfl rfl
theorem dksX3_append_2 : cX3_append.data.toList.drop 46 = dktX3_append_2 := dk_seg dksX3_append_1 24 rfl rfl
theorem dX3_append_0 : decode cX3_append 0 = .ok (.aload_n 0, 1) := dk_42 (dk_at dksX3_append_0 0 rfl rfl)
theorem dX3_append_1 : decode cX3_append 1 = .ok (.iload_n 1, 1) := dk_27 (dk_at dksX3_append_0 1 rfl rfl)
theorem dX3_append_2 : decode cX3_append 2 = .ok (.bipush 32, 2) := dk_16 32 (dk_at dksX3_append_0 2 rfl rfl)
theorem dX3_append_4 : decode cX3_append 4 = .ok (.bipush 126, 2) := dk_16 126 (dk_at dksX3_append_0 4 rfl rfl)
theorem dX3_append_6 : decode cX3_append 6 = .ok (.invokestatic 49, 3) := dk_184 0 49 (dk_at dksX3_append_0 6 rfl rfl)
theorem dX3_append_9 : decode cX3_append 9 = .ok (.ifCond .ne 7, 3) := dk_154 0 7 (dk_at dksX3_append_0 9 rfl rfl)
theorem dX3_append_12 : decode cX3_append 12 = .ok (.iconst 1, 1) := dk_4 (dk_at dksX3_append_0 12 rfl rfl)
theorem dX3_append_13 : decode cX3_append 13 = .ok (.goto 17, 3) := dk_167 0 17 (dk_at dksX3_append_0 13 rfl rfl)
theorem dX3_append_16 : decode cX3_append 16 = .ok (.aload_n 0, 1) := dk_42 (dk_at dksX3_append_0 16 rfl rfl)
theorem dX3_append_17 : decode cX3_append 17 = .ok (.getfield 198, 3) := dk_180 0 198 (dk_at dksX3_append_0 17 rfl rfl)
theorem dX3_append_20 : decode cX3_append 20 = .ok (.bipush 60, 2) := dk_16 60 (dk_at dksX3_append_0 20 rfl rfl)
theorem dX3_append_22 : decode cX3_append 22 = .ok (.if_icmp .ne 7, 3) := dk_160 0 7 (dk_at dksX3_append_1 0 rfl rfl)
theorem dX3_append_25 : decode cX3_append 25 = .ok (.iconst 2, 1) := dk_5 (dk_at dksX3_append_1 3 rfl rfl)
theorem dX3_append_26 : decode cX3_append 26 = .ok (.goto 4, 3) := dk_167 0 4 (dk_at dksX3_append_1 4 rfl rfl)
theorem dX3_append_29 : decode cX3_append 29 = .ok (.iconst 0, 1) := dk_3 (dk_at dksX3_append_1 7 rfl rfl)
theorem dX3_append_30 : decode cX3_append 30 = .ok (.putfield 27, 3) := dk_181 0 27 (dk_at dksX3_append_1 8 rfl rfl)
theorem dX3_append_33 : decode cX3_append 33 = .ok (.aload_n 0, 1) := dk_42 (dk_at dksX3_append_1 11 rfl rfl)
theorem dX3_append_34 : decode cX3_append 34 = .ok (.getfield 27, 3) := dk_180 0 27 (dk_at dksX3_append_1 12 rfl rfl)
theorem dX3_append_37 : decode cX3_append 37 = .ok (.ifCond .eq 5, 3) := dk_153 0 5 (dk_at dksX3_append_1 15 rfl rfl)
theorem dX3_append_40 : decode cX3_append 40 = .ok (.iconst 0, 1) := dk_3 (dk_at dksX3_append_1 18 rfl rfl)
theorem dX3_append_41 : decode cX3_append 41 = .ok (.ireturn, 1) := dk_172 (dk_at dksX3_append_1 19 rfl rfl)
theorem dX3_append_42 : decode cX3_append 42 = .ok (.aload_n 0, 1) := dk_42 (dk_at dksX3_append_1 20 rfl rfl)
theorem dX3_append_43 : decode cX3_append 43 = .ok (.getfield 13, 3) := dk_180 0 13 (dk_at dksX3_append_1 21 rfl rfl)
theorem dX3_append_46 : decode cX3_append 46 = .ok (.aload_n 0, 1) := dk_42 (dk_at dksX3_append_2 0 rfl rfl)
theorem dX3_append_47 : decode cX3_append 47 = .ok (.getfield 198, 3) := dk_180 0 198 (dk_at dksX3_append_2 1 rfl rfl)
theorem dX3_append_50 : decode cX3_append 50 = .ok (.iload_n 1, 1) := dk_27 (dk_at dksX3_append_2 4 rfl rfl)
theorem dX3_append_51 : decode cX3_append 51 = .ok (.castore, 1) := dk_85 (dk_at dksX3_append_2 5 rfl rfl)
theorem dX3_append_52 : decode cX3_append 52 = .ok (.aload_n 0, 1) := dk_42 (dk_at dksX3_append_2 6 rfl rfl)
theorem dX3_append_53 : decode cX3_append 53 = .ok (.dup, 1) := dk_89 (dk_at dksX3_append_2 7 rfl rfl)
theorem dX3_append_54 : decode cX3_append 54 = .ok (.getfield 198, 3) := dk_180 0 198 (dk_at dksX3_append_2 8 rfl rfl)
theorem dX3_append_57 : decode cX3_append 57 = .ok (.iconst 1, 1) := dk_4 (dk_at dksX3_append_2 11 rfl rfl)
theorem dX3_append_58 : decode cX3_append 58 = .ok (.iadd, 1) := dk_96 (dk_at dksX3_append_2 12 rfl rfl)
theorem dX3_append_59 : decode cX3_append 59 = .ok (.putfield 198, 3) := dk_181 0 198 (dk_at dksX3_append_2 13 rfl rfl)
theorem dX3_append_62 : decode cX3_append 62 = .ok (.aload_n 0, 1) := dk_42 (dk_at dksX3_append_2 16 rfl rfl)
theorem dX3_append_63 : decode cX3_append 63 = .ok (.getfield 198, 3) := dk_180 0 198 (dk_at dksX3_append_2 17 rfl rfl)
theorem dX3_append_66 : decode cX3_append 66 = .ok (.ireturn, 1) := dk_172 (dk_at dksX3_append_2 20 rfl rfl)
abbrev cX3_run : ByteArray := prog_14_method_87_code
def yX3_run : MethodName := ⟨RX3, "run", "()I"⟩
def dkwX3_run_5 : List UInt8 := [3, 5, 182, 0, 93, 172]
abbrev dktX3_run_5 : List UInt8 := dkwX3_run_5 ++ []
def dkwX3_run_4 : List UInt8 := [181, 0, 43, 42, 42, 180, 0, 216, 181, 0, 37, 42, 27, 42, 180, 0, 216, 160, 0, 7, 4, 167, 0, 4]
abbrev dktX3_run_4 : List UInt8 := dkwX3_run_4 ++ dktX3_run_5
def dkwX3_run_3 : List UInt8 := [180, 0, 40, 181, 0, 46, 42, 42, 180, 0, 43, 181, 0, 53, 42, 16, 9, 181, 0, 40, 42, 27]
abbrev dktX3_run_3 : List UInt8 := dkwX3_run_3 ++ dktX3_run_4
def dkwX3_run_2 : List UInt8 := [104, 182, 0, 237, 153, 0, 9, 132, 1, 1, 167, 255, 235, 27, 42, 180, 0, 216, 162, 0, 30, 42, 42]
abbrev dktX3_run_2 : List UInt8 := dkwX3_run_2 ++ dktX3_run_3
def dkwX3_run_1 : List UInt8 := [42, 4, 181, 0, 27, 3, 172, 42, 182, 0, 87, 3, 60, 27, 42, 180, 0, 216, 162, 0, 19, 42, 6, 27]
abbrev dktX3_run_1 : List UInt8 := dkwX3_run_1 ++ dktX3_run_2
def dkwX3_run_0 : List UInt8 := [42, 182, 0, 234, 42, 3, 181, 0, 198, 42, 42, 180, 0, 204, 181, 0, 17, 42, 180, 0, 204, 155, 0, 10]
abbrev dktX3_run_0 : List UInt8 := dkwX3_run_0 ++ dktX3_run_1
theorem dksX3_run_0 : cX3_run.data.toList.drop 0 = dktX3_run_0 := by decide +kernel
theorem dksX3_run_1 : cX3_run.data.toList.drop 24 = dktX3_run_1 := dk_seg dksX3_run_0 24 rfl rfl
theorem dksX3_run_2 : cX3_run.data.toList.drop 48 = dktX3_run_2 := dk_seg dksX3_run_1 24 rfl rfl
theorem dksX3_run_3 : cX3_run.data.toList.drop 71 = dktX3_run_3 := dk_seg dksX3_run_2 23 rfl rfl
theorem dksX3_run_4 : cX3_run.data.toList.drop 93 = dktX3_run_4 := dk_seg dksX3_run_3 22 rfl rfl
theorem dksX3_run_5 : cX3_run.data.toList.drop 117 = dktX3_run_5 := dk_seg dksX3_run_4 24 rfl rfl
theorem dX3_run_0 : decode cX3_run 0 = .ok (.aload_n 0, 1) := dk_42 (dk_at dksX3_run_0 0 rfl rfl)
theorem dX3_run_1 : decode cX3_run 1 = .ok (.invokevirtual 234, 3) := dk_182 0 234 (dk_at dksX3_run_0 1 rfl rfl)
theorem dX3_run_4 : decode cX3_run 4 = .ok (.aload_n 0, 1) := dk_42 (dk_at dksX3_run_0 4 rfl rfl)
theorem dX3_run_5 : decode cX3_run 5 = .ok (.iconst 0, 1) := dk_3 (dk_at dksX3_run_0 5 rfl rfl)
theorem dX3_run_6 : decode cX3_run 6 = .ok (.putfield 198, 3) := dk_181 0 198 (dk_at dksX3_run_0 6 rfl rfl)
theorem dX3_run_9 : decode cX3_run 9 = .ok (.aload_n 0, 1) := dk_42 (dk_at dksX3_run_0 9 rfl rfl)
theorem dX3_run_10 : decode cX3_run 10 = .ok (.aload_n 0, 1) := dk_42 (dk_at dksX3_run_0 10 rfl rfl)
theorem dX3_run_11 : decode cX3_run 11 = .ok (.getfield 204, 3) := dk_180 0 204 (dk_at dksX3_run_0 11 rfl rfl)
theorem dX3_run_14 : decode cX3_run 14 = .ok (.putfield 17, 3) := dk_181 0 17 (dk_at dksX3_run_0 14 rfl rfl)
theorem dX3_run_17 : decode cX3_run 17 = .ok (.aload_n 0, 1) := dk_42 (dk_at dksX3_run_0 17 rfl rfl)
theorem dX3_run_18 : decode cX3_run 18 = .ok (.getfield 204, 3) := dk_180 0 204 (dk_at dksX3_run_0 18 rfl rfl)
theorem dX3_run_21 : decode cX3_run 21 = .ok (.ifCond .lt 10, 3) := dk_155 0 10 (dk_at dksX3_run_0 21 rfl rfl)
theorem dX3_run_24 : decode cX3_run 24 = .ok (.aload_n 0, 1) := dk_42 (dk_at dksX3_run_1 0 rfl rfl)
theorem dX3_run_25 : decode cX3_run 25 = .ok (.iconst 1, 1) := dk_4 (dk_at dksX3_run_1 1 rfl rfl)
theorem dX3_run_26 : decode cX3_run 26 = .ok (.putfield 27, 3) := dk_181 0 27 (dk_at dksX3_run_1 2 rfl rfl)
theorem dX3_run_29 : decode cX3_run 29 = .ok (.iconst 0, 1) := dk_3 (dk_at dksX3_run_1 5 rfl rfl)
theorem dX3_run_30 : decode cX3_run 30 = .ok (.ireturn, 1) := dk_172 (dk_at dksX3_run_1 6 rfl rfl)
theorem dX3_run_31 : decode cX3_run 31 = .ok (.aload_n 0, 1) := dk_42 (dk_at dksX3_run_1 7 rfl rfl)
theorem dX3_run_32 : decode cX3_run 32 = .ok (.invokevirtual 87, 3) := dk_182 0 87 (dk_at dksX3_run_1 8 rfl rfl)
theorem dX3_run_35 : decode cX3_run 35 = .ok (.iconst 0, 1) := dk_3 (dk_at dksX3_run_1 11 rfl rfl)
theorem dX3_run_36 : decode cX3_run 36 = .ok (.istore_n 1, 1) := dk_60 (dk_at dksX3_run_1 12 rfl rfl)
theorem dX3_run_37 : decode cX3_run 37 = .ok (.iload_n 1, 1) := dk_27 (dk_at dksX3_run_1 13 rfl rfl)
theorem dX3_run_38 : decode cX3_run 38 = .ok (.aload_n 0, 1) := dk_42 (dk_at dksX3_run_1 14 rfl rfl)
theorem dX3_run_39 : decode cX3_run 39 = .ok (.getfield 216, 3) := dk_180 0 216 (dk_at dksX3_run_1 15 rfl rfl)
theorem dX3_run_42 : decode cX3_run 42 = .ok (.if_icmp .ge 19, 3) := dk_162 0 19 (dk_at dksX3_run_1 18 rfl rfl)
theorem dX3_run_45 : decode cX3_run 45 = .ok (.aload_n 0, 1) := dk_42 (dk_at dksX3_run_1 21 rfl rfl)
theorem dX3_run_46 : decode cX3_run 46 = .ok (.iconst 3, 1) := dk_6 (dk_at dksX3_run_1 22 rfl rfl)
theorem dX3_run_47 : decode cX3_run 47 = .ok (.iload_n 1, 1) := dk_27 (dk_at dksX3_run_1 23 rfl rfl)
theorem dX3_run_48 : decode cX3_run 48 = .ok (.imul, 1) := dk_104 (dk_at dksX3_run_2 0 rfl rfl)
theorem dX3_run_49 : decode cX3_run 49 = .ok (.invokevirtual 237, 3) := dk_182 0 237 (dk_at dksX3_run_2 1 rfl rfl)
theorem dX3_run_52 : decode cX3_run 52 = .ok (.ifCond .eq 9, 3) := dk_153 0 9 (dk_at dksX3_run_2 4 rfl rfl)
theorem dX3_run_55 : decode cX3_run 55 = .ok (.iinc 1 1, 3) := dk_132 1 1 (dk_at dksX3_run_2 7 rfl rfl)
theorem dX3_run_58 : decode cX3_run 58 = .ok (.goto (-21), 3) := dk_167 255 235 (dk_at dksX3_run_2 10 rfl rfl)
theorem dX3_run_61 : decode cX3_run 61 = .ok (.iload_n 1, 1) := dk_27 (dk_at dksX3_run_2 13 rfl rfl)
theorem dX3_run_62 : decode cX3_run 62 = .ok (.aload_n 0, 1) := dk_42 (dk_at dksX3_run_2 14 rfl rfl)
theorem dX3_run_63 : decode cX3_run 63 = .ok (.getfield 216, 3) := dk_180 0 216 (dk_at dksX3_run_2 15 rfl rfl)
theorem dX3_run_66 : decode cX3_run 66 = .ok (.if_icmp .ge 30, 3) := dk_162 0 30 (dk_at dksX3_run_2 18 rfl rfl)
theorem dX3_run_69 : decode cX3_run 69 = .ok (.aload_n 0, 1) := dk_42 (dk_at dksX3_run_2 21 rfl rfl)
theorem dX3_run_70 : decode cX3_run 70 = .ok (.aload_n 0, 1) := dk_42 (dk_at dksX3_run_2 22 rfl rfl)
theorem dX3_run_71 : decode cX3_run 71 = .ok (.getfield 40, 3) := dk_180 0 40 (dk_at dksX3_run_3 0 rfl rfl)
theorem dX3_run_74 : decode cX3_run 74 = .ok (.putfield 46, 3) := dk_181 0 46 (dk_at dksX3_run_3 3 rfl rfl)
theorem dX3_run_77 : decode cX3_run 77 = .ok (.aload_n 0, 1) := dk_42 (dk_at dksX3_run_3 6 rfl rfl)
theorem dX3_run_78 : decode cX3_run 78 = .ok (.aload_n 0, 1) := dk_42 (dk_at dksX3_run_3 7 rfl rfl)
theorem dX3_run_79 : decode cX3_run 79 = .ok (.getfield 43, 3) := dk_180 0 43 (dk_at dksX3_run_3 8 rfl rfl)
theorem dX3_run_82 : decode cX3_run 82 = .ok (.putfield 53, 3) := dk_181 0 53 (dk_at dksX3_run_3 11 rfl rfl)
theorem dX3_run_85 : decode cX3_run 85 = .ok (.aload_n 0, 1) := dk_42 (dk_at dksX3_run_3 14 rfl rfl)
theorem dX3_run_86 : decode cX3_run 86 = .ok (.bipush 9, 2) := dk_16 9 (dk_at dksX3_run_3 15 rfl rfl)
theorem dX3_run_88 : decode cX3_run 88 = .ok (.putfield 40, 3) := dk_181 0 40 (dk_at dksX3_run_3 17 rfl rfl)
theorem dX3_run_91 : decode cX3_run 91 = .ok (.aload_n 0, 1) := dk_42 (dk_at dksX3_run_3 20 rfl rfl)
theorem dX3_run_92 : decode cX3_run 92 = .ok (.iload_n 1, 1) := dk_27 (dk_at dksX3_run_3 21 rfl rfl)
theorem dX3_run_93 : decode cX3_run 93 = .ok (.putfield 43, 3) := dk_181 0 43 (dk_at dksX3_run_4 0 rfl rfl)
theorem dX3_run_96 : decode cX3_run 96 = .ok (.aload_n 0, 1) := dk_42 (dk_at dksX3_run_4 3 rfl rfl)
theorem dX3_run_97 : decode cX3_run 97 = .ok (.aload_n 0, 1) := dk_42 (dk_at dksX3_run_4 4 rfl rfl)
theorem dX3_run_98 : decode cX3_run 98 = .ok (.getfield 216, 3) := dk_180 0 216 (dk_at dksX3_run_4 5 rfl rfl)
theorem dX3_run_101 : decode cX3_run 101 = .ok (.putfield 37, 3) := dk_181 0 37 (dk_at dksX3_run_4 8 rfl rfl)
theorem dX3_run_104 : decode cX3_run 104 = .ok (.aload_n 0, 1) := dk_42 (dk_at dksX3_run_4 11 rfl rfl)
theorem dX3_run_105 : decode cX3_run 105 = .ok (.iload_n 1, 1) := dk_27 (dk_at dksX3_run_4 12 rfl rfl)
theorem dX3_run_106 : decode cX3_run 106 = .ok (.aload_n 0, 1) := dk_42 (dk_at dksX3_run_4 13 rfl rfl)
theorem dX3_run_107 : decode cX3_run 107 = .ok (.getfield 216, 3) := dk_180 0 216 (dk_at dksX3_run_4 14 rfl rfl)
theorem dX3_run_110 : decode cX3_run 110 = .ok (.if_icmp .ne 7, 3) := dk_160 0 7 (dk_at dksX3_run_4 17 rfl rfl)
theorem dX3_run_113 : decode cX3_run 113 = .ok (.iconst 1, 1) := dk_4 (dk_at dksX3_run_4 20 rfl rfl)
theorem dX3_run_114 : decode cX3_run 114 = .ok (.goto 4, 3) := dk_167 0 4 (dk_at dksX3_run_4 21 rfl rfl)
theorem dX3_run_117 : decode cX3_run 117 = .ok (.iconst 0, 1) := dk_3 (dk_at dksX3_run_5 0 rfl rfl)
theorem dX3_run_118 : decode cX3_run 118 = .ok (.iconst 2, 1) := dk_5 (dk_at dksX3_run_5 1 rfl rfl)
theorem dX3_run_119 : decode cX3_run 119 = .ok (.invokevirtual 93, 3) := dk_182 0 93 (dk_at dksX3_run_5 2 rfl rfl)
theorem dX3_run_122 : decode cX3_run 122 = .ok (.ireturn, 1) := dk_172 (dk_at dksX3_run_5 5 rfl rfl)
abbrev cX3_parse : ByteArray := prog_14_method_85_code
def yX3_parse : MethodName := ⟨RX3, "parse", "()V"⟩
def dkwX3_parse_3 : List UInt8 := [42, 42, 180, 0, 201, 181, 0, 204, 177]
abbrev dktX3_parse_3 : List UInt8 := dkwX3_parse_3 ++ []
def dkwX3_parse_2 : List UInt8 := [182, 0, 231, 167, 255, 226, 42, 180, 0, 204, 156, 0, 22, 42, 180, 0, 201, 42, 180, 0, 198, 162, 0, 11]
abbrev dktX3_parse_2 : List UInt8 := dkwX3_parse_2 ++ dktX3_parse_3
def dkwX3_parse_1 : List UInt8 := [156, 0, 29, 42, 182, 0, 207, 16, 59, 160, 0, 20, 42, 89, 180, 0, 201, 4, 96, 181, 0, 201, 42]
abbrev dktX3_parse_1 : List UInt8 := dkwX3_parse_1 ++ dktX3_parse_2
def dkwX3_parse_0 : List UInt8 := [42, 3, 181, 0, 201, 42, 2, 181, 0, 204, 42, 3, 181, 0, 216, 42, 182, 0, 231, 42, 180, 0, 204]
abbrev dktX3_parse_0 : List UInt8 := dkwX3_parse_0 ++ dktX3_parse_1
theorem dksX3_parse_0 : cX3_parse.data.toList.drop 0 = dktX3_parse_0 := by decide +kernel
theorem dksX3_parse_1 : cX3_parse.data.toList.drop 23 = dktX3_parse_1 := dk_seg dksX3_parse_0 23 rfl rfl
theorem dksX3_parse_2 : cX3_parse.data.toList.drop 46 = dktX3_parse_2 := dk_seg dksX3_parse_1 23 rfl rfl
theorem dksX3_parse_3 : cX3_parse.data.toList.drop 70 = dktX3_parse_3 := dk_seg dksX3_parse_2 24 rfl rfl
theorem dX3_parse_0 : decode cX3_parse 0 = .ok (.aload_n 0, 1) := dk_42 (dk_at dksX3_parse_0 0 rfl rfl)
theorem dX3_parse_1 : decode cX3_parse 1 = .ok (.iconst 0, 1) := dk_3 (dk_at dksX3_parse_0 1 rfl rfl)
theorem dX3_parse_2 : decode cX3_parse 2 = .ok (.putfield 201, 3) := dk_181 0 201 (dk_at dksX3_parse_0 2 rfl rfl)
theorem dX3_parse_5 : decode cX3_parse 5 = .ok (.aload_n 0, 1) := dk_42 (dk_at dksX3_parse_0 5 rfl rfl)
theorem dX3_parse_6 : decode cX3_parse 6 = .ok (.iconst (-1), 1) := dk_2 (dk_at dksX3_parse_0 6 rfl rfl)
theorem dX3_parse_7 : decode cX3_parse 7 = .ok (.putfield 204, 3) := dk_181 0 204 (dk_at dksX3_parse_0 7 rfl rfl)
theorem dX3_parse_10 : decode cX3_parse 10 = .ok (.aload_n 0, 1) := dk_42 (dk_at dksX3_parse_0 10 rfl rfl)
theorem dX3_parse_11 : decode cX3_parse 11 = .ok (.iconst 0, 1) := dk_3 (dk_at dksX3_parse_0 11 rfl rfl)
theorem dX3_parse_12 : decode cX3_parse 12 = .ok (.putfield 216, 3) := dk_181 0 216 (dk_at dksX3_parse_0 12 rfl rfl)
theorem dX3_parse_15 : decode cX3_parse 15 = .ok (.aload_n 0, 1) := dk_42 (dk_at dksX3_parse_0 15 rfl rfl)
theorem dX3_parse_16 : decode cX3_parse 16 = .ok (.invokevirtual 231, 3) := dk_182 0 231 (dk_at dksX3_parse_0 16 rfl rfl)
theorem dX3_parse_19 : decode cX3_parse 19 = .ok (.aload_n 0, 1) := dk_42 (dk_at dksX3_parse_0 19 rfl rfl)
theorem dX3_parse_20 : decode cX3_parse 20 = .ok (.getfield 204, 3) := dk_180 0 204 (dk_at dksX3_parse_0 20 rfl rfl)
theorem dX3_parse_23 : decode cX3_parse 23 = .ok (.ifCond .ge 29, 3) := dk_156 0 29 (dk_at dksX3_parse_1 0 rfl rfl)
theorem dX3_parse_26 : decode cX3_parse 26 = .ok (.aload_n 0, 1) := dk_42 (dk_at dksX3_parse_1 3 rfl rfl)
theorem dX3_parse_27 : decode cX3_parse 27 = .ok (.invokevirtual 207, 3) := dk_182 0 207 (dk_at dksX3_parse_1 4 rfl rfl)
theorem dX3_parse_30 : decode cX3_parse 30 = .ok (.bipush 59, 2) := dk_16 59 (dk_at dksX3_parse_1 7 rfl rfl)
theorem dX3_parse_32 : decode cX3_parse 32 = .ok (.if_icmp .ne 20, 3) := dk_160 0 20 (dk_at dksX3_parse_1 9 rfl rfl)
theorem dX3_parse_35 : decode cX3_parse 35 = .ok (.aload_n 0, 1) := dk_42 (dk_at dksX3_parse_1 12 rfl rfl)
theorem dX3_parse_36 : decode cX3_parse 36 = .ok (.dup, 1) := dk_89 (dk_at dksX3_parse_1 13 rfl rfl)
theorem dX3_parse_37 : decode cX3_parse 37 = .ok (.getfield 201, 3) := dk_180 0 201 (dk_at dksX3_parse_1 14 rfl rfl)
theorem dX3_parse_40 : decode cX3_parse 40 = .ok (.iconst 1, 1) := dk_4 (dk_at dksX3_parse_1 17 rfl rfl)
theorem dX3_parse_41 : decode cX3_parse 41 = .ok (.iadd, 1) := dk_96 (dk_at dksX3_parse_1 18 rfl rfl)
theorem dX3_parse_42 : decode cX3_parse 42 = .ok (.putfield 201, 3) := dk_181 0 201 (dk_at dksX3_parse_1 19 rfl rfl)
theorem dX3_parse_45 : decode cX3_parse 45 = .ok (.aload_n 0, 1) := dk_42 (dk_at dksX3_parse_1 22 rfl rfl)
theorem dX3_parse_46 : decode cX3_parse 46 = .ok (.invokevirtual 231, 3) := dk_182 0 231 (dk_at dksX3_parse_2 0 rfl rfl)
theorem dX3_parse_49 : decode cX3_parse 49 = .ok (.goto (-30), 3) := dk_167 255 226 (dk_at dksX3_parse_2 3 rfl rfl)
theorem dX3_parse_52 : decode cX3_parse 52 = .ok (.aload_n 0, 1) := dk_42 (dk_at dksX3_parse_2 6 rfl rfl)
theorem dX3_parse_53 : decode cX3_parse 53 = .ok (.getfield 204, 3) := dk_180 0 204 (dk_at dksX3_parse_2 7 rfl rfl)
theorem dX3_parse_56 : decode cX3_parse 56 = .ok (.ifCond .ge 22, 3) := dk_156 0 22 (dk_at dksX3_parse_2 10 rfl rfl)
theorem dX3_parse_59 : decode cX3_parse 59 = .ok (.aload_n 0, 1) := dk_42 (dk_at dksX3_parse_2 13 rfl rfl)
theorem dX3_parse_60 : decode cX3_parse 60 = .ok (.getfield 201, 3) := dk_180 0 201 (dk_at dksX3_parse_2 14 rfl rfl)
theorem dX3_parse_63 : decode cX3_parse 63 = .ok (.aload_n 0, 1) := dk_42 (dk_at dksX3_parse_2 17 rfl rfl)
theorem dX3_parse_64 : decode cX3_parse 64 = .ok (.getfield 198, 3) := dk_180 0 198 (dk_at dksX3_parse_2 18 rfl rfl)
theorem dX3_parse_67 : decode cX3_parse 67 = .ok (.if_icmp .ge 11, 3) := dk_162 0 11 (dk_at dksX3_parse_2 21 rfl rfl)
theorem dX3_parse_70 : decode cX3_parse 70 = .ok (.aload_n 0, 1) := dk_42 (dk_at dksX3_parse_3 0 rfl rfl)
theorem dX3_parse_71 : decode cX3_parse 71 = .ok (.aload_n 0, 1) := dk_42 (dk_at dksX3_parse_3 1 rfl rfl)
theorem dX3_parse_72 : decode cX3_parse 72 = .ok (.getfield 201, 3) := dk_180 0 201 (dk_at dksX3_parse_3 2 rfl rfl)
theorem dX3_parse_75 : decode cX3_parse 75 = .ok (.putfield 204, 3) := dk_181 0 204 (dk_at dksX3_parse_3 5 rfl rfl)
theorem dX3_parse_78 : decode cX3_parse 78 = .ok (.return_, 1) := dk_177 (dk_at dksX3_parse_3 8 rfl rfl)
abbrev cX3_order : ByteArray := prog_14_method_84_code
def yX3_order : MethodName := ⟨RX3, "order", "()V"⟩
def dkwX3_order_8 : List UInt8 := [27, 5, 96, 42, 4, 182, 0, 228, 79, 177]
abbrev dktX3_order_8 : List UInt8 := dkwX3_order_8 ++ []
def dkwX3_order_7 : List UInt8 := [167, 0, 4, 5, 182, 0, 228, 79, 29, 16, 99, 160, 0, 22, 42, 16, 32, 182, 0, 210, 42, 180, 0, 21]
abbrev dktX3_order_7 : List UInt8 := dkwX3_order_7 ++ dktX3_order_8
def dkwX3_order_6 : List UInt8 := [160, 0, 10, 42, 182, 0, 225, 167, 0, 24, 42, 29, 16, 104, 159, 0, 9, 29, 16, 112, 160, 0, 7, 4]
abbrev dktX3_order_6 : List UInt8 := dkwX3_order_6 ++ dktX3_order_7
def dkwX3_order_5 : List UInt8 := [29, 16, 99, 159, 0, 9, 29, 16, 117, 160, 0, 10, 42, 182, 0, 222, 167, 0, 37, 29, 16, 108]
abbrev dktX3_order_5 : List UInt8 := dkwX3_order_5 ++ dktX3_order_6
def dkwX3_order_4 : List UInt8 := [182, 0, 219, 62, 42, 180, 0, 21, 27, 29, 79, 42, 16, 32, 182, 0, 210, 42, 180, 0, 21, 27, 4, 96]
abbrev dktX3_order_4 : List UInt8 := dkwX3_order_4 ++ dktX3_order_5
def dkwX3_order_3 : List UInt8 := [159, 0, 12, 42, 42, 180, 0, 201, 181, 0, 204, 177, 42, 89, 180, 0, 201, 4, 96, 181, 0, 201, 42, 28]
abbrev dktX3_order_3 : List UInt8 := dkwX3_order_3 ++ dktX3_order_4
def dkwX3_order_2 : List UInt8 := [159, 0, 36, 28, 16, 116, 159, 0, 30, 28, 16, 108, 159, 0, 24, 28, 16, 115, 159, 0, 18, 28, 16, 121]
abbrev dktX3_order_2 : List UInt8 := dkwX3_order_2 ++ dktX3_order_3
def dkwX3_order_1 : List UInt8 := [29, 6, 162, 0, 18, 42, 180, 0, 21, 27, 29, 96, 3, 79, 132, 3, 1, 167, 255, 239, 28, 16, 99]
abbrev dktX3_order_1 : List UInt8 := dkwX3_order_1 ++ dktX3_order_2
def dkwX3_order_0 : List UInt8 := [6, 42, 180, 0, 216, 104, 60, 42, 89, 180, 0, 216, 4, 96, 181, 0, 216, 42, 182, 0, 207, 61, 3, 62]
abbrev dktX3_order_0 : List UInt8 := dkwX3_order_0 ++ dktX3_order_1
theorem dksX3_order_0 : cX3_order.data.toList.drop 0 = dktX3_order_0 := by decide +kernel
theorem dksX3_order_1 : cX3_order.data.toList.drop 24 = dktX3_order_1 := dk_seg dksX3_order_0 24 rfl rfl
theorem dksX3_order_2 : cX3_order.data.toList.drop 47 = dktX3_order_2 := dk_seg dksX3_order_1 23 rfl rfl
theorem dksX3_order_3 : cX3_order.data.toList.drop 71 = dktX3_order_3 := dk_seg dksX3_order_2 24 rfl rfl
theorem dksX3_order_4 : cX3_order.data.toList.drop 95 = dktX3_order_4 := dk_seg dksX3_order_3 24 rfl rfl
theorem dksX3_order_5 : cX3_order.data.toList.drop 119 = dktX3_order_5 := dk_seg dksX3_order_4 24 rfl rfl
theorem dksX3_order_6 : cX3_order.data.toList.drop 141 = dktX3_order_6 := dk_seg dksX3_order_5 22 rfl rfl
theorem dksX3_order_7 : cX3_order.data.toList.drop 165 = dktX3_order_7 := dk_seg dksX3_order_6 24 rfl rfl
theorem dksX3_order_8 : cX3_order.data.toList.drop 189 = dktX3_order_8 := dk_seg dksX3_order_7 24 rfl rfl
theorem dX3_order_0 : decode cX3_order 0 = .ok (.iconst 3, 1) := dk_6 (dk_at dksX3_order_0 0 rfl rfl)
theorem dX3_order_1 : decode cX3_order 1 = .ok (.aload_n 0, 1) := dk_42 (dk_at dksX3_order_0 1 rfl rfl)
theorem dX3_order_2 : decode cX3_order 2 = .ok (.getfield 216, 3) := dk_180 0 216 (dk_at dksX3_order_0 2 rfl rfl)
theorem dX3_order_5 : decode cX3_order 5 = .ok (.imul, 1) := dk_104 (dk_at dksX3_order_0 5 rfl rfl)
theorem dX3_order_6 : decode cX3_order 6 = .ok (.istore_n 1, 1) := dk_60 (dk_at dksX3_order_0 6 rfl rfl)
theorem dX3_order_7 : decode cX3_order 7 = .ok (.aload_n 0, 1) := dk_42 (dk_at dksX3_order_0 7 rfl rfl)
theorem dX3_order_8 : decode cX3_order 8 = .ok (.dup, 1) := dk_89 (dk_at dksX3_order_0 8 rfl rfl)
theorem dX3_order_9 : decode cX3_order 9 = .ok (.getfield 216, 3) := dk_180 0 216 (dk_at dksX3_order_0 9 rfl rfl)
theorem dX3_order_12 : decode cX3_order 12 = .ok (.iconst 1, 1) := dk_4 (dk_at dksX3_order_0 12 rfl rfl)
theorem dX3_order_13 : decode cX3_order 13 = .ok (.iadd, 1) := dk_96 (dk_at dksX3_order_0 13 rfl rfl)
theorem dX3_order_14 : decode cX3_order 14 = .ok (.putfield 216, 3) := dk_181 0 216 (dk_at dksX3_order_0 14 rfl rfl)
theorem dX3_order_17 : decode cX3_order 17 = .ok (.aload_n 0, 1) := dk_42 (dk_at dksX3_order_0 17 rfl rfl)
theorem dX3_order_18 : decode cX3_order 18 = .ok (.invokevirtual 207, 3) := dk_182 0 207 (dk_at dksX3_order_0 18 rfl rfl)
theorem dX3_order_21 : decode cX3_order 21 = .ok (.istore_n 2, 1) := dk_61 (dk_at dksX3_order_0 21 rfl rfl)
theorem dX3_order_22 : decode cX3_order 22 = .ok (.iconst 0, 1) := dk_3 (dk_at dksX3_order_0 22 rfl rfl)
theorem dX3_order_23 : decode cX3_order 23 = .ok (.istore_n 3, 1) := dk_62 (dk_at dksX3_order_0 23 rfl rfl)
theorem dX3_order_24 : decode cX3_order 24 = .ok (.iload_n 3, 1) := dk_29 (dk_at dksX3_order_1 0 rfl rfl)
theorem dX3_order_25 : decode cX3_order 25 = .ok (.iconst 3, 1) := dk_6 (dk_at dksX3_order_1 1 rfl rfl)
theorem dX3_order_26 : decode cX3_order 26 = .ok (.if_icmp .ge 18, 3) := dk_162 0 18 (dk_at dksX3_order_1 2 rfl rfl)
theorem dX3_order_29 : decode cX3_order 29 = .ok (.aload_n 0, 1) := dk_42 (dk_at dksX3_order_1 5 rfl rfl)
theorem dX3_order_30 : decode cX3_order 30 = .ok (.getfield 21, 3) := dk_180 0 21 (dk_at dksX3_order_1 6 rfl rfl)
theorem dX3_order_33 : decode cX3_order 33 = .ok (.iload_n 1, 1) := dk_27 (dk_at dksX3_order_1 9 rfl rfl)
theorem dX3_order_34 : decode cX3_order 34 = .ok (.iload_n 3, 1) := dk_29 (dk_at dksX3_order_1 10 rfl rfl)
theorem dX3_order_35 : decode cX3_order 35 = .ok (.iadd, 1) := dk_96 (dk_at dksX3_order_1 11 rfl rfl)
theorem dX3_order_36 : decode cX3_order 36 = .ok (.iconst 0, 1) := dk_3 (dk_at dksX3_order_1 12 rfl rfl)
theorem dX3_order_37 : decode cX3_order 37 = .ok (.iastore, 1) := dk_79 (dk_at dksX3_order_1 13 rfl rfl)
theorem dX3_order_38 : decode cX3_order 38 = .ok (.iinc 3 1, 3) := dk_132 3 1 (dk_at dksX3_order_1 14 rfl rfl)
theorem dX3_order_41 : decode cX3_order 41 = .ok (.goto (-17), 3) := dk_167 255 239 (dk_at dksX3_order_1 17 rfl rfl)
theorem dX3_order_44 : decode cX3_order 44 = .ok (.iload_n 2, 1) := dk_28 (dk_at dksX3_order_1 20 rfl rfl)
theorem dX3_order_45 : decode cX3_order 45 = .ok (.bipush 99, 2) := dk_16 99 (dk_at dksX3_order_1 21 rfl rfl)
theorem dX3_order_47 : decode cX3_order 47 = .ok (.if_icmp .eq 36, 3) := dk_159 0 36 (dk_at dksX3_order_2 0 rfl rfl)
theorem dX3_order_50 : decode cX3_order 50 = .ok (.iload_n 2, 1) := dk_28 (dk_at dksX3_order_2 3 rfl rfl)
theorem dX3_order_51 : decode cX3_order 51 = .ok (.bipush 116, 2) := dk_16 116 (dk_at dksX3_order_2 4 rfl rfl)
theorem dX3_order_53 : decode cX3_order 53 = .ok (.if_icmp .eq 30, 3) := dk_159 0 30 (dk_at dksX3_order_2 6 rfl rfl)
theorem dX3_order_56 : decode cX3_order 56 = .ok (.iload_n 2, 1) := dk_28 (dk_at dksX3_order_2 9 rfl rfl)
theorem dX3_order_57 : decode cX3_order 57 = .ok (.bipush 108, 2) := dk_16 108 (dk_at dksX3_order_2 10 rfl rfl)
theorem dX3_order_59 : decode cX3_order 59 = .ok (.if_icmp .eq 24, 3) := dk_159 0 24 (dk_at dksX3_order_2 12 rfl rfl)
theorem dX3_order_62 : decode cX3_order 62 = .ok (.iload_n 2, 1) := dk_28 (dk_at dksX3_order_2 15 rfl rfl)
theorem dX3_order_63 : decode cX3_order 63 = .ok (.bipush 115, 2) := dk_16 115 (dk_at dksX3_order_2 16 rfl rfl)
theorem dX3_order_65 : decode cX3_order 65 = .ok (.if_icmp .eq 18, 3) := dk_159 0 18 (dk_at dksX3_order_2 18 rfl rfl)
theorem dX3_order_68 : decode cX3_order 68 = .ok (.iload_n 2, 1) := dk_28 (dk_at dksX3_order_2 21 rfl rfl)
theorem dX3_order_69 : decode cX3_order 69 = .ok (.bipush 121, 2) := dk_16 121 (dk_at dksX3_order_2 22 rfl rfl)
theorem dX3_order_71 : decode cX3_order 71 = .ok (.if_icmp .eq 12, 3) := dk_159 0 12 (dk_at dksX3_order_3 0 rfl rfl)
theorem dX3_order_74 : decode cX3_order 74 = .ok (.aload_n 0, 1) := dk_42 (dk_at dksX3_order_3 3 rfl rfl)
theorem dX3_order_75 : decode cX3_order 75 = .ok (.aload_n 0, 1) := dk_42 (dk_at dksX3_order_3 4 rfl rfl)
theorem dX3_order_76 : decode cX3_order 76 = .ok (.getfield 201, 3) := dk_180 0 201 (dk_at dksX3_order_3 5 rfl rfl)
theorem dX3_order_79 : decode cX3_order 79 = .ok (.putfield 204, 3) := dk_181 0 204 (dk_at dksX3_order_3 8 rfl rfl)
theorem dX3_order_82 : decode cX3_order 82 = .ok (.return_, 1) := dk_177 (dk_at dksX3_order_3 11 rfl rfl)
theorem dX3_order_83 : decode cX3_order 83 = .ok (.aload_n 0, 1) := dk_42 (dk_at dksX3_order_3 12 rfl rfl)
theorem dX3_order_84 : decode cX3_order 84 = .ok (.dup, 1) := dk_89 (dk_at dksX3_order_3 13 rfl rfl)
theorem dX3_order_85 : decode cX3_order 85 = .ok (.getfield 201, 3) := dk_180 0 201 (dk_at dksX3_order_3 14 rfl rfl)
theorem dX3_order_88 : decode cX3_order 88 = .ok (.iconst 1, 1) := dk_4 (dk_at dksX3_order_3 17 rfl rfl)
theorem dX3_order_89 : decode cX3_order 89 = .ok (.iadd, 1) := dk_96 (dk_at dksX3_order_3 18 rfl rfl)
theorem dX3_order_90 : decode cX3_order 90 = .ok (.putfield 201, 3) := dk_181 0 201 (dk_at dksX3_order_3 19 rfl rfl)
theorem dX3_order_93 : decode cX3_order 93 = .ok (.aload_n 0, 1) := dk_42 (dk_at dksX3_order_3 22 rfl rfl)
theorem dX3_order_94 : decode cX3_order 94 = .ok (.iload_n 2, 1) := dk_28 (dk_at dksX3_order_3 23 rfl rfl)
theorem dX3_order_95 : decode cX3_order 95 = .ok (.invokevirtual 219, 3) := dk_182 0 219 (dk_at dksX3_order_4 0 rfl rfl)
theorem dX3_order_98 : decode cX3_order 98 = .ok (.istore_n 3, 1) := dk_62 (dk_at dksX3_order_4 3 rfl rfl)
theorem dX3_order_99 : decode cX3_order 99 = .ok (.aload_n 0, 1) := dk_42 (dk_at dksX3_order_4 4 rfl rfl)
theorem dX3_order_100 : decode cX3_order 100 = .ok (.getfield 21, 3) := dk_180 0 21 (dk_at dksX3_order_4 5 rfl rfl)
theorem dX3_order_103 : decode cX3_order 103 = .ok (.iload_n 1, 1) := dk_27 (dk_at dksX3_order_4 8 rfl rfl)
theorem dX3_order_104 : decode cX3_order 104 = .ok (.iload_n 3, 1) := dk_29 (dk_at dksX3_order_4 9 rfl rfl)
theorem dX3_order_105 : decode cX3_order 105 = .ok (.iastore, 1) := dk_79 (dk_at dksX3_order_4 10 rfl rfl)
theorem dX3_order_106 : decode cX3_order 106 = .ok (.aload_n 0, 1) := dk_42 (dk_at dksX3_order_4 11 rfl rfl)
theorem dX3_order_107 : decode cX3_order 107 = .ok (.bipush 32, 2) := dk_16 32 (dk_at dksX3_order_4 12 rfl rfl)
theorem dX3_order_109 : decode cX3_order 109 = .ok (.invokevirtual 210, 3) := dk_182 0 210 (dk_at dksX3_order_4 14 rfl rfl)
theorem dX3_order_112 : decode cX3_order 112 = .ok (.aload_n 0, 1) := dk_42 (dk_at dksX3_order_4 17 rfl rfl)
theorem dX3_order_113 : decode cX3_order 113 = .ok (.getfield 21, 3) := dk_180 0 21 (dk_at dksX3_order_4 18 rfl rfl)
theorem dX3_order_116 : decode cX3_order 116 = .ok (.iload_n 1, 1) := dk_27 (dk_at dksX3_order_4 21 rfl rfl)
theorem dX3_order_117 : decode cX3_order 117 = .ok (.iconst 1, 1) := dk_4 (dk_at dksX3_order_4 22 rfl rfl)
theorem dX3_order_118 : decode cX3_order 118 = .ok (.iadd, 1) := dk_96 (dk_at dksX3_order_4 23 rfl rfl)
theorem dX3_order_119 : decode cX3_order 119 = .ok (.iload_n 3, 1) := dk_29 (dk_at dksX3_order_5 0 rfl rfl)
theorem dX3_order_120 : decode cX3_order 120 = .ok (.bipush 99, 2) := dk_16 99 (dk_at dksX3_order_5 1 rfl rfl)
theorem dX3_order_122 : decode cX3_order 122 = .ok (.if_icmp .eq 9, 3) := dk_159 0 9 (dk_at dksX3_order_5 3 rfl rfl)
theorem dX3_order_125 : decode cX3_order 125 = .ok (.iload_n 3, 1) := dk_29 (dk_at dksX3_order_5 6 rfl rfl)
theorem dX3_order_126 : decode cX3_order 126 = .ok (.bipush 117, 2) := dk_16 117 (dk_at dksX3_order_5 7 rfl rfl)
theorem dX3_order_128 : decode cX3_order 128 = .ok (.if_icmp .ne 10, 3) := dk_160 0 10 (dk_at dksX3_order_5 9 rfl rfl)
theorem dX3_order_131 : decode cX3_order 131 = .ok (.aload_n 0, 1) := dk_42 (dk_at dksX3_order_5 12 rfl rfl)
theorem dX3_order_132 : decode cX3_order 132 = .ok (.invokevirtual 222, 3) := dk_182 0 222 (dk_at dksX3_order_5 13 rfl rfl)
theorem dX3_order_135 : decode cX3_order 135 = .ok (.goto 37, 3) := dk_167 0 37 (dk_at dksX3_order_5 16 rfl rfl)
theorem dX3_order_138 : decode cX3_order 138 = .ok (.iload_n 3, 1) := dk_29 (dk_at dksX3_order_5 19 rfl rfl)
theorem dX3_order_139 : decode cX3_order 139 = .ok (.bipush 108, 2) := dk_16 108 (dk_at dksX3_order_5 20 rfl rfl)
theorem dX3_order_141 : decode cX3_order 141 = .ok (.if_icmp .ne 10, 3) := dk_160 0 10 (dk_at dksX3_order_6 0 rfl rfl)
theorem dX3_order_144 : decode cX3_order 144 = .ok (.aload_n 0, 1) := dk_42 (dk_at dksX3_order_6 3 rfl rfl)
theorem dX3_order_145 : decode cX3_order 145 = .ok (.invokevirtual 225, 3) := dk_182 0 225 (dk_at dksX3_order_6 4 rfl rfl)
theorem dX3_order_148 : decode cX3_order 148 = .ok (.goto 24, 3) := dk_167 0 24 (dk_at dksX3_order_6 7 rfl rfl)
theorem dX3_order_151 : decode cX3_order 151 = .ok (.aload_n 0, 1) := dk_42 (dk_at dksX3_order_6 10 rfl rfl)
theorem dX3_order_152 : decode cX3_order 152 = .ok (.iload_n 3, 1) := dk_29 (dk_at dksX3_order_6 11 rfl rfl)
theorem dX3_order_153 : decode cX3_order 153 = .ok (.bipush 104, 2) := dk_16 104 (dk_at dksX3_order_6 12 rfl rfl)
theorem dX3_order_155 : decode cX3_order 155 = .ok (.if_icmp .eq 9, 3) := dk_159 0 9 (dk_at dksX3_order_6 14 rfl rfl)
theorem dX3_order_158 : decode cX3_order 158 = .ok (.iload_n 3, 1) := dk_29 (dk_at dksX3_order_6 17 rfl rfl)
theorem dX3_order_159 : decode cX3_order 159 = .ok (.bipush 112, 2) := dk_16 112 (dk_at dksX3_order_6 18 rfl rfl)
theorem dX3_order_161 : decode cX3_order 161 = .ok (.if_icmp .ne 7, 3) := dk_160 0 7 (dk_at dksX3_order_6 20 rfl rfl)
theorem dX3_order_164 : decode cX3_order 164 = .ok (.iconst 1, 1) := dk_4 (dk_at dksX3_order_6 23 rfl rfl)
theorem dX3_order_165 : decode cX3_order 165 = .ok (.goto 4, 3) := dk_167 0 4 (dk_at dksX3_order_7 0 rfl rfl)
theorem dX3_order_168 : decode cX3_order 168 = .ok (.iconst 2, 1) := dk_5 (dk_at dksX3_order_7 3 rfl rfl)
theorem dX3_order_169 : decode cX3_order 169 = .ok (.invokevirtual 228, 3) := dk_182 0 228 (dk_at dksX3_order_7 4 rfl rfl)
theorem dX3_order_172 : decode cX3_order 172 = .ok (.iastore, 1) := dk_79 (dk_at dksX3_order_7 7 rfl rfl)
theorem dX3_order_173 : decode cX3_order 173 = .ok (.iload_n 3, 1) := dk_29 (dk_at dksX3_order_7 8 rfl rfl)
theorem dX3_order_174 : decode cX3_order 174 = .ok (.bipush 99, 2) := dk_16 99 (dk_at dksX3_order_7 9 rfl rfl)
theorem dX3_order_176 : decode cX3_order 176 = .ok (.if_icmp .ne 22, 3) := dk_160 0 22 (dk_at dksX3_order_7 11 rfl rfl)
theorem dX3_order_179 : decode cX3_order 179 = .ok (.aload_n 0, 1) := dk_42 (dk_at dksX3_order_7 14 rfl rfl)
theorem dX3_order_180 : decode cX3_order 180 = .ok (.bipush 32, 2) := dk_16 32 (dk_at dksX3_order_7 15 rfl rfl)
theorem dX3_order_182 : decode cX3_order 182 = .ok (.invokevirtual 210, 3) := dk_182 0 210 (dk_at dksX3_order_7 17 rfl rfl)
theorem dX3_order_185 : decode cX3_order 185 = .ok (.aload_n 0, 1) := dk_42 (dk_at dksX3_order_7 20 rfl rfl)
theorem dX3_order_186 : decode cX3_order 186 = .ok (.getfield 21, 3) := dk_180 0 21 (dk_at dksX3_order_7 21 rfl rfl)
theorem dX3_order_189 : decode cX3_order 189 = .ok (.iload_n 1, 1) := dk_27 (dk_at dksX3_order_8 0 rfl rfl)
theorem dX3_order_190 : decode cX3_order 190 = .ok (.iconst 2, 1) := dk_5 (dk_at dksX3_order_8 1 rfl rfl)
theorem dX3_order_191 : decode cX3_order 191 = .ok (.iadd, 1) := dk_96 (dk_at dksX3_order_8 2 rfl rfl)
theorem dX3_order_192 : decode cX3_order 192 = .ok (.aload_n 0, 1) := dk_42 (dk_at dksX3_order_8 3 rfl rfl)
theorem dX3_order_193 : decode cX3_order 193 = .ok (.iconst 1, 1) := dk_4 (dk_at dksX3_order_8 4 rfl rfl)
theorem dX3_order_194 : decode cX3_order 194 = .ok (.invokevirtual 228, 3) := dk_182 0 228 (dk_at dksX3_order_8 5 rfl rfl)
theorem dX3_order_197 : decode cX3_order 197 = .ok (.iastore, 1) := dk_79 (dk_at dksX3_order_8 8 rfl rfl)
theorem dX3_order_198 : decode cX3_order 198 = .ok (.return_, 1) := dk_177 (dk_at dksX3_order_8 9 rfl rfl)
abbrev cX3_sign : ByteArray := prog_14_method_77_code
def yX3_sign : MethodName := ⟨RX3, "sign", "()I"⟩
def dkwX3_sign_1 : List UInt8 := [172]
abbrev dktX3_sign_1 : List UInt8 := dkwX3_sign_1 ++ []
def dkwX3_sign_0 : List UInt8 := [42, 180, 0, 201, 42, 180, 0, 198, 162, 0, 15, 42, 180, 0, 13, 42, 180, 0, 201, 52, 167, 0, 4, 2]
abbrev dktX3_sign_0 : List UInt8 := dkwX3_sign_0 ++ dktX3_sign_1
theorem dksX3_sign_0 : cX3_sign.data.toList.drop 0 = dktX3_sign_0 := by decide +kernel
theorem dksX3_sign_1 : cX3_sign.data.toList.drop 24 = dktX3_sign_1 := dk_seg dksX3_sign_0 24 rfl rfl
theorem dX3_sign_0 : decode cX3_sign 0 = .ok (.aload_n 0, 1) := dk_42 (dk_at dksX3_sign_0 0 rfl rfl)
theorem dX3_sign_1 : decode cX3_sign 1 = .ok (.getfield 201, 3) := dk_180 0 201 (dk_at dksX3_sign_0 1 rfl rfl)
theorem dX3_sign_4 : decode cX3_sign 4 = .ok (.aload_n 0, 1) := dk_42 (dk_at dksX3_sign_0 4 rfl rfl)
theorem dX3_sign_5 : decode cX3_sign 5 = .ok (.getfield 198, 3) := dk_180 0 198 (dk_at dksX3_sign_0 5 rfl rfl)
theorem dX3_sign_8 : decode cX3_sign 8 = .ok (.if_icmp .ge 15, 3) := dk_162 0 15 (dk_at dksX3_sign_0 8 rfl rfl)
theorem dX3_sign_11 : decode cX3_sign 11 = .ok (.aload_n 0, 1) := dk_42 (dk_at dksX3_sign_0 11 rfl rfl)
theorem dX3_sign_12 : decode cX3_sign 12 = .ok (.getfield 13, 3) := dk_180 0 13 (dk_at dksX3_sign_0 12 rfl rfl)
theorem dX3_sign_15 : decode cX3_sign 15 = .ok (.aload_n 0, 1) := dk_42 (dk_at dksX3_sign_0 15 rfl rfl)
theorem dX3_sign_16 : decode cX3_sign 16 = .ok (.getfield 201, 3) := dk_180 0 201 (dk_at dksX3_sign_0 16 rfl rfl)
theorem dX3_sign_19 : decode cX3_sign 19 = .ok (.caload, 1) := dk_52 (dk_at dksX3_sign_0 19 rfl rfl)
theorem dX3_sign_20 : decode cX3_sign 20 = .ok (.goto 4, 3) := dk_167 0 4 (dk_at dksX3_sign_0 20 rfl rfl)
theorem dX3_sign_23 : decode cX3_sign 23 = .ok (.iconst (-1), 1) := dk_2 (dk_at dksX3_sign_0 23 rfl rfl)
theorem dX3_sign_24 : decode cX3_sign 24 = .ok (.ireturn, 1) := dk_172 (dk_at dksX3_sign_1 0 rfl rfl)
abbrev cX3_word : ByteArray := prog_14_method_83_code
def yX3_word : MethodName := ⟨RX3, "word", "(I)I"⟩
def dkwX3_word_8 : List UInt8 := [16, 104, 172]
abbrev dktX3_word_8 : List UInt8 := dkwX3_word_8 ++ []
def dkwX3_word_7 : List UInt8 := [16, 115, 182, 0, 210, 16, 112, 172, 42, 16, 104, 16, 97, 16, 114, 182, 0, 213, 42, 16, 101, 182, 0, 210]
abbrev dktX3_word_7 : List UInt8 := dkwX3_word_7 ++ dktX3_word_8
def dkwX3_word_6 : List UInt8 := [182, 0, 213, 16, 108, 172, 28, 16, 112, 160, 0, 22, 42, 16, 112, 16, 97, 16, 110, 182, 0, 213, 42]
abbrev dktX3_word_6 : List UInt8 := dkwX3_word_6 ++ dktX3_word_7
def dkwX3_word_5 : List UInt8 := [16, 101, 16, 97, 16, 118, 182, 0, 213, 42, 16, 101, 182, 0, 210, 16, 118, 172, 42, 16, 97, 16, 119, 3]
abbrev dktX3_word_5 : List UInt8 := dkwX3_word_5 ++ dktX3_word_6
def dkwX3_word_4 : List UInt8 := [16, 117, 172, 42, 16, 105, 16, 99, 16, 107, 182, 0, 213, 16, 116, 172, 28, 16, 101, 160, 0, 22, 42]
abbrev dktX3_word_4 : List UInt8 := dkwX3_word_4 ++ dktX3_word_5
def dkwX3_word_3 : List UInt8 := [16, 100, 182, 0, 210, 16, 121, 172, 28, 16, 117, 160, 0, 16, 42, 16, 117, 16, 114, 16, 110, 182, 0, 213]
abbrev dktX3_word_3 : List UInt8 := dkwX3_word_3 ++ dktX3_word_4
def dkwX3_word_2 : List UInt8 := [42, 16, 97, 16, 114, 16, 116, 182, 0, 213, 16, 99, 172, 42, 16, 105, 16, 101, 16, 108, 182, 0, 213, 42]
abbrev dktX3_word_2 : List UInt8 := dkwX3_word_2 ++ dktX3_word_3
def dkwX3_word_1 : List UInt8 := [171, 0, 0, 0, 0, 143, 0, 0, 0, 4, 0, 0, 0, 99, 0, 0, 0, 42, 0, 0, 0, 108, 0, 0, 0, 106, 0, 0, 0, 116, 0, 0, 0, 74, 0, 0, 0, 121, 0, 0, 0, 55]
abbrev dktX3_word_1 : List UInt8 := dkwX3_word_1 ++ dktX3_word_2
def dkwX3_word_0 : List UInt8 := [42, 182, 0, 207, 61, 27]
abbrev dktX3_word_0 : List UInt8 := dkwX3_word_0 ++ dktX3_word_1
theorem dksX3_word_0 : cX3_word.data.toList.drop 0 = dktX3_word_0 := by decide +kernel
theorem dksX3_word_1 : cX3_word.data.toList.drop 6 = dktX3_word_1 := dk_seg dksX3_word_0 6 rfl rfl
theorem dksX3_word_2 : cX3_word.data.toList.drop 48 = dktX3_word_2 := dk_seg dksX3_word_1 42 rfl rfl
theorem dksX3_word_3 : cX3_word.data.toList.drop 72 = dktX3_word_3 := dk_seg dksX3_word_2 24 rfl rfl
theorem dksX3_word_4 : cX3_word.data.toList.drop 96 = dktX3_word_4 := dk_seg dksX3_word_3 24 rfl rfl
theorem dksX3_word_5 : cX3_word.data.toList.drop 119 = dktX3_word_5 := dk_seg dksX3_word_4 23 rfl rfl
theorem dksX3_word_6 : cX3_word.data.toList.drop 143 = dktX3_word_6 := dk_seg dksX3_word_5 24 rfl rfl
theorem dksX3_word_7 : cX3_word.data.toList.drop 166 = dktX3_word_7 := dk_seg dksX3_word_6 23 rfl rfl
theorem dksX3_word_8 : cX3_word.data.toList.drop 190 = dktX3_word_8 := dk_seg dksX3_word_7 24 rfl rfl
theorem dX3_word_0 : decode cX3_word 0 = .ok (.aload_n 0, 1) := dk_42 (dk_at dksX3_word_0 0 rfl rfl)
theorem dX3_word_1 : decode cX3_word 1 = .ok (.invokevirtual 207, 3) := dk_182 0 207 (dk_at dksX3_word_0 1 rfl rfl)
theorem dX3_word_4 : decode cX3_word 4 = .ok (.istore_n 2, 1) := dk_61 (dk_at dksX3_word_0 4 rfl rfl)
theorem dX3_word_5 : decode cX3_word 5 = .ok (.iload_n 1, 1) := dk_27 (dk_at dksX3_word_0 5 rfl rfl)
theorem dX3_word_6 : decode cX3_word 6 = .ok (.lookupswitch 143 #[(99, 42), (108, 106), (116, 74), (121, 55)], 42) := by decide +kernel
theorem dX3_word_48 : decode cX3_word 48 = .ok (.aload_n 0, 1) := dk_42 (dk_at dksX3_word_2 0 rfl rfl)
theorem dX3_word_49 : decode cX3_word 49 = .ok (.bipush 97, 2) := dk_16 97 (dk_at dksX3_word_2 1 rfl rfl)
theorem dX3_word_51 : decode cX3_word 51 = .ok (.bipush 114, 2) := dk_16 114 (dk_at dksX3_word_2 3 rfl rfl)
theorem dX3_word_53 : decode cX3_word 53 = .ok (.bipush 116, 2) := dk_16 116 (dk_at dksX3_word_2 5 rfl rfl)
theorem dX3_word_55 : decode cX3_word 55 = .ok (.invokevirtual 213, 3) := dk_182 0 213 (dk_at dksX3_word_2 7 rfl rfl)
theorem dX3_word_58 : decode cX3_word 58 = .ok (.bipush 99, 2) := dk_16 99 (dk_at dksX3_word_2 10 rfl rfl)
theorem dX3_word_60 : decode cX3_word 60 = .ok (.ireturn, 1) := dk_172 (dk_at dksX3_word_2 12 rfl rfl)
theorem dX3_word_61 : decode cX3_word 61 = .ok (.aload_n 0, 1) := dk_42 (dk_at dksX3_word_2 13 rfl rfl)
theorem dX3_word_62 : decode cX3_word 62 = .ok (.bipush 105, 2) := dk_16 105 (dk_at dksX3_word_2 14 rfl rfl)
theorem dX3_word_64 : decode cX3_word 64 = .ok (.bipush 101, 2) := dk_16 101 (dk_at dksX3_word_2 16 rfl rfl)
theorem dX3_word_66 : decode cX3_word 66 = .ok (.bipush 108, 2) := dk_16 108 (dk_at dksX3_word_2 18 rfl rfl)
theorem dX3_word_68 : decode cX3_word 68 = .ok (.invokevirtual 213, 3) := dk_182 0 213 (dk_at dksX3_word_2 20 rfl rfl)
theorem dX3_word_71 : decode cX3_word 71 = .ok (.aload_n 0, 1) := dk_42 (dk_at dksX3_word_2 23 rfl rfl)
theorem dX3_word_72 : decode cX3_word 72 = .ok (.bipush 100, 2) := dk_16 100 (dk_at dksX3_word_3 0 rfl rfl)
theorem dX3_word_74 : decode cX3_word 74 = .ok (.invokevirtual 210, 3) := dk_182 0 210 (dk_at dksX3_word_3 2 rfl rfl)
theorem dX3_word_77 : decode cX3_word 77 = .ok (.bipush 121, 2) := dk_16 121 (dk_at dksX3_word_3 5 rfl rfl)
theorem dX3_word_79 : decode cX3_word 79 = .ok (.ireturn, 1) := dk_172 (dk_at dksX3_word_3 7 rfl rfl)
theorem dX3_word_80 : decode cX3_word 80 = .ok (.iload_n 2, 1) := dk_28 (dk_at dksX3_word_3 8 rfl rfl)
theorem dX3_word_81 : decode cX3_word 81 = .ok (.bipush 117, 2) := dk_16 117 (dk_at dksX3_word_3 9 rfl rfl)
theorem dX3_word_83 : decode cX3_word 83 = .ok (.if_icmp .ne 16, 3) := dk_160 0 16 (dk_at dksX3_word_3 11 rfl rfl)
theorem dX3_word_86 : decode cX3_word 86 = .ok (.aload_n 0, 1) := dk_42 (dk_at dksX3_word_3 14 rfl rfl)
theorem dX3_word_87 : decode cX3_word 87 = .ok (.bipush 117, 2) := dk_16 117 (dk_at dksX3_word_3 15 rfl rfl)
theorem dX3_word_89 : decode cX3_word 89 = .ok (.bipush 114, 2) := dk_16 114 (dk_at dksX3_word_3 17 rfl rfl)
theorem dX3_word_91 : decode cX3_word 91 = .ok (.bipush 110, 2) := dk_16 110 (dk_at dksX3_word_3 19 rfl rfl)
theorem dX3_word_93 : decode cX3_word 93 = .ok (.invokevirtual 213, 3) := dk_182 0 213 (dk_at dksX3_word_3 21 rfl rfl)
theorem dX3_word_96 : decode cX3_word 96 = .ok (.bipush 117, 2) := dk_16 117 (dk_at dksX3_word_4 0 rfl rfl)
theorem dX3_word_98 : decode cX3_word 98 = .ok (.ireturn, 1) := dk_172 (dk_at dksX3_word_4 2 rfl rfl)
theorem dX3_word_99 : decode cX3_word 99 = .ok (.aload_n 0, 1) := dk_42 (dk_at dksX3_word_4 3 rfl rfl)
theorem dX3_word_100 : decode cX3_word 100 = .ok (.bipush 105, 2) := dk_16 105 (dk_at dksX3_word_4 4 rfl rfl)
theorem dX3_word_102 : decode cX3_word 102 = .ok (.bipush 99, 2) := dk_16 99 (dk_at dksX3_word_4 6 rfl rfl)
theorem dX3_word_104 : decode cX3_word 104 = .ok (.bipush 107, 2) := dk_16 107 (dk_at dksX3_word_4 8 rfl rfl)
theorem dX3_word_106 : decode cX3_word 106 = .ok (.invokevirtual 213, 3) := dk_182 0 213 (dk_at dksX3_word_4 10 rfl rfl)
theorem dX3_word_109 : decode cX3_word 109 = .ok (.bipush 116, 2) := dk_16 116 (dk_at dksX3_word_4 13 rfl rfl)
theorem dX3_word_111 : decode cX3_word 111 = .ok (.ireturn, 1) := dk_172 (dk_at dksX3_word_4 15 rfl rfl)
theorem dX3_word_112 : decode cX3_word 112 = .ok (.iload_n 2, 1) := dk_28 (dk_at dksX3_word_4 16 rfl rfl)
theorem dX3_word_113 : decode cX3_word 113 = .ok (.bipush 101, 2) := dk_16 101 (dk_at dksX3_word_4 17 rfl rfl)
theorem dX3_word_115 : decode cX3_word 115 = .ok (.if_icmp .ne 22, 3) := dk_160 0 22 (dk_at dksX3_word_4 19 rfl rfl)
theorem dX3_word_118 : decode cX3_word 118 = .ok (.aload_n 0, 1) := dk_42 (dk_at dksX3_word_4 22 rfl rfl)
theorem dX3_word_119 : decode cX3_word 119 = .ok (.bipush 101, 2) := dk_16 101 (dk_at dksX3_word_5 0 rfl rfl)
theorem dX3_word_121 : decode cX3_word 121 = .ok (.bipush 97, 2) := dk_16 97 (dk_at dksX3_word_5 2 rfl rfl)
theorem dX3_word_123 : decode cX3_word 123 = .ok (.bipush 118, 2) := dk_16 118 (dk_at dksX3_word_5 4 rfl rfl)
theorem dX3_word_125 : decode cX3_word 125 = .ok (.invokevirtual 213, 3) := dk_182 0 213 (dk_at dksX3_word_5 6 rfl rfl)
theorem dX3_word_128 : decode cX3_word 128 = .ok (.aload_n 0, 1) := dk_42 (dk_at dksX3_word_5 9 rfl rfl)
theorem dX3_word_129 : decode cX3_word 129 = .ok (.bipush 101, 2) := dk_16 101 (dk_at dksX3_word_5 10 rfl rfl)
theorem dX3_word_131 : decode cX3_word 131 = .ok (.invokevirtual 210, 3) := dk_182 0 210 (dk_at dksX3_word_5 12 rfl rfl)
theorem dX3_word_134 : decode cX3_word 134 = .ok (.bipush 118, 2) := dk_16 118 (dk_at dksX3_word_5 15 rfl rfl)
theorem dX3_word_136 : decode cX3_word 136 = .ok (.ireturn, 1) := dk_172 (dk_at dksX3_word_5 17 rfl rfl)
theorem dX3_word_137 : decode cX3_word 137 = .ok (.aload_n 0, 1) := dk_42 (dk_at dksX3_word_5 18 rfl rfl)
theorem dX3_word_138 : decode cX3_word 138 = .ok (.bipush 97, 2) := dk_16 97 (dk_at dksX3_word_5 19 rfl rfl)
theorem dX3_word_140 : decode cX3_word 140 = .ok (.bipush 119, 2) := dk_16 119 (dk_at dksX3_word_5 21 rfl rfl)
theorem dX3_word_142 : decode cX3_word 142 = .ok (.iconst 0, 1) := dk_3 (dk_at dksX3_word_5 23 rfl rfl)
theorem dX3_word_143 : decode cX3_word 143 = .ok (.invokevirtual 213, 3) := dk_182 0 213 (dk_at dksX3_word_6 0 rfl rfl)
theorem dX3_word_146 : decode cX3_word 146 = .ok (.bipush 108, 2) := dk_16 108 (dk_at dksX3_word_6 3 rfl rfl)
theorem dX3_word_148 : decode cX3_word 148 = .ok (.ireturn, 1) := dk_172 (dk_at dksX3_word_6 5 rfl rfl)
theorem dX3_word_149 : decode cX3_word 149 = .ok (.iload_n 2, 1) := dk_28 (dk_at dksX3_word_6 6 rfl rfl)
theorem dX3_word_150 : decode cX3_word 150 = .ok (.bipush 112, 2) := dk_16 112 (dk_at dksX3_word_6 7 rfl rfl)
theorem dX3_word_152 : decode cX3_word 152 = .ok (.if_icmp .ne 22, 3) := dk_160 0 22 (dk_at dksX3_word_6 9 rfl rfl)
theorem dX3_word_155 : decode cX3_word 155 = .ok (.aload_n 0, 1) := dk_42 (dk_at dksX3_word_6 12 rfl rfl)
theorem dX3_word_156 : decode cX3_word 156 = .ok (.bipush 112, 2) := dk_16 112 (dk_at dksX3_word_6 13 rfl rfl)
theorem dX3_word_158 : decode cX3_word 158 = .ok (.bipush 97, 2) := dk_16 97 (dk_at dksX3_word_6 15 rfl rfl)
theorem dX3_word_160 : decode cX3_word 160 = .ok (.bipush 110, 2) := dk_16 110 (dk_at dksX3_word_6 17 rfl rfl)
theorem dX3_word_162 : decode cX3_word 162 = .ok (.invokevirtual 213, 3) := dk_182 0 213 (dk_at dksX3_word_6 19 rfl rfl)
theorem dX3_word_165 : decode cX3_word 165 = .ok (.aload_n 0, 1) := dk_42 (dk_at dksX3_word_6 22 rfl rfl)
theorem dX3_word_166 : decode cX3_word 166 = .ok (.bipush 115, 2) := dk_16 115 (dk_at dksX3_word_7 0 rfl rfl)
theorem dX3_word_168 : decode cX3_word 168 = .ok (.invokevirtual 210, 3) := dk_182 0 210 (dk_at dksX3_word_7 2 rfl rfl)
theorem dX3_word_171 : decode cX3_word 171 = .ok (.bipush 112, 2) := dk_16 112 (dk_at dksX3_word_7 5 rfl rfl)
theorem dX3_word_173 : decode cX3_word 173 = .ok (.ireturn, 1) := dk_172 (dk_at dksX3_word_7 7 rfl rfl)
theorem dX3_word_174 : decode cX3_word 174 = .ok (.aload_n 0, 1) := dk_42 (dk_at dksX3_word_7 8 rfl rfl)
theorem dX3_word_175 : decode cX3_word 175 = .ok (.bipush 104, 2) := dk_16 104 (dk_at dksX3_word_7 9 rfl rfl)
theorem dX3_word_177 : decode cX3_word 177 = .ok (.bipush 97, 2) := dk_16 97 (dk_at dksX3_word_7 11 rfl rfl)
theorem dX3_word_179 : decode cX3_word 179 = .ok (.bipush 114, 2) := dk_16 114 (dk_at dksX3_word_7 13 rfl rfl)
theorem dX3_word_181 : decode cX3_word 181 = .ok (.invokevirtual 213, 3) := dk_182 0 213 (dk_at dksX3_word_7 15 rfl rfl)
theorem dX3_word_184 : decode cX3_word 184 = .ok (.aload_n 0, 1) := dk_42 (dk_at dksX3_word_7 18 rfl rfl)
theorem dX3_word_185 : decode cX3_word 185 = .ok (.bipush 101, 2) := dk_16 101 (dk_at dksX3_word_7 19 rfl rfl)
theorem dX3_word_187 : decode cX3_word 187 = .ok (.invokevirtual 210, 3) := dk_182 0 210 (dk_at dksX3_word_7 21 rfl rfl)
theorem dX3_word_190 : decode cX3_word 190 = .ok (.bipush 104, 2) := dk_16 104 (dk_at dksX3_word_8 0 rfl rfl)
theorem dX3_word_192 : decode cX3_word 192 = .ok (.ireturn, 1) := dk_172 (dk_at dksX3_word_8 2 rfl rfl)
abbrev cX3_signs : ByteArray := prog_14_method_79_code
def yX3_signs : MethodName := ⟨RX3, "signs", "(III)V"⟩
def dkwX3_signs_0 : List UInt8 := [42, 27, 182, 0, 210, 42, 28, 182, 0, 210, 29, 153, 0, 8, 42, 29, 182, 0, 210, 177]
abbrev dktX3_signs_0 : List UInt8 := dkwX3_signs_0 ++ []
theorem dksX3_signs_0 : cX3_signs.data.toList.drop 0 = dktX3_signs_0 := by decide +kernel
theorem dX3_signs_0 : decode cX3_signs 0 = .ok (.aload_n 0, 1) := dk_42 (dk_at dksX3_signs_0 0 rfl rfl)
theorem dX3_signs_1 : decode cX3_signs 1 = .ok (.iload_n 1, 1) := dk_27 (dk_at dksX3_signs_0 1 rfl rfl)
theorem dX3_signs_2 : decode cX3_signs 2 = .ok (.invokevirtual 210, 3) := dk_182 0 210 (dk_at dksX3_signs_0 2 rfl rfl)
theorem dX3_signs_5 : decode cX3_signs 5 = .ok (.aload_n 0, 1) := dk_42 (dk_at dksX3_signs_0 5 rfl rfl)
theorem dX3_signs_6 : decode cX3_signs 6 = .ok (.iload_n 2, 1) := dk_28 (dk_at dksX3_signs_0 6 rfl rfl)
theorem dX3_signs_7 : decode cX3_signs 7 = .ok (.invokevirtual 210, 3) := dk_182 0 210 (dk_at dksX3_signs_0 7 rfl rfl)
theorem dX3_signs_10 : decode cX3_signs 10 = .ok (.iload_n 3, 1) := dk_29 (dk_at dksX3_signs_0 10 rfl rfl)
theorem dX3_signs_11 : decode cX3_signs 11 = .ok (.ifCond .eq 8, 3) := dk_153 0 8 (dk_at dksX3_signs_0 11 rfl rfl)
theorem dX3_signs_14 : decode cX3_signs 14 = .ok (.aload_n 0, 1) := dk_42 (dk_at dksX3_signs_0 14 rfl rfl)
theorem dX3_signs_15 : decode cX3_signs 15 = .ok (.iload_n 3, 1) := dk_29 (dk_at dksX3_signs_0 15 rfl rfl)
theorem dX3_signs_16 : decode cX3_signs 16 = .ok (.invokevirtual 210, 3) := dk_182 0 210 (dk_at dksX3_signs_0 16 rfl rfl)
theorem dX3_signs_19 : decode cX3_signs 19 = .ok (.return_, 1) := dk_177 (dk_at dksX3_signs_0 19 rfl rfl)
abbrev cX3_needs : ByteArray := prog_14_method_78_code
def yX3_needs : MethodName := ⟨RX3, "needs", "(I)V"⟩
def dkwX3_needs_1 : List UInt8 := [177, 42, 89, 180, 0, 201, 4, 96, 181, 0, 201, 177]
abbrev dktX3_needs_1 : List UInt8 := dkwX3_needs_1 ++ []
def dkwX3_needs_0 : List UInt8 := [42, 180, 0, 204, 155, 0, 4, 177, 42, 182, 0, 207, 27, 159, 0, 12, 42, 42, 180, 0, 201, 181, 0, 204]
abbrev dktX3_needs_0 : List UInt8 := dkwX3_needs_0 ++ dktX3_needs_1
theorem dksX3_needs_0 : cX3_needs.data.toList.drop 0 = dktX3_needs_0 := by decide +kernel
theorem dksX3_needs_1 : cX3_needs.data.toList.drop 24 = dktX3_needs_1 := dk_seg dksX3_needs_0 24 rfl rfl
theorem dX3_needs_0 : decode cX3_needs 0 = .ok (.aload_n 0, 1) := dk_42 (dk_at dksX3_needs_0 0 rfl rfl)
theorem dX3_needs_1 : decode cX3_needs 1 = .ok (.getfield 204, 3) := dk_180 0 204 (dk_at dksX3_needs_0 1 rfl rfl)
theorem dX3_needs_4 : decode cX3_needs 4 = .ok (.ifCond .lt 4, 3) := dk_155 0 4 (dk_at dksX3_needs_0 4 rfl rfl)
theorem dX3_needs_7 : decode cX3_needs 7 = .ok (.return_, 1) := dk_177 (dk_at dksX3_needs_0 7 rfl rfl)
theorem dX3_needs_8 : decode cX3_needs 8 = .ok (.aload_n 0, 1) := dk_42 (dk_at dksX3_needs_0 8 rfl rfl)
theorem dX3_needs_9 : decode cX3_needs 9 = .ok (.invokevirtual 207, 3) := dk_182 0 207 (dk_at dksX3_needs_0 9 rfl rfl)
theorem dX3_needs_12 : decode cX3_needs 12 = .ok (.iload_n 1, 1) := dk_27 (dk_at dksX3_needs_0 12 rfl rfl)
theorem dX3_needs_13 : decode cX3_needs 13 = .ok (.if_icmp .eq 12, 3) := dk_159 0 12 (dk_at dksX3_needs_0 13 rfl rfl)
theorem dX3_needs_16 : decode cX3_needs 16 = .ok (.aload_n 0, 1) := dk_42 (dk_at dksX3_needs_0 16 rfl rfl)
theorem dX3_needs_17 : decode cX3_needs 17 = .ok (.aload_n 0, 1) := dk_42 (dk_at dksX3_needs_0 17 rfl rfl)
theorem dX3_needs_18 : decode cX3_needs 18 = .ok (.getfield 201, 3) := dk_180 0 201 (dk_at dksX3_needs_0 18 rfl rfl)
theorem dX3_needs_21 : decode cX3_needs 21 = .ok (.putfield 204, 3) := dk_181 0 204 (dk_at dksX3_needs_0 21 rfl rfl)
theorem dX3_needs_24 : decode cX3_needs 24 = .ok (.return_, 1) := dk_177 (dk_at dksX3_needs_1 0 rfl rfl)
theorem dX3_needs_25 : decode cX3_needs 25 = .ok (.aload_n 0, 1) := dk_42 (dk_at dksX3_needs_1 1 rfl rfl)
theorem dX3_needs_26 : decode cX3_needs 26 = .ok (.dup, 1) := dk_89 (dk_at dksX3_needs_1 2 rfl rfl)
theorem dX3_needs_27 : decode cX3_needs 27 = .ok (.getfield 201, 3) := dk_180 0 201 (dk_at dksX3_needs_1 3 rfl rfl)
theorem dX3_needs_30 : decode cX3_needs 30 = .ok (.iconst 1, 1) := dk_4 (dk_at dksX3_needs_1 6 rfl rfl)
theorem dX3_needs_31 : decode cX3_needs 31 = .ok (.iadd, 1) := dk_96 (dk_at dksX3_needs_1 7 rfl rfl)
theorem dX3_needs_32 : decode cX3_needs 32 = .ok (.putfield 201, 3) := dk_181 0 201 (dk_at dksX3_needs_1 8 rfl rfl)
theorem dX3_needs_35 : decode cX3_needs 35 = .ok (.return_, 1) := dk_177 (dk_at dksX3_needs_1 11 rfl rfl)
abbrev cX3_side : ByteArray := prog_14_method_81_code
def yX3_side : MethodName := ⟨RX3, "side", "()I"⟩
def dkwX3_side_2 : List UInt8 := [16, 119, 160, 0, 7, 3, 167, 0, 4, 4, 172]
abbrev dktX3_side_2 : List UInt8 := dkwX3_side_2 ++ []
def dkwX3_side_1 : List UInt8 := [159, 0, 13, 42, 42, 180, 0, 201, 181, 0, 204, 3, 172, 42, 89, 180, 0, 201, 4, 96, 181, 0, 201, 27]
abbrev dktX3_side_1 : List UInt8 := dkwX3_side_1 ++ dktX3_side_2
def dkwX3_side_0 : List UInt8 := [42, 180, 0, 204, 155, 0, 5, 3, 172, 42, 182, 0, 207, 60, 27, 16, 119, 159, 0, 19, 27, 16, 101]
abbrev dktX3_side_0 : List UInt8 := dkwX3_side_0 ++ dktX3_side_1
theorem dksX3_side_0 : cX3_side.data.toList.drop 0 = dktX3_side_0 := by decide +kernel
theorem dksX3_side_1 : cX3_side.data.toList.drop 23 = dktX3_side_1 := dk_seg dksX3_side_0 23 rfl rfl
theorem dksX3_side_2 : cX3_side.data.toList.drop 47 = dktX3_side_2 := dk_seg dksX3_side_1 24 rfl rfl
theorem dX3_side_0 : decode cX3_side 0 = .ok (.aload_n 0, 1) := dk_42 (dk_at dksX3_side_0 0 rfl rfl)
theorem dX3_side_1 : decode cX3_side 1 = .ok (.getfield 204, 3) := dk_180 0 204 (dk_at dksX3_side_0 1 rfl rfl)
theorem dX3_side_4 : decode cX3_side 4 = .ok (.ifCond .lt 5, 3) := dk_155 0 5 (dk_at dksX3_side_0 4 rfl rfl)
theorem dX3_side_7 : decode cX3_side 7 = .ok (.iconst 0, 1) := dk_3 (dk_at dksX3_side_0 7 rfl rfl)
theorem dX3_side_8 : decode cX3_side 8 = .ok (.ireturn, 1) := dk_172 (dk_at dksX3_side_0 8 rfl rfl)
theorem dX3_side_9 : decode cX3_side 9 = .ok (.aload_n 0, 1) := dk_42 (dk_at dksX3_side_0 9 rfl rfl)
theorem dX3_side_10 : decode cX3_side 10 = .ok (.invokevirtual 207, 3) := dk_182 0 207 (dk_at dksX3_side_0 10 rfl rfl)
theorem dX3_side_13 : decode cX3_side 13 = .ok (.istore_n 1, 1) := dk_60 (dk_at dksX3_side_0 13 rfl rfl)
theorem dX3_side_14 : decode cX3_side 14 = .ok (.iload_n 1, 1) := dk_27 (dk_at dksX3_side_0 14 rfl rfl)
theorem dX3_side_15 : decode cX3_side 15 = .ok (.bipush 119, 2) := dk_16 119 (dk_at dksX3_side_0 15 rfl rfl)
theorem dX3_side_17 : decode cX3_side 17 = .ok (.if_icmp .eq 19, 3) := dk_159 0 19 (dk_at dksX3_side_0 17 rfl rfl)
theorem dX3_side_20 : decode cX3_side 20 = .ok (.iload_n 1, 1) := dk_27 (dk_at dksX3_side_0 20 rfl rfl)
theorem dX3_side_21 : decode cX3_side 21 = .ok (.bipush 101, 2) := dk_16 101 (dk_at dksX3_side_0 21 rfl rfl)
theorem dX3_side_23 : decode cX3_side 23 = .ok (.if_icmp .eq 13, 3) := dk_159 0 13 (dk_at dksX3_side_1 0 rfl rfl)
theorem dX3_side_26 : decode cX3_side 26 = .ok (.aload_n 0, 1) := dk_42 (dk_at dksX3_side_1 3 rfl rfl)
theorem dX3_side_27 : decode cX3_side 27 = .ok (.aload_n 0, 1) := dk_42 (dk_at dksX3_side_1 4 rfl rfl)
theorem dX3_side_28 : decode cX3_side 28 = .ok (.getfield 201, 3) := dk_180 0 201 (dk_at dksX3_side_1 5 rfl rfl)
theorem dX3_side_31 : decode cX3_side 31 = .ok (.putfield 204, 3) := dk_181 0 204 (dk_at dksX3_side_1 8 rfl rfl)
theorem dX3_side_34 : decode cX3_side 34 = .ok (.iconst 0, 1) := dk_3 (dk_at dksX3_side_1 11 rfl rfl)
theorem dX3_side_35 : decode cX3_side 35 = .ok (.ireturn, 1) := dk_172 (dk_at dksX3_side_1 12 rfl rfl)
theorem dX3_side_36 : decode cX3_side 36 = .ok (.aload_n 0, 1) := dk_42 (dk_at dksX3_side_1 13 rfl rfl)
theorem dX3_side_37 : decode cX3_side 37 = .ok (.dup, 1) := dk_89 (dk_at dksX3_side_1 14 rfl rfl)
theorem dX3_side_38 : decode cX3_side 38 = .ok (.getfield 201, 3) := dk_180 0 201 (dk_at dksX3_side_1 15 rfl rfl)
theorem dX3_side_41 : decode cX3_side 41 = .ok (.iconst 1, 1) := dk_4 (dk_at dksX3_side_1 18 rfl rfl)
theorem dX3_side_42 : decode cX3_side 42 = .ok (.iadd, 1) := dk_96 (dk_at dksX3_side_1 19 rfl rfl)
theorem dX3_side_43 : decode cX3_side 43 = .ok (.putfield 201, 3) := dk_181 0 201 (dk_at dksX3_side_1 20 rfl rfl)
theorem dX3_side_46 : decode cX3_side 46 = .ok (.iload_n 1, 1) := dk_27 (dk_at dksX3_side_1 23 rfl rfl)
theorem dX3_side_47 : decode cX3_side 47 = .ok (.bipush 119, 2) := dk_16 119 (dk_at dksX3_side_2 0 rfl rfl)
theorem dX3_side_49 : decode cX3_side 49 = .ok (.if_icmp .ne 7, 3) := dk_160 0 7 (dk_at dksX3_side_2 2 rfl rfl)
theorem dX3_side_52 : decode cX3_side 52 = .ok (.iconst 0, 1) := dk_3 (dk_at dksX3_side_2 5 rfl rfl)
theorem dX3_side_53 : decode cX3_side 53 = .ok (.goto 4, 3) := dk_167 0 4 (dk_at dksX3_side_2 6 rfl rfl)
theorem dX3_side_56 : decode cX3_side 56 = .ok (.iconst 1, 1) := dk_4 (dk_at dksX3_side_2 9 rfl rfl)
theorem dX3_side_57 : decode cX3_side 57 = .ok (.ireturn, 1) := dk_172 (dk_at dksX3_side_2 10 rfl rfl)
abbrev cX3_lawWord : ByteArray := prog_14_method_82_code
def yX3_lawWord : MethodName := ⟨RX3, "lawWord", "()I"⟩
def dkwX3_lawWord_5 : List UInt8 := [182, 0, 210, 6, 172, 42, 42, 180, 0, 201, 181, 0, 204, 3, 172]
abbrev dktX3_lawWord_5 : List UInt8 := dkwX3_lawWord_5 ++ []
def dkwX3_lawWord_4 : List UInt8 := [182, 0, 213, 42, 16, 100, 182, 0, 210, 5, 172, 42, 16, 119, 16, 97, 16, 105, 182, 0, 213, 42, 16, 116]
abbrev dktX3_lawWord_4 : List UInt8 := dkwX3_lawWord_4 ++ dktX3_lawWord_5
def dkwX3_lawWord_3 : List UInt8 := [16, 114, 182, 0, 213, 42, 16, 110, 16, 115, 3, 182, 0, 213, 4, 172, 42, 16, 108, 16, 111, 16, 97]
abbrev dktX3_lawWord_3 : List UInt8 := dkwX3_lawWord_3 ++ dktX3_lawWord_4
def dkwX3_lawWord_2 : List UInt8 := [42, 16, 102, 16, 114, 16, 101, 182, 0, 213, 42, 16, 101, 182, 0, 210, 3, 172, 42, 16, 116, 16, 117]
abbrev dktX3_lawWord_2 : List UInt8 := dkwX3_lawWord_2 ++ dktX3_lawWord_3
def dkwX3_lawWord_1 : List UInt8 := [171, 0, 0, 0, 116, 0, 0, 0, 4, 0, 0, 0, 102, 0, 0, 0, 41, 0, 0, 0, 108, 0, 0, 0, 80, 0, 0, 0, 116, 0, 0, 0, 59, 0, 0, 0, 119, 0, 0, 0, 98]
abbrev dktX3_lawWord_1 : List UInt8 := dkwX3_lawWord_1 ++ dktX3_lawWord_2
def dkwX3_lawWord_0 : List UInt8 := [42, 180, 0, 204, 155, 0, 5, 3, 172, 42, 182, 0, 207, 60, 27]
abbrev dktX3_lawWord_0 : List UInt8 := dkwX3_lawWord_0 ++ dktX3_lawWord_1
theorem dksX3_lawWord_0 : cX3_lawWord.data.toList.drop 0 = dktX3_lawWord_0 := by decide +kernel
theorem dksX3_lawWord_1 : cX3_lawWord.data.toList.drop 15 = dktX3_lawWord_1 := dk_seg dksX3_lawWord_0 15 rfl rfl
theorem dksX3_lawWord_2 : cX3_lawWord.data.toList.drop 56 = dktX3_lawWord_2 := dk_seg dksX3_lawWord_1 41 rfl rfl
theorem dksX3_lawWord_3 : cX3_lawWord.data.toList.drop 79 = dktX3_lawWord_3 := dk_seg dksX3_lawWord_2 23 rfl rfl
theorem dksX3_lawWord_4 : cX3_lawWord.data.toList.drop 102 = dktX3_lawWord_4 := dk_seg dksX3_lawWord_3 23 rfl rfl
theorem dksX3_lawWord_5 : cX3_lawWord.data.toList.drop 126 = dktX3_lawWord_5 := dk_seg dksX3_lawWord_4 24 rfl rfl
theorem dX3_lawWord_0 : decode cX3_lawWord 0 = .ok (.aload_n 0, 1) := dk_42 (dk_at dksX3_lawWord_0 0 rfl rfl)
theorem dX3_lawWord_1 : decode cX3_lawWord 1 = .ok (.getfield 204, 3) := dk_180 0 204 (dk_at dksX3_lawWord_0 1 rfl rfl)
theorem dX3_lawWord_4 : decode cX3_lawWord 4 = .ok (.ifCond .lt 5, 3) := dk_155 0 5 (dk_at dksX3_lawWord_0 4 rfl rfl)
theorem dX3_lawWord_7 : decode cX3_lawWord 7 = .ok (.iconst 0, 1) := dk_3 (dk_at dksX3_lawWord_0 7 rfl rfl)
theorem dX3_lawWord_8 : decode cX3_lawWord 8 = .ok (.ireturn, 1) := dk_172 (dk_at dksX3_lawWord_0 8 rfl rfl)
theorem dX3_lawWord_9 : decode cX3_lawWord 9 = .ok (.aload_n 0, 1) := dk_42 (dk_at dksX3_lawWord_0 9 rfl rfl)
theorem dX3_lawWord_10 : decode cX3_lawWord 10 = .ok (.invokevirtual 207, 3) := dk_182 0 207 (dk_at dksX3_lawWord_0 10 rfl rfl)
theorem dX3_lawWord_13 : decode cX3_lawWord 13 = .ok (.istore_n 1, 1) := dk_60 (dk_at dksX3_lawWord_0 13 rfl rfl)
theorem dX3_lawWord_14 : decode cX3_lawWord 14 = .ok (.iload_n 1, 1) := dk_27 (dk_at dksX3_lawWord_0 14 rfl rfl)
theorem dX3_lawWord_15 : decode cX3_lawWord 15 = .ok (.lookupswitch 116 #[(102, 41), (108, 80), (116, 59), (119, 98)], 41) := by decide +kernel
theorem dX3_lawWord_56 : decode cX3_lawWord 56 = .ok (.aload_n 0, 1) := dk_42 (dk_at dksX3_lawWord_2 0 rfl rfl)
theorem dX3_lawWord_57 : decode cX3_lawWord 57 = .ok (.bipush 102, 2) := dk_16 102 (dk_at dksX3_lawWord_2 1 rfl rfl)
theorem dX3_lawWord_59 : decode cX3_lawWord 59 = .ok (.bipush 114, 2) := dk_16 114 (dk_at dksX3_lawWord_2 3 rfl rfl)
theorem dX3_lawWord_61 : decode cX3_lawWord 61 = .ok (.bipush 101, 2) := dk_16 101 (dk_at dksX3_lawWord_2 5 rfl rfl)
theorem dX3_lawWord_63 : decode cX3_lawWord 63 = .ok (.invokevirtual 213, 3) := dk_182 0 213 (dk_at dksX3_lawWord_2 7 rfl rfl)
theorem dX3_lawWord_66 : decode cX3_lawWord 66 = .ok (.aload_n 0, 1) := dk_42 (dk_at dksX3_lawWord_2 10 rfl rfl)
theorem dX3_lawWord_67 : decode cX3_lawWord 67 = .ok (.bipush 101, 2) := dk_16 101 (dk_at dksX3_lawWord_2 11 rfl rfl)
theorem dX3_lawWord_69 : decode cX3_lawWord 69 = .ok (.invokevirtual 210, 3) := dk_182 0 210 (dk_at dksX3_lawWord_2 13 rfl rfl)
theorem dX3_lawWord_72 : decode cX3_lawWord 72 = .ok (.iconst 0, 1) := dk_3 (dk_at dksX3_lawWord_2 16 rfl rfl)
theorem dX3_lawWord_73 : decode cX3_lawWord 73 = .ok (.ireturn, 1) := dk_172 (dk_at dksX3_lawWord_2 17 rfl rfl)
theorem dX3_lawWord_74 : decode cX3_lawWord 74 = .ok (.aload_n 0, 1) := dk_42 (dk_at dksX3_lawWord_2 18 rfl rfl)
theorem dX3_lawWord_75 : decode cX3_lawWord 75 = .ok (.bipush 116, 2) := dk_16 116 (dk_at dksX3_lawWord_2 19 rfl rfl)
theorem dX3_lawWord_77 : decode cX3_lawWord 77 = .ok (.bipush 117, 2) := dk_16 117 (dk_at dksX3_lawWord_2 21 rfl rfl)
theorem dX3_lawWord_79 : decode cX3_lawWord 79 = .ok (.bipush 114, 2) := dk_16 114 (dk_at dksX3_lawWord_3 0 rfl rfl)
theorem dX3_lawWord_81 : decode cX3_lawWord 81 = .ok (.invokevirtual 213, 3) := dk_182 0 213 (dk_at dksX3_lawWord_3 2 rfl rfl)
theorem dX3_lawWord_84 : decode cX3_lawWord 84 = .ok (.aload_n 0, 1) := dk_42 (dk_at dksX3_lawWord_3 5 rfl rfl)
theorem dX3_lawWord_85 : decode cX3_lawWord 85 = .ok (.bipush 110, 2) := dk_16 110 (dk_at dksX3_lawWord_3 6 rfl rfl)
theorem dX3_lawWord_87 : decode cX3_lawWord 87 = .ok (.bipush 115, 2) := dk_16 115 (dk_at dksX3_lawWord_3 8 rfl rfl)
theorem dX3_lawWord_89 : decode cX3_lawWord 89 = .ok (.iconst 0, 1) := dk_3 (dk_at dksX3_lawWord_3 10 rfl rfl)
theorem dX3_lawWord_90 : decode cX3_lawWord 90 = .ok (.invokevirtual 213, 3) := dk_182 0 213 (dk_at dksX3_lawWord_3 11 rfl rfl)
theorem dX3_lawWord_93 : decode cX3_lawWord 93 = .ok (.iconst 1, 1) := dk_4 (dk_at dksX3_lawWord_3 14 rfl rfl)
theorem dX3_lawWord_94 : decode cX3_lawWord 94 = .ok (.ireturn, 1) := dk_172 (dk_at dksX3_lawWord_3 15 rfl rfl)
theorem dX3_lawWord_95 : decode cX3_lawWord 95 = .ok (.aload_n 0, 1) := dk_42 (dk_at dksX3_lawWord_3 16 rfl rfl)
theorem dX3_lawWord_96 : decode cX3_lawWord 96 = .ok (.bipush 108, 2) := dk_16 108 (dk_at dksX3_lawWord_3 17 rfl rfl)
theorem dX3_lawWord_98 : decode cX3_lawWord 98 = .ok (.bipush 111, 2) := dk_16 111 (dk_at dksX3_lawWord_3 19 rfl rfl)
theorem dX3_lawWord_100 : decode cX3_lawWord 100 = .ok (.bipush 97, 2) := dk_16 97 (dk_at dksX3_lawWord_3 21 rfl rfl)
theorem dX3_lawWord_102 : decode cX3_lawWord 102 = .ok (.invokevirtual 213, 3) := dk_182 0 213 (dk_at dksX3_lawWord_4 0 rfl rfl)
theorem dX3_lawWord_105 : decode cX3_lawWord 105 = .ok (.aload_n 0, 1) := dk_42 (dk_at dksX3_lawWord_4 3 rfl rfl)
theorem dX3_lawWord_106 : decode cX3_lawWord 106 = .ok (.bipush 100, 2) := dk_16 100 (dk_at dksX3_lawWord_4 4 rfl rfl)
theorem dX3_lawWord_108 : decode cX3_lawWord 108 = .ok (.invokevirtual 210, 3) := dk_182 0 210 (dk_at dksX3_lawWord_4 6 rfl rfl)
theorem dX3_lawWord_111 : decode cX3_lawWord 111 = .ok (.iconst 2, 1) := dk_5 (dk_at dksX3_lawWord_4 9 rfl rfl)
theorem dX3_lawWord_112 : decode cX3_lawWord 112 = .ok (.ireturn, 1) := dk_172 (dk_at dksX3_lawWord_4 10 rfl rfl)
theorem dX3_lawWord_113 : decode cX3_lawWord 113 = .ok (.aload_n 0, 1) := dk_42 (dk_at dksX3_lawWord_4 11 rfl rfl)
theorem dX3_lawWord_114 : decode cX3_lawWord 114 = .ok (.bipush 119, 2) := dk_16 119 (dk_at dksX3_lawWord_4 12 rfl rfl)
theorem dX3_lawWord_116 : decode cX3_lawWord 116 = .ok (.bipush 97, 2) := dk_16 97 (dk_at dksX3_lawWord_4 14 rfl rfl)
theorem dX3_lawWord_118 : decode cX3_lawWord 118 = .ok (.bipush 105, 2) := dk_16 105 (dk_at dksX3_lawWord_4 16 rfl rfl)
theorem dX3_lawWord_120 : decode cX3_lawWord 120 = .ok (.invokevirtual 213, 3) := dk_182 0 213 (dk_at dksX3_lawWord_4 18 rfl rfl)
theorem dX3_lawWord_123 : decode cX3_lawWord 123 = .ok (.aload_n 0, 1) := dk_42 (dk_at dksX3_lawWord_4 21 rfl rfl)
theorem dX3_lawWord_124 : decode cX3_lawWord 124 = .ok (.bipush 116, 2) := dk_16 116 (dk_at dksX3_lawWord_4 22 rfl rfl)
theorem dX3_lawWord_126 : decode cX3_lawWord 126 = .ok (.invokevirtual 210, 3) := dk_182 0 210 (dk_at dksX3_lawWord_5 0 rfl rfl)
theorem dX3_lawWord_129 : decode cX3_lawWord 129 = .ok (.iconst 3, 1) := dk_6 (dk_at dksX3_lawWord_5 3 rfl rfl)
theorem dX3_lawWord_130 : decode cX3_lawWord 130 = .ok (.ireturn, 1) := dk_172 (dk_at dksX3_lawWord_5 4 rfl rfl)
theorem dX3_lawWord_131 : decode cX3_lawWord 131 = .ok (.aload_n 0, 1) := dk_42 (dk_at dksX3_lawWord_5 5 rfl rfl)
theorem dX3_lawWord_132 : decode cX3_lawWord 132 = .ok (.aload_n 0, 1) := dk_42 (dk_at dksX3_lawWord_5 6 rfl rfl)
theorem dX3_lawWord_133 : decode cX3_lawWord 133 = .ok (.getfield 201, 3) := dk_180 0 201 (dk_at dksX3_lawWord_5 7 rfl rfl)
theorem dX3_lawWord_136 : decode cX3_lawWord 136 = .ok (.putfield 204, 3) := dk_181 0 204 (dk_at dksX3_lawWord_5 10 rfl rfl)
theorem dX3_lawWord_139 : decode cX3_lawWord 139 = .ok (.iconst 0, 1) := dk_3 (dk_at dksX3_lawWord_5 13 rfl rfl)
theorem dX3_lawWord_140 : decode cX3_lawWord 140 = .ok (.ireturn, 1) := dk_172 (dk_at dksX3_lawWord_5 14 rfl rfl)
abbrev cX3_number : ByteArray := prog_14_method_80_code
def yX3_number : MethodName := ⟨RX3, "number", "(I)I"⟩
def dkwX3_number_3 : List UInt8 := [180, 0, 201, 4, 96, 181, 0, 201, 132, 3, 1, 167, 255, 211, 28, 172]
abbrev dktX3_number_3 : List UInt8 := dkwX3_number_3 ++ []
def dkwX3_number_2 : List UInt8 := [16, 57, 184, 0, 49, 153, 0, 32, 16, 10, 28, 104, 42, 182, 0, 207, 96, 16, 48, 100, 61, 42, 89]
abbrev dktX3_number_2 : List UInt8 := dkwX3_number_2 ++ dktX3_number_3
def dkwX3_number_1 : List UInt8 := [42, 180, 0, 201, 181, 0, 204, 3, 172, 3, 61, 3, 62, 29, 27, 162, 0, 46, 42, 182, 0, 207, 16, 48]
abbrev dktX3_number_1 : List UInt8 := dkwX3_number_1 ++ dktX3_number_2
def dkwX3_number_0 : List UInt8 := [42, 180, 0, 204, 155, 0, 5, 3, 172, 42, 182, 0, 207, 16, 48, 16, 57, 184, 0, 49, 154, 0, 13, 42]
abbrev dktX3_number_0 : List UInt8 := dkwX3_number_0 ++ dktX3_number_1
theorem dksX3_number_0 : cX3_number.data.toList.drop 0 = dktX3_number_0 := by decide +kernel
theorem dksX3_number_1 : cX3_number.data.toList.drop 24 = dktX3_number_1 := dk_seg dksX3_number_0 24 rfl rfl
theorem dksX3_number_2 : cX3_number.data.toList.drop 48 = dktX3_number_2 := dk_seg dksX3_number_1 24 rfl rfl
theorem dksX3_number_3 : cX3_number.data.toList.drop 71 = dktX3_number_3 := dk_seg dksX3_number_2 23 rfl rfl
theorem dX3_number_0 : decode cX3_number 0 = .ok (.aload_n 0, 1) := dk_42 (dk_at dksX3_number_0 0 rfl rfl)
theorem dX3_number_1 : decode cX3_number 1 = .ok (.getfield 204, 3) := dk_180 0 204 (dk_at dksX3_number_0 1 rfl rfl)
theorem dX3_number_4 : decode cX3_number 4 = .ok (.ifCond .lt 5, 3) := dk_155 0 5 (dk_at dksX3_number_0 4 rfl rfl)
theorem dX3_number_7 : decode cX3_number 7 = .ok (.iconst 0, 1) := dk_3 (dk_at dksX3_number_0 7 rfl rfl)
theorem dX3_number_8 : decode cX3_number 8 = .ok (.ireturn, 1) := dk_172 (dk_at dksX3_number_0 8 rfl rfl)
theorem dX3_number_9 : decode cX3_number 9 = .ok (.aload_n 0, 1) := dk_42 (dk_at dksX3_number_0 9 rfl rfl)
theorem dX3_number_10 : decode cX3_number 10 = .ok (.invokevirtual 207, 3) := dk_182 0 207 (dk_at dksX3_number_0 10 rfl rfl)
theorem dX3_number_13 : decode cX3_number 13 = .ok (.bipush 48, 2) := dk_16 48 (dk_at dksX3_number_0 13 rfl rfl)
theorem dX3_number_15 : decode cX3_number 15 = .ok (.bipush 57, 2) := dk_16 57 (dk_at dksX3_number_0 15 rfl rfl)
theorem dX3_number_17 : decode cX3_number 17 = .ok (.invokestatic 49, 3) := dk_184 0 49 (dk_at dksX3_number_0 17 rfl rfl)
theorem dX3_number_20 : decode cX3_number 20 = .ok (.ifCond .ne 13, 3) := dk_154 0 13 (dk_at dksX3_number_0 20 rfl rfl)
theorem dX3_number_23 : decode cX3_number 23 = .ok (.aload_n 0, 1) := dk_42 (dk_at dksX3_number_0 23 rfl rfl)
theorem dX3_number_24 : decode cX3_number 24 = .ok (.aload_n 0, 1) := dk_42 (dk_at dksX3_number_1 0 rfl rfl)
theorem dX3_number_25 : decode cX3_number 25 = .ok (.getfield 201, 3) := dk_180 0 201 (dk_at dksX3_number_1 1 rfl rfl)
theorem dX3_number_28 : decode cX3_number 28 = .ok (.putfield 204, 3) := dk_181 0 204 (dk_at dksX3_number_1 4 rfl rfl)
theorem dX3_number_31 : decode cX3_number 31 = .ok (.iconst 0, 1) := dk_3 (dk_at dksX3_number_1 7 rfl rfl)
theorem dX3_number_32 : decode cX3_number 32 = .ok (.ireturn, 1) := dk_172 (dk_at dksX3_number_1 8 rfl rfl)
theorem dX3_number_33 : decode cX3_number 33 = .ok (.iconst 0, 1) := dk_3 (dk_at dksX3_number_1 9 rfl rfl)
theorem dX3_number_34 : decode cX3_number 34 = .ok (.istore_n 2, 1) := dk_61 (dk_at dksX3_number_1 10 rfl rfl)
theorem dX3_number_35 : decode cX3_number 35 = .ok (.iconst 0, 1) := dk_3 (dk_at dksX3_number_1 11 rfl rfl)
theorem dX3_number_36 : decode cX3_number 36 = .ok (.istore_n 3, 1) := dk_62 (dk_at dksX3_number_1 12 rfl rfl)
theorem dX3_number_37 : decode cX3_number 37 = .ok (.iload_n 3, 1) := dk_29 (dk_at dksX3_number_1 13 rfl rfl)
theorem dX3_number_38 : decode cX3_number 38 = .ok (.iload_n 1, 1) := dk_27 (dk_at dksX3_number_1 14 rfl rfl)
theorem dX3_number_39 : decode cX3_number 39 = .ok (.if_icmp .ge 46, 3) := dk_162 0 46 (dk_at dksX3_number_1 15 rfl rfl)
theorem dX3_number_42 : decode cX3_number 42 = .ok (.aload_n 0, 1) := dk_42 (dk_at dksX3_number_1 18 rfl rfl)
theorem dX3_number_43 : decode cX3_number 43 = .ok (.invokevirtual 207, 3) := dk_182 0 207 (dk_at dksX3_number_1 19 rfl rfl)
theorem dX3_number_46 : decode cX3_number 46 = .ok (.bipush 48, 2) := dk_16 48 (dk_at dksX3_number_1 22 rfl rfl)
theorem dX3_number_48 : decode cX3_number 48 = .ok (.bipush 57, 2) := dk_16 57 (dk_at dksX3_number_2 0 rfl rfl)
theorem dX3_number_50 : decode cX3_number 50 = .ok (.invokestatic 49, 3) := dk_184 0 49 (dk_at dksX3_number_2 2 rfl rfl)
theorem dX3_number_53 : decode cX3_number 53 = .ok (.ifCond .eq 32, 3) := dk_153 0 32 (dk_at dksX3_number_2 5 rfl rfl)
theorem dX3_number_56 : decode cX3_number 56 = .ok (.bipush 10, 2) := dk_16 10 (dk_at dksX3_number_2 8 rfl rfl)
theorem dX3_number_58 : decode cX3_number 58 = .ok (.iload_n 2, 1) := dk_28 (dk_at dksX3_number_2 10 rfl rfl)
theorem dX3_number_59 : decode cX3_number 59 = .ok (.imul, 1) := dk_104 (dk_at dksX3_number_2 11 rfl rfl)
theorem dX3_number_60 : decode cX3_number 60 = .ok (.aload_n 0, 1) := dk_42 (dk_at dksX3_number_2 12 rfl rfl)
theorem dX3_number_61 : decode cX3_number 61 = .ok (.invokevirtual 207, 3) := dk_182 0 207 (dk_at dksX3_number_2 13 rfl rfl)
theorem dX3_number_64 : decode cX3_number 64 = .ok (.iadd, 1) := dk_96 (dk_at dksX3_number_2 16 rfl rfl)
theorem dX3_number_65 : decode cX3_number 65 = .ok (.bipush 48, 2) := dk_16 48 (dk_at dksX3_number_2 17 rfl rfl)
theorem dX3_number_67 : decode cX3_number 67 = .ok (.isub, 1) := dk_100 (dk_at dksX3_number_2 19 rfl rfl)
theorem dX3_number_68 : decode cX3_number 68 = .ok (.istore_n 2, 1) := dk_61 (dk_at dksX3_number_2 20 rfl rfl)
theorem dX3_number_69 : decode cX3_number 69 = .ok (.aload_n 0, 1) := dk_42 (dk_at dksX3_number_2 21 rfl rfl)
theorem dX3_number_70 : decode cX3_number 70 = .ok (.dup, 1) := dk_89 (dk_at dksX3_number_2 22 rfl rfl)
theorem dX3_number_71 : decode cX3_number 71 = .ok (.getfield 201, 3) := dk_180 0 201 (dk_at dksX3_number_3 0 rfl rfl)
theorem dX3_number_74 : decode cX3_number 74 = .ok (.iconst 1, 1) := dk_4 (dk_at dksX3_number_3 3 rfl rfl)
theorem dX3_number_75 : decode cX3_number 75 = .ok (.iadd, 1) := dk_96 (dk_at dksX3_number_3 4 rfl rfl)
theorem dX3_number_76 : decode cX3_number 76 = .ok (.putfield 201, 3) := dk_181 0 201 (dk_at dksX3_number_3 5 rfl rfl)
theorem dX3_number_79 : decode cX3_number 79 = .ok (.iinc 3 1, 3) := dk_132 3 1 (dk_at dksX3_number_3 8 rfl rfl)
theorem dX3_number_82 : decode cX3_number 82 = .ok (.goto (-45), 3) := dk_167 255 211 (dk_at dksX3_number_3 11 rfl rfl)
theorem dX3_number_85 : decode cX3_number 85 = .ok (.iload_n 2, 1) := dk_28 (dk_at dksX3_number_3 14 rfl rfl)
theorem dX3_number_86 : decode cX3_number 86 = .ok (.ireturn, 1) := dk_172 (dk_at dksX3_number_3 15 rfl rfl)
abbrev cX3_does : ByteArray := prog_14_method_86_code
def yX3_does : MethodName := ⟨RX3, "does", "(I)Z"⟩
def dkwX3_does_4 : List UInt8 := [42, 28, 182, 0, 114, 172, 42, 28, 182, 0, 120, 172, 42, 28, 182, 0, 141, 172]
abbrev dktX3_does_4 : List UInt8 := dkwX3_does_4 ++ []
def dkwX3_does_3 : List UInt8 := [6, 182, 0, 101, 172, 42, 6, 28, 4, 8, 182, 0, 101, 172, 42, 7, 28, 5, 16, 8, 182, 0, 101, 172]
abbrev dktX3_does_3 : List UInt8 := dkwX3_does_3 ++ dktX3_does_4
def dkwX3_does_2 : List UInt8 := [42, 28, 42, 180, 0, 21, 27, 5, 96, 46, 182, 0, 90, 172, 42, 28, 182, 0, 169, 172, 42, 5, 28, 3]
abbrev dktX3_does_2 : List UInt8 := dkwX3_does_2 ++ dktX3_does_3
def dkwX3_does_1 : List UInt8 := [170, 0, 0, 0, 153, 0, 0, 0, 99, 0, 0, 0, 118, 0, 0, 0, 93, 0, 0, 0, 153, 0, 0, 0, 153, 0, 0, 0, 153, 0, 0, 0, 153, 0, 0, 0, 122, 0, 0, 0, 153, 0, 0, 0, 153, 0, 0, 0, 153, 0, 0, 0, 113, 0, 0, 0, 153, 0, 0, 0, 153, 0, 0, 0, 153, 0, 0, 0, 131, 0, 0, 0, 153, 0, 0, 0, 153, 0, 0, 0, 153, 0, 0, 0, 107, 0, 0, 0, 147, 0, 0, 0, 141]
abbrev dktX3_does_1 : List UInt8 := dkwX3_does_1 ++ dktX3_does_2
def dkwX3_does_0 : List UInt8 := [42, 180, 0, 21, 27, 4, 96, 46, 61, 42, 180, 0, 21, 27, 46]
abbrev dktX3_does_0 : List UInt8 := dkwX3_does_0 ++ dktX3_does_1
theorem dksX3_does_0 : cX3_does.data.toList.drop 0 = dktX3_does_0 := by decide +kernel
theorem dksX3_does_1 : cX3_does.data.toList.drop 15 = dktX3_does_1 := dk_seg dksX3_does_0 15 rfl rfl
theorem dksX3_does_2 : cX3_does.data.toList.drop 108 = dktX3_does_2 := dk_seg dksX3_does_1 93 rfl rfl
theorem dksX3_does_3 : cX3_does.data.toList.drop 132 = dktX3_does_3 := dk_seg dksX3_does_2 24 rfl rfl
theorem dksX3_does_4 : cX3_does.data.toList.drop 156 = dktX3_does_4 := dk_seg dksX3_does_3 24 rfl rfl
theorem dX3_does_0 : decode cX3_does 0 = .ok (.aload_n 0, 1) := dk_42 (dk_at dksX3_does_0 0 rfl rfl)
theorem dX3_does_1 : decode cX3_does 1 = .ok (.getfield 21, 3) := dk_180 0 21 (dk_at dksX3_does_0 1 rfl rfl)
theorem dX3_does_4 : decode cX3_does 4 = .ok (.iload_n 1, 1) := dk_27 (dk_at dksX3_does_0 4 rfl rfl)
theorem dX3_does_5 : decode cX3_does 5 = .ok (.iconst 1, 1) := dk_4 (dk_at dksX3_does_0 5 rfl rfl)
theorem dX3_does_6 : decode cX3_does 6 = .ok (.iadd, 1) := dk_96 (dk_at dksX3_does_0 6 rfl rfl)
theorem dX3_does_7 : decode cX3_does 7 = .ok (.iaload, 1) := dk_46 (dk_at dksX3_does_0 7 rfl rfl)
theorem dX3_does_8 : decode cX3_does 8 = .ok (.istore_n 2, 1) := dk_61 (dk_at dksX3_does_0 8 rfl rfl)
theorem dX3_does_9 : decode cX3_does 9 = .ok (.aload_n 0, 1) := dk_42 (dk_at dksX3_does_0 9 rfl rfl)
theorem dX3_does_10 : decode cX3_does 10 = .ok (.getfield 21, 3) := dk_180 0 21 (dk_at dksX3_does_0 10 rfl rfl)
theorem dX3_does_13 : decode cX3_does 13 = .ok (.iload_n 1, 1) := dk_27 (dk_at dksX3_does_0 13 rfl rfl)
theorem dX3_does_14 : decode cX3_does 14 = .ok (.iaload, 1) := dk_46 (dk_at dksX3_does_0 14 rfl rfl)
theorem dX3_does_15 : decode cX3_does 15 = .ok (.tableswitch 153 99 118 #[93, 153, 153, 153, 153, 122, 153, 153, 153, 113, 153, 153, 153, 131, 153, 153, 153, 107, 147, 141], 93) := by decide +kernel
theorem dX3_does_108 : decode cX3_does 108 = .ok (.aload_n 0, 1) := dk_42 (dk_at dksX3_does_2 0 rfl rfl)
theorem dX3_does_109 : decode cX3_does 109 = .ok (.iload_n 2, 1) := dk_28 (dk_at dksX3_does_2 1 rfl rfl)
theorem dX3_does_110 : decode cX3_does 110 = .ok (.aload_n 0, 1) := dk_42 (dk_at dksX3_does_2 2 rfl rfl)
theorem dX3_does_111 : decode cX3_does 111 = .ok (.getfield 21, 3) := dk_180 0 21 (dk_at dksX3_does_2 3 rfl rfl)
theorem dX3_does_114 : decode cX3_does 114 = .ok (.iload_n 1, 1) := dk_27 (dk_at dksX3_does_2 6 rfl rfl)
theorem dX3_does_115 : decode cX3_does 115 = .ok (.iconst 2, 1) := dk_5 (dk_at dksX3_does_2 7 rfl rfl)
theorem dX3_does_116 : decode cX3_does 116 = .ok (.iadd, 1) := dk_96 (dk_at dksX3_does_2 8 rfl rfl)
theorem dX3_does_117 : decode cX3_does 117 = .ok (.iaload, 1) := dk_46 (dk_at dksX3_does_2 9 rfl rfl)
theorem dX3_does_118 : decode cX3_does 118 = .ok (.invokevirtual 90, 3) := dk_182 0 90 (dk_at dksX3_does_2 10 rfl rfl)
theorem dX3_does_121 : decode cX3_does 121 = .ok (.ireturn, 1) := dk_172 (dk_at dksX3_does_2 13 rfl rfl)
theorem dX3_does_122 : decode cX3_does 122 = .ok (.aload_n 0, 1) := dk_42 (dk_at dksX3_does_2 14 rfl rfl)
theorem dX3_does_123 : decode cX3_does 123 = .ok (.iload_n 2, 1) := dk_28 (dk_at dksX3_does_2 15 rfl rfl)
theorem dX3_does_124 : decode cX3_does 124 = .ok (.invokevirtual 169, 3) := dk_182 0 169 (dk_at dksX3_does_2 16 rfl rfl)
theorem dX3_does_127 : decode cX3_does 127 = .ok (.ireturn, 1) := dk_172 (dk_at dksX3_does_2 19 rfl rfl)
theorem dX3_does_128 : decode cX3_does 128 = .ok (.aload_n 0, 1) := dk_42 (dk_at dksX3_does_2 20 rfl rfl)
theorem dX3_does_129 : decode cX3_does 129 = .ok (.iconst 2, 1) := dk_5 (dk_at dksX3_does_2 21 rfl rfl)
theorem dX3_does_130 : decode cX3_does 130 = .ok (.iload_n 2, 1) := dk_28 (dk_at dksX3_does_2 22 rfl rfl)
theorem dX3_does_131 : decode cX3_does 131 = .ok (.iconst 0, 1) := dk_3 (dk_at dksX3_does_2 23 rfl rfl)
theorem dX3_does_132 : decode cX3_does 132 = .ok (.iconst 3, 1) := dk_6 (dk_at dksX3_does_3 0 rfl rfl)
theorem dX3_does_133 : decode cX3_does 133 = .ok (.invokevirtual 101, 3) := dk_182 0 101 (dk_at dksX3_does_3 1 rfl rfl)
theorem dX3_does_136 : decode cX3_does 136 = .ok (.ireturn, 1) := dk_172 (dk_at dksX3_does_3 4 rfl rfl)
theorem dX3_does_137 : decode cX3_does 137 = .ok (.aload_n 0, 1) := dk_42 (dk_at dksX3_does_3 5 rfl rfl)
theorem dX3_does_138 : decode cX3_does 138 = .ok (.iconst 3, 1) := dk_6 (dk_at dksX3_does_3 6 rfl rfl)
theorem dX3_does_139 : decode cX3_does 139 = .ok (.iload_n 2, 1) := dk_28 (dk_at dksX3_does_3 7 rfl rfl)
theorem dX3_does_140 : decode cX3_does 140 = .ok (.iconst 1, 1) := dk_4 (dk_at dksX3_does_3 8 rfl rfl)
theorem dX3_does_141 : decode cX3_does 141 = .ok (.iconst 5, 1) := dk_8 (dk_at dksX3_does_3 9 rfl rfl)
theorem dX3_does_142 : decode cX3_does 142 = .ok (.invokevirtual 101, 3) := dk_182 0 101 (dk_at dksX3_does_3 10 rfl rfl)
theorem dX3_does_145 : decode cX3_does 145 = .ok (.ireturn, 1) := dk_172 (dk_at dksX3_does_3 13 rfl rfl)
theorem dX3_does_146 : decode cX3_does 146 = .ok (.aload_n 0, 1) := dk_42 (dk_at dksX3_does_3 14 rfl rfl)
theorem dX3_does_147 : decode cX3_does 147 = .ok (.iconst 4, 1) := dk_7 (dk_at dksX3_does_3 15 rfl rfl)
theorem dX3_does_148 : decode cX3_does 148 = .ok (.iload_n 2, 1) := dk_28 (dk_at dksX3_does_3 16 rfl rfl)
theorem dX3_does_149 : decode cX3_does 149 = .ok (.iconst 2, 1) := dk_5 (dk_at dksX3_does_3 17 rfl rfl)
theorem dX3_does_150 : decode cX3_does 150 = .ok (.bipush 8, 2) := dk_16 8 (dk_at dksX3_does_3 18 rfl rfl)
theorem dX3_does_152 : decode cX3_does 152 = .ok (.invokevirtual 101, 3) := dk_182 0 101 (dk_at dksX3_does_3 20 rfl rfl)
theorem dX3_does_155 : decode cX3_does 155 = .ok (.ireturn, 1) := dk_172 (dk_at dksX3_does_3 23 rfl rfl)
theorem dX3_does_156 : decode cX3_does 156 = .ok (.aload_n 0, 1) := dk_42 (dk_at dksX3_does_4 0 rfl rfl)
theorem dX3_does_157 : decode cX3_does 157 = .ok (.iload_n 2, 1) := dk_28 (dk_at dksX3_does_4 1 rfl rfl)
theorem dX3_does_158 : decode cX3_does 158 = .ok (.invokevirtual 114, 3) := dk_182 0 114 (dk_at dksX3_does_4 2 rfl rfl)
theorem dX3_does_161 : decode cX3_does 161 = .ok (.ireturn, 1) := dk_172 (dk_at dksX3_does_4 5 rfl rfl)
theorem dX3_does_162 : decode cX3_does 162 = .ok (.aload_n 0, 1) := dk_42 (dk_at dksX3_does_4 6 rfl rfl)
theorem dX3_does_163 : decode cX3_does 163 = .ok (.iload_n 2, 1) := dk_28 (dk_at dksX3_does_4 7 rfl rfl)
theorem dX3_does_164 : decode cX3_does 164 = .ok (.invokevirtual 120, 3) := dk_182 0 120 (dk_at dksX3_does_4 8 rfl rfl)
theorem dX3_does_167 : decode cX3_does 167 = .ok (.ireturn, 1) := dk_172 (dk_at dksX3_does_4 11 rfl rfl)
theorem dX3_does_168 : decode cX3_does 168 = .ok (.aload_n 0, 1) := dk_42 (dk_at dksX3_does_4 12 rfl rfl)
theorem dX3_does_169 : decode cX3_does 169 = .ok (.iload_n 2, 1) := dk_28 (dk_at dksX3_does_4 13 rfl rfl)
theorem dX3_does_170 : decode cX3_does 170 = .ok (.invokevirtual 141, 3) := dk_182 0 141 (dk_at dksX3_does_4 14 rfl rfl)
theorem dX3_does_173 : decode cX3_does 173 = .ok (.ireturn, 1) := dk_172 (dk_at dksX3_does_4 17 rfl rfl)
abbrev cX3_faultPosition : ByteArray := prog_14_method_88_code
def yX3_faultPosition : MethodName := ⟨RX3, "faultPosition", "()I"⟩
def dkwX3_faultPosition_0 : List UInt8 := [42, 3, 181, 0, 27, 42, 180, 0, 17, 172]
abbrev dktX3_faultPosition_0 : List UInt8 := dkwX3_faultPosition_0 ++ []
theorem dksX3_faultPosition_0 : cX3_faultPosition.data.toList.drop 0 = dktX3_faultPosition_0 := by decide +kernel
theorem dX3_faultPosition_0 : decode cX3_faultPosition 0 = .ok (.aload_n 0, 1) := dk_42 (dk_at dksX3_faultPosition_0 0 rfl rfl)
theorem dX3_faultPosition_1 : decode cX3_faultPosition 1 = .ok (.iconst 0, 1) := dk_3 (dk_at dksX3_faultPosition_0 1 rfl rfl)
theorem dX3_faultPosition_2 : decode cX3_faultPosition 2 = .ok (.putfield 27, 3) := dk_181 0 27 (dk_at dksX3_faultPosition_0 2 rfl rfl)
theorem dX3_faultPosition_5 : decode cX3_faultPosition 5 = .ok (.aload_n 0, 1) := dk_42 (dk_at dksX3_faultPosition_0 5 rfl rfl)
theorem dX3_faultPosition_6 : decode cX3_faultPosition 6 = .ok (.getfield 17, 3) := dk_180 0 17 (dk_at dksX3_faultPosition_0 6 rfl rfl)
theorem dX3_faultPosition_9 : decode cX3_faultPosition 9 = .ok (.ireturn, 1) := dk_172 (dk_at dksX3_faultPosition_0 9 rfl rfl)
abbrev cX3_tell : ByteArray := prog_14_method_93_code
def yX3_tell : MethodName := ⟨RX3, "tell", "()I"⟩
def dkwX3_tell_5 : List UInt8 := [182, 0, 117, 182, 0, 243, 132, 2, 1, 167, 255, 232, 42, 180, 0, 240, 172]
abbrev dktX3_tell_5 : List UInt8 := dkwX3_tell_5 ++ []
def dkwX3_tell_4 : List UInt8 := [42, 4, 182, 0, 111, 60, 3, 61, 28, 27, 162, 0, 25, 42, 16, 32, 182, 0, 246, 42, 42, 4, 28]
abbrev dktX3_tell_4 : List UInt8 := dkwX3_tell_4 ++ dktX3_tell_5
def dkwX3_tell_3 : List UInt8 := [182, 0, 123, 182, 0, 249, 132, 1, 1, 167, 255, 228, 42, 16, 32, 182, 0, 246, 42, 16, 124, 182, 0, 246]
abbrev dktX3_tell_3 : List UInt8 := dkwX3_tell_3 ++ dktX3_tell_4
def dkwX3_tell_2 : List UInt8 := [182, 0, 246, 3, 60, 27, 42, 180, 0, 9, 7, 46, 162, 0, 24, 42, 16, 32, 182, 0, 246, 42, 42, 27]
abbrev dktX3_tell_2 : List UInt8 := dkwX3_tell_2 ++ dktX3_tell_3
def dkwX3_tell_1 : List UInt8 := [3, 27, 182, 0, 117, 182, 0, 243, 42, 16, 32, 182, 0, 246, 132, 1, 255, 167, 255, 233, 42, 16, 124]
abbrev dktX3_tell_1 : List UInt8 := dkwX3_tell_1 ++ dktX3_tell_2
def dkwX3_tell_0 : List UInt8 := [42, 3, 181, 0, 27, 42, 3, 181, 0, 240, 42, 3, 182, 0, 111, 4, 100, 60, 27, 155, 0, 25, 42, 42]
abbrev dktX3_tell_0 : List UInt8 := dkwX3_tell_0 ++ dktX3_tell_1
theorem dksX3_tell_0 : cX3_tell.data.toList.drop 0 = dktX3_tell_0 := by decide +kernel
theorem dksX3_tell_1 : cX3_tell.data.toList.drop 24 = dktX3_tell_1 := dk_seg dksX3_tell_0 24 rfl rfl
theorem dksX3_tell_2 : cX3_tell.data.toList.drop 47 = dktX3_tell_2 := dk_seg dksX3_tell_1 23 rfl rfl
theorem dksX3_tell_3 : cX3_tell.data.toList.drop 71 = dktX3_tell_3 := dk_seg dksX3_tell_2 24 rfl rfl
theorem dksX3_tell_4 : cX3_tell.data.toList.drop 95 = dktX3_tell_4 := dk_seg dksX3_tell_3 24 rfl rfl
theorem dksX3_tell_5 : cX3_tell.data.toList.drop 118 = dktX3_tell_5 := dk_seg dksX3_tell_4 23 rfl rfl
theorem dX3_tell_0 : decode cX3_tell 0 = .ok (.aload_n 0, 1) := dk_42 (dk_at dksX3_tell_0 0 rfl rfl)
theorem dX3_tell_1 : decode cX3_tell 1 = .ok (.iconst 0, 1) := dk_3 (dk_at dksX3_tell_0 1 rfl rfl)
theorem dX3_tell_2 : decode cX3_tell 2 = .ok (.putfield 27, 3) := dk_181 0 27 (dk_at dksX3_tell_0 2 rfl rfl)
theorem dX3_tell_5 : decode cX3_tell 5 = .ok (.aload_n 0, 1) := dk_42 (dk_at dksX3_tell_0 5 rfl rfl)
theorem dX3_tell_6 : decode cX3_tell 6 = .ok (.iconst 0, 1) := dk_3 (dk_at dksX3_tell_0 6 rfl rfl)
theorem dX3_tell_7 : decode cX3_tell 7 = .ok (.putfield 240, 3) := dk_181 0 240 (dk_at dksX3_tell_0 7 rfl rfl)
theorem dX3_tell_10 : decode cX3_tell 10 = .ok (.aload_n 0, 1) := dk_42 (dk_at dksX3_tell_0 10 rfl rfl)
theorem dX3_tell_11 : decode cX3_tell 11 = .ok (.iconst 0, 1) := dk_3 (dk_at dksX3_tell_0 11 rfl rfl)
theorem dX3_tell_12 : decode cX3_tell 12 = .ok (.invokevirtual 111, 3) := dk_182 0 111 (dk_at dksX3_tell_0 12 rfl rfl)
theorem dX3_tell_15 : decode cX3_tell 15 = .ok (.iconst 1, 1) := dk_4 (dk_at dksX3_tell_0 15 rfl rfl)
theorem dX3_tell_16 : decode cX3_tell 16 = .ok (.isub, 1) := dk_100 (dk_at dksX3_tell_0 16 rfl rfl)
theorem dX3_tell_17 : decode cX3_tell 17 = .ok (.istore_n 1, 1) := dk_60 (dk_at dksX3_tell_0 17 rfl rfl)
theorem dX3_tell_18 : decode cX3_tell 18 = .ok (.iload_n 1, 1) := dk_27 (dk_at dksX3_tell_0 18 rfl rfl)
theorem dX3_tell_19 : decode cX3_tell 19 = .ok (.ifCond .lt 25, 3) := dk_155 0 25 (dk_at dksX3_tell_0 19 rfl rfl)
theorem dX3_tell_22 : decode cX3_tell 22 = .ok (.aload_n 0, 1) := dk_42 (dk_at dksX3_tell_0 22 rfl rfl)
theorem dX3_tell_23 : decode cX3_tell 23 = .ok (.aload_n 0, 1) := dk_42 (dk_at dksX3_tell_0 23 rfl rfl)
theorem dX3_tell_24 : decode cX3_tell 24 = .ok (.iconst 0, 1) := dk_3 (dk_at dksX3_tell_1 0 rfl rfl)
theorem dX3_tell_25 : decode cX3_tell 25 = .ok (.iload_n 1, 1) := dk_27 (dk_at dksX3_tell_1 1 rfl rfl)
theorem dX3_tell_26 : decode cX3_tell 26 = .ok (.invokevirtual 117, 3) := dk_182 0 117 (dk_at dksX3_tell_1 2 rfl rfl)
theorem dX3_tell_29 : decode cX3_tell 29 = .ok (.invokevirtual 243, 3) := dk_182 0 243 (dk_at dksX3_tell_1 5 rfl rfl)
theorem dX3_tell_32 : decode cX3_tell 32 = .ok (.aload_n 0, 1) := dk_42 (dk_at dksX3_tell_1 8 rfl rfl)
theorem dX3_tell_33 : decode cX3_tell 33 = .ok (.bipush 32, 2) := dk_16 32 (dk_at dksX3_tell_1 9 rfl rfl)
theorem dX3_tell_35 : decode cX3_tell 35 = .ok (.invokevirtual 246, 3) := dk_182 0 246 (dk_at dksX3_tell_1 11 rfl rfl)
theorem dX3_tell_38 : decode cX3_tell 38 = .ok (.iinc 1 (-1), 3) := dk_132 1 255 (dk_at dksX3_tell_1 14 rfl rfl)
theorem dX3_tell_41 : decode cX3_tell 41 = .ok (.goto (-23), 3) := dk_167 255 233 (dk_at dksX3_tell_1 17 rfl rfl)
theorem dX3_tell_44 : decode cX3_tell 44 = .ok (.aload_n 0, 1) := dk_42 (dk_at dksX3_tell_1 20 rfl rfl)
theorem dX3_tell_45 : decode cX3_tell 45 = .ok (.bipush 124, 2) := dk_16 124 (dk_at dksX3_tell_1 21 rfl rfl)
theorem dX3_tell_47 : decode cX3_tell 47 = .ok (.invokevirtual 246, 3) := dk_182 0 246 (dk_at dksX3_tell_2 0 rfl rfl)
theorem dX3_tell_50 : decode cX3_tell 50 = .ok (.iconst 0, 1) := dk_3 (dk_at dksX3_tell_2 3 rfl rfl)
theorem dX3_tell_51 : decode cX3_tell 51 = .ok (.istore_n 1, 1) := dk_60 (dk_at dksX3_tell_2 4 rfl rfl)
theorem dX3_tell_52 : decode cX3_tell 52 = .ok (.iload_n 1, 1) := dk_27 (dk_at dksX3_tell_2 5 rfl rfl)
theorem dX3_tell_53 : decode cX3_tell 53 = .ok (.aload_n 0, 1) := dk_42 (dk_at dksX3_tell_2 6 rfl rfl)
theorem dX3_tell_54 : decode cX3_tell 54 = .ok (.getfield 9, 3) := dk_180 0 9 (dk_at dksX3_tell_2 7 rfl rfl)
theorem dX3_tell_57 : decode cX3_tell 57 = .ok (.iconst 4, 1) := dk_7 (dk_at dksX3_tell_2 10 rfl rfl)
theorem dX3_tell_58 : decode cX3_tell 58 = .ok (.iaload, 1) := dk_46 (dk_at dksX3_tell_2 11 rfl rfl)
theorem dX3_tell_59 : decode cX3_tell 59 = .ok (.if_icmp .ge 24, 3) := dk_162 0 24 (dk_at dksX3_tell_2 12 rfl rfl)
theorem dX3_tell_62 : decode cX3_tell 62 = .ok (.aload_n 0, 1) := dk_42 (dk_at dksX3_tell_2 15 rfl rfl)
theorem dX3_tell_63 : decode cX3_tell 63 = .ok (.bipush 32, 2) := dk_16 32 (dk_at dksX3_tell_2 16 rfl rfl)
theorem dX3_tell_65 : decode cX3_tell 65 = .ok (.invokevirtual 246, 3) := dk_182 0 246 (dk_at dksX3_tell_2 18 rfl rfl)
theorem dX3_tell_68 : decode cX3_tell 68 = .ok (.aload_n 0, 1) := dk_42 (dk_at dksX3_tell_2 21 rfl rfl)
theorem dX3_tell_69 : decode cX3_tell 69 = .ok (.aload_n 0, 1) := dk_42 (dk_at dksX3_tell_2 22 rfl rfl)
theorem dX3_tell_70 : decode cX3_tell 70 = .ok (.iload_n 1, 1) := dk_27 (dk_at dksX3_tell_2 23 rfl rfl)
theorem dX3_tell_71 : decode cX3_tell 71 = .ok (.invokevirtual 123, 3) := dk_182 0 123 (dk_at dksX3_tell_3 0 rfl rfl)
theorem dX3_tell_74 : decode cX3_tell 74 = .ok (.invokevirtual 249, 3) := dk_182 0 249 (dk_at dksX3_tell_3 3 rfl rfl)
theorem dX3_tell_77 : decode cX3_tell 77 = .ok (.iinc 1 1, 3) := dk_132 1 1 (dk_at dksX3_tell_3 6 rfl rfl)
theorem dX3_tell_80 : decode cX3_tell 80 = .ok (.goto (-28), 3) := dk_167 255 228 (dk_at dksX3_tell_3 9 rfl rfl)
theorem dX3_tell_83 : decode cX3_tell 83 = .ok (.aload_n 0, 1) := dk_42 (dk_at dksX3_tell_3 12 rfl rfl)
theorem dX3_tell_84 : decode cX3_tell 84 = .ok (.bipush 32, 2) := dk_16 32 (dk_at dksX3_tell_3 13 rfl rfl)
theorem dX3_tell_86 : decode cX3_tell 86 = .ok (.invokevirtual 246, 3) := dk_182 0 246 (dk_at dksX3_tell_3 15 rfl rfl)
theorem dX3_tell_89 : decode cX3_tell 89 = .ok (.aload_n 0, 1) := dk_42 (dk_at dksX3_tell_3 18 rfl rfl)
theorem dX3_tell_90 : decode cX3_tell 90 = .ok (.bipush 124, 2) := dk_16 124 (dk_at dksX3_tell_3 19 rfl rfl)
theorem dX3_tell_92 : decode cX3_tell 92 = .ok (.invokevirtual 246, 3) := dk_182 0 246 (dk_at dksX3_tell_3 21 rfl rfl)
theorem dX3_tell_95 : decode cX3_tell 95 = .ok (.aload_n 0, 1) := dk_42 (dk_at dksX3_tell_4 0 rfl rfl)
theorem dX3_tell_96 : decode cX3_tell 96 = .ok (.iconst 1, 1) := dk_4 (dk_at dksX3_tell_4 1 rfl rfl)
theorem dX3_tell_97 : decode cX3_tell 97 = .ok (.invokevirtual 111, 3) := dk_182 0 111 (dk_at dksX3_tell_4 2 rfl rfl)
theorem dX3_tell_100 : decode cX3_tell 100 = .ok (.istore_n 1, 1) := dk_60 (dk_at dksX3_tell_4 5 rfl rfl)
theorem dX3_tell_101 : decode cX3_tell 101 = .ok (.iconst 0, 1) := dk_3 (dk_at dksX3_tell_4 6 rfl rfl)
theorem dX3_tell_102 : decode cX3_tell 102 = .ok (.istore_n 2, 1) := dk_61 (dk_at dksX3_tell_4 7 rfl rfl)
theorem dX3_tell_103 : decode cX3_tell 103 = .ok (.iload_n 2, 1) := dk_28 (dk_at dksX3_tell_4 8 rfl rfl)
theorem dX3_tell_104 : decode cX3_tell 104 = .ok (.iload_n 1, 1) := dk_27 (dk_at dksX3_tell_4 9 rfl rfl)
theorem dX3_tell_105 : decode cX3_tell 105 = .ok (.if_icmp .ge 25, 3) := dk_162 0 25 (dk_at dksX3_tell_4 10 rfl rfl)
theorem dX3_tell_108 : decode cX3_tell 108 = .ok (.aload_n 0, 1) := dk_42 (dk_at dksX3_tell_4 13 rfl rfl)
theorem dX3_tell_109 : decode cX3_tell 109 = .ok (.bipush 32, 2) := dk_16 32 (dk_at dksX3_tell_4 14 rfl rfl)
theorem dX3_tell_111 : decode cX3_tell 111 = .ok (.invokevirtual 246, 3) := dk_182 0 246 (dk_at dksX3_tell_4 16 rfl rfl)
theorem dX3_tell_114 : decode cX3_tell 114 = .ok (.aload_n 0, 1) := dk_42 (dk_at dksX3_tell_4 19 rfl rfl)
theorem dX3_tell_115 : decode cX3_tell 115 = .ok (.aload_n 0, 1) := dk_42 (dk_at dksX3_tell_4 20 rfl rfl)
theorem dX3_tell_116 : decode cX3_tell 116 = .ok (.iconst 1, 1) := dk_4 (dk_at dksX3_tell_4 21 rfl rfl)
theorem dX3_tell_117 : decode cX3_tell 117 = .ok (.iload_n 2, 1) := dk_28 (dk_at dksX3_tell_4 22 rfl rfl)
theorem dX3_tell_118 : decode cX3_tell 118 = .ok (.invokevirtual 117, 3) := dk_182 0 117 (dk_at dksX3_tell_5 0 rfl rfl)
theorem dX3_tell_121 : decode cX3_tell 121 = .ok (.invokevirtual 243, 3) := dk_182 0 243 (dk_at dksX3_tell_5 3 rfl rfl)
theorem dX3_tell_124 : decode cX3_tell 124 = .ok (.iinc 2 1, 3) := dk_132 2 1 (dk_at dksX3_tell_5 6 rfl rfl)
theorem dX3_tell_127 : decode cX3_tell 127 = .ok (.goto (-24), 3) := dk_167 255 232 (dk_at dksX3_tell_5 9 rfl rfl)
theorem dX3_tell_130 : decode cX3_tell 130 = .ok (.aload_n 0, 1) := dk_42 (dk_at dksX3_tell_5 12 rfl rfl)
theorem dX3_tell_131 : decode cX3_tell 131 = .ok (.getfield 240, 3) := dk_180 0 240 (dk_at dksX3_tell_5 13 rfl rfl)
theorem dX3_tell_134 : decode cX3_tell 134 = .ok (.ireturn, 1) := dk_172 (dk_at dksX3_tell_5 16 rfl rfl)
abbrev cX3_writesNumber : ByteArray := prog_14_method_90_code
def yX3_writesNumber : MethodName := ⟨RX3, "writesNumber", "(I)V"⟩
def dkwX3_writesNumber_1 : List UInt8 := [182, 0, 246, 177]
abbrev dktX3_writesNumber_1 : List UInt8 := dkwX3_writesNumber_1 ++ []
def dkwX3_writesNumber_0 : List UInt8 := [27, 16, 9, 164, 0, 11, 42, 27, 16, 10, 108, 182, 0, 243, 42, 16, 48, 27, 16, 10, 112, 96]
abbrev dktX3_writesNumber_0 : List UInt8 := dkwX3_writesNumber_0 ++ dktX3_writesNumber_1
theorem dksX3_writesNumber_0 : cX3_writesNumber.data.toList.drop 0 = dktX3_writesNumber_0 := by decide +kernel
theorem dksX3_writesNumber_1 : cX3_writesNumber.data.toList.drop 22 = dktX3_writesNumber_1 := dk_seg dksX3_writesNumber_0 22 rfl rfl
theorem dX3_writesNumber_0 : decode cX3_writesNumber 0 = .ok (.iload_n 1, 1) := dk_27 (dk_at dksX3_writesNumber_0 0 rfl rfl)
theorem dX3_writesNumber_1 : decode cX3_writesNumber 1 = .ok (.bipush 9, 2) := dk_16 9 (dk_at dksX3_writesNumber_0 1 rfl rfl)
theorem dX3_writesNumber_3 : decode cX3_writesNumber 3 = .ok (.if_icmp .le 11, 3) := dk_164 0 11 (dk_at dksX3_writesNumber_0 3 rfl rfl)
theorem dX3_writesNumber_6 : decode cX3_writesNumber 6 = .ok (.aload_n 0, 1) := dk_42 (dk_at dksX3_writesNumber_0 6 rfl rfl)
theorem dX3_writesNumber_7 : decode cX3_writesNumber 7 = .ok (.iload_n 1, 1) := dk_27 (dk_at dksX3_writesNumber_0 7 rfl rfl)
theorem dX3_writesNumber_8 : decode cX3_writesNumber 8 = .ok (.bipush 10, 2) := dk_16 10 (dk_at dksX3_writesNumber_0 8 rfl rfl)
theorem dX3_writesNumber_10 : decode cX3_writesNumber 10 = .ok (.idiv, 1) := dk_108 (dk_at dksX3_writesNumber_0 10 rfl rfl)
theorem dX3_writesNumber_11 : decode cX3_writesNumber 11 = .ok (.invokevirtual 243, 3) := dk_182 0 243 (dk_at dksX3_writesNumber_0 11 rfl rfl)
theorem dX3_writesNumber_14 : decode cX3_writesNumber 14 = .ok (.aload_n 0, 1) := dk_42 (dk_at dksX3_writesNumber_0 14 rfl rfl)
theorem dX3_writesNumber_15 : decode cX3_writesNumber 15 = .ok (.bipush 48, 2) := dk_16 48 (dk_at dksX3_writesNumber_0 15 rfl rfl)
theorem dX3_writesNumber_17 : decode cX3_writesNumber 17 = .ok (.iload_n 1, 1) := dk_27 (dk_at dksX3_writesNumber_0 17 rfl rfl)
theorem dX3_writesNumber_18 : decode cX3_writesNumber 18 = .ok (.bipush 10, 2) := dk_16 10 (dk_at dksX3_writesNumber_0 18 rfl rfl)
theorem dX3_writesNumber_20 : decode cX3_writesNumber 20 = .ok (.irem, 1) := dk_112 (dk_at dksX3_writesNumber_0 20 rfl rfl)
theorem dX3_writesNumber_21 : decode cX3_writesNumber 21 = .ok (.iadd, 1) := dk_96 (dk_at dksX3_writesNumber_0 21 rfl rfl)
theorem dX3_writesNumber_22 : decode cX3_writesNumber 22 = .ok (.invokevirtual 246, 3) := dk_182 0 246 (dk_at dksX3_writesNumber_1 0 rfl rfl)
theorem dX3_writesNumber_25 : decode cX3_writesNumber 25 = .ok (.return_, 1) := dk_177 (dk_at dksX3_writesNumber_1 3 rfl rfl)
abbrev cX3_writes : ByteArray := prog_14_method_89_code
def yX3_writes : MethodName := ⟨RX3, "writes", "(I)V"⟩
def dkwX3_writes_0 : List UInt8 := [42, 180, 0, 24, 42, 180, 0, 240, 27, 146, 85, 42, 89, 180, 0, 240, 4, 96, 181, 0, 240, 177]
abbrev dktX3_writes_0 : List UInt8 := dkwX3_writes_0 ++ []
theorem dksX3_writes_0 : cX3_writes.data.toList.drop 0 = dktX3_writes_0 := by decide +kernel
theorem dX3_writes_0 : decode cX3_writes 0 = .ok (.aload_n 0, 1) := dk_42 (dk_at dksX3_writes_0 0 rfl rfl)
theorem dX3_writes_1 : decode cX3_writes 1 = .ok (.getfield 24, 3) := dk_180 0 24 (dk_at dksX3_writes_0 1 rfl rfl)
theorem dX3_writes_4 : decode cX3_writes 4 = .ok (.aload_n 0, 1) := dk_42 (dk_at dksX3_writes_0 4 rfl rfl)
theorem dX3_writes_5 : decode cX3_writes 5 = .ok (.getfield 240, 3) := dk_180 0 240 (dk_at dksX3_writes_0 5 rfl rfl)
theorem dX3_writes_8 : decode cX3_writes 8 = .ok (.iload_n 1, 1) := dk_27 (dk_at dksX3_writes_0 8 rfl rfl)
theorem dX3_writes_9 : decode cX3_writes 9 = .ok (.i2c, 1) := dk_146 (dk_at dksX3_writes_0 9 rfl rfl)
theorem dX3_writes_10 : decode cX3_writes 10 = .ok (.castore, 1) := dk_85 (dk_at dksX3_writes_0 10 rfl rfl)
theorem dX3_writes_11 : decode cX3_writes 11 = .ok (.aload_n 0, 1) := dk_42 (dk_at dksX3_writes_0 11 rfl rfl)
theorem dX3_writes_12 : decode cX3_writes 12 = .ok (.dup, 1) := dk_89 (dk_at dksX3_writes_0 12 rfl rfl)
theorem dX3_writes_13 : decode cX3_writes 13 = .ok (.getfield 240, 3) := dk_180 0 240 (dk_at dksX3_writes_0 13 rfl rfl)
theorem dX3_writes_16 : decode cX3_writes 16 = .ok (.iconst 1, 1) := dk_4 (dk_at dksX3_writes_0 16 rfl rfl)
theorem dX3_writes_17 : decode cX3_writes 17 = .ok (.iadd, 1) := dk_96 (dk_at dksX3_writes_0 17 rfl rfl)
theorem dX3_writes_18 : decode cX3_writes 18 = .ok (.putfield 240, 3) := dk_181 0 240 (dk_at dksX3_writes_0 18 rfl rfl)
theorem dX3_writes_21 : decode cX3_writes 21 = .ok (.return_, 1) := dk_177 (dk_at dksX3_writes_0 21 rfl rfl)
abbrev cX3_writesSpan : ByteArray := prog_14_method_92_code
def yX3_writesSpan : MethodName := ⟨RX3, "writesSpan", "(I)V"⟩
def dkwX3_writesSpan_2 : List UInt8 := [177]
abbrev dktX3_writesSpan_2 : List UInt8 := dkwX3_writesSpan_2 ++ []
def dkwX3_writesSpan_1 : List UInt8 := [182, 0, 246, 42, 27, 182, 0, 243, 42, 27, 7, 182, 0, 64, 4, 160, 0, 9, 42, 16, 62, 182, 0, 246]
abbrev dktX3_writesSpan_1 : List UInt8 := dkwX3_writesSpan_1 ++ dktX3_writesSpan_2
def dkwX3_writesSpan_0 : List UInt8 := [27, 2, 160, 0, 10, 42, 16, 46, 182, 0, 246, 177, 42, 27, 7, 182, 0, 64, 154, 0, 9, 42, 16, 60]
abbrev dktX3_writesSpan_0 : List UInt8 := dkwX3_writesSpan_0 ++ dktX3_writesSpan_1
theorem dksX3_writesSpan_0 : cX3_writesSpan.data.toList.drop 0 = dktX3_writesSpan_0 := by decide +kernel
theorem dksX3_writesSpan_1 : cX3_writesSpan.data.toList.drop 24 = dktX3_writesSpan_1 := dk_seg dksX3_writesSpan_0 24 rfl rfl
theorem dksX3_writesSpan_2 : cX3_writesSpan.data.toList.drop 48 = dktX3_writesSpan_2 := dk_seg dksX3_writesSpan_1 24 rfl rfl
theorem dX3_writesSpan_0 : decode cX3_writesSpan 0 = .ok (.iload_n 1, 1) := dk_27 (dk_at dksX3_writesSpan_0 0 rfl rfl)
theorem dX3_writesSpan_1 : decode cX3_writesSpan 1 = .ok (.iconst (-1), 1) := dk_2 (dk_at dksX3_writesSpan_0 1 rfl rfl)
theorem dX3_writesSpan_2 : decode cX3_writesSpan 2 = .ok (.if_icmp .ne 10, 3) := dk_160 0 10 (dk_at dksX3_writesSpan_0 2 rfl rfl)
theorem dX3_writesSpan_5 : decode cX3_writesSpan 5 = .ok (.aload_n 0, 1) := dk_42 (dk_at dksX3_writesSpan_0 5 rfl rfl)
theorem dX3_writesSpan_6 : decode cX3_writesSpan 6 = .ok (.bipush 46, 2) := dk_16 46 (dk_at dksX3_writesSpan_0 6 rfl rfl)
theorem dX3_writesSpan_8 : decode cX3_writesSpan 8 = .ok (.invokevirtual 246, 3) := dk_182 0 246 (dk_at dksX3_writesSpan_0 8 rfl rfl)
theorem dX3_writesSpan_11 : decode cX3_writesSpan 11 = .ok (.return_, 1) := dk_177 (dk_at dksX3_writesSpan_0 11 rfl rfl)
theorem dX3_writesSpan_12 : decode cX3_writesSpan 12 = .ok (.aload_n 0, 1) := dk_42 (dk_at dksX3_writesSpan_0 12 rfl rfl)
theorem dX3_writesSpan_13 : decode cX3_writesSpan 13 = .ok (.iload_n 1, 1) := dk_27 (dk_at dksX3_writesSpan_0 13 rfl rfl)
theorem dX3_writesSpan_14 : decode cX3_writesSpan 14 = .ok (.iconst 4, 1) := dk_7 (dk_at dksX3_writesSpan_0 14 rfl rfl)
theorem dX3_writesSpan_15 : decode cX3_writesSpan 15 = .ok (.invokevirtual 64, 3) := dk_182 0 64 (dk_at dksX3_writesSpan_0 15 rfl rfl)
theorem dX3_writesSpan_18 : decode cX3_writesSpan 18 = .ok (.ifCond .ne 9, 3) := dk_154 0 9 (dk_at dksX3_writesSpan_0 18 rfl rfl)
theorem dX3_writesSpan_21 : decode cX3_writesSpan 21 = .ok (.aload_n 0, 1) := dk_42 (dk_at dksX3_writesSpan_0 21 rfl rfl)
theorem dX3_writesSpan_22 : decode cX3_writesSpan 22 = .ok (.bipush 60, 2) := dk_16 60 (dk_at dksX3_writesSpan_0 22 rfl rfl)
theorem dX3_writesSpan_24 : decode cX3_writesSpan 24 = .ok (.invokevirtual 246, 3) := dk_182 0 246 (dk_at dksX3_writesSpan_1 0 rfl rfl)
theorem dX3_writesSpan_27 : decode cX3_writesSpan 27 = .ok (.aload_n 0, 1) := dk_42 (dk_at dksX3_writesSpan_1 3 rfl rfl)
theorem dX3_writesSpan_28 : decode cX3_writesSpan 28 = .ok (.iload_n 1, 1) := dk_27 (dk_at dksX3_writesSpan_1 4 rfl rfl)
theorem dX3_writesSpan_29 : decode cX3_writesSpan 29 = .ok (.invokevirtual 243, 3) := dk_182 0 243 (dk_at dksX3_writesSpan_1 5 rfl rfl)
theorem dX3_writesSpan_32 : decode cX3_writesSpan 32 = .ok (.aload_n 0, 1) := dk_42 (dk_at dksX3_writesSpan_1 8 rfl rfl)
theorem dX3_writesSpan_33 : decode cX3_writesSpan 33 = .ok (.iload_n 1, 1) := dk_27 (dk_at dksX3_writesSpan_1 9 rfl rfl)
theorem dX3_writesSpan_34 : decode cX3_writesSpan 34 = .ok (.iconst 4, 1) := dk_7 (dk_at dksX3_writesSpan_1 10 rfl rfl)
theorem dX3_writesSpan_35 : decode cX3_writesSpan 35 = .ok (.invokevirtual 64, 3) := dk_182 0 64 (dk_at dksX3_writesSpan_1 11 rfl rfl)
theorem dX3_writesSpan_38 : decode cX3_writesSpan 38 = .ok (.iconst 1, 1) := dk_4 (dk_at dksX3_writesSpan_1 14 rfl rfl)
theorem dX3_writesSpan_39 : decode cX3_writesSpan 39 = .ok (.if_icmp .ne 9, 3) := dk_160 0 9 (dk_at dksX3_writesSpan_1 15 rfl rfl)
theorem dX3_writesSpan_42 : decode cX3_writesSpan 42 = .ok (.aload_n 0, 1) := dk_42 (dk_at dksX3_writesSpan_1 18 rfl rfl)
theorem dX3_writesSpan_43 : decode cX3_writesSpan 43 = .ok (.bipush 62, 2) := dk_16 62 (dk_at dksX3_writesSpan_1 19 rfl rfl)
theorem dX3_writesSpan_45 : decode cX3_writesSpan 45 = .ok (.invokevirtual 246, 3) := dk_182 0 246 (dk_at dksX3_writesSpan_1 21 rfl rfl)
theorem dX3_writesSpan_48 : decode cX3_writesSpan 48 = .ok (.return_, 1) := dk_177 (dk_at dksX3_writesSpan_2 0 rfl rfl)
abbrev cX3_tellLaw : ByteArray := prog_14_method_94_code
def yX3_tellLaw : MethodName := ⟨RX3, "tellLaw", "()I"⟩
def dkwX3_tellLaw_7 : List UInt8 := [16, 119, 16, 97, 16, 105, 182, 0, 252, 42, 16, 116, 182, 0, 246, 42, 180, 0, 240, 172]
abbrev dktX3_tellLaw_7 : List UInt8 := dkwX3_tellLaw_7 ++ []
def dkwX3_tellLaw_6 : List UInt8 := [167, 0, 38, 42, 16, 108, 16, 111, 16, 97, 182, 0, 252, 42, 16, 100, 182, 0, 246, 167, 0, 19, 42]
abbrev dktX3_tellLaw_6 : List UInt8 := dkwX3_tellLaw_6 ++ dktX3_tellLaw_7
def dkwX3_tellLaw_5 : List UInt8 := [16, 6, 46, 182, 0, 243, 42, 16, 47, 182, 0, 246, 42, 42, 180, 0, 9, 6, 46, 182, 0, 243]
abbrev dktX3_tellLaw_5 : List UInt8 := dkwX3_tellLaw_5 ++ dktX3_tellLaw_6
def dkwX3_tellLaw_4 : List UInt8 := [154, 0, 8, 16, 119, 167, 0, 5, 16, 101, 182, 0, 246, 42, 16, 32, 182, 0, 246, 42, 42, 180, 0, 9]
abbrev dktX3_tellLaw_4 : List UInt8 := dkwX3_tellLaw_4 ++ dktX3_tellLaw_5
def dkwX3_tellLaw_3 : List UInt8 := [16, 114, 182, 0, 252, 42, 16, 110, 16, 115, 16, 32, 182, 0, 252, 42, 42, 180, 0, 9, 8, 46]
abbrev dktX3_tellLaw_3 : List UInt8 := dkwX3_tellLaw_3 ++ dktX3_tellLaw_4
def dkwX3_tellLaw_2 : List UInt8 := [42, 16, 102, 16, 114, 16, 101, 182, 0, 252, 42, 16, 101, 182, 0, 246, 167, 0, 114, 42, 16, 116, 16, 117]
abbrev dktX3_tellLaw_2 : List UInt8 := dkwX3_tellLaw_2 ++ dktX3_tellLaw_3
def dkwX3_tellLaw_1 : List UInt8 := [170, 0, 0, 0, 0, 0, 0, 142, 0, 0, 0, 0, 0, 0, 0, 2, 0, 0, 0, 28, 0, 0, 0, 47, 0, 0, 0, 123]
abbrev dktX3_tellLaw_1 : List UInt8 := dkwX3_tellLaw_1 ++ dktX3_tellLaw_2
def dkwX3_tellLaw_0 : List UInt8 := [42, 3, 181, 0, 27, 42, 3, 181, 0, 240, 42, 180, 0, 9, 5, 46]
abbrev dktX3_tellLaw_0 : List UInt8 := dkwX3_tellLaw_0 ++ dktX3_tellLaw_1
theorem dksX3_tellLaw_0 : cX3_tellLaw.data.toList.drop 0 = dktX3_tellLaw_0 := by decide +kernel
theorem dksX3_tellLaw_1 : cX3_tellLaw.data.toList.drop 16 = dktX3_tellLaw_1 := dk_seg dksX3_tellLaw_0 16 rfl rfl
theorem dksX3_tellLaw_2 : cX3_tellLaw.data.toList.drop 44 = dktX3_tellLaw_2 := dk_seg dksX3_tellLaw_1 28 rfl rfl
theorem dksX3_tellLaw_3 : cX3_tellLaw.data.toList.drop 68 = dktX3_tellLaw_3 := dk_seg dksX3_tellLaw_2 24 rfl rfl
theorem dksX3_tellLaw_4 : cX3_tellLaw.data.toList.drop 90 = dktX3_tellLaw_4 := dk_seg dksX3_tellLaw_3 22 rfl rfl
theorem dksX3_tellLaw_5 : cX3_tellLaw.data.toList.drop 114 = dktX3_tellLaw_5 := dk_seg dksX3_tellLaw_4 24 rfl rfl
theorem dksX3_tellLaw_6 : cX3_tellLaw.data.toList.drop 136 = dktX3_tellLaw_6 := dk_seg dksX3_tellLaw_5 22 rfl rfl
theorem dksX3_tellLaw_7 : cX3_tellLaw.data.toList.drop 159 = dktX3_tellLaw_7 := dk_seg dksX3_tellLaw_6 23 rfl rfl
theorem dX3_tellLaw_0 : decode cX3_tellLaw 0 = .ok (.aload_n 0, 1) := dk_42 (dk_at dksX3_tellLaw_0 0 rfl rfl)
theorem dX3_tellLaw_1 : decode cX3_tellLaw 1 = .ok (.iconst 0, 1) := dk_3 (dk_at dksX3_tellLaw_0 1 rfl rfl)
theorem dX3_tellLaw_2 : decode cX3_tellLaw 2 = .ok (.putfield 27, 3) := dk_181 0 27 (dk_at dksX3_tellLaw_0 2 rfl rfl)
theorem dX3_tellLaw_5 : decode cX3_tellLaw 5 = .ok (.aload_n 0, 1) := dk_42 (dk_at dksX3_tellLaw_0 5 rfl rfl)
theorem dX3_tellLaw_6 : decode cX3_tellLaw 6 = .ok (.iconst 0, 1) := dk_3 (dk_at dksX3_tellLaw_0 6 rfl rfl)
theorem dX3_tellLaw_7 : decode cX3_tellLaw 7 = .ok (.putfield 240, 3) := dk_181 0 240 (dk_at dksX3_tellLaw_0 7 rfl rfl)
theorem dX3_tellLaw_10 : decode cX3_tellLaw 10 = .ok (.aload_n 0, 1) := dk_42 (dk_at dksX3_tellLaw_0 10 rfl rfl)
theorem dX3_tellLaw_11 : decode cX3_tellLaw 11 = .ok (.getfield 9, 3) := dk_180 0 9 (dk_at dksX3_tellLaw_0 11 rfl rfl)
theorem dX3_tellLaw_14 : decode cX3_tellLaw 14 = .ok (.iconst 2, 1) := dk_5 (dk_at dksX3_tellLaw_0 14 rfl rfl)
theorem dX3_tellLaw_15 : decode cX3_tellLaw 15 = .ok (.iaload, 1) := dk_46 (dk_at dksX3_tellLaw_0 15 rfl rfl)
theorem dX3_tellLaw_16 : decode cX3_tellLaw 16 = .ok (.tableswitch 142 0 2 #[28, 47, 123], 28) := by decide +kernel
theorem dX3_tellLaw_44 : decode cX3_tellLaw 44 = .ok (.aload_n 0, 1) := dk_42 (dk_at dksX3_tellLaw_2 0 rfl rfl)
theorem dX3_tellLaw_45 : decode cX3_tellLaw 45 = .ok (.bipush 102, 2) := dk_16 102 (dk_at dksX3_tellLaw_2 1 rfl rfl)
theorem dX3_tellLaw_47 : decode cX3_tellLaw 47 = .ok (.bipush 114, 2) := dk_16 114 (dk_at dksX3_tellLaw_2 3 rfl rfl)
theorem dX3_tellLaw_49 : decode cX3_tellLaw 49 = .ok (.bipush 101, 2) := dk_16 101 (dk_at dksX3_tellLaw_2 5 rfl rfl)
theorem dX3_tellLaw_51 : decode cX3_tellLaw 51 = .ok (.invokevirtual 252, 3) := dk_182 0 252 (dk_at dksX3_tellLaw_2 7 rfl rfl)
theorem dX3_tellLaw_54 : decode cX3_tellLaw 54 = .ok (.aload_n 0, 1) := dk_42 (dk_at dksX3_tellLaw_2 10 rfl rfl)
theorem dX3_tellLaw_55 : decode cX3_tellLaw 55 = .ok (.bipush 101, 2) := dk_16 101 (dk_at dksX3_tellLaw_2 11 rfl rfl)
theorem dX3_tellLaw_57 : decode cX3_tellLaw 57 = .ok (.invokevirtual 246, 3) := dk_182 0 246 (dk_at dksX3_tellLaw_2 13 rfl rfl)
theorem dX3_tellLaw_60 : decode cX3_tellLaw 60 = .ok (.goto 114, 3) := dk_167 0 114 (dk_at dksX3_tellLaw_2 16 rfl rfl)
theorem dX3_tellLaw_63 : decode cX3_tellLaw 63 = .ok (.aload_n 0, 1) := dk_42 (dk_at dksX3_tellLaw_2 19 rfl rfl)
theorem dX3_tellLaw_64 : decode cX3_tellLaw 64 = .ok (.bipush 116, 2) := dk_16 116 (dk_at dksX3_tellLaw_2 20 rfl rfl)
theorem dX3_tellLaw_66 : decode cX3_tellLaw 66 = .ok (.bipush 117, 2) := dk_16 117 (dk_at dksX3_tellLaw_2 22 rfl rfl)
theorem dX3_tellLaw_68 : decode cX3_tellLaw 68 = .ok (.bipush 114, 2) := dk_16 114 (dk_at dksX3_tellLaw_3 0 rfl rfl)
theorem dX3_tellLaw_70 : decode cX3_tellLaw 70 = .ok (.invokevirtual 252, 3) := dk_182 0 252 (dk_at dksX3_tellLaw_3 2 rfl rfl)
theorem dX3_tellLaw_73 : decode cX3_tellLaw 73 = .ok (.aload_n 0, 1) := dk_42 (dk_at dksX3_tellLaw_3 5 rfl rfl)
theorem dX3_tellLaw_74 : decode cX3_tellLaw 74 = .ok (.bipush 110, 2) := dk_16 110 (dk_at dksX3_tellLaw_3 6 rfl rfl)
theorem dX3_tellLaw_76 : decode cX3_tellLaw 76 = .ok (.bipush 115, 2) := dk_16 115 (dk_at dksX3_tellLaw_3 8 rfl rfl)
theorem dX3_tellLaw_78 : decode cX3_tellLaw 78 = .ok (.bipush 32, 2) := dk_16 32 (dk_at dksX3_tellLaw_3 10 rfl rfl)
theorem dX3_tellLaw_80 : decode cX3_tellLaw 80 = .ok (.invokevirtual 252, 3) := dk_182 0 252 (dk_at dksX3_tellLaw_3 12 rfl rfl)
theorem dX3_tellLaw_83 : decode cX3_tellLaw 83 = .ok (.aload_n 0, 1) := dk_42 (dk_at dksX3_tellLaw_3 15 rfl rfl)
theorem dX3_tellLaw_84 : decode cX3_tellLaw 84 = .ok (.aload_n 0, 1) := dk_42 (dk_at dksX3_tellLaw_3 16 rfl rfl)
theorem dX3_tellLaw_85 : decode cX3_tellLaw 85 = .ok (.getfield 9, 3) := dk_180 0 9 (dk_at dksX3_tellLaw_3 17 rfl rfl)
theorem dX3_tellLaw_88 : decode cX3_tellLaw 88 = .ok (.iconst 5, 1) := dk_8 (dk_at dksX3_tellLaw_3 20 rfl rfl)
theorem dX3_tellLaw_89 : decode cX3_tellLaw 89 = .ok (.iaload, 1) := dk_46 (dk_at dksX3_tellLaw_3 21 rfl rfl)
theorem dX3_tellLaw_90 : decode cX3_tellLaw 90 = .ok (.ifCond .ne 8, 3) := dk_154 0 8 (dk_at dksX3_tellLaw_4 0 rfl rfl)
theorem dX3_tellLaw_93 : decode cX3_tellLaw 93 = .ok (.bipush 119, 2) := dk_16 119 (dk_at dksX3_tellLaw_4 3 rfl rfl)
theorem dX3_tellLaw_95 : decode cX3_tellLaw 95 = .ok (.goto 5, 3) := dk_167 0 5 (dk_at dksX3_tellLaw_4 5 rfl rfl)
theorem dX3_tellLaw_98 : decode cX3_tellLaw 98 = .ok (.bipush 101, 2) := dk_16 101 (dk_at dksX3_tellLaw_4 8 rfl rfl)
theorem dX3_tellLaw_100 : decode cX3_tellLaw 100 = .ok (.invokevirtual 246, 3) := dk_182 0 246 (dk_at dksX3_tellLaw_4 10 rfl rfl)
theorem dX3_tellLaw_103 : decode cX3_tellLaw 103 = .ok (.aload_n 0, 1) := dk_42 (dk_at dksX3_tellLaw_4 13 rfl rfl)
theorem dX3_tellLaw_104 : decode cX3_tellLaw 104 = .ok (.bipush 32, 2) := dk_16 32 (dk_at dksX3_tellLaw_4 14 rfl rfl)
theorem dX3_tellLaw_106 : decode cX3_tellLaw 106 = .ok (.invokevirtual 246, 3) := dk_182 0 246 (dk_at dksX3_tellLaw_4 16 rfl rfl)
theorem dX3_tellLaw_109 : decode cX3_tellLaw 109 = .ok (.aload_n 0, 1) := dk_42 (dk_at dksX3_tellLaw_4 19 rfl rfl)
theorem dX3_tellLaw_110 : decode cX3_tellLaw 110 = .ok (.aload_n 0, 1) := dk_42 (dk_at dksX3_tellLaw_4 20 rfl rfl)
theorem dX3_tellLaw_111 : decode cX3_tellLaw 111 = .ok (.getfield 9, 3) := dk_180 0 9 (dk_at dksX3_tellLaw_4 21 rfl rfl)
theorem dX3_tellLaw_114 : decode cX3_tellLaw 114 = .ok (.bipush 6, 2) := dk_16 6 (dk_at dksX3_tellLaw_5 0 rfl rfl)
theorem dX3_tellLaw_116 : decode cX3_tellLaw 116 = .ok (.iaload, 1) := dk_46 (dk_at dksX3_tellLaw_5 2 rfl rfl)
theorem dX3_tellLaw_117 : decode cX3_tellLaw 117 = .ok (.invokevirtual 243, 3) := dk_182 0 243 (dk_at dksX3_tellLaw_5 3 rfl rfl)
theorem dX3_tellLaw_120 : decode cX3_tellLaw 120 = .ok (.aload_n 0, 1) := dk_42 (dk_at dksX3_tellLaw_5 6 rfl rfl)
theorem dX3_tellLaw_121 : decode cX3_tellLaw 121 = .ok (.bipush 47, 2) := dk_16 47 (dk_at dksX3_tellLaw_5 7 rfl rfl)
theorem dX3_tellLaw_123 : decode cX3_tellLaw 123 = .ok (.invokevirtual 246, 3) := dk_182 0 246 (dk_at dksX3_tellLaw_5 9 rfl rfl)
theorem dX3_tellLaw_126 : decode cX3_tellLaw 126 = .ok (.aload_n 0, 1) := dk_42 (dk_at dksX3_tellLaw_5 12 rfl rfl)
theorem dX3_tellLaw_127 : decode cX3_tellLaw 127 = .ok (.aload_n 0, 1) := dk_42 (dk_at dksX3_tellLaw_5 13 rfl rfl)
theorem dX3_tellLaw_128 : decode cX3_tellLaw 128 = .ok (.getfield 9, 3) := dk_180 0 9 (dk_at dksX3_tellLaw_5 14 rfl rfl)
theorem dX3_tellLaw_131 : decode cX3_tellLaw 131 = .ok (.iconst 3, 1) := dk_6 (dk_at dksX3_tellLaw_5 17 rfl rfl)
theorem dX3_tellLaw_132 : decode cX3_tellLaw 132 = .ok (.iaload, 1) := dk_46 (dk_at dksX3_tellLaw_5 18 rfl rfl)
theorem dX3_tellLaw_133 : decode cX3_tellLaw 133 = .ok (.invokevirtual 243, 3) := dk_182 0 243 (dk_at dksX3_tellLaw_5 19 rfl rfl)
theorem dX3_tellLaw_136 : decode cX3_tellLaw 136 = .ok (.goto 38, 3) := dk_167 0 38 (dk_at dksX3_tellLaw_6 0 rfl rfl)
theorem dX3_tellLaw_139 : decode cX3_tellLaw 139 = .ok (.aload_n 0, 1) := dk_42 (dk_at dksX3_tellLaw_6 3 rfl rfl)
theorem dX3_tellLaw_140 : decode cX3_tellLaw 140 = .ok (.bipush 108, 2) := dk_16 108 (dk_at dksX3_tellLaw_6 4 rfl rfl)
theorem dX3_tellLaw_142 : decode cX3_tellLaw 142 = .ok (.bipush 111, 2) := dk_16 111 (dk_at dksX3_tellLaw_6 6 rfl rfl)
theorem dX3_tellLaw_144 : decode cX3_tellLaw 144 = .ok (.bipush 97, 2) := dk_16 97 (dk_at dksX3_tellLaw_6 8 rfl rfl)
theorem dX3_tellLaw_146 : decode cX3_tellLaw 146 = .ok (.invokevirtual 252, 3) := dk_182 0 252 (dk_at dksX3_tellLaw_6 10 rfl rfl)
theorem dX3_tellLaw_149 : decode cX3_tellLaw 149 = .ok (.aload_n 0, 1) := dk_42 (dk_at dksX3_tellLaw_6 13 rfl rfl)
theorem dX3_tellLaw_150 : decode cX3_tellLaw 150 = .ok (.bipush 100, 2) := dk_16 100 (dk_at dksX3_tellLaw_6 14 rfl rfl)
theorem dX3_tellLaw_152 : decode cX3_tellLaw 152 = .ok (.invokevirtual 246, 3) := dk_182 0 246 (dk_at dksX3_tellLaw_6 16 rfl rfl)
theorem dX3_tellLaw_155 : decode cX3_tellLaw 155 = .ok (.goto 19, 3) := dk_167 0 19 (dk_at dksX3_tellLaw_6 19 rfl rfl)
theorem dX3_tellLaw_158 : decode cX3_tellLaw 158 = .ok (.aload_n 0, 1) := dk_42 (dk_at dksX3_tellLaw_6 22 rfl rfl)
theorem dX3_tellLaw_159 : decode cX3_tellLaw 159 = .ok (.bipush 119, 2) := dk_16 119 (dk_at dksX3_tellLaw_7 0 rfl rfl)
theorem dX3_tellLaw_161 : decode cX3_tellLaw 161 = .ok (.bipush 97, 2) := dk_16 97 (dk_at dksX3_tellLaw_7 2 rfl rfl)
theorem dX3_tellLaw_163 : decode cX3_tellLaw 163 = .ok (.bipush 105, 2) := dk_16 105 (dk_at dksX3_tellLaw_7 4 rfl rfl)
theorem dX3_tellLaw_165 : decode cX3_tellLaw 165 = .ok (.invokevirtual 252, 3) := dk_182 0 252 (dk_at dksX3_tellLaw_7 6 rfl rfl)
theorem dX3_tellLaw_168 : decode cX3_tellLaw 168 = .ok (.aload_n 0, 1) := dk_42 (dk_at dksX3_tellLaw_7 9 rfl rfl)
theorem dX3_tellLaw_169 : decode cX3_tellLaw 169 = .ok (.bipush 116, 2) := dk_16 116 (dk_at dksX3_tellLaw_7 10 rfl rfl)
theorem dX3_tellLaw_171 : decode cX3_tellLaw 171 = .ok (.invokevirtual 246, 3) := dk_182 0 246 (dk_at dksX3_tellLaw_7 12 rfl rfl)
theorem dX3_tellLaw_174 : decode cX3_tellLaw 174 = .ok (.aload_n 0, 1) := dk_42 (dk_at dksX3_tellLaw_7 15 rfl rfl)
theorem dX3_tellLaw_175 : decode cX3_tellLaw 175 = .ok (.getfield 240, 3) := dk_180 0 240 (dk_at dksX3_tellLaw_7 16 rfl rfl)
theorem dX3_tellLaw_178 : decode cX3_tellLaw 178 = .ok (.ireturn, 1) := dk_172 (dk_at dksX3_tellLaw_7 19 rfl rfl)
abbrev cX3_writesThree : ByteArray := prog_14_method_91_code
def yX3_writesThree : MethodName := ⟨RX3, "writesThree", "(III)V"⟩
def dkwX3_writesThree_0 : List UInt8 := [42, 27, 182, 0, 246, 42, 28, 182, 0, 246, 42, 29, 182, 0, 246, 177]
abbrev dktX3_writesThree_0 : List UInt8 := dkwX3_writesThree_0 ++ []
theorem dksX3_writesThree_0 : cX3_writesThree.data.toList.drop 0 = dktX3_writesThree_0 := by decide +kernel
theorem dX3_writesThree_0 : decode cX3_writesThree 0 = .ok (.aload_n 0, 1) := dk_42 (dk_at dksX3_writesThree_0 0 rfl rfl)
theorem dX3_writesThree_1 : decode cX3_writesThree 1 = .ok (.iload_n 1, 1) := dk_27 (dk_at dksX3_writesThree_0 1 rfl rfl)
theorem dX3_writesThree_2 : decode cX3_writesThree 2 = .ok (.invokevirtual 246, 3) := dk_182 0 246 (dk_at dksX3_writesThree_0 2 rfl rfl)
theorem dX3_writesThree_5 : decode cX3_writesThree 5 = .ok (.aload_n 0, 1) := dk_42 (dk_at dksX3_writesThree_0 5 rfl rfl)
theorem dX3_writesThree_6 : decode cX3_writesThree 6 = .ok (.iload_n 2, 1) := dk_28 (dk_at dksX3_writesThree_0 6 rfl rfl)
theorem dX3_writesThree_7 : decode cX3_writesThree 7 = .ok (.invokevirtual 246, 3) := dk_182 0 246 (dk_at dksX3_writesThree_0 7 rfl rfl)
theorem dX3_writesThree_10 : decode cX3_writesThree 10 = .ok (.aload_n 0, 1) := dk_42 (dk_at dksX3_writesThree_0 10 rfl rfl)
theorem dX3_writesThree_11 : decode cX3_writesThree 11 = .ok (.iload_n 3, 1) := dk_29 (dk_at dksX3_writesThree_0 11 rfl rfl)
theorem dX3_writesThree_12 : decode cX3_writesThree 12 = .ok (.invokevirtual 246, 3) := dk_182 0 246 (dk_at dksX3_writesThree_0 12 rfl rfl)
theorem dX3_writesThree_15 : decode cX3_writesThree 15 = .ok (.return_, 1) := dk_177 (dk_at dksX3_writesThree_0 15 rfl rfl)
abbrev cX3_tellCart : ByteArray := prog_14_method_95_code
def yX3_tellCart : MethodName := ⟨RX3, "tellCart", "(I)I"⟩
def dkwX3_tellCart_10 : List UInt8 := [182, 0, 252, 42, 16, 116, 182, 0, 246, 42, 180, 0, 240, 172]
abbrev dktX3_tellCart_10 : List UInt8 := dkwX3_tellCart_10 ++ []
def dkwX3_tellCart_9 : List UInt8 := [182, 0, 252, 42, 16, 115, 16, 101, 16, 100, 182, 0, 252, 167, 0, 19, 42, 16, 108, 16, 101, 16, 102]
abbrev dktX3_tellCart_9 : List UInt8 := dkwX3_tellCart_9 ++ dktX3_tellCart_10
def dkwX3_tellCart_8 : List UInt8 := [16, 101, 167, 0, 5, 16, 97, 16, 115, 16, 116, 182, 0, 252, 167, 0, 42, 42, 16, 112, 16, 97, 16, 115]
abbrev dktX3_tellCart_8 : List UInt8 := dkwX3_tellCart_8 ++ dktX3_tellCart_9
def dkwX3_tellCart_7 : List UInt8 := [154, 0, 8, 16, 119, 167, 0, 5, 16, 101, 182, 0, 252, 42, 42, 27, 7, 182, 0, 64, 154, 0, 8]
abbrev dktX3_tellCart_7 : List UInt8 := dkwX3_tellCart_7 ++ dktX3_tellCart_8
def dkwX3_tellCart_6 : List UInt8 := [167, 0, 103, 42, 16, 103, 16, 111, 16, 101, 182, 0, 252, 42, 16, 115, 16, 32, 42, 27, 7, 182, 0, 64]
abbrev dktX3_tellCart_6 : List UInt8 := dkwX3_tellCart_6 ++ dktX3_tellCart_7
def dkwX3_tellCart_5 : List UInt8 := [42, 16, 119, 16, 97, 16, 105, 182, 0, 252, 42, 16, 116, 182, 0, 246, 42, 16, 115, 182, 0, 246]
abbrev dktX3_tellCart_5 : List UInt8 := dkwX3_tellCart_5 ++ dktX3_tellCart_6
def dkwX3_tellCart_4 : List UInt8 := [170, 0, 0, 0, 0, 0, 0, 137, 0, 0, 0, 0, 0, 0, 0, 2, 0, 0, 0, 28, 0, 0, 0, 53, 0, 0, 0, 114]
abbrev dktX3_tellCart_4 : List UInt8 := dkwX3_tellCart_4 ++ dktX3_tellCart_5
def dkwX3_tellCart_3 : List UInt8 := [182, 0, 64]
abbrev dktX3_tellCart_3 : List UInt8 := dkwX3_tellCart_3 ++ dktX3_tellCart_4
def dkwX3_tellCart_2 : List UInt8 := [182, 0, 246, 42, 42, 27, 4, 182, 0, 64, 182, 0, 243, 42, 16, 32, 182, 0, 246, 42, 27, 5]
abbrev dktX3_tellCart_2 : List UInt8 := dkwX3_tellCart_2 ++ dktX3_tellCart_3
def dkwX3_tellCart_1 : List UInt8 := [42, 16, 58, 182, 0, 246, 42, 42, 27, 3, 182, 0, 64, 154, 0, 8, 16, 119, 167, 0, 5, 16, 101]
abbrev dktX3_tellCart_1 : List UInt8 := dkwX3_tellCart_1 ++ dktX3_tellCart_2
def dkwX3_tellCart_0 : List UInt8 := [42, 42, 27, 182, 0, 60, 182, 0, 172, 154, 0, 5, 3, 172, 42, 3, 181, 0, 240, 42, 27, 182, 0, 243]
abbrev dktX3_tellCart_0 : List UInt8 := dkwX3_tellCart_0 ++ dktX3_tellCart_1
theorem dksX3_tellCart_0 : cX3_tellCart.data.toList.drop 0 = dktX3_tellCart_0 := by decide +kernel
theorem dksX3_tellCart_1 : cX3_tellCart.data.toList.drop 24 = dktX3_tellCart_1 := dk_seg dksX3_tellCart_0 24 rfl rfl
theorem dksX3_tellCart_2 : cX3_tellCart.data.toList.drop 47 = dktX3_tellCart_2 := dk_seg dksX3_tellCart_1 23 rfl rfl
theorem dksX3_tellCart_3 : cX3_tellCart.data.toList.drop 69 = dktX3_tellCart_3 := dk_seg dksX3_tellCart_2 22 rfl rfl
theorem dksX3_tellCart_4 : cX3_tellCart.data.toList.drop 72 = dktX3_tellCart_4 := dk_seg dksX3_tellCart_3 3 rfl rfl
theorem dksX3_tellCart_5 : cX3_tellCart.data.toList.drop 100 = dktX3_tellCart_5 := dk_seg dksX3_tellCart_4 28 rfl rfl
theorem dksX3_tellCart_6 : cX3_tellCart.data.toList.drop 122 = dktX3_tellCart_6 := dk_seg dksX3_tellCart_5 22 rfl rfl
theorem dksX3_tellCart_7 : cX3_tellCart.data.toList.drop 146 = dktX3_tellCart_7 := dk_seg dksX3_tellCart_6 24 rfl rfl
theorem dksX3_tellCart_8 : cX3_tellCart.data.toList.drop 169 = dktX3_tellCart_8 := dk_seg dksX3_tellCart_7 23 rfl rfl
theorem dksX3_tellCart_9 : cX3_tellCart.data.toList.drop 193 = dktX3_tellCart_9 := dk_seg dksX3_tellCart_8 24 rfl rfl
theorem dksX3_tellCart_10 : cX3_tellCart.data.toList.drop 216 = dktX3_tellCart_10 := dk_seg dksX3_tellCart_9 23 rfl rfl
theorem dX3_tellCart_0 : decode cX3_tellCart 0 = .ok (.aload_n 0, 1) := dk_42 (dk_at dksX3_tellCart_0 0 rfl rfl)
theorem dX3_tellCart_1 : decode cX3_tellCart 1 = .ok (.aload_n 0, 1) := dk_42 (dk_at dksX3_tellCart_0 1 rfl rfl)
theorem dX3_tellCart_2 : decode cX3_tellCart 2 = .ok (.iload_n 1, 1) := dk_27 (dk_at dksX3_tellCart_0 2 rfl rfl)
theorem dX3_tellCart_3 : decode cX3_tellCart 3 = .ok (.invokevirtual 60, 3) := dk_182 0 60 (dk_at dksX3_tellCart_0 3 rfl rfl)
theorem dX3_tellCart_6 : decode cX3_tellCart 6 = .ok (.invokevirtual 172, 3) := dk_182 0 172 (dk_at dksX3_tellCart_0 6 rfl rfl)
theorem dX3_tellCart_9 : decode cX3_tellCart 9 = .ok (.ifCond .ne 5, 3) := dk_154 0 5 (dk_at dksX3_tellCart_0 9 rfl rfl)
theorem dX3_tellCart_12 : decode cX3_tellCart 12 = .ok (.iconst 0, 1) := dk_3 (dk_at dksX3_tellCart_0 12 rfl rfl)
theorem dX3_tellCart_13 : decode cX3_tellCart 13 = .ok (.ireturn, 1) := dk_172 (dk_at dksX3_tellCart_0 13 rfl rfl)
theorem dX3_tellCart_14 : decode cX3_tellCart 14 = .ok (.aload_n 0, 1) := dk_42 (dk_at dksX3_tellCart_0 14 rfl rfl)
theorem dX3_tellCart_15 : decode cX3_tellCart 15 = .ok (.iconst 0, 1) := dk_3 (dk_at dksX3_tellCart_0 15 rfl rfl)
theorem dX3_tellCart_16 : decode cX3_tellCart 16 = .ok (.putfield 240, 3) := dk_181 0 240 (dk_at dksX3_tellCart_0 16 rfl rfl)
theorem dX3_tellCart_19 : decode cX3_tellCart 19 = .ok (.aload_n 0, 1) := dk_42 (dk_at dksX3_tellCart_0 19 rfl rfl)
theorem dX3_tellCart_20 : decode cX3_tellCart 20 = .ok (.iload_n 1, 1) := dk_27 (dk_at dksX3_tellCart_0 20 rfl rfl)
theorem dX3_tellCart_21 : decode cX3_tellCart 21 = .ok (.invokevirtual 243, 3) := dk_182 0 243 (dk_at dksX3_tellCart_0 21 rfl rfl)
theorem dX3_tellCart_24 : decode cX3_tellCart 24 = .ok (.aload_n 0, 1) := dk_42 (dk_at dksX3_tellCart_1 0 rfl rfl)
theorem dX3_tellCart_25 : decode cX3_tellCart 25 = .ok (.bipush 58, 2) := dk_16 58 (dk_at dksX3_tellCart_1 1 rfl rfl)
theorem dX3_tellCart_27 : decode cX3_tellCart 27 = .ok (.invokevirtual 246, 3) := dk_182 0 246 (dk_at dksX3_tellCart_1 3 rfl rfl)
theorem dX3_tellCart_30 : decode cX3_tellCart 30 = .ok (.aload_n 0, 1) := dk_42 (dk_at dksX3_tellCart_1 6 rfl rfl)
theorem dX3_tellCart_31 : decode cX3_tellCart 31 = .ok (.aload_n 0, 1) := dk_42 (dk_at dksX3_tellCart_1 7 rfl rfl)
theorem dX3_tellCart_32 : decode cX3_tellCart 32 = .ok (.iload_n 1, 1) := dk_27 (dk_at dksX3_tellCart_1 8 rfl rfl)
theorem dX3_tellCart_33 : decode cX3_tellCart 33 = .ok (.iconst 0, 1) := dk_3 (dk_at dksX3_tellCart_1 9 rfl rfl)
theorem dX3_tellCart_34 : decode cX3_tellCart 34 = .ok (.invokevirtual 64, 3) := dk_182 0 64 (dk_at dksX3_tellCart_1 10 rfl rfl)
theorem dX3_tellCart_37 : decode cX3_tellCart 37 = .ok (.ifCond .ne 8, 3) := dk_154 0 8 (dk_at dksX3_tellCart_1 13 rfl rfl)
theorem dX3_tellCart_40 : decode cX3_tellCart 40 = .ok (.bipush 119, 2) := dk_16 119 (dk_at dksX3_tellCart_1 16 rfl rfl)
theorem dX3_tellCart_42 : decode cX3_tellCart 42 = .ok (.goto 5, 3) := dk_167 0 5 (dk_at dksX3_tellCart_1 18 rfl rfl)
theorem dX3_tellCart_45 : decode cX3_tellCart 45 = .ok (.bipush 101, 2) := dk_16 101 (dk_at dksX3_tellCart_1 21 rfl rfl)
theorem dX3_tellCart_47 : decode cX3_tellCart 47 = .ok (.invokevirtual 246, 3) := dk_182 0 246 (dk_at dksX3_tellCart_2 0 rfl rfl)
theorem dX3_tellCart_50 : decode cX3_tellCart 50 = .ok (.aload_n 0, 1) := dk_42 (dk_at dksX3_tellCart_2 3 rfl rfl)
theorem dX3_tellCart_51 : decode cX3_tellCart 51 = .ok (.aload_n 0, 1) := dk_42 (dk_at dksX3_tellCart_2 4 rfl rfl)
theorem dX3_tellCart_52 : decode cX3_tellCart 52 = .ok (.iload_n 1, 1) := dk_27 (dk_at dksX3_tellCart_2 5 rfl rfl)
theorem dX3_tellCart_53 : decode cX3_tellCart 53 = .ok (.iconst 1, 1) := dk_4 (dk_at dksX3_tellCart_2 6 rfl rfl)
theorem dX3_tellCart_54 : decode cX3_tellCart 54 = .ok (.invokevirtual 64, 3) := dk_182 0 64 (dk_at dksX3_tellCart_2 7 rfl rfl)
theorem dX3_tellCart_57 : decode cX3_tellCart 57 = .ok (.invokevirtual 243, 3) := dk_182 0 243 (dk_at dksX3_tellCart_2 10 rfl rfl)
theorem dX3_tellCart_60 : decode cX3_tellCart 60 = .ok (.aload_n 0, 1) := dk_42 (dk_at dksX3_tellCart_2 13 rfl rfl)
theorem dX3_tellCart_61 : decode cX3_tellCart 61 = .ok (.bipush 32, 2) := dk_16 32 (dk_at dksX3_tellCart_2 14 rfl rfl)
theorem dX3_tellCart_63 : decode cX3_tellCart 63 = .ok (.invokevirtual 246, 3) := dk_182 0 246 (dk_at dksX3_tellCart_2 16 rfl rfl)
theorem dX3_tellCart_66 : decode cX3_tellCart 66 = .ok (.aload_n 0, 1) := dk_42 (dk_at dksX3_tellCart_2 19 rfl rfl)
theorem dX3_tellCart_67 : decode cX3_tellCart 67 = .ok (.iload_n 1, 1) := dk_27 (dk_at dksX3_tellCart_2 20 rfl rfl)
theorem dX3_tellCart_68 : decode cX3_tellCart 68 = .ok (.iconst 2, 1) := dk_5 (dk_at dksX3_tellCart_2 21 rfl rfl)
theorem dX3_tellCart_69 : decode cX3_tellCart 69 = .ok (.invokevirtual 64, 3) := dk_182 0 64 (dk_at dksX3_tellCart_3 0 rfl rfl)
theorem dX3_tellCart_72 : decode cX3_tellCart 72 = .ok (.tableswitch 137 0 2 #[28, 53, 114], 28) := by decide +kernel
theorem dX3_tellCart_100 : decode cX3_tellCart 100 = .ok (.aload_n 0, 1) := dk_42 (dk_at dksX3_tellCart_5 0 rfl rfl)
theorem dX3_tellCart_101 : decode cX3_tellCart 101 = .ok (.bipush 119, 2) := dk_16 119 (dk_at dksX3_tellCart_5 1 rfl rfl)
theorem dX3_tellCart_103 : decode cX3_tellCart 103 = .ok (.bipush 97, 2) := dk_16 97 (dk_at dksX3_tellCart_5 3 rfl rfl)
theorem dX3_tellCart_105 : decode cX3_tellCart 105 = .ok (.bipush 105, 2) := dk_16 105 (dk_at dksX3_tellCart_5 5 rfl rfl)
theorem dX3_tellCart_107 : decode cX3_tellCart 107 = .ok (.invokevirtual 252, 3) := dk_182 0 252 (dk_at dksX3_tellCart_5 7 rfl rfl)
theorem dX3_tellCart_110 : decode cX3_tellCart 110 = .ok (.aload_n 0, 1) := dk_42 (dk_at dksX3_tellCart_5 10 rfl rfl)
theorem dX3_tellCart_111 : decode cX3_tellCart 111 = .ok (.bipush 116, 2) := dk_16 116 (dk_at dksX3_tellCart_5 11 rfl rfl)
theorem dX3_tellCart_113 : decode cX3_tellCart 113 = .ok (.invokevirtual 246, 3) := dk_182 0 246 (dk_at dksX3_tellCart_5 13 rfl rfl)
theorem dX3_tellCart_116 : decode cX3_tellCart 116 = .ok (.aload_n 0, 1) := dk_42 (dk_at dksX3_tellCart_5 16 rfl rfl)
theorem dX3_tellCart_117 : decode cX3_tellCart 117 = .ok (.bipush 115, 2) := dk_16 115 (dk_at dksX3_tellCart_5 17 rfl rfl)
theorem dX3_tellCart_119 : decode cX3_tellCart 119 = .ok (.invokevirtual 246, 3) := dk_182 0 246 (dk_at dksX3_tellCart_5 19 rfl rfl)
theorem dX3_tellCart_122 : decode cX3_tellCart 122 = .ok (.goto 103, 3) := dk_167 0 103 (dk_at dksX3_tellCart_6 0 rfl rfl)
theorem dX3_tellCart_125 : decode cX3_tellCart 125 = .ok (.aload_n 0, 1) := dk_42 (dk_at dksX3_tellCart_6 3 rfl rfl)
theorem dX3_tellCart_126 : decode cX3_tellCart 126 = .ok (.bipush 103, 2) := dk_16 103 (dk_at dksX3_tellCart_6 4 rfl rfl)
theorem dX3_tellCart_128 : decode cX3_tellCart 128 = .ok (.bipush 111, 2) := dk_16 111 (dk_at dksX3_tellCart_6 6 rfl rfl)
theorem dX3_tellCart_130 : decode cX3_tellCart 130 = .ok (.bipush 101, 2) := dk_16 101 (dk_at dksX3_tellCart_6 8 rfl rfl)
theorem dX3_tellCart_132 : decode cX3_tellCart 132 = .ok (.invokevirtual 252, 3) := dk_182 0 252 (dk_at dksX3_tellCart_6 10 rfl rfl)
theorem dX3_tellCart_135 : decode cX3_tellCart 135 = .ok (.aload_n 0, 1) := dk_42 (dk_at dksX3_tellCart_6 13 rfl rfl)
theorem dX3_tellCart_136 : decode cX3_tellCart 136 = .ok (.bipush 115, 2) := dk_16 115 (dk_at dksX3_tellCart_6 14 rfl rfl)
theorem dX3_tellCart_138 : decode cX3_tellCart 138 = .ok (.bipush 32, 2) := dk_16 32 (dk_at dksX3_tellCart_6 16 rfl rfl)
theorem dX3_tellCart_140 : decode cX3_tellCart 140 = .ok (.aload_n 0, 1) := dk_42 (dk_at dksX3_tellCart_6 18 rfl rfl)
theorem dX3_tellCart_141 : decode cX3_tellCart 141 = .ok (.iload_n 1, 1) := dk_27 (dk_at dksX3_tellCart_6 19 rfl rfl)
theorem dX3_tellCart_142 : decode cX3_tellCart 142 = .ok (.iconst 4, 1) := dk_7 (dk_at dksX3_tellCart_6 20 rfl rfl)
theorem dX3_tellCart_143 : decode cX3_tellCart 143 = .ok (.invokevirtual 64, 3) := dk_182 0 64 (dk_at dksX3_tellCart_6 21 rfl rfl)
theorem dX3_tellCart_146 : decode cX3_tellCart 146 = .ok (.ifCond .ne 8, 3) := dk_154 0 8 (dk_at dksX3_tellCart_7 0 rfl rfl)
theorem dX3_tellCart_149 : decode cX3_tellCart 149 = .ok (.bipush 119, 2) := dk_16 119 (dk_at dksX3_tellCart_7 3 rfl rfl)
theorem dX3_tellCart_151 : decode cX3_tellCart 151 = .ok (.goto 5, 3) := dk_167 0 5 (dk_at dksX3_tellCart_7 5 rfl rfl)
theorem dX3_tellCart_154 : decode cX3_tellCart 154 = .ok (.bipush 101, 2) := dk_16 101 (dk_at dksX3_tellCart_7 8 rfl rfl)
theorem dX3_tellCart_156 : decode cX3_tellCart 156 = .ok (.invokevirtual 252, 3) := dk_182 0 252 (dk_at dksX3_tellCart_7 10 rfl rfl)
theorem dX3_tellCart_159 : decode cX3_tellCart 159 = .ok (.aload_n 0, 1) := dk_42 (dk_at dksX3_tellCart_7 13 rfl rfl)
theorem dX3_tellCart_160 : decode cX3_tellCart 160 = .ok (.aload_n 0, 1) := dk_42 (dk_at dksX3_tellCart_7 14 rfl rfl)
theorem dX3_tellCart_161 : decode cX3_tellCart 161 = .ok (.iload_n 1, 1) := dk_27 (dk_at dksX3_tellCart_7 15 rfl rfl)
theorem dX3_tellCart_162 : decode cX3_tellCart 162 = .ok (.iconst 4, 1) := dk_7 (dk_at dksX3_tellCart_7 16 rfl rfl)
theorem dX3_tellCart_163 : decode cX3_tellCart 163 = .ok (.invokevirtual 64, 3) := dk_182 0 64 (dk_at dksX3_tellCart_7 17 rfl rfl)
theorem dX3_tellCart_166 : decode cX3_tellCart 166 = .ok (.ifCond .ne 8, 3) := dk_154 0 8 (dk_at dksX3_tellCart_7 20 rfl rfl)
theorem dX3_tellCart_169 : decode cX3_tellCart 169 = .ok (.bipush 101, 2) := dk_16 101 (dk_at dksX3_tellCart_8 0 rfl rfl)
theorem dX3_tellCart_171 : decode cX3_tellCart 171 = .ok (.goto 5, 3) := dk_167 0 5 (dk_at dksX3_tellCart_8 2 rfl rfl)
theorem dX3_tellCart_174 : decode cX3_tellCart 174 = .ok (.bipush 97, 2) := dk_16 97 (dk_at dksX3_tellCart_8 5 rfl rfl)
theorem dX3_tellCart_176 : decode cX3_tellCart 176 = .ok (.bipush 115, 2) := dk_16 115 (dk_at dksX3_tellCart_8 7 rfl rfl)
theorem dX3_tellCart_178 : decode cX3_tellCart 178 = .ok (.bipush 116, 2) := dk_16 116 (dk_at dksX3_tellCart_8 9 rfl rfl)
theorem dX3_tellCart_180 : decode cX3_tellCart 180 = .ok (.invokevirtual 252, 3) := dk_182 0 252 (dk_at dksX3_tellCart_8 11 rfl rfl)
theorem dX3_tellCart_183 : decode cX3_tellCart 183 = .ok (.goto 42, 3) := dk_167 0 42 (dk_at dksX3_tellCart_8 14 rfl rfl)
theorem dX3_tellCart_186 : decode cX3_tellCart 186 = .ok (.aload_n 0, 1) := dk_42 (dk_at dksX3_tellCart_8 17 rfl rfl)
theorem dX3_tellCart_187 : decode cX3_tellCart 187 = .ok (.bipush 112, 2) := dk_16 112 (dk_at dksX3_tellCart_8 18 rfl rfl)
theorem dX3_tellCart_189 : decode cX3_tellCart 189 = .ok (.bipush 97, 2) := dk_16 97 (dk_at dksX3_tellCart_8 20 rfl rfl)
theorem dX3_tellCart_191 : decode cX3_tellCart 191 = .ok (.bipush 115, 2) := dk_16 115 (dk_at dksX3_tellCart_8 22 rfl rfl)
theorem dX3_tellCart_193 : decode cX3_tellCart 193 = .ok (.invokevirtual 252, 3) := dk_182 0 252 (dk_at dksX3_tellCart_9 0 rfl rfl)
theorem dX3_tellCart_196 : decode cX3_tellCart 196 = .ok (.aload_n 0, 1) := dk_42 (dk_at dksX3_tellCart_9 3 rfl rfl)
theorem dX3_tellCart_197 : decode cX3_tellCart 197 = .ok (.bipush 115, 2) := dk_16 115 (dk_at dksX3_tellCart_9 4 rfl rfl)
theorem dX3_tellCart_199 : decode cX3_tellCart 199 = .ok (.bipush 101, 2) := dk_16 101 (dk_at dksX3_tellCart_9 6 rfl rfl)
theorem dX3_tellCart_201 : decode cX3_tellCart 201 = .ok (.bipush 100, 2) := dk_16 100 (dk_at dksX3_tellCart_9 8 rfl rfl)
theorem dX3_tellCart_203 : decode cX3_tellCart 203 = .ok (.invokevirtual 252, 3) := dk_182 0 252 (dk_at dksX3_tellCart_9 10 rfl rfl)
theorem dX3_tellCart_206 : decode cX3_tellCart 206 = .ok (.goto 19, 3) := dk_167 0 19 (dk_at dksX3_tellCart_9 13 rfl rfl)
theorem dX3_tellCart_209 : decode cX3_tellCart 209 = .ok (.aload_n 0, 1) := dk_42 (dk_at dksX3_tellCart_9 16 rfl rfl)
theorem dX3_tellCart_210 : decode cX3_tellCart 210 = .ok (.bipush 108, 2) := dk_16 108 (dk_at dksX3_tellCart_9 17 rfl rfl)
theorem dX3_tellCart_212 : decode cX3_tellCart 212 = .ok (.bipush 101, 2) := dk_16 101 (dk_at dksX3_tellCart_9 19 rfl rfl)
theorem dX3_tellCart_214 : decode cX3_tellCart 214 = .ok (.bipush 102, 2) := dk_16 102 (dk_at dksX3_tellCart_9 21 rfl rfl)
theorem dX3_tellCart_216 : decode cX3_tellCart 216 = .ok (.invokevirtual 252, 3) := dk_182 0 252 (dk_at dksX3_tellCart_10 0 rfl rfl)
theorem dX3_tellCart_219 : decode cX3_tellCart 219 = .ok (.aload_n 0, 1) := dk_42 (dk_at dksX3_tellCart_10 3 rfl rfl)
theorem dX3_tellCart_220 : decode cX3_tellCart 220 = .ok (.bipush 116, 2) := dk_16 116 (dk_at dksX3_tellCart_10 4 rfl rfl)
theorem dX3_tellCart_222 : decode cX3_tellCart 222 = .ok (.invokevirtual 246, 3) := dk_182 0 246 (dk_at dksX3_tellCart_10 6 rfl rfl)
theorem dX3_tellCart_225 : decode cX3_tellCart 225 = .ok (.aload_n 0, 1) := dk_42 (dk_at dksX3_tellCart_10 9 rfl rfl)
theorem dX3_tellCart_226 : decode cX3_tellCart 226 = .ok (.getfield 240, 3) := dk_180 0 240 (dk_at dksX3_tellCart_10 10 rfl rfl)
theorem dX3_tellCart_229 : decode cX3_tellCart 229 = .ok (.ireturn, 1) := dk_172 (dk_at dksX3_tellCart_10 13 rfl rfl)
abbrev cX3_character : ByteArray := prog_14_method_96_code
def yX3_character : MethodName := ⟨RX3, "character", "(I)C"⟩
def dkwX3_character_1 : List UInt8 := [167, 0, 4, 3, 172]
abbrev dktX3_character_1 : List UInt8 := dkwX3_character_1 ++ []
def dkwX3_character_0 : List UInt8 := [42, 27, 3, 42, 180, 0, 240, 4, 100, 184, 0, 49, 182, 0, 172, 153, 0, 12, 42, 180, 0, 24, 27, 52]
abbrev dktX3_character_0 : List UInt8 := dkwX3_character_0 ++ dktX3_character_1
theorem dksX3_character_0 : cX3_character.data.toList.drop 0 = dktX3_character_0 := by decide +kernel
theorem dksX3_character_1 : cX3_character.data.toList.drop 24 = dktX3_character_1 := dk_seg dksX3_character_0 24 rfl rfl
theorem dX3_character_0 : decode cX3_character 0 = .ok (.aload_n 0, 1) := dk_42 (dk_at dksX3_character_0 0 rfl rfl)
theorem dX3_character_1 : decode cX3_character 1 = .ok (.iload_n 1, 1) := dk_27 (dk_at dksX3_character_0 1 rfl rfl)
theorem dX3_character_2 : decode cX3_character 2 = .ok (.iconst 0, 1) := dk_3 (dk_at dksX3_character_0 2 rfl rfl)
theorem dX3_character_3 : decode cX3_character 3 = .ok (.aload_n 0, 1) := dk_42 (dk_at dksX3_character_0 3 rfl rfl)
theorem dX3_character_4 : decode cX3_character 4 = .ok (.getfield 240, 3) := dk_180 0 240 (dk_at dksX3_character_0 4 rfl rfl)
theorem dX3_character_7 : decode cX3_character 7 = .ok (.iconst 1, 1) := dk_4 (dk_at dksX3_character_0 7 rfl rfl)
theorem dX3_character_8 : decode cX3_character 8 = .ok (.isub, 1) := dk_100 (dk_at dksX3_character_0 8 rfl rfl)
theorem dX3_character_9 : decode cX3_character 9 = .ok (.invokestatic 49, 3) := dk_184 0 49 (dk_at dksX3_character_0 9 rfl rfl)
theorem dX3_character_12 : decode cX3_character 12 = .ok (.invokevirtual 172, 3) := dk_182 0 172 (dk_at dksX3_character_0 12 rfl rfl)
theorem dX3_character_15 : decode cX3_character 15 = .ok (.ifCond .eq 12, 3) := dk_153 0 12 (dk_at dksX3_character_0 15 rfl rfl)
theorem dX3_character_18 : decode cX3_character 18 = .ok (.aload_n 0, 1) := dk_42 (dk_at dksX3_character_0 18 rfl rfl)
theorem dX3_character_19 : decode cX3_character 19 = .ok (.getfield 24, 3) := dk_180 0 24 (dk_at dksX3_character_0 19 rfl rfl)
theorem dX3_character_22 : decode cX3_character 22 = .ok (.iload_n 1, 1) := dk_27 (dk_at dksX3_character_0 22 rfl rfl)
theorem dX3_character_23 : decode cX3_character 23 = .ok (.caload, 1) := dk_52 (dk_at dksX3_character_0 23 rfl rfl)
theorem dX3_character_24 : decode cX3_character 24 = .ok (.goto 4, 3) := dk_167 0 4 (dk_at dksX3_character_1 0 rfl rfl)
theorem dX3_character_27 : decode cX3_character 27 = .ok (.iconst 0, 1) := dk_3 (dk_at dksX3_character_1 3 rfl rfl)
theorem dX3_character_28 : decode cX3_character 28 = .ok (.ireturn, 1) := dk_172 (dk_at dksX3_character_1 4 rfl rfl)
abbrev cX3_account : ByteArray := prog_14_method_97_code
def yX3_account : MethodName := ⟨RX3, "account", "(I)I"⟩
def dkwX3_account_5 : List UInt8 := [42, 180, 0, 9, 16, 9, 46, 172, 42, 180, 0, 198, 172, 42, 180, 0, 34, 172]
abbrev dktX3_account_5 : List UInt8 := dkwX3_account_5 ++ []
def dkwX3_account_4 : List UInt8 := [46, 172, 42, 180, 0, 9, 6, 46, 172, 42, 180, 0, 9, 7, 46, 172, 42, 180, 0, 9, 16, 10, 46, 172]
abbrev dktX3_account_4 : List UInt8 := dkwX3_account_4 ++ dktX3_account_5
def dkwX3_account_3 : List UInt8 := [16, 7, 46, 172, 42, 180, 0, 9, 16, 8, 46, 172, 42, 180, 0, 9, 4, 46, 172, 42, 180, 0, 9, 5]
abbrev dktX3_account_3 : List UInt8 := dkwX3_account_3 ++ dktX3_account_4
def dkwX3_account_2 : List UInt8 := [42, 180, 0, 9, 3, 46, 172, 42, 27, 4, 100, 182, 0, 111, 172, 42, 182, 0, 97, 172, 42, 180, 0, 9]
abbrev dktX3_account_2 : List UInt8 := dkwX3_account_2 ++ dktX3_account_3
def dkwX3_account_1 : List UInt8 := [170, 0, 0, 0, 0, 0, 152, 0, 0, 0, 0, 0, 0, 0, 12, 0, 0, 0, 67, 0, 0, 0, 74, 0, 0, 0, 74, 0, 0, 0, 82, 0, 0, 0, 87, 0, 0, 0, 95, 0, 0, 0, 103, 0, 0, 0, 110, 0, 0, 0, 117, 0, 0, 0, 124, 0, 0, 0, 131, 0, 0, 0, 139, 0, 0, 0, 147]
abbrev dktX3_account_1 : List UInt8 := dkwX3_account_1 ++ dktX3_account_2
def dkwX3_account_0 : List UInt8 := [42, 27, 3, 16, 13, 184, 0, 49, 182, 0, 172, 154, 0, 5, 3, 172, 27]
abbrev dktX3_account_0 : List UInt8 := dkwX3_account_0 ++ dktX3_account_1
theorem dksX3_account_0 : cX3_account.data.toList.drop 0 = dktX3_account_0 := by decide +kernel
theorem dksX3_account_1 : cX3_account.data.toList.drop 17 = dktX3_account_1 := dk_seg dksX3_account_0 17 rfl rfl
theorem dksX3_account_2 : cX3_account.data.toList.drop 84 = dktX3_account_2 := dk_seg dksX3_account_1 67 rfl rfl
theorem dksX3_account_3 : cX3_account.data.toList.drop 108 = dktX3_account_3 := dk_seg dksX3_account_2 24 rfl rfl
theorem dksX3_account_4 : cX3_account.data.toList.drop 132 = dktX3_account_4 := dk_seg dksX3_account_3 24 rfl rfl
theorem dksX3_account_5 : cX3_account.data.toList.drop 156 = dktX3_account_5 := dk_seg dksX3_account_4 24 rfl rfl
theorem dX3_account_0 : decode cX3_account 0 = .ok (.aload_n 0, 1) := dk_42 (dk_at dksX3_account_0 0 rfl rfl)
theorem dX3_account_1 : decode cX3_account 1 = .ok (.iload_n 1, 1) := dk_27 (dk_at dksX3_account_0 1 rfl rfl)
theorem dX3_account_2 : decode cX3_account 2 = .ok (.iconst 0, 1) := dk_3 (dk_at dksX3_account_0 2 rfl rfl)
theorem dX3_account_3 : decode cX3_account 3 = .ok (.bipush 13, 2) := dk_16 13 (dk_at dksX3_account_0 3 rfl rfl)
theorem dX3_account_5 : decode cX3_account 5 = .ok (.invokestatic 49, 3) := dk_184 0 49 (dk_at dksX3_account_0 5 rfl rfl)
theorem dX3_account_8 : decode cX3_account 8 = .ok (.invokevirtual 172, 3) := dk_182 0 172 (dk_at dksX3_account_0 8 rfl rfl)
theorem dX3_account_11 : decode cX3_account 11 = .ok (.ifCond .ne 5, 3) := dk_154 0 5 (dk_at dksX3_account_0 11 rfl rfl)
theorem dX3_account_14 : decode cX3_account 14 = .ok (.iconst 0, 1) := dk_3 (dk_at dksX3_account_0 14 rfl rfl)
theorem dX3_account_15 : decode cX3_account 15 = .ok (.ireturn, 1) := dk_172 (dk_at dksX3_account_0 15 rfl rfl)
theorem dX3_account_16 : decode cX3_account 16 = .ok (.iload_n 1, 1) := dk_27 (dk_at dksX3_account_0 16 rfl rfl)
theorem dX3_account_17 : decode cX3_account 17 = .ok (.tableswitch 152 0 12 #[67, 74, 74, 82, 87, 95, 103, 110, 117, 124, 131, 139, 147], 67) := by decide +kernel
theorem dX3_account_84 : decode cX3_account 84 = .ok (.aload_n 0, 1) := dk_42 (dk_at dksX3_account_2 0 rfl rfl)
theorem dX3_account_85 : decode cX3_account 85 = .ok (.getfield 9, 3) := dk_180 0 9 (dk_at dksX3_account_2 1 rfl rfl)
theorem dX3_account_88 : decode cX3_account 88 = .ok (.iconst 0, 1) := dk_3 (dk_at dksX3_account_2 4 rfl rfl)
theorem dX3_account_89 : decode cX3_account 89 = .ok (.iaload, 1) := dk_46 (dk_at dksX3_account_2 5 rfl rfl)
theorem dX3_account_90 : decode cX3_account 90 = .ok (.ireturn, 1) := dk_172 (dk_at dksX3_account_2 6 rfl rfl)
theorem dX3_account_91 : decode cX3_account 91 = .ok (.aload_n 0, 1) := dk_42 (dk_at dksX3_account_2 7 rfl rfl)
theorem dX3_account_92 : decode cX3_account 92 = .ok (.iload_n 1, 1) := dk_27 (dk_at dksX3_account_2 8 rfl rfl)
theorem dX3_account_93 : decode cX3_account 93 = .ok (.iconst 1, 1) := dk_4 (dk_at dksX3_account_2 9 rfl rfl)
theorem dX3_account_94 : decode cX3_account 94 = .ok (.isub, 1) := dk_100 (dk_at dksX3_account_2 10 rfl rfl)
theorem dX3_account_95 : decode cX3_account 95 = .ok (.invokevirtual 111, 3) := dk_182 0 111 (dk_at dksX3_account_2 11 rfl rfl)
theorem dX3_account_98 : decode cX3_account 98 = .ok (.ireturn, 1) := dk_172 (dk_at dksX3_account_2 14 rfl rfl)
theorem dX3_account_99 : decode cX3_account 99 = .ok (.aload_n 0, 1) := dk_42 (dk_at dksX3_account_2 15 rfl rfl)
theorem dX3_account_100 : decode cX3_account 100 = .ok (.invokevirtual 97, 3) := dk_182 0 97 (dk_at dksX3_account_2 16 rfl rfl)
theorem dX3_account_103 : decode cX3_account 103 = .ok (.ireturn, 1) := dk_172 (dk_at dksX3_account_2 19 rfl rfl)
theorem dX3_account_104 : decode cX3_account 104 = .ok (.aload_n 0, 1) := dk_42 (dk_at dksX3_account_2 20 rfl rfl)
theorem dX3_account_105 : decode cX3_account 105 = .ok (.getfield 9, 3) := dk_180 0 9 (dk_at dksX3_account_2 21 rfl rfl)
theorem dX3_account_108 : decode cX3_account 108 = .ok (.bipush 7, 2) := dk_16 7 (dk_at dksX3_account_3 0 rfl rfl)
theorem dX3_account_110 : decode cX3_account 110 = .ok (.iaload, 1) := dk_46 (dk_at dksX3_account_3 2 rfl rfl)
theorem dX3_account_111 : decode cX3_account 111 = .ok (.ireturn, 1) := dk_172 (dk_at dksX3_account_3 3 rfl rfl)
theorem dX3_account_112 : decode cX3_account 112 = .ok (.aload_n 0, 1) := dk_42 (dk_at dksX3_account_3 4 rfl rfl)
theorem dX3_account_113 : decode cX3_account 113 = .ok (.getfield 9, 3) := dk_180 0 9 (dk_at dksX3_account_3 5 rfl rfl)
theorem dX3_account_116 : decode cX3_account 116 = .ok (.bipush 8, 2) := dk_16 8 (dk_at dksX3_account_3 8 rfl rfl)
theorem dX3_account_118 : decode cX3_account 118 = .ok (.iaload, 1) := dk_46 (dk_at dksX3_account_3 10 rfl rfl)
theorem dX3_account_119 : decode cX3_account 119 = .ok (.ireturn, 1) := dk_172 (dk_at dksX3_account_3 11 rfl rfl)
theorem dX3_account_120 : decode cX3_account 120 = .ok (.aload_n 0, 1) := dk_42 (dk_at dksX3_account_3 12 rfl rfl)
theorem dX3_account_121 : decode cX3_account 121 = .ok (.getfield 9, 3) := dk_180 0 9 (dk_at dksX3_account_3 13 rfl rfl)
theorem dX3_account_124 : decode cX3_account 124 = .ok (.iconst 1, 1) := dk_4 (dk_at dksX3_account_3 16 rfl rfl)
theorem dX3_account_125 : decode cX3_account 125 = .ok (.iaload, 1) := dk_46 (dk_at dksX3_account_3 17 rfl rfl)
theorem dX3_account_126 : decode cX3_account 126 = .ok (.ireturn, 1) := dk_172 (dk_at dksX3_account_3 18 rfl rfl)
theorem dX3_account_127 : decode cX3_account 127 = .ok (.aload_n 0, 1) := dk_42 (dk_at dksX3_account_3 19 rfl rfl)
theorem dX3_account_128 : decode cX3_account 128 = .ok (.getfield 9, 3) := dk_180 0 9 (dk_at dksX3_account_3 20 rfl rfl)
theorem dX3_account_131 : decode cX3_account 131 = .ok (.iconst 2, 1) := dk_5 (dk_at dksX3_account_3 23 rfl rfl)
theorem dX3_account_132 : decode cX3_account 132 = .ok (.iaload, 1) := dk_46 (dk_at dksX3_account_4 0 rfl rfl)
theorem dX3_account_133 : decode cX3_account 133 = .ok (.ireturn, 1) := dk_172 (dk_at dksX3_account_4 1 rfl rfl)
theorem dX3_account_134 : decode cX3_account 134 = .ok (.aload_n 0, 1) := dk_42 (dk_at dksX3_account_4 2 rfl rfl)
theorem dX3_account_135 : decode cX3_account 135 = .ok (.getfield 9, 3) := dk_180 0 9 (dk_at dksX3_account_4 3 rfl rfl)
theorem dX3_account_138 : decode cX3_account 138 = .ok (.iconst 3, 1) := dk_6 (dk_at dksX3_account_4 6 rfl rfl)
theorem dX3_account_139 : decode cX3_account 139 = .ok (.iaload, 1) := dk_46 (dk_at dksX3_account_4 7 rfl rfl)
theorem dX3_account_140 : decode cX3_account 140 = .ok (.ireturn, 1) := dk_172 (dk_at dksX3_account_4 8 rfl rfl)
theorem dX3_account_141 : decode cX3_account 141 = .ok (.aload_n 0, 1) := dk_42 (dk_at dksX3_account_4 9 rfl rfl)
theorem dX3_account_142 : decode cX3_account 142 = .ok (.getfield 9, 3) := dk_180 0 9 (dk_at dksX3_account_4 10 rfl rfl)
theorem dX3_account_145 : decode cX3_account 145 = .ok (.iconst 4, 1) := dk_7 (dk_at dksX3_account_4 13 rfl rfl)
theorem dX3_account_146 : decode cX3_account 146 = .ok (.iaload, 1) := dk_46 (dk_at dksX3_account_4 14 rfl rfl)
theorem dX3_account_147 : decode cX3_account 147 = .ok (.ireturn, 1) := dk_172 (dk_at dksX3_account_4 15 rfl rfl)
theorem dX3_account_148 : decode cX3_account 148 = .ok (.aload_n 0, 1) := dk_42 (dk_at dksX3_account_4 16 rfl rfl)
theorem dX3_account_149 : decode cX3_account 149 = .ok (.getfield 9, 3) := dk_180 0 9 (dk_at dksX3_account_4 17 rfl rfl)
theorem dX3_account_152 : decode cX3_account 152 = .ok (.bipush 10, 2) := dk_16 10 (dk_at dksX3_account_4 20 rfl rfl)
theorem dX3_account_154 : decode cX3_account 154 = .ok (.iaload, 1) := dk_46 (dk_at dksX3_account_4 22 rfl rfl)
theorem dX3_account_155 : decode cX3_account 155 = .ok (.ireturn, 1) := dk_172 (dk_at dksX3_account_4 23 rfl rfl)
theorem dX3_account_156 : decode cX3_account 156 = .ok (.aload_n 0, 1) := dk_42 (dk_at dksX3_account_5 0 rfl rfl)
theorem dX3_account_157 : decode cX3_account 157 = .ok (.getfield 9, 3) := dk_180 0 9 (dk_at dksX3_account_5 1 rfl rfl)
theorem dX3_account_160 : decode cX3_account 160 = .ok (.bipush 9, 2) := dk_16 9 (dk_at dksX3_account_5 4 rfl rfl)
theorem dX3_account_162 : decode cX3_account 162 = .ok (.iaload, 1) := dk_46 (dk_at dksX3_account_5 6 rfl rfl)
theorem dX3_account_163 : decode cX3_account 163 = .ok (.ireturn, 1) := dk_172 (dk_at dksX3_account_5 7 rfl rfl)
theorem dX3_account_164 : decode cX3_account 164 = .ok (.aload_n 0, 1) := dk_42 (dk_at dksX3_account_5 8 rfl rfl)
theorem dX3_account_165 : decode cX3_account 165 = .ok (.getfield 198, 3) := dk_180 0 198 (dk_at dksX3_account_5 9 rfl rfl)
theorem dX3_account_168 : decode cX3_account 168 = .ok (.ireturn, 1) := dk_172 (dk_at dksX3_account_5 12 rfl rfl)
theorem dX3_account_169 : decode cX3_account 169 = .ok (.aload_n 0, 1) := dk_42 (dk_at dksX3_account_5 13 rfl rfl)
theorem dX3_account_170 : decode cX3_account 170 = .ok (.getfield 34, 3) := dk_180 0 34 (dk_at dksX3_account_5 14 rfl rfl)
theorem dX3_account_173 : decode cX3_account 173 = .ok (.ireturn, 1) := dk_172 (dk_at dksX3_account_5 17 rfl rfl)
abbrev cX3_meanWaited : ByteArray := prog_14_method_98_code
def yX3_meanWaited : MethodName := ⟨RX3, "meanWaited", "()D"⟩
def dkwX3_meanWaited_2 : List UInt8 := [167, 255, 238, 28, 135, 27, 135, 111, 175]
abbrev dktX3_meanWaited_2 : List UInt8 := dkwX3_meanWaited_2 ++ []
def dkwX3_meanWaited_1 : List UInt8 := [175, 3, 61, 3, 62, 29, 27, 162, 0, 19, 28, 42, 29, 16, 7, 182, 0, 64, 96, 61, 132, 3, 1]
abbrev dktX3_meanWaited_1 : List UInt8 := dkwX3_meanWaited_1 ++ dktX3_meanWaited_2
def dkwX3_meanWaited_0 : List UInt8 := [42, 180, 0, 9, 3, 46, 60, 42, 27, 158, 0, 7, 4, 167, 0, 4, 3, 182, 0, 172, 154, 0, 5, 14]
abbrev dktX3_meanWaited_0 : List UInt8 := dkwX3_meanWaited_0 ++ dktX3_meanWaited_1
theorem dksX3_meanWaited_0 : cX3_meanWaited.data.toList.drop 0 = dktX3_meanWaited_0 := by decide +kernel
theorem dksX3_meanWaited_1 : cX3_meanWaited.data.toList.drop 24 = dktX3_meanWaited_1 := dk_seg dksX3_meanWaited_0 24 rfl rfl
theorem dksX3_meanWaited_2 : cX3_meanWaited.data.toList.drop 47 = dktX3_meanWaited_2 := dk_seg dksX3_meanWaited_1 23 rfl rfl
theorem dX3_meanWaited_0 : decode cX3_meanWaited 0 = .ok (.aload_n 0, 1) := dk_42 (dk_at dksX3_meanWaited_0 0 rfl rfl)
theorem dX3_meanWaited_1 : decode cX3_meanWaited 1 = .ok (.getfield 9, 3) := dk_180 0 9 (dk_at dksX3_meanWaited_0 1 rfl rfl)
theorem dX3_meanWaited_4 : decode cX3_meanWaited 4 = .ok (.iconst 0, 1) := dk_3 (dk_at dksX3_meanWaited_0 4 rfl rfl)
theorem dX3_meanWaited_5 : decode cX3_meanWaited 5 = .ok (.iaload, 1) := dk_46 (dk_at dksX3_meanWaited_0 5 rfl rfl)
theorem dX3_meanWaited_6 : decode cX3_meanWaited 6 = .ok (.istore_n 1, 1) := dk_60 (dk_at dksX3_meanWaited_0 6 rfl rfl)
theorem dX3_meanWaited_7 : decode cX3_meanWaited 7 = .ok (.aload_n 0, 1) := dk_42 (dk_at dksX3_meanWaited_0 7 rfl rfl)
theorem dX3_meanWaited_8 : decode cX3_meanWaited 8 = .ok (.iload_n 1, 1) := dk_27 (dk_at dksX3_meanWaited_0 8 rfl rfl)
theorem dX3_meanWaited_9 : decode cX3_meanWaited 9 = .ok (.ifCond .le 7, 3) := dk_158 0 7 (dk_at dksX3_meanWaited_0 9 rfl rfl)
theorem dX3_meanWaited_12 : decode cX3_meanWaited 12 = .ok (.iconst 1, 1) := dk_4 (dk_at dksX3_meanWaited_0 12 rfl rfl)
theorem dX3_meanWaited_13 : decode cX3_meanWaited 13 = .ok (.goto 4, 3) := dk_167 0 4 (dk_at dksX3_meanWaited_0 13 rfl rfl)
theorem dX3_meanWaited_16 : decode cX3_meanWaited 16 = .ok (.iconst 0, 1) := dk_3 (dk_at dksX3_meanWaited_0 16 rfl rfl)
theorem dX3_meanWaited_17 : decode cX3_meanWaited 17 = .ok (.invokevirtual 172, 3) := dk_182 0 172 (dk_at dksX3_meanWaited_0 17 rfl rfl)
theorem dX3_meanWaited_20 : decode cX3_meanWaited 20 = .ok (.ifCond .ne 5, 3) := dk_154 0 5 (dk_at dksX3_meanWaited_0 20 rfl rfl)
theorem dX3_meanWaited_23 : decode cX3_meanWaited 23 = .ok (.dconst 0, 1) := dk_14 (dk_at dksX3_meanWaited_0 23 rfl rfl)
theorem dX3_meanWaited_24 : decode cX3_meanWaited 24 = .ok (.dreturn, 1) := dk_175 (dk_at dksX3_meanWaited_1 0 rfl rfl)
theorem dX3_meanWaited_25 : decode cX3_meanWaited 25 = .ok (.iconst 0, 1) := dk_3 (dk_at dksX3_meanWaited_1 1 rfl rfl)
theorem dX3_meanWaited_26 : decode cX3_meanWaited 26 = .ok (.istore_n 2, 1) := dk_61 (dk_at dksX3_meanWaited_1 2 rfl rfl)
theorem dX3_meanWaited_27 : decode cX3_meanWaited 27 = .ok (.iconst 0, 1) := dk_3 (dk_at dksX3_meanWaited_1 3 rfl rfl)
theorem dX3_meanWaited_28 : decode cX3_meanWaited 28 = .ok (.istore_n 3, 1) := dk_62 (dk_at dksX3_meanWaited_1 4 rfl rfl)
theorem dX3_meanWaited_29 : decode cX3_meanWaited 29 = .ok (.iload_n 3, 1) := dk_29 (dk_at dksX3_meanWaited_1 5 rfl rfl)
theorem dX3_meanWaited_30 : decode cX3_meanWaited 30 = .ok (.iload_n 1, 1) := dk_27 (dk_at dksX3_meanWaited_1 6 rfl rfl)
theorem dX3_meanWaited_31 : decode cX3_meanWaited 31 = .ok (.if_icmp .ge 19, 3) := dk_162 0 19 (dk_at dksX3_meanWaited_1 7 rfl rfl)
theorem dX3_meanWaited_34 : decode cX3_meanWaited 34 = .ok (.iload_n 2, 1) := dk_28 (dk_at dksX3_meanWaited_1 10 rfl rfl)
theorem dX3_meanWaited_35 : decode cX3_meanWaited 35 = .ok (.aload_n 0, 1) := dk_42 (dk_at dksX3_meanWaited_1 11 rfl rfl)
theorem dX3_meanWaited_36 : decode cX3_meanWaited 36 = .ok (.iload_n 3, 1) := dk_29 (dk_at dksX3_meanWaited_1 12 rfl rfl)
theorem dX3_meanWaited_37 : decode cX3_meanWaited 37 = .ok (.bipush 7, 2) := dk_16 7 (dk_at dksX3_meanWaited_1 13 rfl rfl)
theorem dX3_meanWaited_39 : decode cX3_meanWaited 39 = .ok (.invokevirtual 64, 3) := dk_182 0 64 (dk_at dksX3_meanWaited_1 15 rfl rfl)
theorem dX3_meanWaited_42 : decode cX3_meanWaited 42 = .ok (.iadd, 1) := dk_96 (dk_at dksX3_meanWaited_1 18 rfl rfl)
theorem dX3_meanWaited_43 : decode cX3_meanWaited 43 = .ok (.istore_n 2, 1) := dk_61 (dk_at dksX3_meanWaited_1 19 rfl rfl)
theorem dX3_meanWaited_44 : decode cX3_meanWaited 44 = .ok (.iinc 3 1, 3) := dk_132 3 1 (dk_at dksX3_meanWaited_1 20 rfl rfl)
theorem dX3_meanWaited_47 : decode cX3_meanWaited 47 = .ok (.goto (-18), 3) := dk_167 255 238 (dk_at dksX3_meanWaited_2 0 rfl rfl)
theorem dX3_meanWaited_50 : decode cX3_meanWaited 50 = .ok (.iload_n 2, 1) := dk_28 (dk_at dksX3_meanWaited_2 3 rfl rfl)
theorem dX3_meanWaited_51 : decode cX3_meanWaited 51 = .ok (.i2d, 1) := dk_135 (dk_at dksX3_meanWaited_2 4 rfl rfl)
theorem dX3_meanWaited_52 : decode cX3_meanWaited 52 = .ok (.iload_n 1, 1) := dk_27 (dk_at dksX3_meanWaited_2 5 rfl rfl)
theorem dX3_meanWaited_53 : decode cX3_meanWaited 53 = .ok (.i2d, 1) := dk_135 (dk_at dksX3_meanWaited_2 6 rfl rfl)
theorem dX3_meanWaited_54 : decode cX3_meanWaited 54 = .ok (.ddiv, 1) := dk_111 (dk_at dksX3_meanWaited_2 7 rfl rfl)
theorem dX3_meanWaited_55 : decode cX3_meanWaited 55 = .ok (.dreturn, 1) := dk_175 (dk_at dksX3_meanWaited_2 8 rfl rfl)
abbrev cX3_fullShare : ByteArray := prog_14_method_99_code
def yX3_fullShare : MethodName := ⟨RX3, "fullShare", "()F"⟩
def dkwX3_fullShare_0 : List UInt8 := [42, 3, 181, 0, 27, 42, 182, 0, 97, 134, 42, 180, 0, 9, 7, 46, 134, 110, 174]
abbrev dktX3_fullShare_0 : List UInt8 := dkwX3_fullShare_0 ++ []
theorem dksX3_fullShare_0 : cX3_fullShare.data.toList.drop 0 = dktX3_fullShare_0 := by decide +kernel
theorem dX3_fullShare_0 : decode cX3_fullShare 0 = .ok (.aload_n 0, 1) := dk_42 (dk_at dksX3_fullShare_0 0 rfl rfl)
theorem dX3_fullShare_1 : decode cX3_fullShare 1 = .ok (.iconst 0, 1) := dk_3 (dk_at dksX3_fullShare_0 1 rfl rfl)
theorem dX3_fullShare_2 : decode cX3_fullShare 2 = .ok (.putfield 27, 3) := dk_181 0 27 (dk_at dksX3_fullShare_0 2 rfl rfl)
theorem dX3_fullShare_5 : decode cX3_fullShare 5 = .ok (.aload_n 0, 1) := dk_42 (dk_at dksX3_fullShare_0 5 rfl rfl)
theorem dX3_fullShare_6 : decode cX3_fullShare 6 = .ok (.invokevirtual 97, 3) := dk_182 0 97 (dk_at dksX3_fullShare_0 6 rfl rfl)
theorem dX3_fullShare_9 : decode cX3_fullShare 9 = .ok (.i2f, 1) := dk_134 (dk_at dksX3_fullShare_0 9 rfl rfl)
theorem dX3_fullShare_10 : decode cX3_fullShare 10 = .ok (.aload_n 0, 1) := dk_42 (dk_at dksX3_fullShare_0 10 rfl rfl)
theorem dX3_fullShare_11 : decode cX3_fullShare 11 = .ok (.getfield 9, 3) := dk_180 0 9 (dk_at dksX3_fullShare_0 11 rfl rfl)
theorem dX3_fullShare_14 : decode cX3_fullShare 14 = .ok (.iconst 4, 1) := dk_7 (dk_at dksX3_fullShare_0 14 rfl rfl)
theorem dX3_fullShare_15 : decode cX3_fullShare 15 = .ok (.iaload, 1) := dk_46 (dk_at dksX3_fullShare_0 15 rfl rfl)
theorem dX3_fullShare_16 : decode cX3_fullShare 16 = .ok (.i2f, 1) := dk_134 (dk_at dksX3_fullShare_0 16 rfl rfl)
theorem dX3_fullShare_17 : decode cX3_fullShare 17 = .ok (.fdiv, 1) := dk_110 (dk_at dksX3_fullShare_0 17 rfl rfl)
theorem dX3_fullShare_18 : decode cX3_fullShare 18 = .ok (.freturn, 1) := dk_174 (dk_at dksX3_fullShare_0 18 rfl rfl)
abbrev cX3_undo : ByteArray := prog_14_method_100_code
def yX3_undo : MethodName := ⟨RX3, "undo", "()I"⟩
def dkwX3_undo_1 : List UInt8 := [180, 0, 34, 3, 182, 0, 30, 42, 89, 180, 0, 34, 4, 100, 181, 0, 34, 42, 180, 0, 34, 172]
abbrev dktX3_undo_1 : List UInt8 := dkwX3_undo_1 ++ []
def dkwX3_undo_0 : List UInt8 := [42, 42, 180, 0, 34, 158, 0, 7, 4, 167, 0, 4, 3, 182, 0, 172, 154, 0, 5, 3, 172, 42, 42]
abbrev dktX3_undo_0 : List UInt8 := dkwX3_undo_0 ++ dktX3_undo_1
theorem dksX3_undo_0 : cX3_undo.data.toList.drop 0 = dktX3_undo_0 := by decide +kernel
theorem dksX3_undo_1 : cX3_undo.data.toList.drop 23 = dktX3_undo_1 := dk_seg dksX3_undo_0 23 rfl rfl
theorem dX3_undo_0 : decode cX3_undo 0 = .ok (.aload_n 0, 1) := dk_42 (dk_at dksX3_undo_0 0 rfl rfl)
theorem dX3_undo_1 : decode cX3_undo 1 = .ok (.aload_n 0, 1) := dk_42 (dk_at dksX3_undo_0 1 rfl rfl)
theorem dX3_undo_2 : decode cX3_undo 2 = .ok (.getfield 34, 3) := dk_180 0 34 (dk_at dksX3_undo_0 2 rfl rfl)
theorem dX3_undo_5 : decode cX3_undo 5 = .ok (.ifCond .le 7, 3) := dk_158 0 7 (dk_at dksX3_undo_0 5 rfl rfl)
theorem dX3_undo_8 : decode cX3_undo 8 = .ok (.iconst 1, 1) := dk_4 (dk_at dksX3_undo_0 8 rfl rfl)
theorem dX3_undo_9 : decode cX3_undo 9 = .ok (.goto 4, 3) := dk_167 0 4 (dk_at dksX3_undo_0 9 rfl rfl)
theorem dX3_undo_12 : decode cX3_undo 12 = .ok (.iconst 0, 1) := dk_3 (dk_at dksX3_undo_0 12 rfl rfl)
theorem dX3_undo_13 : decode cX3_undo 13 = .ok (.invokevirtual 172, 3) := dk_182 0 172 (dk_at dksX3_undo_0 13 rfl rfl)
theorem dX3_undo_16 : decode cX3_undo 16 = .ok (.ifCond .ne 5, 3) := dk_154 0 5 (dk_at dksX3_undo_0 16 rfl rfl)
theorem dX3_undo_19 : decode cX3_undo 19 = .ok (.iconst 0, 1) := dk_3 (dk_at dksX3_undo_0 19 rfl rfl)
theorem dX3_undo_20 : decode cX3_undo 20 = .ok (.ireturn, 1) := dk_172 (dk_at dksX3_undo_0 20 rfl rfl)
theorem dX3_undo_21 : decode cX3_undo 21 = .ok (.aload_n 0, 1) := dk_42 (dk_at dksX3_undo_0 21 rfl rfl)
theorem dX3_undo_22 : decode cX3_undo 22 = .ok (.aload_n 0, 1) := dk_42 (dk_at dksX3_undo_0 22 rfl rfl)
theorem dX3_undo_23 : decode cX3_undo 23 = .ok (.getfield 34, 3) := dk_180 0 34 (dk_at dksX3_undo_1 0 rfl rfl)
theorem dX3_undo_26 : decode cX3_undo 26 = .ok (.iconst 0, 1) := dk_3 (dk_at dksX3_undo_1 3 rfl rfl)
theorem dX3_undo_27 : decode cX3_undo 27 = .ok (.invokevirtual 30, 3) := dk_182 0 30 (dk_at dksX3_undo_1 4 rfl rfl)
theorem dX3_undo_30 : decode cX3_undo 30 = .ok (.aload_n 0, 1) := dk_42 (dk_at dksX3_undo_1 7 rfl rfl)
theorem dX3_undo_31 : decode cX3_undo 31 = .ok (.dup, 1) := dk_89 (dk_at dksX3_undo_1 8 rfl rfl)
theorem dX3_undo_32 : decode cX3_undo 32 = .ok (.getfield 34, 3) := dk_180 0 34 (dk_at dksX3_undo_1 9 rfl rfl)
theorem dX3_undo_35 : decode cX3_undo 35 = .ok (.iconst 1, 1) := dk_4 (dk_at dksX3_undo_1 12 rfl rfl)
theorem dX3_undo_36 : decode cX3_undo 36 = .ok (.isub, 1) := dk_100 (dk_at dksX3_undo_1 13 rfl rfl)
theorem dX3_undo_37 : decode cX3_undo 37 = .ok (.putfield 34, 3) := dk_181 0 34 (dk_at dksX3_undo_1 14 rfl rfl)
theorem dX3_undo_40 : decode cX3_undo 40 = .ok (.aload_n 0, 1) := dk_42 (dk_at dksX3_undo_1 17 rfl rfl)
theorem dX3_undo_41 : decode cX3_undo 41 = .ok (.getfield 34, 3) := dk_180 0 34 (dk_at dksX3_undo_1 18 rfl rfl)
theorem dX3_undo_44 : decode cX3_undo 44 = .ok (.ireturn, 1) := dk_172 (dk_at dksX3_undo_1 21 rfl rfl)
abbrev cX3_save : ByteArray := prog_14_method_101_code
def yX3_save : MethodName := ⟨RX3, "save", "()I"⟩
def dkwX3_save_0 : List UInt8 := [42, 3, 181, 0, 27, 42, 4, 181, 0, 255, 42, 3, 16, 9, 182, 0, 30, 42, 180, 0, 9, 3, 46, 172]
abbrev dktX3_save_0 : List UInt8 := dkwX3_save_0 ++ []
theorem dksX3_save_0 : cX3_save.data.toList.drop 0 = dktX3_save_0 := by decide +kernel
theorem dX3_save_0 : decode cX3_save 0 = .ok (.aload_n 0, 1) := dk_42 (dk_at dksX3_save_0 0 rfl rfl)
theorem dX3_save_1 : decode cX3_save 1 = .ok (.iconst 0, 1) := dk_3 (dk_at dksX3_save_0 1 rfl rfl)
theorem dX3_save_2 : decode cX3_save 2 = .ok (.putfield 27, 3) := dk_181 0 27 (dk_at dksX3_save_0 2 rfl rfl)
theorem dX3_save_5 : decode cX3_save 5 = .ok (.aload_n 0, 1) := dk_42 (dk_at dksX3_save_0 5 rfl rfl)
theorem dX3_save_6 : decode cX3_save 6 = .ok (.iconst 1, 1) := dk_4 (dk_at dksX3_save_0 6 rfl rfl)
theorem dX3_save_7 : decode cX3_save 7 = .ok (.putfield 255, 3) := dk_181 0 255 (dk_at dksX3_save_0 7 rfl rfl)
theorem dX3_save_10 : decode cX3_save 10 = .ok (.aload_n 0, 1) := dk_42 (dk_at dksX3_save_0 10 rfl rfl)
theorem dX3_save_11 : decode cX3_save 11 = .ok (.iconst 0, 1) := dk_3 (dk_at dksX3_save_0 11 rfl rfl)
theorem dX3_save_12 : decode cX3_save 12 = .ok (.bipush 9, 2) := dk_16 9 (dk_at dksX3_save_0 12 rfl rfl)
theorem dX3_save_14 : decode cX3_save 14 = .ok (.invokevirtual 30, 3) := dk_182 0 30 (dk_at dksX3_save_0 14 rfl rfl)
theorem dX3_save_17 : decode cX3_save 17 = .ok (.aload_n 0, 1) := dk_42 (dk_at dksX3_save_0 17 rfl rfl)
theorem dX3_save_18 : decode cX3_save 18 = .ok (.getfield 9, 3) := dk_180 0 9 (dk_at dksX3_save_0 18 rfl rfl)
theorem dX3_save_21 : decode cX3_save 21 = .ok (.iconst 0, 1) := dk_3 (dk_at dksX3_save_0 21 rfl rfl)
theorem dX3_save_22 : decode cX3_save 22 = .ok (.iaload, 1) := dk_46 (dk_at dksX3_save_0 22 rfl rfl)
theorem dX3_save_23 : decode cX3_save 23 = .ok (.ireturn, 1) := dk_172 (dk_at dksX3_save_0 23 rfl rfl)
abbrev cX3_restore : ByteArray := prog_14_method_102_code
def yX3_restore : MethodName := ⟨RX3, "restore", "()I"⟩
def dkwX3_restore_1 : List UInt8 := [181, 0, 34, 42, 180, 0, 9, 3, 46, 172]
abbrev dktX3_restore_1 : List UInt8 := dkwX3_restore_1 ++ []
def dkwX3_restore_0 : List UInt8 := [42, 42, 180, 0, 255, 182, 0, 172, 154, 0, 5, 3, 172, 42, 16, 9, 3, 182, 0, 30, 42, 3]
abbrev dktX3_restore_0 : List UInt8 := dkwX3_restore_0 ++ dktX3_restore_1
theorem dksX3_restore_0 : cX3_restore.data.toList.drop 0 = dktX3_restore_0 := by decide +kernel
theorem dksX3_restore_1 : cX3_restore.data.toList.drop 22 = dktX3_restore_1 := dk_seg dksX3_restore_0 22 rfl rfl
theorem dX3_restore_0 : decode cX3_restore 0 = .ok (.aload_n 0, 1) := dk_42 (dk_at dksX3_restore_0 0 rfl rfl)
theorem dX3_restore_1 : decode cX3_restore 1 = .ok (.aload_n 0, 1) := dk_42 (dk_at dksX3_restore_0 1 rfl rfl)
theorem dX3_restore_2 : decode cX3_restore 2 = .ok (.getfield 255, 3) := dk_180 0 255 (dk_at dksX3_restore_0 2 rfl rfl)
theorem dX3_restore_5 : decode cX3_restore 5 = .ok (.invokevirtual 172, 3) := dk_182 0 172 (dk_at dksX3_restore_0 5 rfl rfl)
theorem dX3_restore_8 : decode cX3_restore 8 = .ok (.ifCond .ne 5, 3) := dk_154 0 5 (dk_at dksX3_restore_0 8 rfl rfl)
theorem dX3_restore_11 : decode cX3_restore 11 = .ok (.iconst 0, 1) := dk_3 (dk_at dksX3_restore_0 11 rfl rfl)
theorem dX3_restore_12 : decode cX3_restore 12 = .ok (.ireturn, 1) := dk_172 (dk_at dksX3_restore_0 12 rfl rfl)
theorem dX3_restore_13 : decode cX3_restore 13 = .ok (.aload_n 0, 1) := dk_42 (dk_at dksX3_restore_0 13 rfl rfl)
theorem dX3_restore_14 : decode cX3_restore 14 = .ok (.bipush 9, 2) := dk_16 9 (dk_at dksX3_restore_0 14 rfl rfl)
theorem dX3_restore_16 : decode cX3_restore 16 = .ok (.iconst 0, 1) := dk_3 (dk_at dksX3_restore_0 16 rfl rfl)
theorem dX3_restore_17 : decode cX3_restore 17 = .ok (.invokevirtual 30, 3) := dk_182 0 30 (dk_at dksX3_restore_0 17 rfl rfl)
theorem dX3_restore_20 : decode cX3_restore 20 = .ok (.aload_n 0, 1) := dk_42 (dk_at dksX3_restore_0 20 rfl rfl)
theorem dX3_restore_21 : decode cX3_restore 21 = .ok (.iconst 0, 1) := dk_3 (dk_at dksX3_restore_0 21 rfl rfl)
theorem dX3_restore_22 : decode cX3_restore 22 = .ok (.putfield 34, 3) := dk_181 0 34 (dk_at dksX3_restore_1 0 rfl rfl)
theorem dX3_restore_25 : decode cX3_restore 25 = .ok (.aload_n 0, 1) := dk_42 (dk_at dksX3_restore_1 3 rfl rfl)
theorem dX3_restore_26 : decode cX3_restore 26 = .ok (.getfield 9, 3) := dk_180 0 9 (dk_at dksX3_restore_1 4 rfl rfl)
theorem dX3_restore_29 : decode cX3_restore 29 = .ok (.iconst 0, 1) := dk_3 (dk_at dksX3_restore_1 7 rfl rfl)
theorem dX3_restore_30 : decode cX3_restore 30 = .ok (.iaload, 1) := dk_46 (dk_at dksX3_restore_1 8 rfl rfl)
theorem dX3_restore_31 : decode cX3_restore 31 = .ok (.ireturn, 1) := dk_172 (dk_at dksX3_restore_1 9 rfl rfl)
abbrev MX3_init : zM := (yX3_init, cX3_init, 1, (Option.none : Option Jvm.ClassFile.FieldType), [])
theorem kX3_init : zMk MX3_init := ⟨zt (lw_at lw_m10 6 rfl), zt (lw_at lw_m1 11 rfl), by decide +kernel, by decide, by decide +kernel⟩
abbrev MX3_thrown : zM := (yX3_thrown, cX3_thrown, 1, (Option.some Jvm.ClassFile.FieldType.int), [])
theorem kX3_thrown : zMk MX3_thrown := ⟨zt (lw_at lw_m10 67 rfl), zt (lw_at lw_m1 11 rfl), by decide +kernel, by decide, by decide +kernel⟩
abbrev MX3_reason : zM := (yX3_reason, cX3_reason, 3, (Option.some Jvm.ClassFile.FieldType.int), [])
theorem kX3_reason : zMk MX3_reason := ⟨zt (lw_at lw_m10 71 rfl), zt (lw_at lw_m1 11 rfl), by decide +kernel, by decide, by decide +kernel⟩
abbrev MX3_in : zM := (yX3_in, cX3_in, 3, (Option.some Jvm.ClassFile.FieldType.boolean), [])
theorem kX3_in : zMk MX3_in := ⟨zt (lw_at lw_m10 74 rfl), zt (lw_at lw_m1 11 rfl), by decide +kernel, by decide, by decide +kernel⟩
abbrev MX3_cart : zM := (yX3_cart, cX3_cart, 3, (Option.some Jvm.ClassFile.FieldType.int), [])
theorem kX3_cart : zMk MX3_cart := ⟨zt (lw_at lw_m10 78 rfl), zt (lw_at lw_m1 11 rfl), by decide +kernel, by decide, by decide +kernel⟩
abbrev MX3_begins : zM := (yX3_begins, cX3_begins, 1, (Option.none : Option Jvm.ClassFile.FieldType), [])
theorem kX3_begins : zMk MX3_begins := ⟨zt (lw_at lw_m10 82 rfl), zt (lw_at lw_m1 11 rfl), by decide +kernel, by decide, by decide +kernel⟩
abbrev MX3_copies : zM := (yX3_copies, cX3_copies, 4, (Option.none : Option Jvm.ClassFile.FieldType), [])
theorem kX3_copies : zMk MX3_copies := ⟨zt (lw_at lw_m10 86 rfl), zt (lw_at lw_m1 11 rfl), by decide +kernel, by decide, by decide +kernel⟩
abbrev MX3_comes : zM := (yX3_comes, cX3_comes, 6, (Option.some Jvm.ClassFile.FieldType.boolean), [])
theorem kX3_comes : zMk MX3_comes := ⟨zt (lw_at lw_m10 90 rfl), zt (lw_at lw_m1 11 rfl), by decide +kernel, by decide, by decide +kernel⟩
abbrev MX3_isOut : zM := (yX3_isOut, cX3_isOut, 4, (Option.some Jvm.ClassFile.FieldType.boolean), [])
theorem kX3_isOut : zMk MX3_isOut := ⟨zt (lw_at lw_m10 94 rfl), zt (lw_at lw_m1 11 rfl), by decide +kernel, by decide, by decide +kernel⟩
abbrev MX3_refuses : zM := (yX3_refuses, cX3_refuses, 4, (Option.some Jvm.ClassFile.FieldType.boolean), [])
theorem kX3_refuses : zMk MX3_refuses := ⟨zt (lw_at lw_m10 98 rfl), zt (lw_at lw_m1 11 rfl), by decide +kernel, by decide, by decide +kernel⟩
abbrev MX3_keyAt : zM := (yX3_keyAt, cX3_keyAt, 5, (Option.some Jvm.ClassFile.FieldType.int), [])
theorem kX3_keyAt : zMk MX3_keyAt := ⟨zt (lw_at lw_m10 102 rfl), zt (lw_at lw_m1 11 rfl), by decide +kernel, by decide, by decide +kernel⟩
abbrev MX3_waitsAt : zM := (yX3_waitsAt, cX3_waitsAt, 3, (Option.some Jvm.ClassFile.FieldType.boolean), [])
theorem kX3_waitsAt : zMk MX3_waitsAt := ⟨zt (lw_at lw_m10 106 rfl), zt (lw_at lw_m1 11 rfl), by decide +kernel, by decide, by decide +kernel⟩
abbrev MX3_c : zM := (yX3_c, cX3_c, 3, (Option.some Jvm.ClassFile.FieldType.int), [])
theorem kX3_c : zMk MX3_c := ⟨zt (lw_at lw_m10 110 rfl), zt (lw_at lw_m1 11 rfl), by decide +kernel, by decide, by decide +kernel⟩
abbrev MX3_set : zM := (yX3_set, cX3_set, 4, (Option.none : Option Jvm.ClassFile.FieldType), [])
theorem kX3_set : zMk MX3_set := ⟨zt (lw_at lw_m10 114 rfl), zt (lw_at lw_m1 11 rfl), by decide +kernel, by decide, by decide +kernel⟩
abbrev MX3_ends : zM := (yX3_ends, cX3_ends, 4, (Option.some Jvm.ClassFile.FieldType.int), [])
theorem kX3_ends : zMk MX3_ends := ⟨zt (lw_at lw_m10 118 rfl), zt (lw_at lw_m1 11 rfl), by decide +kernel, by decide, by decide +kernel⟩
abbrev MX3_law : zM := (yX3_law, cX3_law, 2, (Option.some Jvm.ClassFile.FieldType.int), [])
theorem kX3_law : zMk MX3_law := ⟨zt (lw_at lw_m10 122 rfl), zt (lw_at lw_m1 11 rfl), by decide +kernel, by decide, by decide +kernel⟩
abbrev MX3_tells : zM := (yX3_tells, cX3_tells, 6, (Option.some Jvm.ClassFile.FieldType.boolean), [])
theorem kX3_tells : zMk MX3_tells := ⟨zt (lw_at lw_m10 126 rfl), zt (lw_at lw_m1 11 rfl), by decide +kernel, by decide, by decide +kernel⟩
abbrev MX3_onBridge : zM := (yX3_onBridge, cX3_onBridge, 3, (Option.some Jvm.ClassFile.FieldType.int), [])
theorem kX3_onBridge : zMk MX3_onBridge := ⟨zt (lw_at lw_m10 130 rfl), zt (lw_at lw_m1 11 rfl), by decide +kernel, by decide, by decide +kernel⟩
abbrev MX3_share : zM := (yX3_share, cX3_share, 2, (Option.some Jvm.ClassFile.FieldType.int), [])
theorem kX3_share : zMk MX3_share := ⟨zt (lw_at lw_m10 134 rfl), zt (lw_at lw_m1 11 rfl), by decide +kernel, by decide, by decide +kernel⟩
abbrev MX3_spans : zM := (yX3_spans, cX3_spans, 2, (Option.some Jvm.ClassFile.FieldType.int), [])
theorem kX3_spans : zMk MX3_spans := ⟨zt (lw_at lw_m10 138 rfl), zt (lw_at lw_m1 11 rfl), by decide +kernel, by decide, by decide +kernel⟩
abbrev MX3_leave : zM := (yX3_leave, cX3_leave, 2, (Option.some Jvm.ClassFile.FieldType.int), [])
theorem kX3_leave : zMk MX3_leave := ⟨zt (lw_at lw_m10 142 rfl), zt (lw_at lw_m1 11 rfl), by decide +kernel, by decide, by decide +kernel⟩
abbrev MX3_leaves : zM := (yX3_leaves, cX3_leaves, 2, (Option.some Jvm.ClassFile.FieldType.boolean), [])
theorem kX3_leaves : zMk MX3_leaves := ⟨zt (lw_at lw_m10 146 rfl), zt (lw_at lw_m1 11 rfl), by decide +kernel, by decide, by decide +kernel⟩
abbrev MX3_isGone : zM := (yX3_isGone, cX3_isGone, 2, (Option.some Jvm.ClassFile.FieldType.boolean), [])
theorem kX3_isGone : zMk MX3_isGone := ⟨zt (lw_at lw_m10 150 rfl), zt (lw_at lw_m1 11 rfl), by decide +kernel, by decide, by decide +kernel⟩
abbrev MX3_isCart : zM := (yX3_isCart, cX3_isCart, 2, (Option.some Jvm.ClassFile.FieldType.boolean), [])
theorem kX3_isCart : zMk MX3_isCart := ⟨zt (lw_at lw_m10 154 rfl), zt (lw_at lw_m1 11 rfl), by decide +kernel, by decide, by decide +kernel⟩
abbrev MX3_isOn : zM := (yX3_isOn, cX3_isOn, 2, (Option.some Jvm.ClassFile.FieldType.boolean), [])
theorem kX3_isOn : zMk MX3_isOn := ⟨zt (lw_at lw_m10 158 rfl), zt (lw_at lw_m1 11 rfl), by decide +kernel, by decide, by decide +kernel⟩
abbrev MX3_rowMany : zM := (yX3_rowMany, cX3_rowMany, 4, (Option.some Jvm.ClassFile.FieldType.int), [])
theorem kX3_rowMany : zMk MX3_rowMany := ⟨zt (lw_at lw_m10 162 rfl), zt (lw_at lw_m1 11 rfl), by decide +kernel, by decide, by decide +kernel⟩
abbrev MX3_turnRow : zM := (yX3_turnRow, cX3_turnRow, 2, (Option.some Jvm.ClassFile.FieldType.int), [])
theorem kX3_turnRow : zMk MX3_turnRow := ⟨zt (lw_at lw_m10 166 rfl), zt (lw_at lw_m1 11 rfl), by decide +kernel, by decide, by decide +kernel⟩
abbrev MX3_turnsRow : zM := (yX3_turnsRow, cX3_turnsRow, 4, (Option.some Jvm.ClassFile.FieldType.boolean), [])
theorem kX3_turnsRow : zMk MX3_turnsRow := ⟨zt (lw_at lw_m10 170 rfl), zt (lw_at lw_m1 11 rfl), by decide +kernel, by decide, by decide +kernel⟩
abbrev MX3_rowAt : zM := (yX3_rowAt, cX3_rowAt, 4, (Option.some Jvm.ClassFile.FieldType.int), [])
theorem kX3_rowAt : zMk MX3_rowAt := ⟨zt (lw_at lw_m10 174 rfl), zt (lw_at lw_m1 11 rfl), by decide +kernel, by decide, by decide +kernel⟩
abbrev MX3_placeOf : zM := (yX3_placeOf, cX3_placeOf, 4, (Option.some Jvm.ClassFile.FieldType.int), [])
theorem kX3_placeOf : zMk MX3_placeOf := ⟨zt (lw_at lw_m10 178 rfl), zt (lw_at lw_m1 11 rfl), by decide +kernel, by decide, by decide +kernel⟩
abbrev MX3_yieldBy : zM := (yX3_yieldBy, cX3_yieldBy, 2, (Option.some Jvm.ClassFile.FieldType.int), [])
theorem kX3_yieldBy : zMk MX3_yieldBy := ⟨zt (lw_at lw_m10 182 rfl), zt (lw_at lw_m1 11 rfl), by decide +kernel, by decide, by decide +kernel⟩
abbrev MX3_yields : zM := (yX3_yields, cX3_yields, 2, (Option.some Jvm.ClassFile.FieldType.boolean), [])
theorem kX3_yields : zMk MX3_yields := ⟨zt (lw_at lw_m10 186 rfl), zt (lw_at lw_m1 11 rfl), by decide +kernel, by decide, by decide +kernel⟩
abbrev MX3_turnsRun : zM := (yX3_turnsRun, cX3_turnsRun, 5, (Option.some Jvm.ClassFile.FieldType.int), [])
theorem kX3_turnsRun : zMk MX3_turnsRun := ⟨zt (lw_at lw_m10 190 rfl), zt (lw_at lw_m1 11 rfl), by decide +kernel, by decide, by decide +kernel⟩
abbrev MX3_behind : zM := (yX3_behind, cX3_behind, 3, (Option.some Jvm.ClassFile.FieldType.int), [])
theorem kX3_behind : zMk MX3_behind := ⟨zt (lw_at lw_m10 194 rfl), zt (lw_at lw_m1 11 rfl), by decide +kernel, by decide, by decide +kernel⟩
abbrev MX3_cartOn : zM := (yX3_cartOn, cX3_cartOn, 3, (Option.some Jvm.ClassFile.FieldType.int), [])
theorem kX3_cartOn : zMk MX3_cartOn := ⟨zt (lw_at lw_m10 198 rfl), zt (lw_at lw_m1 11 rfl), by decide +kernel, by decide, by decide +kernel⟩
abbrev MX3_mendsNoses : zM := (yX3_mendsNoses, cX3_mendsNoses, 6, (Option.none : Option Jvm.ClassFile.FieldType), [])
theorem kX3_mendsNoses : zMk MX3_mendsNoses := ⟨zt (lw_at lw_m10 202 rfl), zt (lw_at lw_m1 11 rfl), by decide +kernel, by decide, by decide +kernel⟩
abbrev MX3_nose : zM := (yX3_nose, cX3_nose, 5, (Option.some Jvm.ClassFile.FieldType.int), [])
theorem kX3_nose : zMk MX3_nose := ⟨zt (lw_at lw_m10 206 rfl), zt (lw_at lw_m1 11 rfl), by decide +kernel, by decide, by decide +kernel⟩
abbrev MX3_loadOfRun : zM := (yX3_loadOfRun, cX3_loadOfRun, 4, (Option.some Jvm.ClassFile.FieldType.int), [])
theorem kX3_loadOfRun : zMk MX3_loadOfRun := ⟨zt (lw_at lw_m10 210 rfl), zt (lw_at lw_m1 11 rfl), by decide +kernel, by decide, by decide +kernel⟩
abbrev MX3_tick : zM := (yX3_tick, cX3_tick, 2, (Option.some Jvm.ClassFile.FieldType.int), [])
theorem kX3_tick : zMk MX3_tick := ⟨zt (lw_at lw_m10 214 rfl), zt (lw_at lw_m1 11 rfl), by decide +kernel, by decide, by decide +kernel⟩
abbrev MX3_ticks : zM := (yX3_ticks, cX3_ticks, 3, (Option.some Jvm.ClassFile.FieldType.boolean), [])
theorem kX3_ticks : zMk MX3_ticks := ⟨zt (lw_at lw_m10 218 rfl), zt (lw_at lw_m1 11 rfl), by decide +kernel, by decide, by decide +kernel⟩
abbrev MX3_goesBy : zM := (yX3_goesBy, cX3_goesBy, 3, (Option.some Jvm.ClassFile.FieldType.int), [])
theorem kX3_goesBy : zMk MX3_goesBy := ⟨zt (lw_at lw_m10 222 rfl), zt (lw_at lw_m1 11 rfl), by decide +kernel, by decide, by decide +kernel⟩
abbrev MX3_allGoOn : zM := (yX3_allGoOn, cX3_allGoOn, 4, (Option.some Jvm.ClassFile.FieldType.int), [])
theorem kX3_allGoOn : zMk MX3_allGoOn := ⟨zt (lw_at lw_m10 226 rfl), zt (lw_at lw_m1 11 rfl), by decide +kernel, by decide, by decide +kernel⟩
abbrev MX3_goesOn : zM := (yX3_goesOn, cX3_goesOn, 6, (Option.some Jvm.ClassFile.FieldType.boolean), [])
theorem kX3_goesOn : zMk MX3_goesOn := ⟨zt (lw_at lw_m10 230 rfl), zt (lw_at lw_m1 11 rfl), by decide +kernel, by decide, by decide +kernel⟩
abbrev MX3_looksAtTurn : zM := (yX3_looksAtTurn, cX3_looksAtTurn, 3, (Option.none : Option Jvm.ClassFile.FieldType), [])
theorem kX3_looksAtTurn : zMk MX3_looksAtTurn := ⟨zt (lw_at lw_m10 234 rfl), zt (lw_at lw_m1 11 rfl), by decide +kernel, by decide, by decide +kernel⟩
abbrev MX3_sends : zM := (yX3_sends, cX3_sends, 4, (Option.none : Option Jvm.ClassFile.FieldType), [])
theorem kX3_sends : zMk MX3_sends := ⟨zt (lw_at lw_m10 238 rfl), zt (lw_at lw_m1 11 rfl), by decide +kernel, by decide, by decide +kernel⟩
abbrev MX3_maySend : zM := (yX3_maySend, cX3_maySend, 5, (Option.some Jvm.ClassFile.FieldType.boolean), [])
theorem kX3_maySend : zMk MX3_maySend := ⟨zt (lw_at lw_m11 2 rfl), zt (lw_at lw_m1 11 rfl), by decide +kernel, by decide, by decide +kernel⟩
abbrev MX3_headsTo : zM := (yX3_headsTo, cX3_headsTo, 3, (Option.some Jvm.ClassFile.FieldType.boolean), [])
theorem kX3_headsTo : zMk MX3_headsTo := ⟨zt (lw_at lw_m11 6 rfl), zt (lw_at lw_m1 11 rfl), by decide +kernel, by decide, by decide +kernel⟩
abbrev MX3_loadsOf : zM := (yX3_loadsOf, cX3_loadsOf, 4, (Option.some Jvm.ClassFile.FieldType.int), [])
theorem kX3_loadsOf : zMk MX3_loadsOf := ⟨zt (lw_at lw_m11 10 rfl), zt (lw_at lw_m1 11 rfl), by decide +kernel, by decide, by decide +kernel⟩
abbrev MX3_cartOf : zM := (yX3_cartOf, cX3_cartOf, 3, (Option.some Jvm.ClassFile.FieldType.int), [])
theorem kX3_cartOf : zMk MX3_cartOf := ⟨zt (lw_at lw_m11 14 rfl), zt (lw_at lw_m1 11 rfl), by decide +kernel, by decide, by decide +kernel⟩
abbrev MX3_waited : zM := (yX3_waited, cX3_waited, 2, (Option.some Jvm.ClassFile.FieldType.int), [])
theorem kX3_waited : zMk MX3_waited := ⟨zt (lw_at lw_m11 18 rfl), zt (lw_at lw_m1 11 rfl), by decide +kernel, by decide, by decide +kernel⟩
abbrev MX3_isThere : zM := (yX3_isThere, cX3_isThere, 2, (Option.some Jvm.ClassFile.FieldType.boolean), [])
theorem kX3_isThere : zMk MX3_isThere := ⟨zt (lw_at lw_m11 22 rfl), zt (lw_at lw_m1 11 rfl), by decide +kernel, by decide, by decide +kernel⟩
abbrev MX3_waitedAgain : zM := (yX3_waitedAgain, cX3_waitedAgain, 2, (Option.some Jvm.ClassFile.FieldType.int), [])
theorem kX3_waitedAgain : zMk MX3_waitedAgain := ⟨zt (lw_at lw_m11 26 rfl), zt (lw_at lw_m1 11 rfl), by decide +kernel, by decide, by decide +kernel⟩
abbrev MX3_waiting : zM := (yX3_waiting, cX3_waiting, 3, (Option.some Jvm.ClassFile.FieldType.int), [])
theorem kX3_waiting : zMk MX3_waiting := ⟨zt (lw_at lw_m11 31 rfl), zt (lw_at lw_m1 11 rfl), by decide +kernel, by decide, by decide +kernel⟩
abbrev MX3_found : zM := (yX3_found, cX3_found, 2, (Option.some Jvm.ClassFile.FieldType.int), [])
theorem kX3_found : zMk MX3_found := ⟨zt (lw_at lw_m11 35 rfl), zt (lw_at lw_m1 11 rfl), by decide +kernel, by decide, by decide +kernel⟩
abbrev MX3_rowLoad : zM := (yX3_rowLoad, cX3_rowLoad, 2, (Option.some Jvm.ClassFile.FieldType.int), [])
theorem kX3_rowLoad : zMk MX3_rowLoad := ⟨zt (lw_at lw_m11 39 rfl), zt (lw_at lw_m1 11 rfl), by decide +kernel, by decide, by decide +kernel⟩
abbrev MX3_onSpan : zM := (yX3_onSpan, cX3_onSpan, 2, (Option.some Jvm.ClassFile.FieldType.int), [])
theorem kX3_onSpan : zMk MX3_onSpan := ⟨zt (lw_at lw_m11 43 rfl), zt (lw_at lw_m1 11 rfl), by decide +kernel, by decide, by decide +kernel⟩
abbrev MX3_runLoad : zM := (yX3_runLoad, cX3_runLoad, 2, (Option.some Jvm.ClassFile.FieldType.int), [])
theorem kX3_runLoad : zMk MX3_runLoad := ⟨zt (lw_at lw_m11 47 rfl), zt (lw_at lw_m1 11 rfl), by decide +kernel, by decide, by decide +kernel⟩
abbrev MX3_isThereOn : zM := (yX3_isThereOn, cX3_isThereOn, 2, (Option.some Jvm.ClassFile.FieldType.boolean), [])
theorem kX3_isThereOn : zMk MX3_isThereOn := ⟨zt (lw_at lw_m11 51 rfl), zt (lw_at lw_m1 11 rfl), by decide +kernel, by decide, by decide +kernel⟩
abbrev MX3_runLoadAgain : zM := (yX3_runLoadAgain, cX3_runLoadAgain, 2, (Option.some Jvm.ClassFile.FieldType.int), [])
theorem kX3_runLoadAgain : zMk MX3_runLoadAgain := ⟨zt (lw_at lw_m11 55 rfl), zt (lw_at lw_m1 11 rfl), by decide +kernel, by decide, by decide +kernel⟩
abbrev MX3_runEnd : zM := (yX3_runEnd, cX3_runEnd, 2, (Option.some Jvm.ClassFile.FieldType.int), [])
theorem kX3_runEnd : zMk MX3_runEnd := ⟨zt (lw_at lw_m11 60 rfl), zt (lw_at lw_m1 11 rfl), by decide +kernel, by decide, by decide +kernel⟩
abbrev MX3_lastOfRun : zM := (yX3_lastOfRun, cX3_lastOfRun, 4, (Option.some Jvm.ClassFile.FieldType.int), [])
theorem kX3_lastOfRun : zMk MX3_lastOfRun := ⟨zt (lw_at lw_m11 64 rfl), zt (lw_at lw_m1 11 rfl), by decide +kernel, by decide, by decide +kernel⟩
abbrev MX3_ahead : zM := (yX3_ahead, cX3_ahead, 4, (Option.some Jvm.ClassFile.FieldType.int), [])
theorem kX3_ahead : zMk MX3_ahead := ⟨zt (lw_at lw_m11 68 rfl), zt (lw_at lw_m1 11 rfl), by decide +kernel, by decide, by decide +kernel⟩
abbrev MX3_spansLeft : zM := (yX3_spansLeft, cX3_spansLeft, 2, (Option.some Jvm.ClassFile.FieldType.int), [])
theorem kX3_spansLeft : zMk MX3_spansLeft := ⟨zt (lw_at lw_m11 72 rfl), zt (lw_at lw_m1 11 rfl), by decide +kernel, by decide, by decide +kernel⟩
abbrev MX3_may : zM := (yX3_may, cX3_may, 2, (Option.some Jvm.ClassFile.FieldType.boolean), [])
theorem kX3_may : zMk MX3_may := ⟨zt (lw_at lw_m11 76 rfl), zt (lw_at lw_m1 11 rfl), by decide +kernel, by decide, by decide +kernel⟩
abbrev MX3_turn : zM := (yX3_turn, cX3_turn, 1, (Option.some Jvm.ClassFile.FieldType.int), [])
theorem kX3_turn : zMk MX3_turn := ⟨zt (lw_at lw_m11 80 rfl), zt (lw_at lw_m1 11 rfl), by decide +kernel, by decide, by decide +kernel⟩
abbrev MX3_noses : zM := (yX3_noses, cX3_noses, 3, (Option.some Jvm.ClassFile.FieldType.int), [])
theorem kX3_noses : zMk MX3_noses := ⟨zt (lw_at lw_m11 84 rfl), zt (lw_at lw_m1 11 rfl), by decide +kernel, by decide, by decide +kernel⟩
abbrev MX3_passed : zM := (yX3_passed, cX3_passed, 3, (Option.some Jvm.ClassFile.FieldType.int), [])
theorem kX3_passed : zMk MX3_passed := ⟨zt (lw_at lw_m11 88 rfl), zt (lw_at lw_m1 11 rfl), by decide +kernel, by decide, by decide +kernel⟩
abbrev MX3_wouldPass : zM := (yX3_wouldPass, cX3_wouldPass, 4, (Option.some Jvm.ClassFile.FieldType.int), [])
theorem kX3_wouldPass : zMk MX3_wouldPass := ⟨zt (lw_at lw_m11 92 rfl), zt (lw_at lw_m1 11 rfl), by decide +kernel, by decide, by decide +kernel⟩
abbrev MX3_over : zM := (yX3_over, cX3_over, 3, (Option.some Jvm.ClassFile.FieldType.int), [])
theorem kX3_over : zMk MX3_over := ⟨zt (lw_at lw_m11 96 rfl), zt (lw_at lw_m1 11 rfl), by decide +kernel, by decide, by decide +kernel⟩
abbrev MX3_isOver : zM := (yX3_isOver, cX3_isOver, 1, (Option.some Jvm.ClassFile.FieldType.boolean), [])
theorem kX3_isOver : zMk MX3_isOver := ⟨zt (lw_at lw_m11 100 rfl), zt (lw_at lw_m1 11 rfl), by decide +kernel, by decide, by decide +kernel⟩
abbrev MX3_longest : zM := (yX3_longest, cX3_longest, 5, (Option.some Jvm.ClassFile.FieldType.int), [])
theorem kX3_longest : zMk MX3_longest := ⟨zt (lw_at lw_m11 104 rfl), zt (lw_at lw_m1 11 rfl), by decide +kernel, by decide, by decide +kernel⟩
abbrev MX3_isHere : zM := (yX3_isHere, cX3_isHere, 2, (Option.some Jvm.ClassFile.FieldType.boolean), [])
theorem kX3_isHere : zMk MX3_isHere := ⟨zt (lw_at lw_m11 108 rfl), zt (lw_at lw_m1 11 rfl), by decide +kernel, by decide, by decide +kernel⟩
abbrev MX3_mildest : zM := (yX3_mildest, cX3_mildest, 3, (Option.some Jvm.ClassFile.FieldType.int), [])
theorem kX3_mildest : zMk MX3_mildest := ⟨zt (lw_at lw_m11 112 rfl), zt (lw_at lw_m1 11 rfl), by decide +kernel, by decide, by decide +kernel⟩
abbrev MX3_heaviest : zM := (yX3_heaviest, cX3_heaviest, 3, (Option.some Jvm.ClassFile.FieldType.int), [])
theorem kX3_heaviest : zMk MX3_heaviest := ⟨zt (lw_at lw_m11 116 rfl), zt (lw_at lw_m1 11 rfl), by decide +kernel, by decide, by decide +kernel⟩
abbrev MX3_isTold : zM := (yX3_isTold, cX3_isTold, 1, (Option.some Jvm.ClassFile.FieldType.boolean), [])
theorem kX3_isTold : zMk MX3_isTold := ⟨zt (lw_at lw_m11 120 rfl), zt (lw_at lw_m1 11 rfl), by decide +kernel, by decide, by decide +kernel⟩
abbrev MX3_append : zM := (yX3_append, cX3_append, 2, (Option.some Jvm.ClassFile.FieldType.int), [])
theorem kX3_append : zMk MX3_append := ⟨zt (lw_at lw_m11 124 rfl), zt (lw_at lw_m1 11 rfl), by decide +kernel, by decide, by decide +kernel⟩
abbrev MX3_run : zM := (yX3_run, cX3_run, 2, (Option.some Jvm.ClassFile.FieldType.int), [])
theorem kX3_run : zMk MX3_run := ⟨zt (lw_at lw_m11 128 rfl), zt (lw_at lw_m1 11 rfl), by decide +kernel, by decide, by decide +kernel⟩
abbrev MX3_parse : zM := (yX3_parse, cX3_parse, 1, (Option.none : Option Jvm.ClassFile.FieldType), [])
theorem kX3_parse : zMk MX3_parse := ⟨zt (lw_at lw_m11 132 rfl), zt (lw_at lw_m1 11 rfl), by decide +kernel, by decide, by decide +kernel⟩
abbrev MX3_order : zM := (yX3_order, cX3_order, 4, (Option.none : Option Jvm.ClassFile.FieldType), [])
theorem kX3_order : zMk MX3_order := ⟨zt (lw_at lw_m11 136 rfl), zt (lw_at lw_m1 11 rfl), by decide +kernel, by decide, by decide +kernel⟩
abbrev MX3_sign : zM := (yX3_sign, cX3_sign, 1, (Option.some Jvm.ClassFile.FieldType.int), [])
theorem kX3_sign : zMk MX3_sign := ⟨zt (lw_at lw_m11 140 rfl), zt (lw_at lw_m1 11 rfl), by decide +kernel, by decide, by decide +kernel⟩
abbrev MX3_word : zM := (yX3_word, cX3_word, 3, (Option.some Jvm.ClassFile.FieldType.int), [])
theorem kX3_word : zMk MX3_word := ⟨zt (lw_at lw_m11 144 rfl), zt (lw_at lw_m1 11 rfl), by decide +kernel, by decide, by decide +kernel⟩
abbrev MX3_signs : zM := (yX3_signs, cX3_signs, 4, (Option.none : Option Jvm.ClassFile.FieldType), [])
theorem kX3_signs : zMk MX3_signs := ⟨zt (lw_at lw_m11 148 rfl), zt (lw_at lw_m1 11 rfl), by decide +kernel, by decide, by decide +kernel⟩
abbrev MX3_needs : zM := (yX3_needs, cX3_needs, 2, (Option.none : Option Jvm.ClassFile.FieldType), [])
theorem kX3_needs : zMk MX3_needs := ⟨zt (lw_at lw_m11 152 rfl), zt (lw_at lw_m1 11 rfl), by decide +kernel, by decide, by decide +kernel⟩
abbrev MX3_side : zM := (yX3_side, cX3_side, 2, (Option.some Jvm.ClassFile.FieldType.int), [])
theorem kX3_side : zMk MX3_side := ⟨zt (lw_at lw_m11 156 rfl), zt (lw_at lw_m1 11 rfl), by decide +kernel, by decide, by decide +kernel⟩
abbrev MX3_lawWord : zM := (yX3_lawWord, cX3_lawWord, 2, (Option.some Jvm.ClassFile.FieldType.int), [])
theorem kX3_lawWord : zMk MX3_lawWord := ⟨zt (lw_at lw_m11 160 rfl), zt (lw_at lw_m1 11 rfl), by decide +kernel, by decide, by decide +kernel⟩
abbrev MX3_number : zM := (yX3_number, cX3_number, 4, (Option.some Jvm.ClassFile.FieldType.int), [])
theorem kX3_number : zMk MX3_number := ⟨zt (lw_at lw_m11 164 rfl), zt (lw_at lw_m1 11 rfl), by decide +kernel, by decide, by decide +kernel⟩
abbrev MX3_does : zM := (yX3_does, cX3_does, 3, (Option.some Jvm.ClassFile.FieldType.boolean), [])
theorem kX3_does : zMk MX3_does := ⟨zt (lw_at lw_m11 168 rfl), zt (lw_at lw_m1 11 rfl), by decide +kernel, by decide, by decide +kernel⟩
abbrev MX3_faultPosition : zM := (yX3_faultPosition, cX3_faultPosition, 1, (Option.some Jvm.ClassFile.FieldType.int), [])
theorem kX3_faultPosition : zMk MX3_faultPosition := ⟨zt (lw_at lw_m11 172 rfl), zt (lw_at lw_m1 11 rfl), by decide +kernel, by decide, by decide +kernel⟩
abbrev MX3_tell : zM := (yX3_tell, cX3_tell, 3, (Option.some Jvm.ClassFile.FieldType.int), [])
theorem kX3_tell : zMk MX3_tell := ⟨zt (lw_at lw_m11 176 rfl), zt (lw_at lw_m1 11 rfl), by decide +kernel, by decide, by decide +kernel⟩
abbrev MX3_writesNumber : zM := (yX3_writesNumber, cX3_writesNumber, 2, (Option.none : Option Jvm.ClassFile.FieldType), [])
theorem kX3_writesNumber : zMk MX3_writesNumber := ⟨zt (lw_at lw_m11 180 rfl), zt (lw_at lw_m1 11 rfl), by decide +kernel, by decide, by decide +kernel⟩
abbrev MX3_writes : zM := (yX3_writes, cX3_writes, 2, (Option.none : Option Jvm.ClassFile.FieldType), [])
theorem kX3_writes : zMk MX3_writes := ⟨zt (lw_at lw_m11 184 rfl), zt (lw_at lw_m1 11 rfl), by decide +kernel, by decide, by decide +kernel⟩
abbrev MX3_writesSpan : zM := (yX3_writesSpan, cX3_writesSpan, 2, (Option.none : Option Jvm.ClassFile.FieldType), [])
theorem kX3_writesSpan : zMk MX3_writesSpan := ⟨zt (lw_at lw_m11 188 rfl), zt (lw_at lw_m1 11 rfl), by decide +kernel, by decide, by decide +kernel⟩
abbrev MX3_tellLaw : zM := (yX3_tellLaw, cX3_tellLaw, 1, (Option.some Jvm.ClassFile.FieldType.int), [])
theorem kX3_tellLaw : zMk MX3_tellLaw := ⟨zt (lw_at lw_m11 192 rfl), zt (lw_at lw_m1 11 rfl), by decide +kernel, by decide, by decide +kernel⟩
abbrev MX3_writesThree : zM := (yX3_writesThree, cX3_writesThree, 4, (Option.none : Option Jvm.ClassFile.FieldType), [])
theorem kX3_writesThree : zMk MX3_writesThree := ⟨zt (lw_at lw_m11 196 rfl), zt (lw_at lw_m1 11 rfl), by decide +kernel, by decide, by decide +kernel⟩
abbrev MX3_tellCart : zM := (yX3_tellCart, cX3_tellCart, 2, (Option.some Jvm.ClassFile.FieldType.int), [])
theorem kX3_tellCart : zMk MX3_tellCart := ⟨zt (lw_at lw_m11 200 rfl), zt (lw_at lw_m1 11 rfl), by decide +kernel, by decide, by decide +kernel⟩
abbrev MX3_character : zM := (yX3_character, cX3_character, 2, (Option.some Jvm.ClassFile.FieldType.char), [])
theorem kX3_character : zMk MX3_character := ⟨zt (lw_at lw_m11 204 rfl), zt (lw_at lw_m1 11 rfl), by decide +kernel, by decide, by decide +kernel⟩
abbrev MX3_account : zM := (yX3_account, cX3_account, 2, (Option.some Jvm.ClassFile.FieldType.int), [])
theorem kX3_account : zMk MX3_account := ⟨zt (lw_at lw_m11 208 rfl), zt (lw_at lw_m1 11 rfl), by decide +kernel, by decide, by decide +kernel⟩
abbrev MX3_meanWaited : zM := (yX3_meanWaited, cX3_meanWaited, 4, (Option.some Jvm.ClassFile.FieldType.double), [])
theorem kX3_meanWaited : zMk MX3_meanWaited := ⟨zt (lw_at lw_m11 212 rfl), zt (lw_at lw_m1 11 rfl), by decide +kernel, by decide, by decide +kernel⟩
abbrev MX3_fullShare : zM := (yX3_fullShare, cX3_fullShare, 1, (Option.some Jvm.ClassFile.FieldType.float), [])
theorem kX3_fullShare : zMk MX3_fullShare := ⟨zt (lw_at lw_m11 216 rfl), zt (lw_at lw_m1 11 rfl), by decide +kernel, by decide, by decide +kernel⟩
abbrev MX3_undo : zM := (yX3_undo, cX3_undo, 1, (Option.some Jvm.ClassFile.FieldType.int), [])
theorem kX3_undo : zMk MX3_undo := ⟨zt (lw_at lw_m11 220 rfl), zt (lw_at lw_m1 11 rfl), by decide +kernel, by decide, by decide +kernel⟩
abbrev MX3_save : zM := (yX3_save, cX3_save, 1, (Option.some Jvm.ClassFile.FieldType.int), [])
theorem kX3_save : zMk MX3_save := ⟨zt (lw_at lw_m11 224 rfl), zt (lw_at lw_m1 11 rfl), by decide +kernel, by decide, by decide +kernel⟩
abbrev MX3_restore : zM := (yX3_restore, cX3_restore, 1, (Option.some Jvm.ClassFile.FieldType.int), [])
theorem kX3_restore : zMk MX3_restore := ⟨zt (lw_at lw_m11 228 rfl), zt (lw_at lw_m1 11 rfl), by decide +kernel, by decide, by decide +kernel⟩
