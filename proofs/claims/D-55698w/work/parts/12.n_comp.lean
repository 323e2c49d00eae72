/-! CartBridge -/
set_option maxRecDepth 100000
abbrev cX1_init : ByteArray := prog_1_method_1_code
def yX1_init : MethodName := ⟨RX1, "<init>", "()V"⟩
def dkwX1_init_2 : List UInt8 := [181, 0, 30, 42, 2, 181, 0, 33, 177]
abbrev dktX1_init_2 : List UInt8 := dkwX1_init_2 ++ []
def dkwX1_init_1 : List UInt8 := [181, 0, 19, 42, 187, 0, 23, 89, 183, 0, 25, 181, 0, 26, 42, 187, 0, 23, 89, 183, 0, 25]
abbrev dktX1_init_1 : List UInt8 := dkwX1_init_1 ++ dktX1_init_2
def dkwX1_init_0 : List UInt8 := [42, 183, 0, 1, 42, 187, 0, 7, 89, 183, 0, 9, 181, 0, 10, 42, 187, 0, 16, 89, 183, 0, 18]
abbrev dktX1_init_0 : List UInt8 := dkwX1_init_0 ++ dktX1_init_1
theorem dksX1_init_0 : cX1_init.data.toList.drop 0 = dktX1_init_0 := by decide +kernel
theorem dksX1_init_1 : cX1_init.data.toList.drop 23 = dktX1_init_1 := dk_seg dksX1_init_0 23 rfl rfl
theorem dksX1_init_2 : cX1_init.data.toList.drop 45 = dktX1_init_2 := dk_seg dksX1_init_1 22 rfl rfl
theorem dX1_init_0 : decode cX1_init 0 = .ok (.aload_n 0, 1) := dk_42 (dk_at dksX1_init_0 0 rfl rfl)
theorem dX1_init_1 : decode cX1_init 1 = .ok (.invokespecial 1, 3) := dk_183 0 1 (dk_at dksX1_init_0 1 rfl rfl)
theorem dX1_init_4 : decode cX1_init 4 = .ok (.aload_n 0, 1) := dk_42 (dk_at dksX1_init_0 4 rfl rfl)
theorem dX1_init_5 : decode cX1_init 5 = .ok (.new 7, 3) := dk_187 0 7 (dk_at dksX1_init_0 5 rfl rfl)
theorem dX1_init_8 : decode cX1_init 8 = .ok (.dup, 1) := dk_89 (dk_at dksX1_init_0 8 rfl rfl)
theorem dX1_init_9 : decode cX1_init 9 = .ok (.invokespecial 9, 3) := dk_183 0 9 (dk_at dksX1_init_0 9 rfl rfl)
theorem dX1_init_12 : decode cX1_init 12 = .ok (.putfield 10, 3) := dk_181 0 10 (dk_at dksX1_init_0 12 rfl rfl)
theorem dX1_init_15 : decode cX1_init 15 = .ok (.aload_n 0, 1) := dk_42 (dk_at dksX1_init_0 15 rfl rfl)
theorem dX1_init_16 : decode cX1_init 16 = .ok (.new 16, 3) := dk_187 0 16 (dk_at dksX1_init_0 16 rfl rfl)
theorem dX1_init_19 : decode cX1_init 19 = .ok (.dup, 1) := dk_89 (dk_at dksX1_init_0 19 rfl rfl)
theorem dX1_init_20 : decode cX1_init 20 = .ok (.invokespecial 18, 3) := dk_183 0 18 (dk_at dksX1_init_0 20 rfl rfl)
theorem dX1_init_23 : decode cX1_init 23 = .ok (.putfield 19, 3) := dk_181 0 19 (dk_at dksX1_init_1 0 rfl rfl)
theorem dX1_init_26 : decode cX1_init 26 = .ok (.aload_n 0, 1) := dk_42 (dk_at dksX1_init_1 3 rfl rfl)
theorem dX1_init_27 : decode cX1_init 27 = .ok (.new 23, 3) := dk_187 0 23 (dk_at dksX1_init_1 4 rfl rfl)
theorem dX1_init_30 : decode cX1_init 30 = .ok (.dup, 1) := dk_89 (dk_at dksX1_init_1 7 rfl rfl)
theorem dX1_init_31 : decode cX1_init 31 = .ok (.invokespecial 25, 3) := dk_183 0 25 (dk_at dksX1_init_1 8 rfl rfl)
theorem dX1_init_34 : decode cX1_init 34 = .ok (.putfield 26, 3) := dk_181 0 26 (dk_at dksX1_init_1 11 rfl rfl)
theorem dX1_init_37 : decode cX1_init 37 = .ok (.aload_n 0, 1) := dk_42 (dk_at dksX1_init_1 14 rfl rfl)
theorem dX1_init_38 : decode cX1_init 38 = .ok (.new 23, 3) := dk_187 0 23 (dk_at dksX1_init_1 15 rfl rfl)
theorem dX1_init_41 : decode cX1_init 41 = .ok (.dup, 1) := dk_89 (dk_at dksX1_init_1 18 rfl rfl)
theorem dX1_init_42 : decode cX1_init 42 = .ok (.invokespecial 25, 3) := dk_183 0 25 (dk_at dksX1_init_1 19 rfl rfl)
theorem dX1_init_45 : decode cX1_init 45 = .ok (.putfield 30, 3) := dk_181 0 30 (dk_at dksX1_init_2 0 rfl rfl)
theorem dX1_init_48 : decode cX1_init 48 = .ok (.aload_n 0, 1) := dk_42 (dk_at dksX1_init_2 3 rfl rfl)
theorem dX1_init_49 : decode cX1_init 49 = .ok (.iconst (-1), 1) := dk_2 (dk_at dksX1_init_2 4 rfl rfl)
theorem dX1_init_50 : decode cX1_init 50 = .ok (.putfield 33, 3) := dk_181 0 33 (dk_at dksX1_init_2 5 rfl rfl)
theorem dX1_init_53 : decode cX1_init 53 = .ok (.return_, 1) := dk_177 (dk_at dksX1_init_2 8 rfl rfl)
abbrev cX1_turn : ByteArray := prog_1_method_40_code
def yX1_turn : MethodName := ⟨RX1, "turn", "()I"⟩
def dkwX1_turn_0 : List UInt8 := [42, 180, 0, 10, 180, 1, 35, 172]
abbrev dktX1_turn_0 : List UInt8 := dkwX1_turn_0 ++ []
theorem dksX1_turn_0 : cX1_turn.data.toList.drop 0 = dktX1_turn_0 := by decide +kernel
theorem dX1_turn_0 : decode cX1_turn 0 = .ok (.aload_n 0, 1) := dk_42 (dk_at dksX1_turn_0 0 rfl rfl)
theorem dX1_turn_1 : decode cX1_turn 1 = .ok (.getfield 10, 3) := dk_180 0 10 (dk_at dksX1_turn_0 1 rfl rfl)
theorem dX1_turn_4 : decode cX1_turn 4 = .ok (.getfield 291, 3) := dk_180 1 35 (dk_at dksX1_turn_0 4 rfl rfl)
theorem dX1_turn_7 : decode cX1_turn 7 = .ok (.ireturn, 1) := dk_172 (dk_at dksX1_turn_0 7 rfl rfl)
abbrev cX1_noses : ByteArray := prog_1_method_41_code
def yX1_noses : MethodName := ⟨RX1, "noses", "()I"⟩
def dkwX1_noses_2 : List UInt8 := [3, 96, 60, 132, 2, 1, 167, 255, 206, 27, 172]
abbrev dktX1_noses_2 : List UInt8 := dkwX1_noses_2 ++ []
def dkwX1_noses_1 : List UInt8 := [182, 1, 38, 153, 0, 21, 42, 180, 0, 10, 28, 4, 96, 3, 182, 1, 38, 153, 0, 7, 4, 167, 0, 4]
abbrev dktX1_noses_1 : List UInt8 := dkwX1_noses_1 ++ dktX1_noses_2
def dkwX1_noses_0 : List UInt8 := [3, 60, 3, 61, 28, 4, 96, 42, 180, 0, 10, 180, 0, 145, 162, 0, 43, 27, 42, 180, 0, 10, 28, 4]
abbrev dktX1_noses_0 : List UInt8 := dkwX1_noses_0 ++ dktX1_noses_1
theorem dksX1_noses_0 : cX1_noses.data.toList.drop 0 = dktX1_noses_0 := by decide +kernel
theorem dksX1_noses_1 : cX1_noses.data.toList.drop 24 = dktX1_noses_1 := dk_seg dksX1_noses_0 24 rfl rfl
theorem dksX1_noses_2 : cX1_noses.data.toList.drop 48 = dktX1_noses_2 := dk_seg dksX1_noses_1 24 rfl rfl
theorem dX1_noses_0 : decode cX1_noses 0 = .ok (.iconst 0, 1) := dk_3 (dk_at dksX1_noses_0 0 rfl rfl)
theorem dX1_noses_1 : decode cX1_noses 1 = .ok (.istore_n 1, 1) := dk_60 (dk_at dksX1_noses_0 1 rfl rfl)
theorem dX1_noses_2 : decode cX1_noses 2 = .ok (.iconst 0, 1) := dk_3 (dk_at dksX1_noses_0 2 rfl rfl)
theorem dX1_noses_3 : decode cX1_noses 3 = .ok (.istore_n 2, 1) := dk_61 (dk_at dksX1_noses_0 3 rfl rfl)
theorem dX1_noses_4 : decode cX1_noses 4 = .ok (.iload_n 2, 1) := dk_28 (dk_at dksX1_noses_0 4 rfl rfl)
theorem dX1_noses_5 : decode cX1_noses 5 = .ok (.iconst 1, 1) := dk_4 (dk_at dksX1_noses_0 5 rfl rfl)
theorem dX1_noses_6 : decode cX1_noses 6 = .ok (.iadd, 1) := dk_96 (dk_at dksX1_noses_0 6 rfl rfl)
theorem dX1_noses_7 : decode cX1_noses 7 = .ok (.aload_n 0, 1) := dk_42 (dk_at dksX1_noses_0 7 rfl rfl)
theorem dX1_noses_8 : decode cX1_noses 8 = .ok (.getfield 10, 3) := dk_180 0 10 (dk_at dksX1_noses_0 8 rfl rfl)
theorem dX1_noses_11 : decode cX1_noses 11 = .ok (.getfield 145, 3) := dk_180 0 145 (dk_at dksX1_noses_0 11 rfl rfl)
theorem dX1_noses_14 : decode cX1_noses 14 = .ok (.if_icmp .ge 43, 3) := dk_162 0 43 (dk_at dksX1_noses_0 14 rfl rfl)
theorem dX1_noses_17 : decode cX1_noses 17 = .ok (.iload_n 1, 1) := dk_27 (dk_at dksX1_noses_0 17 rfl rfl)
theorem dX1_noses_18 : decode cX1_noses 18 = .ok (.aload_n 0, 1) := dk_42 (dk_at dksX1_noses_0 18 rfl rfl)
theorem dX1_noses_19 : decode cX1_noses 19 = .ok (.getfield 10, 3) := dk_180 0 10 (dk_at dksX1_noses_0 19 rfl rfl)
theorem dX1_noses_22 : decode cX1_noses 22 = .ok (.iload_n 2, 1) := dk_28 (dk_at dksX1_noses_0 22 rfl rfl)
theorem dX1_noses_23 : decode cX1_noses 23 = .ok (.iconst 1, 1) := dk_4 (dk_at dksX1_noses_0 23 rfl rfl)
theorem dX1_noses_24 : decode cX1_noses 24 = .ok (.invokevirtual 294, 3) := dk_182 1 38 (dk_at dksX1_noses_1 0 rfl rfl)
theorem dX1_noses_27 : decode cX1_noses 27 = .ok (.ifCond .eq 21, 3) := dk_153 0 21 (dk_at dksX1_noses_1 3 rfl rfl)
theorem dX1_noses_30 : decode cX1_noses 30 = .ok (.aload_n 0, 1) := dk_42 (dk_at dksX1_noses_1 6 rfl rfl)
theorem dX1_noses_31 : decode cX1_noses 31 = .ok (.getfield 10, 3) := dk_180 0 10 (dk_at dksX1_noses_1 7 rfl rfl)
theorem dX1_noses_34 : decode cX1_noses 34 = .ok (.iload_n 2, 1) := dk_28 (dk_at dksX1_noses_1 10 rfl rfl)
theorem dX1_noses_35 : decode cX1_noses 35 = .ok (.iconst 1, 1) := dk_4 (dk_at dksX1_noses_1 11 rfl rfl)
theorem dX1_noses_36 : decode cX1_noses 36 = .ok (.iadd, 1) := dk_96 (dk_at dksX1_noses_1 12 rfl rfl)
theorem dX1_noses_37 : decode cX1_noses 37 = .ok (.iconst 0, 1) := dk_3 (dk_at dksX1_noses_1 13 rfl rfl)
theorem dX1_noses_38 : decode cX1_noses 38 = .ok (.invokevirtual 294, 3) := dk_182 1 38 (dk_at dksX1_noses_1 14 rfl rfl)
theorem dX1_noses_41 : decode cX1_noses 41 = .ok (.ifCond .eq 7, 3) := dk_153 0 7 (dk_at dksX1_noses_1 17 rfl rfl)
theorem dX1_noses_44 : decode cX1_noses 44 = .ok (.iconst 1, 1) := dk_4 (dk_at dksX1_noses_1 20 rfl rfl)
theorem dX1_noses_45 : decode cX1_noses 45 = .ok (.goto 4, 3) := dk_167 0 4 (dk_at dksX1_noses_1 21 rfl rfl)
theorem dX1_noses_48 : decode cX1_noses 48 = .ok (.iconst 0, 1) := dk_3 (dk_at dksX1_noses_2 0 rfl rfl)
theorem dX1_noses_49 : decode cX1_noses 49 = .ok (.iadd, 1) := dk_96 (dk_at dksX1_noses_2 1 rfl rfl)
theorem dX1_noses_50 : decode cX1_noses 50 = .ok (.istore_n 1, 1) := dk_60 (dk_at dksX1_noses_2 2 rfl rfl)
theorem dX1_noses_51 : decode cX1_noses 51 = .ok (.iinc 2 1, 3) := dk_132 2 1 (dk_at dksX1_noses_2 3 rfl rfl)
theorem dX1_noses_54 : decode cX1_noses 54 = .ok (.goto (-50), 3) := dk_167 255 206 (dk_at dksX1_noses_2 6 rfl rfl)
theorem dX1_noses_57 : decode cX1_noses 57 = .ok (.iload_n 1, 1) := dk_27 (dk_at dksX1_noses_2 9 rfl rfl)
theorem dX1_noses_58 : decode cX1_noses 58 = .ok (.ireturn, 1) := dk_172 (dk_at dksX1_noses_2 10 rfl rfl)
abbrev cX1_isBetween : ByteArray := prog_1_method_2_code
def yX1_isBetween : MethodName := ⟨RX1, "isBetween", "(III)Z"⟩
def dkwX1_isBetween_0 : List UInt8 := [26, 27, 161, 0, 12, 26, 28, 163, 0, 7, 4, 167, 0, 4, 3, 172]
abbrev dktX1_isBetween_0 : List UInt8 := dkwX1_isBetween_0 ++ []
theorem dksX1_isBetween_0 : cX1_isBetween.data.toList.drop 0 = dktX1_isBetween_0 := by decide +kernel
theorem dX1_isBetween_0 : decode cX1_isBetween 0 = .ok (.iload_n 0, 1) := dk_26 (dk_at dksX1_isBetween_0 0 rfl rfl)
theorem dX1_isBetween_1 : decode cX1_isBetween 1 = .ok (.iload_n 1, 1) := dk_27 (dk_at dksX1_isBetween_0 1 rfl rfl)
theorem dX1_isBetween_2 : decode cX1_isBetween 2 = .ok (.if_icmp .lt 12, 3) := dk_161 0 12 (dk_at dksX1_isBetween_0 2 rfl rfl)
theorem dX1_isBetween_5 : decode cX1_isBetween 5 = .ok (.iload_n 0, 1) := dk_26 (dk_at dksX1_isBetween_0 5 rfl rfl)
theorem dX1_isBetween_6 : decode cX1_isBetween 6 = .ok (.iload_n 2, 1) := dk_28 (dk_at dksX1_isBetween_0 6 rfl rfl)
theorem dX1_isBetween_7 : decode cX1_isBetween 7 = .ok (.if_icmp .gt 7, 3) := dk_163 0 7 (dk_at dksX1_isBetween_0 7 rfl rfl)
theorem dX1_isBetween_10 : decode cX1_isBetween 10 = .ok (.iconst 1, 1) := dk_4 (dk_at dksX1_isBetween_0 10 rfl rfl)
theorem dX1_isBetween_11 : decode cX1_isBetween 11 = .ok (.goto 4, 3) := dk_167 0 4 (dk_at dksX1_isBetween_0 11 rfl rfl)
theorem dX1_isBetween_14 : decode cX1_isBetween 14 = .ok (.iconst 0, 1) := dk_3 (dk_at dksX1_isBetween_0 14 rfl rfl)
theorem dX1_isBetween_15 : decode cX1_isBetween 15 = .ok (.ireturn, 1) := dk_172 (dk_at dksX1_isBetween_0 15 rfl rfl)
abbrev cX1_isTold : ByteArray := prog_1_method_52_code
def yX1_isTold : MethodName := ⟨RX1, "isTold", "()Z"⟩
def dkwX1_isTold_2 : List UInt8 := [180, 0, 10, 182, 1, 81, 2, 160, 0, 7, 4, 167, 0, 4, 3, 172]
abbrev dktX1_isTold_2 : List UInt8 := dkwX1_isTold_2 ++ []
def dkwX1_isTold_1 : List UInt8 := [185, 1, 57, 1, 0, 192, 0, 107, 77, 42, 44, 182, 1, 77, 154, 0, 5, 3, 172, 167, 255, 227, 42]
abbrev dktX1_isTold_1 : List UInt8 := dkwX1_isTold_1 ++ dktX1_isTold_2
def dkwX1_isTold_0 : List UInt8 := [42, 180, 0, 10, 180, 0, 97, 182, 1, 48, 76, 43, 185, 1, 52, 1, 0, 153, 0, 26, 43]
abbrev dktX1_isTold_0 : List UInt8 := dkwX1_isTold_0 ++ dktX1_isTold_1
theorem dksX1_isTold_0 : cX1_isTold.data.toList.drop 0 = dktX1_isTold_0 := by decide +kernel
theorem dksX1_isTold_1 : cX1_isTold.data.toList.drop 21 = dktX1_isTold_1 := dk_seg dksX1_isTold_0 21 rfl rfl
theorem dksX1_isTold_2 : cX1_isTold.data.toList.drop 44 = dktX1_isTold_2 := dk_seg dksX1_isTold_1 23 rfl rfl
theorem dX1_isTold_0 : decode cX1_isTold 0 = .ok (.aload_n 0, 1) := dk_42 (dk_at dksX1_isTold_0 0 rfl rfl)
theorem dX1_isTold_1 : decode cX1_isTold 1 = .ok (.getfield 10, 3) := dk_180 0 10 (dk_at dksX1_isTold_0 1 rfl rfl)
theorem dX1_isTold_4 : decode cX1_isTold 4 = .ok (.getfield 97, 3) := dk_180 0 97 (dk_at dksX1_isTold_0 4 rfl rfl)
theorem dX1_isTold_7 : decode cX1_isTold 7 = .ok (.invokevirtual 304, 3) := dk_182 1 48 (dk_at dksX1_isTold_0 7 rfl rfl)
theorem dX1_isTold_10 : decode cX1_isTold 10 = .ok (.astore_n 1, 1) := dk_76 (dk_at dksX1_isTold_0 10 rfl rfl)
theorem dX1_isTold_11 : decode cX1_isTold 11 = .ok (.aload_n 1, 1) := dk_43 (dk_at dksX1_isTold_0 11 rfl rfl)
theorem dX1_isTold_12 : decode cX1_isTold 12 = .ok (.invokeinterface 308 1, 5) := by decide +kernel
theorem dX1_isTold_17 : decode cX1_isTold 17 = .ok (.ifCond .eq 26, 3) := dk_153 0 26 (dk_at dksX1_isTold_0 17 rfl rfl)
theorem dX1_isTold_20 : decode cX1_isTold 20 = .ok (.aload_n 1, 1) := dk_43 (dk_at dksX1_isTold_0 20 rfl rfl)
theorem dX1_isTold_21 : decode cX1_isTold 21 = .ok (.invokeinterface 313 1, 5) := by decide +kernel
theorem dX1_isTold_26 : decode cX1_isTold 26 = .ok (.checkcast 107, 3) := dk_192 0 107 (dk_at dksX1_isTold_1 5 rfl rfl)
theorem dX1_isTold_29 : decode cX1_isTold 29 = .ok (.astore_n 2, 1) := dk_77 (dk_at dksX1_isTold_1 8 rfl rfl)
theorem dX1_isTold_30 : decode cX1_isTold 30 = .ok (.aload_n 0, 1) := dk_42 (dk_at dksX1_isTold_1 9 rfl rfl)
theorem dX1_isTold_31 : decode cX1_isTold 31 = .ok (.aload_n 2, 1) := dk_44 (dk_at dksX1_isTold_1 10 rfl rfl)
theorem dX1_isTold_32 : decode cX1_isTold 32 = .ok (.invokevirtual 333, 3) := dk_182 1 77 (dk_at dksX1_isTold_1 11 rfl rfl)
theorem dX1_isTold_35 : decode cX1_isTold 35 = .ok (.ifCond .ne 5, 3) := dk_154 0 5 (dk_at dksX1_isTold_1 14 rfl rfl)
theorem dX1_isTold_38 : decode cX1_isTold 38 = .ok (.iconst 0, 1) := dk_3 (dk_at dksX1_isTold_1 17 rfl rfl)
theorem dX1_isTold_39 : decode cX1_isTold 39 = .ok (.ireturn, 1) := dk_172 (dk_at dksX1_isTold_1 18 rfl rfl)
theorem dX1_isTold_40 : decode cX1_isTold 40 = .ok (.goto (-29), 3) := dk_167 255 227 (dk_at dksX1_isTold_1 19 rfl rfl)
theorem dX1_isTold_43 : decode cX1_isTold 43 = .ok (.aload_n 0, 1) := dk_42 (dk_at dksX1_isTold_1 22 rfl rfl)
theorem dX1_isTold_44 : decode cX1_isTold 44 = .ok (.getfield 10, 3) := dk_180 0 10 (dk_at dksX1_isTold_2 0 rfl rfl)
theorem dX1_isTold_47 : decode cX1_isTold 47 = .ok (.invokevirtual 337, 3) := dk_182 1 81 (dk_at dksX1_isTold_2 3 rfl rfl)
theorem dX1_isTold_50 : decode cX1_isTold 50 = .ok (.iconst (-1), 1) := dk_2 (dk_at dksX1_isTold_2 6 rfl rfl)
theorem dX1_isTold_51 : decode cX1_isTold 51 = .ok (.if_icmp .ne 7, 3) := dk_160 0 7 (dk_at dksX1_isTold_2 7 rfl rfl)
theorem dX1_isTold_54 : decode cX1_isTold 54 = .ok (.iconst 1, 1) := dk_4 (dk_at dksX1_isTold_2 10 rfl rfl)
theorem dX1_isTold_55 : decode cX1_isTold 55 = .ok (.goto 4, 3) := dk_167 0 4 (dk_at dksX1_isTold_2 11 rfl rfl)
theorem dX1_isTold_58 : decode cX1_isTold 58 = .ok (.iconst 0, 1) := dk_3 (dk_at dksX1_isTold_2 14 rfl rfl)
theorem dX1_isTold_59 : decode cX1_isTold 59 = .ok (.ireturn, 1) := dk_172 (dk_at dksX1_isTold_2 15 rfl rfl)
abbrev cX1_isToldAlike : ByteArray := prog_1_method_51_code
def yX1_isToldAlike : MethodName := ⟨RX1, "isToldAlike", "(LCartBridge$Cart;)Z"⟩
def dkwX1_isToldAlike_3 : List UInt8 := [160, 0, 7, 4, 167, 0, 4, 3, 172]
abbrev dktX1_isToldAlike_3 : List UInt8 := dkwX1_isToldAlike_3 ++ []
def dkwX1_isToldAlike_2 : List UInt8 := [153, 0, 31, 43, 180, 0, 164, 4, 160, 0, 19, 42, 180, 0, 10, 43, 182, 0, 251, 42, 43, 182, 1, 13]
abbrev dktX1_isToldAlike_2 : List UInt8 := dkwX1_isToldAlike_2 ++ dktX1_isToldAlike_3
def dkwX1_isToldAlike_1 : List UInt8 := [180, 0, 164, 6, 160, 0, 7, 3, 167, 0, 4, 4, 160, 0, 7, 4, 167, 0, 4, 3, 61, 28]
abbrev dktX1_isToldAlike_1 : List UInt8 := dkwX1_isToldAlike_1 ++ dktX1_isToldAlike_2
def dkwX1_isToldAlike_0 : List UInt8 := [43, 180, 0, 228, 43, 42, 180, 0, 10, 180, 0, 109, 182, 0, 231, 160, 0, 28, 42, 43, 182, 1, 74, 43]
abbrev dktX1_isToldAlike_0 : List UInt8 := dkwX1_isToldAlike_0 ++ dktX1_isToldAlike_1
theorem dksX1_isToldAlike_0 : cX1_isToldAlike.data.toList.drop 0 = dktX1_isToldAlike_0 := by decide +kernel
theorem dksX1_isToldAlike_1 : cX1_isToldAlike.data.toList.drop 24 = dktX1_isToldAlike_1 := dk_seg dksX1_isToldAlike_0 24 rfl rfl
theorem dksX1_isToldAlike_2 : cX1_isToldAlike.data.toList.drop 46 = dktX1_isToldAlike_2 := dk_seg dksX1_isToldAlike_1 22 rfl rfl
theorem dksX1_isToldAlike_3 : cX1_isToldAlike.data.toList.drop 70 = dktX1_isToldAlike_3 := dk_seg dksX1_isToldAlike_2 24 rfl rfl
theorem dX1_isToldAlike_0 : decode cX1_isToldAlike 0 = .ok (.aload_n 1, 1) := dk_43 (dk_at dksX1_isToldAlike_0 0 rfl rfl)
theorem dX1_isToldAlike_1 : decode cX1_isToldAlike 1 = .ok (.getfield 228, 3) := dk_180 0 228 (dk_at dksX1_isToldAlike_0 1 rfl rfl)
theorem dX1_isToldAlike_4 : decode cX1_isToldAlike 4 = .ok (.aload_n 1, 1) := dk_43 (dk_at dksX1_isToldAlike_0 4 rfl rfl)
theorem dX1_isToldAlike_5 : decode cX1_isToldAlike 5 = .ok (.aload_n 0, 1) := dk_42 (dk_at dksX1_isToldAlike_0 5 rfl rfl)
theorem dX1_isToldAlike_6 : decode cX1_isToldAlike 6 = .ok (.getfield 10, 3) := dk_180 0 10 (dk_at dksX1_isToldAlike_0 6 rfl rfl)
theorem dX1_isToldAlike_9 : decode cX1_isToldAlike 9 = .ok (.getfield 109, 3) := dk_180 0 109 (dk_at dksX1_isToldAlike_0 9 rfl rfl)
theorem dX1_isToldAlike_12 : decode cX1_isToldAlike 12 = .ok (.invokevirtual 231, 3) := dk_182 0 231 (dk_at dksX1_isToldAlike_0 12 rfl rfl)
theorem dX1_isToldAlike_15 : decode cX1_isToldAlike 15 = .ok (.if_icmp .ne 28, 3) := dk_160 0 28 (dk_at dksX1_isToldAlike_0 15 rfl rfl)
theorem dX1_isToldAlike_18 : decode cX1_isToldAlike 18 = .ok (.aload_n 0, 1) := dk_42 (dk_at dksX1_isToldAlike_0 18 rfl rfl)
theorem dX1_isToldAlike_19 : decode cX1_isToldAlike 19 = .ok (.aload_n 1, 1) := dk_43 (dk_at dksX1_isToldAlike_0 19 rfl rfl)
theorem dX1_isToldAlike_20 : decode cX1_isToldAlike 20 = .ok (.invokevirtual 330, 3) := dk_182 1 74 (dk_at dksX1_isToldAlike_0 20 rfl rfl)
theorem dX1_isToldAlike_23 : decode cX1_isToldAlike 23 = .ok (.aload_n 1, 1) := dk_43 (dk_at dksX1_isToldAlike_0 23 rfl rfl)
theorem dX1_isToldAlike_24 : decode cX1_isToldAlike 24 = .ok (.getfield 164, 3) := dk_180 0 164 (dk_at dksX1_isToldAlike_1 0 rfl rfl)
theorem dX1_isToldAlike_27 : decode cX1_isToldAlike 27 = .ok (.iconst 3, 1) := dk_6 (dk_at dksX1_isToldAlike_1 3 rfl rfl)
theorem dX1_isToldAlike_28 : decode cX1_isToldAlike 28 = .ok (.if_icmp .ne 7, 3) := dk_160 0 7 (dk_at dksX1_isToldAlike_1 4 rfl rfl)
theorem dX1_isToldAlike_31 : decode cX1_isToldAlike 31 = .ok (.iconst 0, 1) := dk_3 (dk_at dksX1_isToldAlike_1 7 rfl rfl)
theorem dX1_isToldAlike_32 : decode cX1_isToldAlike 32 = .ok (.goto 4, 3) := dk_167 0 4 (dk_at dksX1_isToldAlike_1 8 rfl rfl)
theorem dX1_isToldAlike_35 : decode cX1_isToldAlike 35 = .ok (.iconst 1, 1) := dk_4 (dk_at dksX1_isToldAlike_1 11 rfl rfl)
theorem dX1_isToldAlike_36 : decode cX1_isToldAlike 36 = .ok (.if_icmp .ne 7, 3) := dk_160 0 7 (dk_at dksX1_isToldAlike_1 12 rfl rfl)
theorem dX1_isToldAlike_39 : decode cX1_isToldAlike 39 = .ok (.iconst 1, 1) := dk_4 (dk_at dksX1_isToldAlike_1 15 rfl rfl)
theorem dX1_isToldAlike_40 : decode cX1_isToldAlike 40 = .ok (.goto 4, 3) := dk_167 0 4 (dk_at dksX1_isToldAlike_1 16 rfl rfl)
theorem dX1_isToldAlike_43 : decode cX1_isToldAlike 43 = .ok (.iconst 0, 1) := dk_3 (dk_at dksX1_isToldAlike_1 19 rfl rfl)
theorem dX1_isToldAlike_44 : decode cX1_isToldAlike 44 = .ok (.istore_n 2, 1) := dk_61 (dk_at dksX1_isToldAlike_1 20 rfl rfl)
theorem dX1_isToldAlike_45 : decode cX1_isToldAlike 45 = .ok (.iload_n 2, 1) := dk_28 (dk_at dksX1_isToldAlike_1 21 rfl rfl)
theorem dX1_isToldAlike_46 : decode cX1_isToldAlike 46 = .ok (.ifCond .eq 31, 3) := dk_153 0 31 (dk_at dksX1_isToldAlike_2 0 rfl rfl)
theorem dX1_isToldAlike_49 : decode cX1_isToldAlike 49 = .ok (.aload_n 1, 1) := dk_43 (dk_at dksX1_isToldAlike_2 3 rfl rfl)
theorem dX1_isToldAlike_50 : decode cX1_isToldAlike 50 = .ok (.getfield 164, 3) := dk_180 0 164 (dk_at dksX1_isToldAlike_2 4 rfl rfl)
theorem dX1_isToldAlike_53 : decode cX1_isToldAlike 53 = .ok (.iconst 1, 1) := dk_4 (dk_at dksX1_isToldAlike_2 7 rfl rfl)
theorem dX1_isToldAlike_54 : decode cX1_isToldAlike 54 = .ok (.if_icmp .ne 19, 3) := dk_160 0 19 (dk_at dksX1_isToldAlike_2 8 rfl rfl)
theorem dX1_isToldAlike_57 : decode cX1_isToldAlike 57 = .ok (.aload_n 0, 1) := dk_42 (dk_at dksX1_isToldAlike_2 11 rfl rfl)
theorem dX1_isToldAlike_58 : decode cX1_isToldAlike 58 = .ok (.getfield 10, 3) := dk_180 0 10 (dk_at dksX1_isToldAlike_2 12 rfl rfl)
theorem dX1_isToldAlike_61 : decode cX1_isToldAlike 61 = .ok (.aload_n 1, 1) := dk_43 (dk_at dksX1_isToldAlike_2 15 rfl rfl)
theorem dX1_isToldAlike_62 : decode cX1_isToldAlike 62 = .ok (.invokevirtual 251, 3) := dk_182 0 251 (dk_at dksX1_isToldAlike_2 16 rfl rfl)
theorem dX1_isToldAlike_65 : decode cX1_isToldAlike 65 = .ok (.aload_n 0, 1) := dk_42 (dk_at dksX1_isToldAlike_2 19 rfl rfl)
theorem dX1_isToldAlike_66 : decode cX1_isToldAlike 66 = .ok (.aload_n 1, 1) := dk_43 (dk_at dksX1_isToldAlike_2 20 rfl rfl)
theorem dX1_isToldAlike_67 : decode cX1_isToldAlike 67 = .ok (.invokevirtual 269, 3) := dk_182 1 13 (dk_at dksX1_isToldAlike_2 21 rfl rfl)
theorem dX1_isToldAlike_70 : decode cX1_isToldAlike 70 = .ok (.if_icmp .ne 7, 3) := dk_160 0 7 (dk_at dksX1_isToldAlike_3 0 rfl rfl)
theorem dX1_isToldAlike_73 : decode cX1_isToldAlike 73 = .ok (.iconst 1, 1) := dk_4 (dk_at dksX1_isToldAlike_3 3 rfl rfl)
theorem dX1_isToldAlike_74 : decode cX1_isToldAlike 74 = .ok (.goto 4, 3) := dk_167 0 4 (dk_at dksX1_isToldAlike_3 4 rfl rfl)
theorem dX1_isToldAlike_77 : decode cX1_isToldAlike 77 = .ok (.iconst 0, 1) := dk_3 (dk_at dksX1_isToldAlike_3 7 rfl rfl)
theorem dX1_isToldAlike_78 : decode cX1_isToldAlike 78 = .ok (.ireturn, 1) := dk_172 (dk_at dksX1_isToldAlike_3 8 rfl rfl)
abbrev cX1_places : ByteArray := prog_1_method_50_code
def yX1_places : MethodName := ⟨RX1, "places", "(LCartBridge$Cart;)I"⟩
def dkwX1_places_3 : List UInt8 := [180, 0, 191, 160, 0, 7, 4, 167, 0, 4, 3, 96, 61, 132, 3, 1, 167, 255, 218, 28, 172]
abbrev dktX1_places_3 : List UInt8 := dkwX1_places_3 ++ []
def dkwX1_places_2 : List UInt8 := [62, 29, 42, 180, 0, 10, 180, 0, 145, 162, 0, 33, 28, 42, 180, 0, 10, 180, 0, 244, 29, 46, 43]
abbrev dktX1_places_2 : List UInt8 := dkwX1_places_2 ++ dktX1_places_3
def dkwX1_places_1 : List UInt8 := [180, 0, 191, 184, 1, 67, 96, 42, 180, 0, 10, 180, 1, 42, 43, 180, 0, 191, 184, 1, 67, 96, 61, 3]
abbrev dktX1_places_1 : List UInt8 := dkwX1_places_1 ++ dktX1_places_2
def dkwX1_places_0 : List UInt8 := [42, 180, 0, 10, 180, 1, 64, 43, 180, 0, 191, 184, 1, 67, 42, 180, 0, 10, 180, 1, 71, 43]
abbrev dktX1_places_0 : List UInt8 := dkwX1_places_0 ++ dktX1_places_1
theorem dksX1_places_0 : cX1_places.data.toList.drop 0 = dktX1_places_0 := by decide +kernel
theorem dksX1_places_1 : cX1_places.data.toList.drop 22 = dktX1_places_1 := dk_seg dksX1_places_0 22 rfl rfl
theorem dksX1_places_2 : cX1_places.data.toList.drop 46 = dktX1_places_2 := dk_seg dksX1_places_1 24 rfl rfl
theorem dksX1_places_3 : cX1_places.data.toList.drop 69 = dktX1_places_3 := dk_seg dksX1_places_2 23 rfl rfl
theorem dX1_places_0 : decode cX1_places 0 = .ok (.aload_n 0, 1) := dk_42 (dk_at dksX1_places_0 0 rfl rfl)
theorem dX1_places_1 : decode cX1_places 1 = .ok (.getfield 10, 3) := dk_180 0 10 (dk_at dksX1_places_0 1 rfl rfl)
theorem dX1_places_4 : decode cX1_places 4 = .ok (.getfield 320, 3) := dk_180 1 64 (dk_at dksX1_places_0 4 rfl rfl)
theorem dX1_places_7 : decode cX1_places 7 = .ok (.aload_n 1, 1) := dk_43 (dk_at dksX1_places_0 7 rfl rfl)
theorem dX1_places_8 : decode cX1_places 8 = .ok (.getfield 191, 3) := dk_180 0 191 (dk_at dksX1_places_0 8 rfl rfl)
theorem dX1_places_11 : decode cX1_places 11 = .ok (.invokestatic 323, 3) := dk_184 1 67 (dk_at dksX1_places_0 11 rfl rfl)
theorem dX1_places_14 : decode cX1_places 14 = .ok (.aload_n 0, 1) := dk_42 (dk_at dksX1_places_0 14 rfl rfl)
theorem dX1_places_15 : decode cX1_places 15 = .ok (.getfield 10, 3) := dk_180 0 10 (dk_at dksX1_places_0 15 rfl rfl)
theorem dX1_places_18 : decode cX1_places 18 = .ok (.getfield 327, 3) := dk_180 1 71 (dk_at dksX1_places_0 18 rfl rfl)
theorem dX1_places_21 : decode cX1_places 21 = .ok (.aload_n 1, 1) := dk_43 (dk_at dksX1_places_0 21 rfl rfl)
theorem dX1_places_22 : decode cX1_places 22 = .ok (.getfield 191, 3) := dk_180 0 191 (dk_at dksX1_places_1 0 rfl rfl)
theorem dX1_places_25 : decode cX1_places 25 = .ok (.invokestatic 323, 3) := dk_184 1 67 (dk_at dksX1_places_1 3 rfl rfl)
theorem dX1_places_28 : decode cX1_places 28 = .ok (.iadd, 1) := dk_96 (dk_at dksX1_places_1 6 rfl rfl)
theorem dX1_places_29 : decode cX1_places 29 = .ok (.aload_n 0, 1) := dk_42 (dk_at dksX1_places_1 7 rfl rfl)
theorem dX1_places_30 : decode cX1_places 30 = .ok (.getfield 10, 3) := dk_180 0 10 (dk_at dksX1_places_1 8 rfl rfl)
theorem dX1_places_33 : decode cX1_places 33 = .ok (.getfield 298, 3) := dk_180 1 42 (dk_at dksX1_places_1 11 rfl rfl)
theorem dX1_places_36 : decode cX1_places 36 = .ok (.aload_n 1, 1) := dk_43 (dk_at dksX1_places_1 14 rfl rfl)
theorem dX1_places_37 : decode cX1_places 37 = .ok (.getfield 191, 3) := dk_180 0 191 (dk_at dksX1_places_1 15 rfl rfl)
theorem dX1_places_40 : decode cX1_places 40 = .ok (.invokestatic 323, 3) := dk_184 1 67 (dk_at dksX1_places_1 18 rfl rfl)
theorem dX1_places_43 : decode cX1_places 43 = .ok (.iadd, 1) := dk_96 (dk_at dksX1_places_1 21 rfl rfl)
theorem dX1_places_44 : decode cX1_places 44 = .ok (.istore_n 2, 1) := dk_61 (dk_at dksX1_places_1 22 rfl rfl)
theorem dX1_places_45 : decode cX1_places 45 = .ok (.iconst 0, 1) := dk_3 (dk_at dksX1_places_1 23 rfl rfl)
theorem dX1_places_46 : decode cX1_places 46 = .ok (.istore_n 3, 1) := dk_62 (dk_at dksX1_places_2 0 rfl rfl)
theorem dX1_places_47 : decode cX1_places 47 = .ok (.iload_n 3, 1) := dk_29 (dk_at dksX1_places_2 1 rfl rfl)
theorem dX1_places_48 : decode cX1_places 48 = .ok (.aload_n 0, 1) := dk_42 (dk_at dksX1_places_2 2 rfl rfl)
theorem dX1_places_49 : decode cX1_places 49 = .ok (.getfield 10, 3) := dk_180 0 10 (dk_at dksX1_places_2 3 rfl rfl)
theorem dX1_places_52 : decode cX1_places 52 = .ok (.getfield 145, 3) := dk_180 0 145 (dk_at dksX1_places_2 6 rfl rfl)
theorem dX1_places_55 : decode cX1_places 55 = .ok (.if_icmp .ge 33, 3) := dk_162 0 33 (dk_at dksX1_places_2 9 rfl rfl)
theorem dX1_places_58 : decode cX1_places 58 = .ok (.iload_n 2, 1) := dk_28 (dk_at dksX1_places_2 12 rfl rfl)
theorem dX1_places_59 : decode cX1_places 59 = .ok (.aload_n 0, 1) := dk_42 (dk_at dksX1_places_2 13 rfl rfl)
theorem dX1_places_60 : decode cX1_places 60 = .ok (.getfield 10, 3) := dk_180 0 10 (dk_at dksX1_places_2 14 rfl rfl)
theorem dX1_places_63 : decode cX1_places 63 = .ok (.getfield 244, 3) := dk_180 0 244 (dk_at dksX1_places_2 17 rfl rfl)
theorem dX1_places_66 : decode cX1_places 66 = .ok (.iload_n 3, 1) := dk_29 (dk_at dksX1_places_2 20 rfl rfl)
theorem dX1_places_67 : decode cX1_places 67 = .ok (.iaload, 1) := dk_46 (dk_at dksX1_places_2 21 rfl rfl)
theorem dX1_places_68 : decode cX1_places 68 = .ok (.aload_n 1, 1) := dk_43 (dk_at dksX1_places_2 22 rfl rfl)
theorem dX1_places_69 : decode cX1_places 69 = .ok (.getfield 191, 3) := dk_180 0 191 (dk_at dksX1_places_3 0 rfl rfl)
theorem dX1_places_72 : decode cX1_places 72 = .ok (.if_icmp .ne 7, 3) := dk_160 0 7 (dk_at dksX1_places_3 3 rfl rfl)
theorem dX1_places_75 : decode cX1_places 75 = .ok (.iconst 1, 1) := dk_4 (dk_at dksX1_places_3 6 rfl rfl)
theorem dX1_places_76 : decode cX1_places 76 = .ok (.goto 4, 3) := dk_167 0 4 (dk_at dksX1_places_3 7 rfl rfl)
theorem dX1_places_79 : decode cX1_places 79 = .ok (.iconst 0, 1) := dk_3 (dk_at dksX1_places_3 10 rfl rfl)
theorem dX1_places_80 : decode cX1_places 80 = .ok (.iadd, 1) := dk_96 (dk_at dksX1_places_3 11 rfl rfl)
theorem dX1_places_81 : decode cX1_places 81 = .ok (.istore_n 2, 1) := dk_61 (dk_at dksX1_places_3 12 rfl rfl)
theorem dX1_places_82 : decode cX1_places 82 = .ok (.iinc 3 1, 3) := dk_132 3 1 (dk_at dksX1_places_3 13 rfl rfl)
theorem dX1_places_85 : decode cX1_places 85 = .ok (.goto (-38), 3) := dk_167 255 218 (dk_at dksX1_places_3 16 rfl rfl)
theorem dX1_places_88 : decode cX1_places 88 = .ok (.iload_n 2, 1) := dk_28 (dk_at dksX1_places_3 19 rfl rfl)
theorem dX1_places_89 : decode cX1_places 89 = .ok (.ireturn, 1) := dk_172 (dk_at dksX1_places_3 20 rfl rfl)
abbrev cX1_times : ByteArray := prog_1_method_49_code
def yX1_times : MethodName := ⟨RX1, "times", "(Ljava/util/ArrayList;I)I"⟩
def dkwX1_times_1 : List UInt8 := [27, 160, 0, 7, 4, 167, 0, 4, 3, 96, 61, 132, 3, 1, 167, 255, 222, 28, 172]
abbrev dktX1_times_1 : List UInt8 := dkwX1_times_1 ++ []
def dkwX1_times_0 : List UInt8 := [3, 61, 3, 62, 29, 42, 182, 0, 101, 162, 0, 32, 28, 42, 29, 182, 0, 152, 192, 0, 124, 182, 0, 184]
abbrev dktX1_times_0 : List UInt8 := dkwX1_times_0 ++ dktX1_times_1
theorem dksX1_times_0 : cX1_times.data.toList.drop 0 = dktX1_times_0 := by decide +kernel
theorem dksX1_times_1 : cX1_times.data.toList.drop 24 = dktX1_times_1 := dk_seg dksX1_times_0 24 rfl rfl
theorem dX1_times_0 : decode cX1_times 0 = .ok (.iconst 0, 1) := dk_3 (dk_at dksX1_times_0 0 rfl rfl)
theorem dX1_times_1 : decode cX1_times 1 = .ok (.istore_n 2, 1) := dk_61 (dk_at dksX1_times_0 1 rfl rfl)
theorem dX1_times_2 : decode cX1_times 2 = .ok (.iconst 0, 1) := dk_3 (dk_at dksX1_times_0 2 rfl rfl)
theorem dX1_times_3 : decode cX1_times 3 = .ok (.istore_n 3, 1) := dk_62 (dk_at dksX1_times_0 3 rfl rfl)
theorem dX1_times_4 : decode cX1_times 4 = .ok (.iload_n 3, 1) := dk_29 (dk_at dksX1_times_0 4 rfl rfl)
theorem dX1_times_5 : decode cX1_times 5 = .ok (.aload_n 0, 1) := dk_42 (dk_at dksX1_times_0 5 rfl rfl)
theorem dX1_times_6 : decode cX1_times 6 = .ok (.invokevirtual 101, 3) := dk_182 0 101 (dk_at dksX1_times_0 6 rfl rfl)
theorem dX1_times_9 : decode cX1_times 9 = .ok (.if_icmp .ge 32, 3) := dk_162 0 32 (dk_at dksX1_times_0 9 rfl rfl)
theorem dX1_times_12 : decode cX1_times 12 = .ok (.iload_n 2, 1) := dk_28 (dk_at dksX1_times_0 12 rfl rfl)
theorem dX1_times_13 : decode cX1_times 13 = .ok (.aload_n 0, 1) := dk_42 (dk_at dksX1_times_0 13 rfl rfl)
theorem dX1_times_14 : decode cX1_times 14 = .ok (.iload_n 3, 1) := dk_29 (dk_at dksX1_times_0 14 rfl rfl)
theorem dX1_times_15 : decode cX1_times 15 = .ok (.invokevirtual 152, 3) := dk_182 0 152 (dk_at dksX1_times_0 15 rfl rfl)
theorem dX1_times_18 : decode cX1_times 18 = .ok (.checkcast 124, 3) := dk_192 0 124 (dk_at dksX1_times_0 18 rfl rfl)
theorem dX1_times_21 : decode cX1_times 21 = .ok (.invokevirtual 184, 3) := dk_182 0 184 (dk_at dksX1_times_0 21 rfl rfl)
theorem dX1_times_24 : decode cX1_times 24 = .ok (.iload_n 1, 1) := dk_27 (dk_at dksX1_times_1 0 rfl rfl)
theorem dX1_times_25 : decode cX1_times 25 = .ok (.if_icmp .ne 7, 3) := dk_160 0 7 (dk_at dksX1_times_1 1 rfl rfl)
theorem dX1_times_28 : decode cX1_times 28 = .ok (.iconst 1, 1) := dk_4 (dk_at dksX1_times_1 4 rfl rfl)
theorem dX1_times_29 : decode cX1_times 29 = .ok (.goto 4, 3) := dk_167 0 4 (dk_at dksX1_times_1 5 rfl rfl)
theorem dX1_times_32 : decode cX1_times 32 = .ok (.iconst 0, 1) := dk_3 (dk_at dksX1_times_1 8 rfl rfl)
theorem dX1_times_33 : decode cX1_times 33 = .ok (.iadd, 1) := dk_96 (dk_at dksX1_times_1 9 rfl rfl)
theorem dX1_times_34 : decode cX1_times 34 = .ok (.istore_n 2, 1) := dk_61 (dk_at dksX1_times_1 10 rfl rfl)
theorem dX1_times_35 : decode cX1_times 35 = .ok (.iinc 3 1, 3) := dk_132 3 1 (dk_at dksX1_times_1 11 rfl rfl)
theorem dX1_times_38 : decode cX1_times 38 = .ok (.goto (-34), 3) := dk_167 255 222 (dk_at dksX1_times_1 14 rfl rfl)
theorem dX1_times_41 : decode cX1_times 41 = .ok (.iload_n 2, 1) := dk_28 (dk_at dksX1_times_1 17 rfl rfl)
theorem dX1_times_42 : decode cX1_times 42 = .ok (.ireturn, 1) := dk_172 (dk_at dksX1_times_1 18 rfl rfl)
abbrev cX1_other : ByteArray := prog_1_method_10_code
def yX1_other : MethodName := ⟨RX1, "other", "(I)I"⟩
def dkwX1_other_0 : List UInt8 := [4, 26, 100, 172]
abbrev dktX1_other_0 : List UInt8 := dkwX1_other_0 ++ []
theorem dksX1_other_0 : cX1_other.data.toList.drop 0 = dktX1_other_0 := by decide +kernel
theorem dX1_other_0 : decode cX1_other 0 = .ok (.iconst 1, 1) := dk_4 (dk_at dksX1_other_0 0 rfl rfl)
theorem dX1_other_1 : decode cX1_other 1 = .ok (.iload_n 0, 1) := dk_26 (dk_at dksX1_other_0 1 rfl rfl)
theorem dX1_other_2 : decode cX1_other 2 = .ok (.isub, 1) := dk_100 (dk_at dksX1_other_0 2 rfl rfl)
theorem dX1_other_3 : decode cX1_other 3 = .ok (.ireturn, 1) := dk_172 (dk_at dksX1_other_0 3 rfl rfl)
abbrev cX1_runLoadBySpans : ByteArray := prog_1_method_34_code
def yX1_runLoadBySpans : MethodName := ⟨RX1, "runLoadBySpans", "(LCartBridge$Cart;)I"⟩
def dkwX1_runLoadBySpans_1 : List UInt8 := [28, 43, 180, 0, 167, 184, 1, 10, 182, 1, 7, 100, 172]
abbrev dktX1_runLoadBySpans_1 : List UInt8 := dkwX1_runLoadBySpans_1 ++ []
def dkwX1_runLoadBySpans_0 : List UInt8 := [42, 180, 0, 10, 43, 182, 0, 254, 61, 42, 28, 43, 180, 0, 167, 184, 1, 1, 4, 96, 182, 1, 7, 42]
abbrev dktX1_runLoadBySpans_0 : List UInt8 := dkwX1_runLoadBySpans_0 ++ dktX1_runLoadBySpans_1
theorem dksX1_runLoadBySpans_0 : cX1_runLoadBySpans.data.toList.drop 0 = dktX1_runLoadBySpans_0 := by decide +kernel
theorem dksX1_runLoadBySpans_1 : cX1_runLoadBySpans.data.toList.drop 24 = dktX1_runLoadBySpans_1 := dk_seg dksX1_runLoadBySpans_0 24 rfl rfl
theorem dX1_runLoadBySpans_0 : decode cX1_runLoadBySpans 0 = .ok (.aload_n 0, 1) := dk_42 (dk_at dksX1_runLoadBySpans_0 0 rfl rfl)
theorem dX1_runLoadBySpans_1 : decode cX1_runLoadBySpans 1 = .ok (.getfield 10, 3) := dk_180 0 10 (dk_at dksX1_runLoadBySpans_0 1 rfl rfl)
theorem dX1_runLoadBySpans_4 : decode cX1_runLoadBySpans 4 = .ok (.aload_n 1, 1) := dk_43 (dk_at dksX1_runLoadBySpans_0 4 rfl rfl)
theorem dX1_runLoadBySpans_5 : decode cX1_runLoadBySpans 5 = .ok (.invokevirtual 254, 3) := dk_182 0 254 (dk_at dksX1_runLoadBySpans_0 5 rfl rfl)
theorem dX1_runLoadBySpans_8 : decode cX1_runLoadBySpans 8 = .ok (.istore_n 2, 1) := dk_61 (dk_at dksX1_runLoadBySpans_0 8 rfl rfl)
theorem dX1_runLoadBySpans_9 : decode cX1_runLoadBySpans 9 = .ok (.aload_n 0, 1) := dk_42 (dk_at dksX1_runLoadBySpans_0 9 rfl rfl)
theorem dX1_runLoadBySpans_10 : decode cX1_runLoadBySpans 10 = .ok (.iload_n 2, 1) := dk_28 (dk_at dksX1_runLoadBySpans_0 10 rfl rfl)
theorem dX1_runLoadBySpans_11 : decode cX1_runLoadBySpans 11 = .ok (.aload_n 1, 1) := dk_43 (dk_at dksX1_runLoadBySpans_0 11 rfl rfl)
theorem dX1_runLoadBySpans_12 : decode cX1_runLoadBySpans 12 = .ok (.getfield 167, 3) := dk_180 0 167 (dk_at dksX1_runLoadBySpans_0 12 rfl rfl)
theorem dX1_runLoadBySpans_15 : decode cX1_runLoadBySpans 15 = .ok (.invokestatic 257, 3) := dk_184 1 1 (dk_at dksX1_runLoadBySpans_0 15 rfl rfl)
theorem dX1_runLoadBySpans_18 : decode cX1_runLoadBySpans 18 = .ok (.iconst 1, 1) := dk_4 (dk_at dksX1_runLoadBySpans_0 18 rfl rfl)
theorem dX1_runLoadBySpans_19 : decode cX1_runLoadBySpans 19 = .ok (.iadd, 1) := dk_96 (dk_at dksX1_runLoadBySpans_0 19 rfl rfl)
theorem dX1_runLoadBySpans_20 : decode cX1_runLoadBySpans 20 = .ok (.invokevirtual 263, 3) := dk_182 1 7 (dk_at dksX1_runLoadBySpans_0 20 rfl rfl)
theorem dX1_runLoadBySpans_23 : decode cX1_runLoadBySpans 23 = .ok (.aload_n 0, 1) := dk_42 (dk_at dksX1_runLoadBySpans_0 23 rfl rfl)
theorem dX1_runLoadBySpans_24 : decode cX1_runLoadBySpans 24 = .ok (.iload_n 2, 1) := dk_28 (dk_at dksX1_runLoadBySpans_1 0 rfl rfl)
theorem dX1_runLoadBySpans_25 : decode cX1_runLoadBySpans 25 = .ok (.aload_n 1, 1) := dk_43 (dk_at dksX1_runLoadBySpans_1 1 rfl rfl)
theorem dX1_runLoadBySpans_26 : decode cX1_runLoadBySpans 26 = .ok (.getfield 167, 3) := dk_180 0 167 (dk_at dksX1_runLoadBySpans_1 2 rfl rfl)
theorem dX1_runLoadBySpans_29 : decode cX1_runLoadBySpans 29 = .ok (.invokestatic 266, 3) := dk_184 1 10 (dk_at dksX1_runLoadBySpans_1 5 rfl rfl)
theorem dX1_runLoadBySpans_32 : decode cX1_runLoadBySpans 32 = .ok (.invokevirtual 263, 3) := dk_182 1 7 (dk_at dksX1_runLoadBySpans_1 8 rfl rfl)
theorem dX1_runLoadBySpans_35 : decode cX1_runLoadBySpans 35 = .ok (.isub, 1) := dk_100 (dk_at dksX1_runLoadBySpans_1 11 rfl rfl)
theorem dX1_runLoadBySpans_36 : decode cX1_runLoadBySpans 36 = .ok (.ireturn, 1) := dk_172 (dk_at dksX1_runLoadBySpans_1 12 rfl rfl)
abbrev cX1_loadsTo : ByteArray := prog_1_method_33_code
def yX1_loadsTo : MethodName := ⟨RX1, "loadsTo", "(I)I"⟩
def dkwX1_loadsTo_2 : List UInt8 := [192, 0, 107, 180, 0, 217, 96, 61, 132, 3, 1, 167, 255, 203, 28, 172]
abbrev dktX1_loadsTo_2 : List UInt8 := dkwX1_loadsTo_2 ++ []
def dkwX1_loadsTo_1 : List UInt8 := [167, 0, 28, 42, 180, 0, 10, 180, 0, 97, 42, 180, 0, 10, 180, 0, 244, 29, 46, 182, 0, 152]
abbrev dktX1_loadsTo_1 : List UInt8 := dkwX1_loadsTo_1 ++ dktX1_loadsTo_2
def dkwX1_loadsTo_0 : List UInt8 := [3, 61, 3, 62, 29, 27, 162, 0, 54, 28, 42, 180, 0, 10, 180, 0, 244, 29, 46, 2, 160, 0, 7, 3]
abbrev dktX1_loadsTo_0 : List UInt8 := dkwX1_loadsTo_0 ++ dktX1_loadsTo_1
theorem dksX1_loadsTo_0 : cX1_loadsTo.data.toList.drop 0 = dktX1_loadsTo_0 := by decide +kernel
theorem dksX1_loadsTo_1 : cX1_loadsTo.data.toList.drop 24 = dktX1_loadsTo_1 := dk_seg dksX1_loadsTo_0 24 rfl rfl
theorem dksX1_loadsTo_2 : cX1_loadsTo.data.toList.drop 46 = dktX1_loadsTo_2 := dk_seg dksX1_loadsTo_1 22 rfl rfl
theorem dX1_loadsTo_0 : decode cX1_loadsTo 0 = .ok (.iconst 0, 1) := dk_3 (dk_at dksX1_loadsTo_0 0 rfl rfl)
theorem dX1_loadsTo_1 : decode cX1_loadsTo 1 = .ok (.istore_n 2, 1) := dk_61 (dk_at dksX1_loadsTo_0 1 rfl rfl)
theorem dX1_loadsTo_2 : decode cX1_loadsTo 2 = .ok (.iconst 0, 1) := dk_3 (dk_at dksX1_loadsTo_0 2 rfl rfl)
theorem dX1_loadsTo_3 : decode cX1_loadsTo 3 = .ok (.istore_n 3, 1) := dk_62 (dk_at dksX1_loadsTo_0 3 rfl rfl)
theorem dX1_loadsTo_4 : decode cX1_loadsTo 4 = .ok (.iload_n 3, 1) := dk_29 (dk_at dksX1_loadsTo_0 4 rfl rfl)
theorem dX1_loadsTo_5 : decode cX1_loadsTo 5 = .ok (.iload_n 1, 1) := dk_27 (dk_at dksX1_loadsTo_0 5 rfl rfl)
theorem dX1_loadsTo_6 : decode cX1_loadsTo 6 = .ok (.if_icmp .ge 54, 3) := dk_162 0 54 (dk_at dksX1_loadsTo_0 6 rfl rfl)
theorem dX1_loadsTo_9 : decode cX1_loadsTo 9 = .ok (.iload_n 2, 1) := dk_28 (dk_at dksX1_loadsTo_0 9 rfl rfl)
theorem dX1_loadsTo_10 : decode cX1_loadsTo 10 = .ok (.aload_n 0, 1) := dk_42 (dk_at dksX1_loadsTo_0 10 rfl rfl)
theorem dX1_loadsTo_11 : decode cX1_loadsTo 11 = .ok (.getfield 10, 3) := dk_180 0 10 (dk_at dksX1_loadsTo_0 11 rfl rfl)
theorem dX1_loadsTo_14 : decode cX1_loadsTo 14 = .ok (.getfield 244, 3) := dk_180 0 244 (dk_at dksX1_loadsTo_0 14 rfl rfl)
theorem dX1_loadsTo_17 : decode cX1_loadsTo 17 = .ok (.iload_n 3, 1) := dk_29 (dk_at dksX1_loadsTo_0 17 rfl rfl)
theorem dX1_loadsTo_18 : decode cX1_loadsTo 18 = .ok (.iaload, 1) := dk_46 (dk_at dksX1_loadsTo_0 18 rfl rfl)
theorem dX1_loadsTo_19 : decode cX1_loadsTo 19 = .ok (.iconst (-1), 1) := dk_2 (dk_at dksX1_loadsTo_0 19 rfl rfl)
theorem dX1_loadsTo_20 : decode cX1_loadsTo 20 = .ok (.if_icmp .ne 7, 3) := dk_160 0 7 (dk_at dksX1_loadsTo_0 20 rfl rfl)
theorem dX1_loadsTo_23 : decode cX1_loadsTo 23 = .ok (.iconst 0, 1) := dk_3 (dk_at dksX1_loadsTo_0 23 rfl rfl)
theorem dX1_loadsTo_24 : decode cX1_loadsTo 24 = .ok (.goto 28, 3) := dk_167 0 28 (dk_at dksX1_loadsTo_1 0 rfl rfl)
theorem dX1_loadsTo_27 : decode cX1_loadsTo 27 = .ok (.aload_n 0, 1) := dk_42 (dk_at dksX1_loadsTo_1 3 rfl rfl)
theorem dX1_loadsTo_28 : decode cX1_loadsTo 28 = .ok (.getfield 10, 3) := dk_180 0 10 (dk_at dksX1_loadsTo_1 4 rfl rfl)
theorem dX1_loadsTo_31 : decode cX1_loadsTo 31 = .ok (.getfield 97, 3) := dk_180 0 97 (dk_at dksX1_loadsTo_1 7 rfl rfl)
theorem dX1_loadsTo_34 : decode cX1_loadsTo 34 = .ok (.aload_n 0, 1) := dk_42 (dk_at dksX1_loadsTo_1 10 rfl rfl)
theorem dX1_loadsTo_35 : decode cX1_loadsTo 35 = .ok (.getfield 10, 3) := dk_180 0 10 (dk_at dksX1_loadsTo_1 11 rfl rfl)
theorem dX1_loadsTo_38 : decode cX1_loadsTo 38 = .ok (.getfield 244, 3) := dk_180 0 244 (dk_at dksX1_loadsTo_1 14 rfl rfl)
theorem dX1_loadsTo_41 : decode cX1_loadsTo 41 = .ok (.iload_n 3, 1) := dk_29 (dk_at dksX1_loadsTo_1 17 rfl rfl)
theorem dX1_loadsTo_42 : decode cX1_loadsTo 42 = .ok (.iaload, 1) := dk_46 (dk_at dksX1_loadsTo_1 18 rfl rfl)
theorem dX1_loadsTo_43 : decode cX1_loadsTo 43 = .ok (.invokevirtual 152, 3) := dk_182 0 152 (dk_at dksX1_loadsTo_1 19 rfl rfl)
theorem dX1_loadsTo_46 : decode cX1_loadsTo 46 = .ok (.checkcast 107, 3) := dk_192 0 107 (dk_at dksX1_loadsTo_2 0 rfl rfl)
theorem dX1_loadsTo_49 : decode cX1_loadsTo 49 = .ok (.getfield 217, 3) := dk_180 0 217 (dk_at dksX1_loadsTo_2 3 rfl rfl)
theorem dX1_loadsTo_52 : decode cX1_loadsTo 52 = .ok (.iadd, 1) := dk_96 (dk_at dksX1_loadsTo_2 6 rfl rfl)
theorem dX1_loadsTo_53 : decode cX1_loadsTo 53 = .ok (.istore_n 2, 1) := dk_61 (dk_at dksX1_loadsTo_2 7 rfl rfl)
theorem dX1_loadsTo_54 : decode cX1_loadsTo 54 = .ok (.iinc 3 1, 3) := dk_132 3 1 (dk_at dksX1_loadsTo_2 8 rfl rfl)
theorem dX1_loadsTo_57 : decode cX1_loadsTo 57 = .ok (.goto (-53), 3) := dk_167 255 203 (dk_at dksX1_loadsTo_2 11 rfl rfl)
theorem dX1_loadsTo_60 : decode cX1_loadsTo 60 = .ok (.iload_n 2, 1) := dk_28 (dk_at dksX1_loadsTo_2 14 rfl rfl)
theorem dX1_loadsTo_61 : decode cX1_loadsTo 61 = .ok (.ireturn, 1) := dk_172 (dk_at dksX1_loadsTo_2 15 rfl rfl)
abbrev cX1_faultPosition : ByteArray := prog_1_method_57_code
def yX1_faultPosition : MethodName := ⟨RX1, "faultPosition", "()I"⟩
theorem dX1_faultPosition_0 : decode cX1_faultPosition 0 = .ok (.aload_n 0, 1) := by decide +kernel
theorem dX1_faultPosition_1 : decode cX1_faultPosition 1 = .ok (.getfield 33, 3) := by decide +kernel
theorem dX1_faultPosition_4 : decode cX1_faultPosition 4 = .ok (.ireturn, 1) := by decide +kernel
abbrev cX1_tell : ByteArray := prog_1_method_61_code
def yX1_tell : MethodName := ⟨RX1, "tell", "()I"⟩
def dkwX1_tell_7 : List UInt8 := [167, 255, 205, 42, 180, 0, 30, 182, 1, 135, 172]
abbrev dktX1_tell_7 : List UInt8 := dkwX1_tell_7 ++ []
def dkwX1_tell_6 : List UInt8 := [180, 0, 10, 180, 1, 71, 27, 182, 0, 152, 182, 1, 193, 182, 1, 144, 182, 1, 196, 132, 1, 1]
abbrev dktX1_tell_6 : List UInt8 := dkwX1_tell_6 ++ dktX1_tell_7
def dkwX1_tell_5 : List UInt8 := [180, 1, 71, 182, 0, 101, 162, 0, 43, 42, 187, 0, 23, 89, 183, 0, 25, 19, 1, 174, 182, 1, 178, 42]
abbrev dktX1_tell_5 : List UInt8 := dkwX1_tell_5 ++ dktX1_tell_6
def dkwX1_tell_4 : List UInt8 := [182, 1, 196, 132, 1, 1, 167, 255, 233, 42, 19, 1, 199, 182, 1, 196, 3, 60, 27, 42, 180, 0, 10]
abbrev dktX1_tell_4 : List UInt8 := dkwX1_tell_4 ++ dktX1_tell_5
def dkwX1_tell_3 : List UInt8 := [182, 1, 196, 3, 60, 27, 42, 180, 0, 10, 180, 0, 145, 162, 0, 18, 42, 42, 27, 182, 1, 201]
abbrev dktX1_tell_3 : List UInt8 := dkwX1_tell_3 ++ dktX1_tell_4
def dkwX1_tell_2 : List UInt8 := [27, 182, 0, 152, 182, 1, 193, 182, 1, 144, 182, 1, 196, 132, 1, 255, 167, 255, 215, 42, 19, 1, 199]
abbrev dktX1_tell_2 : List UInt8 := dkwX1_tell_2 ++ dktX1_tell_3
def dkwX1_tell_1 : List UInt8 := [155, 0, 43, 42, 187, 0, 23, 89, 183, 0, 25, 19, 1, 174, 182, 1, 178, 42, 180, 0, 10, 180, 1, 64]
abbrev dktX1_tell_1 : List UInt8 := dkwX1_tell_1 ++ dktX1_tell_2
def dkwX1_tell_0 : List UInt8 := [42, 180, 0, 30, 3, 182, 1, 151, 42, 180, 0, 10, 180, 1, 64, 182, 0, 101, 4, 100, 60, 27]
abbrev dktX1_tell_0 : List UInt8 := dkwX1_tell_0 ++ dktX1_tell_1
theorem dksX1_tell_0 : cX1_tell.data.toList.drop 0 = dktX1_tell_0 := by decide +kernel
theorem dksX1_tell_1 : cX1_tell.data.toList.drop 22 = dktX1_tell_1 := dk_seg dksX1_tell_0 22 rfl rfl
theorem dksX1_tell_2 : cX1_tell.data.toList.drop 46 = dktX1_tell_2 := dk_seg dksX1_tell_1 24 rfl rfl
theorem dksX1_tell_3 : cX1_tell.data.toList.drop 69 = dktX1_tell_3 := dk_seg dksX1_tell_2 23 rfl rfl
theorem dksX1_tell_4 : cX1_tell.data.toList.drop 91 = dktX1_tell_4 := dk_seg dksX1_tell_3 22 rfl rfl
theorem dksX1_tell_5 : cX1_tell.data.toList.drop 114 = dktX1_tell_5 := dk_seg dksX1_tell_4 23 rfl rfl
theorem dksX1_tell_6 : cX1_tell.data.toList.drop 138 = dktX1_tell_6 := dk_seg dksX1_tell_5 24 rfl rfl
theorem dksX1_tell_7 : cX1_tell.data.toList.drop 160 = dktX1_tell_7 := dk_seg dksX1_tell_6 22 rfl rfl
theorem dX1_tell_0 : decode cX1_tell 0 = .ok (.aload_n 0, 1) := dk_42 (dk_at dksX1_tell_0 0 rfl rfl)
theorem dX1_tell_1 : decode cX1_tell 1 = .ok (.getfield 30, 3) := dk_180 0 30 (dk_at dksX1_tell_0 1 rfl rfl)
theorem dX1_tell_4 : decode cX1_tell 4 = .ok (.iconst 0, 1) := dk_3 (dk_at dksX1_tell_0 4 rfl rfl)
theorem dX1_tell_5 : decode cX1_tell 5 = .ok (.invokevirtual 407, 3) := dk_182 1 151 (dk_at dksX1_tell_0 5 rfl rfl)
theorem dX1_tell_8 : decode cX1_tell 8 = .ok (.aload_n 0, 1) := dk_42 (dk_at dksX1_tell_0 8 rfl rfl)
theorem dX1_tell_9 : decode cX1_tell 9 = .ok (.getfield 10, 3) := dk_180 0 10 (dk_at dksX1_tell_0 9 rfl rfl)
theorem dX1_tell_12 : decode cX1_tell 12 = .ok (.getfield 320, 3) := dk_180 1 64 (dk_at dksX1_tell_0 12 rfl rfl)
theorem dX1_tell_15 : decode cX1_tell 15 = .ok (.invokevirtual 101, 3) := dk_182 0 101 (dk_at dksX1_tell_0 15 rfl rfl)
theorem dX1_tell_18 : decode cX1_tell 18 = .ok (.iconst 1, 1) := dk_4 (dk_at dksX1_tell_0 18 rfl rfl)
theorem dX1_tell_19 : decode cX1_tell 19 = .ok (.isub, 1) := dk_100 (dk_at dksX1_tell_0 19 rfl rfl)
theorem dX1_tell_20 : decode cX1_tell 20 = .ok (.istore_n 1, 1) := dk_60 (dk_at dksX1_tell_0 20 rfl rfl)
theorem dX1_tell_21 : decode cX1_tell 21 = .ok (.iload_n 1, 1) := dk_27 (dk_at dksX1_tell_0 21 rfl rfl)
theorem dX1_tell_22 : decode cX1_tell 22 = .ok (.ifCond .lt 43, 3) := dk_155 0 43 (dk_at dksX1_tell_1 0 rfl rfl)
theorem dX1_tell_25 : decode cX1_tell 25 = .ok (.aload_n 0, 1) := dk_42 (dk_at dksX1_tell_1 3 rfl rfl)
theorem dX1_tell_26 : decode cX1_tell 26 = .ok (.new 23, 3) := dk_187 0 23 (dk_at dksX1_tell_1 4 rfl rfl)
theorem dX1_tell_29 : decode cX1_tell 29 = .ok (.dup, 1) := dk_89 (dk_at dksX1_tell_1 7 rfl rfl)
theorem dX1_tell_30 : decode cX1_tell 30 = .ok (.invokespecial 25, 3) := dk_183 0 25 (dk_at dksX1_tell_1 8 rfl rfl)
theorem dX1_tell_33 : decode cX1_tell 33 = .ok (.ldc_w 430, 3) := dk_19 1 174 (dk_at dksX1_tell_1 11 rfl rfl)
theorem dX1_tell_36 : decode cX1_tell 36 = .ok (.invokevirtual 434, 3) := dk_182 1 178 (dk_at dksX1_tell_1 14 rfl rfl)
theorem dX1_tell_39 : decode cX1_tell 39 = .ok (.aload_n 0, 1) := dk_42 (dk_at dksX1_tell_1 17 rfl rfl)
theorem dX1_tell_40 : decode cX1_tell 40 = .ok (.getfield 10, 3) := dk_180 0 10 (dk_at dksX1_tell_1 18 rfl rfl)
theorem dX1_tell_43 : decode cX1_tell 43 = .ok (.getfield 320, 3) := dk_180 1 64 (dk_at dksX1_tell_1 21 rfl rfl)
theorem dX1_tell_46 : decode cX1_tell 46 = .ok (.iload_n 1, 1) := dk_27 (dk_at dksX1_tell_2 0 rfl rfl)
theorem dX1_tell_47 : decode cX1_tell 47 = .ok (.invokevirtual 152, 3) := dk_182 0 152 (dk_at dksX1_tell_2 1 rfl rfl)
theorem dX1_tell_50 : decode cX1_tell 50 = .ok (.invokevirtual 449, 3) := dk_182 1 193 (dk_at dksX1_tell_2 4 rfl rfl)
theorem dX1_tell_53 : decode cX1_tell 53 = .ok (.invokevirtual 400, 3) := dk_182 1 144 (dk_at dksX1_tell_2 7 rfl rfl)
theorem dX1_tell_56 : decode cX1_tell 56 = .ok (.invokevirtual 452, 3) := dk_182 1 196 (dk_at dksX1_tell_2 10 rfl rfl)
theorem dX1_tell_59 : decode cX1_tell 59 = .ok (.iinc 1 (-1), 3) := dk_132 1 255 (dk_at dksX1_tell_2 13 rfl rfl)
theorem dX1_tell_62 : decode cX1_tell 62 = .ok (.goto (-41), 3) := dk_167 255 215 (dk_at dksX1_tell_2 16 rfl rfl)
theorem dX1_tell_65 : decode cX1_tell 65 = .ok (.aload_n 0, 1) := dk_42 (dk_at dksX1_tell_2 19 rfl rfl)
theorem dX1_tell_66 : decode cX1_tell 66 = .ok (.ldc_w 455, 3) := dk_19 1 199 (dk_at dksX1_tell_2 20 rfl rfl)
theorem dX1_tell_69 : decode cX1_tell 69 = .ok (.invokevirtual 452, 3) := dk_182 1 196 (dk_at dksX1_tell_3 0 rfl rfl)
theorem dX1_tell_72 : decode cX1_tell 72 = .ok (.iconst 0, 1) := dk_3 (dk_at dksX1_tell_3 3 rfl rfl)
theorem dX1_tell_73 : decode cX1_tell 73 = .ok (.istore_n 1, 1) := dk_60 (dk_at dksX1_tell_3 4 rfl rfl)
theorem dX1_tell_74 : decode cX1_tell 74 = .ok (.iload_n 1, 1) := dk_27 (dk_at dksX1_tell_3 5 rfl rfl)
theorem dX1_tell_75 : decode cX1_tell 75 = .ok (.aload_n 0, 1) := dk_42 (dk_at dksX1_tell_3 6 rfl rfl)
theorem dX1_tell_76 : decode cX1_tell 76 = .ok (.getfield 10, 3) := dk_180 0 10 (dk_at dksX1_tell_3 7 rfl rfl)
theorem dX1_tell_79 : decode cX1_tell 79 = .ok (.getfield 145, 3) := dk_180 0 145 (dk_at dksX1_tell_3 10 rfl rfl)
theorem dX1_tell_82 : decode cX1_tell 82 = .ok (.if_icmp .ge 18, 3) := dk_162 0 18 (dk_at dksX1_tell_3 13 rfl rfl)
theorem dX1_tell_85 : decode cX1_tell 85 = .ok (.aload_n 0, 1) := dk_42 (dk_at dksX1_tell_3 16 rfl rfl)
theorem dX1_tell_86 : decode cX1_tell 86 = .ok (.aload_n 0, 1) := dk_42 (dk_at dksX1_tell_3 17 rfl rfl)
theorem dX1_tell_87 : decode cX1_tell 87 = .ok (.iload_n 1, 1) := dk_27 (dk_at dksX1_tell_3 18 rfl rfl)
theorem dX1_tell_88 : decode cX1_tell 88 = .ok (.invokevirtual 457, 3) := dk_182 1 201 (dk_at dksX1_tell_3 19 rfl rfl)
theorem dX1_tell_91 : decode cX1_tell 91 = .ok (.invokevirtual 452, 3) := dk_182 1 196 (dk_at dksX1_tell_4 0 rfl rfl)
theorem dX1_tell_94 : decode cX1_tell 94 = .ok (.iinc 1 1, 3) := dk_132 1 1 (dk_at dksX1_tell_4 3 rfl rfl)
theorem dX1_tell_97 : decode cX1_tell 97 = .ok (.goto (-23), 3) := dk_167 255 233 (dk_at dksX1_tell_4 6 rfl rfl)
theorem dX1_tell_100 : decode cX1_tell 100 = .ok (.aload_n 0, 1) := dk_42 (dk_at dksX1_tell_4 9 rfl rfl)
theorem dX1_tell_101 : decode cX1_tell 101 = .ok (.ldc_w 455, 3) := dk_19 1 199 (dk_at dksX1_tell_4 10 rfl rfl)
theorem dX1_tell_104 : decode cX1_tell 104 = .ok (.invokevirtual 452, 3) := dk_182 1 196 (dk_at dksX1_tell_4 13 rfl rfl)
theorem dX1_tell_107 : decode cX1_tell 107 = .ok (.iconst 0, 1) := dk_3 (dk_at dksX1_tell_4 16 rfl rfl)
theorem dX1_tell_108 : decode cX1_tell 108 = .ok (.istore_n 1, 1) := dk_60 (dk_at dksX1_tell_4 17 rfl rfl)
theorem dX1_tell_109 : decode cX1_tell 109 = .ok (.iload_n 1, 1) := dk_27 (dk_at dksX1_tell_4 18 rfl rfl)
theorem dX1_tell_110 : decode cX1_tell 110 = .ok (.aload_n 0, 1) := dk_42 (dk_at dksX1_tell_4 19 rfl rfl)
theorem dX1_tell_111 : decode cX1_tell 111 = .ok (.getfield 10, 3) := dk_180 0 10 (dk_at dksX1_tell_4 20 rfl rfl)
theorem dX1_tell_114 : decode cX1_tell 114 = .ok (.getfield 327, 3) := dk_180 1 71 (dk_at dksX1_tell_5 0 rfl rfl)
theorem dX1_tell_117 : decode cX1_tell 117 = .ok (.invokevirtual 101, 3) := dk_182 0 101 (dk_at dksX1_tell_5 3 rfl rfl)
theorem dX1_tell_120 : decode cX1_tell 120 = .ok (.if_icmp .ge 43, 3) := dk_162 0 43 (dk_at dksX1_tell_5 6 rfl rfl)
theorem dX1_tell_123 : decode cX1_tell 123 = .ok (.aload_n 0, 1) := dk_42 (dk_at dksX1_tell_5 9 rfl rfl)
theorem dX1_tell_124 : decode cX1_tell 124 = .ok (.new 23, 3) := dk_187 0 23 (dk_at dksX1_tell_5 10 rfl rfl)
theorem dX1_tell_127 : decode cX1_tell 127 = .ok (.dup, 1) := dk_89 (dk_at dksX1_tell_5 13 rfl rfl)
theorem dX1_tell_128 : decode cX1_tell 128 = .ok (.invokespecial 25, 3) := dk_183 0 25 (dk_at dksX1_tell_5 14 rfl rfl)
theorem dX1_tell_131 : decode cX1_tell 131 = .ok (.ldc_w 430, 3) := dk_19 1 174 (dk_at dksX1_tell_5 17 rfl rfl)
theorem dX1_tell_134 : decode cX1_tell 134 = .ok (.invokevirtual 434, 3) := dk_182 1 178 (dk_at dksX1_tell_5 20 rfl rfl)
theorem dX1_tell_137 : decode cX1_tell 137 = .ok (.aload_n 0, 1) := dk_42 (dk_at dksX1_tell_5 23 rfl rfl)
theorem dX1_tell_138 : decode cX1_tell 138 = .ok (.getfield 10, 3) := dk_180 0 10 (dk_at dksX1_tell_6 0 rfl rfl)
theorem dX1_tell_141 : decode cX1_tell 141 = .ok (.getfield 327, 3) := dk_180 1 71 (dk_at dksX1_tell_6 3 rfl rfl)
theorem dX1_tell_144 : decode cX1_tell 144 = .ok (.iload_n 1, 1) := dk_27 (dk_at dksX1_tell_6 6 rfl rfl)
theorem dX1_tell_145 : decode cX1_tell 145 = .ok (.invokevirtual 152, 3) := dk_182 0 152 (dk_at dksX1_tell_6 7 rfl rfl)
theorem dX1_tell_148 : decode cX1_tell 148 = .ok (.invokevirtual 449, 3) := dk_182 1 193 (dk_at dksX1_tell_6 10 rfl rfl)
theorem dX1_tell_151 : decode cX1_tell 151 = .ok (.invokevirtual 400, 3) := dk_182 1 144 (dk_at dksX1_tell_6 13 rfl rfl)
theorem dX1_tell_154 : decode cX1_tell 154 = .ok (.invokevirtual 452, 3) := dk_182 1 196 (dk_at dksX1_tell_6 16 rfl rfl)
theorem dX1_tell_157 : decode cX1_tell 157 = .ok (.iinc 1 1, 3) := dk_132 1 1 (dk_at dksX1_tell_6 19 rfl rfl)
theorem dX1_tell_160 : decode cX1_tell 160 = .ok (.goto (-51), 3) := dk_167 255 205 (dk_at dksX1_tell_7 0 rfl rfl)
theorem dX1_tell_163 : decode cX1_tell 163 = .ok (.aload_n 0, 1) := dk_42 (dk_at dksX1_tell_7 3 rfl rfl)
theorem dX1_tell_164 : decode cX1_tell 164 = .ok (.getfield 30, 3) := dk_180 0 30 (dk_at dksX1_tell_7 4 rfl rfl)
theorem dX1_tell_167 : decode cX1_tell 167 = .ok (.invokevirtual 391, 3) := dk_182 1 135 (dk_at dksX1_tell_7 7 rfl rfl)
theorem dX1_tell_170 : decode cX1_tell 170 = .ok (.ireturn, 1) := dk_172 (dk_at dksX1_tell_7 10 rfl rfl)
abbrev cX1_writes : ByteArray := prog_1_method_59_code
def yX1_writes : MethodName := ⟨RX1, "writes", "(Ljava/lang/CharSequence;)V"⟩
def dkwX1_writes_1 : List UInt8 := [182, 1, 178, 43, 182, 1, 181, 87, 177]
abbrev dktX1_writes_1 : List UInt8 := dkwX1_writes_1 ++ []
def dkwX1_writes_0 : List UInt8 := [42, 180, 0, 30, 42, 180, 0, 30, 182, 1, 171, 153, 0, 9, 19, 1, 174, 167, 0, 6, 19, 1, 176]
abbrev dktX1_writes_0 : List UInt8 := dkwX1_writes_0 ++ dktX1_writes_1
theorem dksX1_writes_0 : cX1_writes.data.toList.drop 0 = dktX1_writes_0 := by decide +kernel
theorem dksX1_writes_1 : cX1_writes.data.toList.drop 23 = dktX1_writes_1 := dk_seg dksX1_writes_0 23 rfl rfl
theorem dX1_writes_0 : decode cX1_writes 0 = .ok (.aload_n 0, 1) := dk_42 (dk_at dksX1_writes_0 0 rfl rfl)
theorem dX1_writes_1 : decode cX1_writes 1 = .ok (.getfield 30, 3) := dk_180 0 30 (dk_at dksX1_writes_0 1 rfl rfl)
theorem dX1_writes_4 : decode cX1_writes 4 = .ok (.aload_n 0, 1) := dk_42 (dk_at dksX1_writes_0 4 rfl rfl)
theorem dX1_writes_5 : decode cX1_writes 5 = .ok (.getfield 30, 3) := dk_180 0 30 (dk_at dksX1_writes_0 5 rfl rfl)
theorem dX1_writes_8 : decode cX1_writes 8 = .ok (.invokevirtual 427, 3) := dk_182 1 171 (dk_at dksX1_writes_0 8 rfl rfl)
theorem dX1_writes_11 : decode cX1_writes 11 = .ok (.ifCond .eq 9, 3) := dk_153 0 9 (dk_at dksX1_writes_0 11 rfl rfl)
theorem dX1_writes_14 : decode cX1_writes 14 = .ok (.ldc_w 430, 3) := dk_19 1 174 (dk_at dksX1_writes_0 14 rfl rfl)
theorem dX1_writes_17 : decode cX1_writes 17 = .ok (.goto 6, 3) := dk_167 0 6 (dk_at dksX1_writes_0 17 rfl rfl)
theorem dX1_writes_20 : decode cX1_writes 20 = .ok (.ldc_w 432, 3) := dk_19 1 176 (dk_at dksX1_writes_0 20 rfl rfl)
theorem dX1_writes_23 : decode cX1_writes 23 = .ok (.invokevirtual 434, 3) := dk_182 1 178 (dk_at dksX1_writes_1 0 rfl rfl)
theorem dX1_writes_26 : decode cX1_writes 26 = .ok (.aload_n 1, 1) := dk_43 (dk_at dksX1_writes_1 3 rfl rfl)
theorem dX1_writes_27 : decode cX1_writes 27 = .ok (.invokevirtual 437, 3) := dk_182 1 181 (dk_at dksX1_writes_1 4 rfl rfl)
theorem dX1_writes_30 : decode cX1_writes 30 = .ok (.pop, 1) := dk_87 (dk_at dksX1_writes_1 7 rfl rfl)
theorem dX1_writes_31 : decode cX1_writes 31 = .ok (.return_, 1) := dk_177 (dk_at dksX1_writes_1 8 rfl rfl)
abbrev cX1_signOf : ByteArray := prog_1_method_60_code
def yX1_signOf : MethodName := ⟨RX1, "signOf", "(I)Ljava/lang/String;"⟩
def dkwX1_signOf_3 : List UInt8 := [19, 1, 191, 182, 1, 178, 42, 180, 0, 10, 180, 0, 244, 27, 46, 182, 1, 186, 182, 1, 144, 176]
abbrev dktX1_signOf_3 : List UInt8 := dkwX1_signOf_3 ++ []
def dkwX1_signOf_2 : List UInt8 := [182, 1, 186, 19, 1, 189, 182, 1, 178, 182, 1, 144, 167, 0, 31, 187, 0, 23, 89, 183, 0, 25]
abbrev dktX1_signOf_2 : List UInt8 := dkwX1_signOf_2 ++ dktX1_signOf_3
def dkwX1_signOf_1 : List UInt8 := [182, 1, 38, 153, 0, 34, 187, 0, 23, 89, 183, 0, 25, 42, 180, 0, 10, 180, 0, 244, 27, 46]
abbrev dktX1_signOf_1 : List UInt8 := dkwX1_signOf_1 ++ dktX1_signOf_2
def dkwX1_signOf_0 : List UInt8 := [42, 180, 0, 10, 180, 0, 244, 27, 46, 2, 160, 0, 7, 19, 1, 184, 176, 42, 180, 0, 10, 27, 4]
abbrev dktX1_signOf_0 : List UInt8 := dkwX1_signOf_0 ++ dktX1_signOf_1
theorem dksX1_signOf_0 : cX1_signOf.data.toList.drop 0 = dktX1_signOf_0 := by decide +kernel
theorem dksX1_signOf_1 : cX1_signOf.data.toList.drop 23 = dktX1_signOf_1 := dk_seg dksX1_signOf_0 23 rfl rfl
theorem dksX1_signOf_2 : cX1_signOf.data.toList.drop 45 = dktX1_signOf_2 := dk_seg dksX1_signOf_1 22 rfl rfl
theorem dksX1_signOf_3 : cX1_signOf.data.toList.drop 67 = dktX1_signOf_3 := dk_seg dksX1_signOf_2 22 rfl rfl
theorem dX1_signOf_0 : decode cX1_signOf 0 = .ok (.aload_n 0, 1) := dk_42 (dk_at dksX1_signOf_0 0 rfl rfl)
theorem dX1_signOf_1 : decode cX1_signOf 1 = .ok (.getfield 10, 3) := dk_180 0 10 (dk_at dksX1_signOf_0 1 rfl rfl)
theorem dX1_signOf_4 : decode cX1_signOf 4 = .ok (.getfield 244, 3) := dk_180 0 244 (dk_at dksX1_signOf_0 4 rfl rfl)
theorem dX1_signOf_7 : decode cX1_signOf 7 = .ok (.iload_n 1, 1) := dk_27 (dk_at dksX1_signOf_0 7 rfl rfl)
theorem dX1_signOf_8 : decode cX1_signOf 8 = .ok (.iaload, 1) := dk_46 (dk_at dksX1_signOf_0 8 rfl rfl)
theorem dX1_signOf_9 : decode cX1_signOf 9 = .ok (.iconst (-1), 1) := dk_2 (dk_at dksX1_signOf_0 9 rfl rfl)
theorem dX1_signOf_10 : decode cX1_signOf 10 = .ok (.if_icmp .ne 7, 3) := dk_160 0 7 (dk_at dksX1_signOf_0 10 rfl rfl)
theorem dX1_signOf_13 : decode cX1_signOf 13 = .ok (.ldc_w 440, 3) := dk_19 1 184 (dk_at dksX1_signOf_0 13 rfl rfl)
theorem dX1_signOf_16 : decode cX1_signOf 16 = .ok (.areturn, 1) := dk_176 (dk_at dksX1_signOf_0 16 rfl rfl)
theorem dX1_signOf_17 : decode cX1_signOf 17 = .ok (.aload_n 0, 1) := dk_42 (dk_at dksX1_signOf_0 17 rfl rfl)
theorem dX1_signOf_18 : decode cX1_signOf 18 = .ok (.getfield 10, 3) := dk_180 0 10 (dk_at dksX1_signOf_0 18 rfl rfl)
theorem dX1_signOf_21 : decode cX1_signOf 21 = .ok (.iload_n 1, 1) := dk_27 (dk_at dksX1_signOf_0 21 rfl rfl)
theorem dX1_signOf_22 : decode cX1_signOf 22 = .ok (.iconst 1, 1) := dk_4 (dk_at dksX1_signOf_0 22 rfl rfl)
theorem dX1_signOf_23 : decode cX1_signOf 23 = .ok (.invokevirtual 294, 3) := dk_182 1 38 (dk_at dksX1_signOf_1 0 rfl rfl)
theorem dX1_signOf_26 : decode cX1_signOf 26 = .ok (.ifCond .eq 34, 3) := dk_153 0 34 (dk_at dksX1_signOf_1 3 rfl rfl)
theorem dX1_signOf_29 : decode cX1_signOf 29 = .ok (.new 23, 3) := dk_187 0 23 (dk_at dksX1_signOf_1 6 rfl rfl)
theorem dX1_signOf_32 : decode cX1_signOf 32 = .ok (.dup, 1) := dk_89 (dk_at dksX1_signOf_1 9 rfl rfl)
theorem dX1_signOf_33 : decode cX1_signOf 33 = .ok (.invokespecial 25, 3) := dk_183 0 25 (dk_at dksX1_signOf_1 10 rfl rfl)
theorem dX1_signOf_36 : decode cX1_signOf 36 = .ok (.aload_n 0, 1) := dk_42 (dk_at dksX1_signOf_1 13 rfl rfl)
theorem dX1_signOf_37 : decode cX1_signOf 37 = .ok (.getfield 10, 3) := dk_180 0 10 (dk_at dksX1_signOf_1 14 rfl rfl)
theorem dX1_signOf_40 : decode cX1_signOf 40 = .ok (.getfield 244, 3) := dk_180 0 244 (dk_at dksX1_signOf_1 17 rfl rfl)
theorem dX1_signOf_43 : decode cX1_signOf 43 = .ok (.iload_n 1, 1) := dk_27 (dk_at dksX1_signOf_1 20 rfl rfl)
theorem dX1_signOf_44 : decode cX1_signOf 44 = .ok (.iaload, 1) := dk_46 (dk_at dksX1_signOf_1 21 rfl rfl)
theorem dX1_signOf_45 : decode cX1_signOf 45 = .ok (.invokevirtual 442, 3) := dk_182 1 186 (dk_at dksX1_signOf_2 0 rfl rfl)
theorem dX1_signOf_48 : decode cX1_signOf 48 = .ok (.ldc_w 445, 3) := dk_19 1 189 (dk_at dksX1_signOf_2 3 rfl rfl)
theorem dX1_signOf_51 : decode cX1_signOf 51 = .ok (.invokevirtual 434, 3) := dk_182 1 178 (dk_at dksX1_signOf_2 6 rfl rfl)
theorem dX1_signOf_54 : decode cX1_signOf 54 = .ok (.invokevirtual 400, 3) := dk_182 1 144 (dk_at dksX1_signOf_2 9 rfl rfl)
theorem dX1_signOf_57 : decode cX1_signOf 57 = .ok (.goto 31, 3) := dk_167 0 31 (dk_at dksX1_signOf_2 12 rfl rfl)
theorem dX1_signOf_60 : decode cX1_signOf 60 = .ok (.new 23, 3) := dk_187 0 23 (dk_at dksX1_signOf_2 15 rfl rfl)
theorem dX1_signOf_63 : decode cX1_signOf 63 = .ok (.dup, 1) := dk_89 (dk_at dksX1_signOf_2 18 rfl rfl)
theorem dX1_signOf_64 : decode cX1_signOf 64 = .ok (.invokespecial 25, 3) := dk_183 0 25 (dk_at dksX1_signOf_2 19 rfl rfl)
theorem dX1_signOf_67 : decode cX1_signOf 67 = .ok (.ldc_w 447, 3) := dk_19 1 191 (dk_at dksX1_signOf_3 0 rfl rfl)
theorem dX1_signOf_70 : decode cX1_signOf 70 = .ok (.invokevirtual 434, 3) := dk_182 1 178 (dk_at dksX1_signOf_3 3 rfl rfl)
theorem dX1_signOf_73 : decode cX1_signOf 73 = .ok (.aload_n 0, 1) := dk_42 (dk_at dksX1_signOf_3 6 rfl rfl)
theorem dX1_signOf_74 : decode cX1_signOf 74 = .ok (.getfield 10, 3) := dk_180 0 10 (dk_at dksX1_signOf_3 7 rfl rfl)
theorem dX1_signOf_77 : decode cX1_signOf 77 = .ok (.getfield 244, 3) := dk_180 0 244 (dk_at dksX1_signOf_3 10 rfl rfl)
theorem dX1_signOf_80 : decode cX1_signOf 80 = .ok (.iload_n 1, 1) := dk_27 (dk_at dksX1_signOf_3 13 rfl rfl)
theorem dX1_signOf_81 : decode cX1_signOf 81 = .ok (.iaload, 1) := dk_46 (dk_at dksX1_signOf_3 14 rfl rfl)
theorem dX1_signOf_82 : decode cX1_signOf 82 = .ok (.invokevirtual 442, 3) := dk_182 1 186 (dk_at dksX1_signOf_3 15 rfl rfl)
theorem dX1_signOf_85 : decode cX1_signOf 85 = .ok (.invokevirtual 400, 3) := dk_182 1 144 (dk_at dksX1_signOf_3 18 rfl rfl)
theorem dX1_signOf_88 : decode cX1_signOf 88 = .ok (.areturn, 1) := dk_176 (dk_at dksX1_signOf_3 21 rfl rfl)
abbrev cX1_tellLaw : ByteArray := prog_1_method_62_code
def yX1_tellLaw : MethodName := ⟨RX1, "tellLaw", "()I"⟩
def dkwX1_tellLaw_1 : List UInt8 := [180, 0, 10, 185, 1, 205, 2, 0, 182, 1, 178, 87, 42, 180, 0, 30, 182, 1, 135, 172]
abbrev dktX1_tellLaw_1 : List UInt8 := dkwX1_tellLaw_1 ++ []
def dkwX1_tellLaw_0 : List UInt8 := [42, 180, 0, 30, 3, 182, 1, 151, 42, 180, 0, 30, 42, 180, 0, 10, 180, 0, 132, 184, 1, 25, 42]
abbrev dktX1_tellLaw_0 : List UInt8 := dkwX1_tellLaw_0 ++ dktX1_tellLaw_1
theorem dksX1_tellLaw_0 : cX1_tellLaw.data.toList.drop 0 = dktX1_tellLaw_0 := by decide +kernel
theorem dksX1_tellLaw_1 : cX1_tellLaw.data.toList.drop 23 = dktX1_tellLaw_1 := dk_seg dksX1_tellLaw_0 23 rfl rfl
theorem dX1_tellLaw_0 : decode cX1_tellLaw 0 = .ok (.aload_n 0, 1) := dk_42 (dk_at dksX1_tellLaw_0 0 rfl rfl)
theorem dX1_tellLaw_1 : decode cX1_tellLaw 1 = .ok (.getfield 30, 3) := dk_180 0 30 (dk_at dksX1_tellLaw_0 1 rfl rfl)
theorem dX1_tellLaw_4 : decode cX1_tellLaw 4 = .ok (.iconst 0, 1) := dk_3 (dk_at dksX1_tellLaw_0 4 rfl rfl)
theorem dX1_tellLaw_5 : decode cX1_tellLaw 5 = .ok (.invokevirtual 407, 3) := dk_182 1 151 (dk_at dksX1_tellLaw_0 5 rfl rfl)
theorem dX1_tellLaw_8 : decode cX1_tellLaw 8 = .ok (.aload_n 0, 1) := dk_42 (dk_at dksX1_tellLaw_0 8 rfl rfl)
theorem dX1_tellLaw_9 : decode cX1_tellLaw 9 = .ok (.getfield 30, 3) := dk_180 0 30 (dk_at dksX1_tellLaw_0 9 rfl rfl)
theorem dX1_tellLaw_12 : decode cX1_tellLaw 12 = .ok (.aload_n 0, 1) := dk_42 (dk_at dksX1_tellLaw_0 12 rfl rfl)
theorem dX1_tellLaw_13 : decode cX1_tellLaw 13 = .ok (.getfield 10, 3) := dk_180 0 10 (dk_at dksX1_tellLaw_0 13 rfl rfl)
theorem dX1_tellLaw_16 : decode cX1_tellLaw 16 = .ok (.getfield 132, 3) := dk_180 0 132 (dk_at dksX1_tellLaw_0 16 rfl rfl)
theorem dX1_tellLaw_19 : decode cX1_tellLaw 19 = .ok (.invokestatic 281, 3) := dk_184 1 25 (dk_at dksX1_tellLaw_0 19 rfl rfl)
theorem dX1_tellLaw_22 : decode cX1_tellLaw 22 = .ok (.aload_n 0, 1) := dk_42 (dk_at dksX1_tellLaw_0 22 rfl rfl)
theorem dX1_tellLaw_23 : decode cX1_tellLaw 23 = .ok (.getfield 10, 3) := dk_180 0 10 (dk_at dksX1_tellLaw_1 0 rfl rfl)
theorem dX1_tellLaw_26 : decode cX1_tellLaw 26 = .ok (.invokeinterface 461 2, 5) := by decide +kernel
theorem dX1_tellLaw_31 : decode cX1_tellLaw 31 = .ok (.invokevirtual 434, 3) := dk_182 1 178 (dk_at dksX1_tellLaw_1 8 rfl rfl)
theorem dX1_tellLaw_34 : decode cX1_tellLaw 34 = .ok (.pop, 1) := dk_87 (dk_at dksX1_tellLaw_1 11 rfl rfl)
theorem dX1_tellLaw_35 : decode cX1_tellLaw 35 = .ok (.aload_n 0, 1) := dk_42 (dk_at dksX1_tellLaw_1 12 rfl rfl)
theorem dX1_tellLaw_36 : decode cX1_tellLaw 36 = .ok (.getfield 30, 3) := dk_180 0 30 (dk_at dksX1_tellLaw_1 13 rfl rfl)
theorem dX1_tellLaw_39 : decode cX1_tellLaw 39 = .ok (.invokevirtual 391, 3) := dk_182 1 135 (dk_at dksX1_tellLaw_1 16 rfl rfl)
theorem dX1_tellLaw_42 : decode cX1_tellLaw 42 = .ok (.ireturn, 1) := dk_172 (dk_at dksX1_tellLaw_1 19 rfl rfl)
abbrev cX1_letter : ByteArray := prog_1_method_11_code
def yX1_letter : MethodName := ⟨RX1, "letter", "(I)Ljava/lang/String;"⟩
def dkwX1_letter_0 : List UInt8 := [26, 154, 0, 8, 18, 69, 167, 0, 5, 18, 71, 176]
abbrev dktX1_letter_0 : List UInt8 := dkwX1_letter_0 ++ []
theorem dksX1_letter_0 : cX1_letter.data.toList.drop 0 = dktX1_letter_0 := by decide +kernel
theorem dX1_letter_0 : decode cX1_letter 0 = .ok (.iload_n 0, 1) := dk_26 (dk_at dksX1_letter_0 0 rfl rfl)
theorem dX1_letter_1 : decode cX1_letter 1 = .ok (.ifCond .ne 8, 3) := dk_154 0 8 (dk_at dksX1_letter_0 1 rfl rfl)
theorem dX1_letter_4 : decode cX1_letter 4 = .ok (.ldc 69, 2) := dk_18 69 (dk_at dksX1_letter_0 4 rfl rfl)
theorem dX1_letter_6 : decode cX1_letter 6 = .ok (.goto 5, 3) := dk_167 0 5 (dk_at dksX1_letter_0 6 rfl rfl)
theorem dX1_letter_9 : decode cX1_letter 9 = .ok (.ldc 71, 2) := dk_18 71 (dk_at dksX1_letter_0 9 rfl rfl)
theorem dX1_letter_11 : decode cX1_letter 11 = .ok (.areturn, 1) := dk_176 (dk_at dksX1_letter_0 11 rfl rfl)
abbrev cX1_fullShare : ByteArray := prog_1_method_68_code
def yX1_fullShare : MethodName := ⟨RX1, "fullShare", "()F"⟩
def dkwX1_fullShare_0 : List UInt8 := [42, 180, 0, 10, 182, 0, 142, 134, 42, 180, 0, 10, 180, 0, 145, 134, 110, 174]
abbrev dktX1_fullShare_0 : List UInt8 := dkwX1_fullShare_0 ++ []
theorem dksX1_fullShare_0 : cX1_fullShare.data.toList.drop 0 = dktX1_fullShare_0 := by decide +kernel
theorem dX1_fullShare_0 : decode cX1_fullShare 0 = .ok (.aload_n 0, 1) := dk_42 (dk_at dksX1_fullShare_0 0 rfl rfl)
theorem dX1_fullShare_1 : decode cX1_fullShare 1 = .ok (.getfield 10, 3) := dk_180 0 10 (dk_at dksX1_fullShare_0 1 rfl rfl)
theorem dX1_fullShare_4 : decode cX1_fullShare 4 = .ok (.invokevirtual 142, 3) := dk_182 0 142 (dk_at dksX1_fullShare_0 4 rfl rfl)
theorem dX1_fullShare_7 : decode cX1_fullShare 7 = .ok (.i2f, 1) := dk_134 (dk_at dksX1_fullShare_0 7 rfl rfl)
theorem dX1_fullShare_8 : decode cX1_fullShare 8 = .ok (.aload_n 0, 1) := dk_42 (dk_at dksX1_fullShare_0 8 rfl rfl)
theorem dX1_fullShare_9 : decode cX1_fullShare 9 = .ok (.getfield 10, 3) := dk_180 0 10 (dk_at dksX1_fullShare_0 9 rfl rfl)
theorem dX1_fullShare_12 : decode cX1_fullShare 12 = .ok (.getfield 145, 3) := dk_180 0 145 (dk_at dksX1_fullShare_0 12 rfl rfl)
theorem dX1_fullShare_15 : decode cX1_fullShare 15 = .ok (.i2f, 1) := dk_134 (dk_at dksX1_fullShare_0 15 rfl rfl)
theorem dX1_fullShare_16 : decode cX1_fullShare 16 = .ok (.fdiv, 1) := dk_110 (dk_at dksX1_fullShare_0 16 rfl rfl)
theorem dX1_fullShare_17 : decode cX1_fullShare 17 = .ok (.freturn, 1) := dk_174 (dk_at dksX1_fullShare_0 17 rfl rfl)
abbrev cX1_save : ByteArray := prog_1_method_70_code
def yX1_save : MethodName := ⟨RX1, "save", "()I"⟩
def dkwX1_save_0 : List UInt8 := [42, 42, 180, 0, 10, 182, 0, 77, 181, 1, 233, 42, 180, 0, 10, 180, 0, 97, 182, 0, 101, 172]
abbrev dktX1_save_0 : List UInt8 := dkwX1_save_0 ++ []
theorem dksX1_save_0 : cX1_save.data.toList.drop 0 = dktX1_save_0 := by decide +kernel
theorem dX1_save_0 : decode cX1_save 0 = .ok (.aload_n 0, 1) := dk_42 (dk_at dksX1_save_0 0 rfl rfl)
theorem dX1_save_1 : decode cX1_save 1 = .ok (.aload_n 0, 1) := dk_42 (dk_at dksX1_save_0 1 rfl rfl)
theorem dX1_save_2 : decode cX1_save 2 = .ok (.getfield 10, 3) := dk_180 0 10 (dk_at dksX1_save_0 2 rfl rfl)
theorem dX1_save_5 : decode cX1_save 5 = .ok (.invokevirtual 77, 3) := dk_182 0 77 (dk_at dksX1_save_0 5 rfl rfl)
theorem dX1_save_8 : decode cX1_save 8 = .ok (.putfield 489, 3) := dk_181 1 233 (dk_at dksX1_save_0 8 rfl rfl)
theorem dX1_save_11 : decode cX1_save 11 = .ok (.aload_n 0, 1) := dk_42 (dk_at dksX1_save_0 11 rfl rfl)
theorem dX1_save_12 : decode cX1_save 12 = .ok (.getfield 10, 3) := dk_180 0 10 (dk_at dksX1_save_0 12 rfl rfl)
theorem dX1_save_15 : decode cX1_save 15 = .ok (.getfield 97, 3) := dk_180 0 97 (dk_at dksX1_save_0 15 rfl rfl)
theorem dX1_save_18 : decode cX1_save 18 = .ok (.invokevirtual 101, 3) := dk_182 0 101 (dk_at dksX1_save_0 18 rfl rfl)
theorem dX1_save_21 : decode cX1_save 21 = .ok (.ireturn, 1) := dk_172 (dk_at dksX1_save_0 21 rfl rfl)
abbrev cX1_cart : ByteArray := prog_1_method_13_code
def yX1_cart : MethodName := ⟨RX1, "cart", "(II)I"⟩
def dkwX1_cart_4 : List UInt8 := [184, 0, 123, 182, 0, 115, 87, 29, 172]
abbrev dktX1_cart_4 : List UInt8 := dkwX1_cart_4 ++ []
def dkwX1_cart_3 : List UInt8 := [42, 180, 0, 10, 180, 0, 109, 183, 0, 112, 182, 0, 115, 87, 42, 180, 0, 10, 27, 182, 0, 119, 29]
abbrev dktX1_cart_3 : List UInt8 := dkwX1_cart_3 ++ dktX1_cart_4
def dkwX1_cart_2 : List UInt8 := [180, 0, 10, 180, 0, 97, 182, 0, 101, 62, 42, 180, 0, 10, 180, 0, 97, 187, 0, 107, 89, 29, 27, 28]
abbrev dktX1_cart_2 : List UInt8 := dkwX1_cart_2 ++ dktX1_cart_3
def dkwX1_cart_1 : List UInt8 := [182, 0, 101, 16, 40, 160, 0, 7, 4, 167, 0, 4, 3, 5, 16, 40, 182, 0, 53, 42, 182, 0, 104, 42]
abbrev dktX1_cart_1 : List UInt8 := dkwX1_cart_1 ++ dktX1_cart_2
def dkwX1_cart_0 : List UInt8 := [42, 27, 3, 4, 182, 0, 93, 42, 28, 4, 16, 9, 182, 0, 93, 42, 42, 180, 0, 10, 180, 0, 97]
abbrev dktX1_cart_0 : List UInt8 := dkwX1_cart_0 ++ dktX1_cart_1
theorem dksX1_cart_0 : cX1_cart.data.toList.drop 0 = dktX1_cart_0 := by decide +kernel
theorem dksX1_cart_1 : cX1_cart.data.toList.drop 23 = dktX1_cart_1 := dk_seg dksX1_cart_0 23 rfl rfl
theorem dksX1_cart_2 : cX1_cart.data.toList.drop 47 = dktX1_cart_2 := dk_seg dksX1_cart_1 24 rfl rfl
theorem dksX1_cart_3 : cX1_cart.data.toList.drop 71 = dktX1_cart_3 := dk_seg dksX1_cart_2 24 rfl rfl
theorem dksX1_cart_4 : cX1_cart.data.toList.drop 94 = dktX1_cart_4 := dk_seg dksX1_cart_3 23 rfl rfl
theorem dX1_cart_0 : decode cX1_cart 0 = .ok (.aload_n 0, 1) := dk_42 (dk_at dksX1_cart_0 0 rfl rfl)
theorem dX1_cart_1 : decode cX1_cart 1 = .ok (.iload_n 1, 1) := dk_27 (dk_at dksX1_cart_0 1 rfl rfl)
theorem dX1_cart_2 : decode cX1_cart 2 = .ok (.iconst 0, 1) := dk_3 (dk_at dksX1_cart_0 2 rfl rfl)
theorem dX1_cart_3 : decode cX1_cart 3 = .ok (.iconst 1, 1) := dk_4 (dk_at dksX1_cart_0 3 rfl rfl)
theorem dX1_cart_4 : decode cX1_cart 4 = .ok (.invokevirtual 93, 3) := dk_182 0 93 (dk_at dksX1_cart_0 4 rfl rfl)
theorem dX1_cart_7 : decode cX1_cart 7 = .ok (.aload_n 0, 1) := dk_42 (dk_at dksX1_cart_0 7 rfl rfl)
theorem dX1_cart_8 : decode cX1_cart 8 = .ok (.iload_n 2, 1) := dk_28 (dk_at dksX1_cart_0 8 rfl rfl)
theorem dX1_cart_9 : decode cX1_cart 9 = .ok (.iconst 1, 1) := dk_4 (dk_at dksX1_cart_0 9 rfl rfl)
theorem dX1_cart_10 : decode cX1_cart 10 = .ok (.bipush 9, 2) := dk_16 9 (dk_at dksX1_cart_0 10 rfl rfl)
theorem dX1_cart_12 : decode cX1_cart 12 = .ok (.invokevirtual 93, 3) := dk_182 0 93 (dk_at dksX1_cart_0 12 rfl rfl)
theorem dX1_cart_15 : decode cX1_cart 15 = .ok (.aload_n 0, 1) := dk_42 (dk_at dksX1_cart_0 15 rfl rfl)
theorem dX1_cart_16 : decode cX1_cart 16 = .ok (.aload_n 0, 1) := dk_42 (dk_at dksX1_cart_0 16 rfl rfl)
theorem dX1_cart_17 : decode cX1_cart 17 = .ok (.getfield 10, 3) := dk_180 0 10 (dk_at dksX1_cart_0 17 rfl rfl)
theorem dX1_cart_20 : decode cX1_cart 20 = .ok (.getfield 97, 3) := dk_180 0 97 (dk_at dksX1_cart_0 20 rfl rfl)
theorem dX1_cart_23 : decode cX1_cart 23 = .ok (.invokevirtual 101, 3) := dk_182 0 101 (dk_at dksX1_cart_1 0 rfl rfl)
theorem dX1_cart_26 : decode cX1_cart 26 = .ok (.bipush 40, 2) := dk_16 40 (dk_at dksX1_cart_1 3 rfl rfl)
theorem dX1_cart_28 : decode cX1_cart 28 = .ok (.if_icmp .ne 7, 3) := dk_160 0 7 (dk_at dksX1_cart_1 5 rfl rfl)
theorem dX1_cart_31 : decode cX1_cart 31 = .ok (.iconst 1, 1) := dk_4 (dk_at dksX1_cart_1 8 rfl rfl)
theorem dX1_cart_32 : decode cX1_cart 32 = .ok (.goto 4, 3) := dk_167 0 4 (dk_at dksX1_cart_1 9 rfl rfl)
theorem dX1_cart_35 : decode cX1_cart 35 = .ok (.iconst 0, 1) := dk_3 (dk_at dksX1_cart_1 12 rfl rfl)
theorem dX1_cart_36 : decode cX1_cart 36 = .ok (.iconst 2, 1) := dk_5 (dk_at dksX1_cart_1 13 rfl rfl)
theorem dX1_cart_37 : decode cX1_cart 37 = .ok (.bipush 40, 2) := dk_16 40 (dk_at dksX1_cart_1 14 rfl rfl)
theorem dX1_cart_39 : decode cX1_cart 39 = .ok (.invokevirtual 53, 3) := dk_182 0 53 (dk_at dksX1_cart_1 16 rfl rfl)
theorem dX1_cart_42 : decode cX1_cart 42 = .ok (.aload_n 0, 1) := dk_42 (dk_at dksX1_cart_1 19 rfl rfl)
theorem dX1_cart_43 : decode cX1_cart 43 = .ok (.invokevirtual 104, 3) := dk_182 0 104 (dk_at dksX1_cart_1 20 rfl rfl)
theorem dX1_cart_46 : decode cX1_cart 46 = .ok (.aload_n 0, 1) := dk_42 (dk_at dksX1_cart_1 23 rfl rfl)
theorem dX1_cart_47 : decode cX1_cart 47 = .ok (.getfield 10, 3) := dk_180 0 10 (dk_at dksX1_cart_2 0 rfl rfl)
theorem dX1_cart_50 : decode cX1_cart 50 = .ok (.getfield 97, 3) := dk_180 0 97 (dk_at dksX1_cart_2 3 rfl rfl)
theorem dX1_cart_53 : decode cX1_cart 53 = .ok (.invokevirtual 101, 3) := dk_182 0 101 (dk_at dksX1_cart_2 6 rfl rfl)
theorem dX1_cart_56 : decode cX1_cart 56 = .ok (.istore_n 3, 1) := dk_62 (dk_at dksX1_cart_2 9 rfl rfl)
theorem dX1_cart_57 : decode cX1_cart 57 = .ok (.aload_n 0, 1) := dk_42 (dk_at dksX1_cart_2 10 rfl rfl)
theorem dX1_cart_58 : decode cX1_cart 58 = .ok (.getfield 10, 3) := dk_180 0 10 (dk_at dksX1_cart_2 11 rfl rfl)
theorem dX1_cart_61 : decode cX1_cart 61 = .ok (.getfield 97, 3) := dk_180 0 97 (dk_at dksX1_cart_2 14 rfl rfl)
theorem dX1_cart_64 : decode cX1_cart 64 = .ok (.new 107, 3) := dk_187 0 107 (dk_at dksX1_cart_2 17 rfl rfl)
theorem dX1_cart_67 : decode cX1_cart 67 = .ok (.dup, 1) := dk_89 (dk_at dksX1_cart_2 20 rfl rfl)
theorem dX1_cart_68 : decode cX1_cart 68 = .ok (.iload_n 3, 1) := dk_29 (dk_at dksX1_cart_2 21 rfl rfl)
theorem dX1_cart_69 : decode cX1_cart 69 = .ok (.iload_n 1, 1) := dk_27 (dk_at dksX1_cart_2 22 rfl rfl)
theorem dX1_cart_70 : decode cX1_cart 70 = .ok (.iload_n 2, 1) := dk_28 (dk_at dksX1_cart_2 23 rfl rfl)
theorem dX1_cart_71 : decode cX1_cart 71 = .ok (.aload_n 0, 1) := dk_42 (dk_at dksX1_cart_3 0 rfl rfl)
theorem dX1_cart_72 : decode cX1_cart 72 = .ok (.getfield 10, 3) := dk_180 0 10 (dk_at dksX1_cart_3 1 rfl rfl)
theorem dX1_cart_75 : decode cX1_cart 75 = .ok (.getfield 109, 3) := dk_180 0 109 (dk_at dksX1_cart_3 4 rfl rfl)
theorem dX1_cart_78 : decode cX1_cart 78 = .ok (.invokespecial 112, 3) := dk_183 0 112 (dk_at dksX1_cart_3 7 rfl rfl)
theorem dX1_cart_81 : decode cX1_cart 81 = .ok (.invokevirtual 115, 3) := dk_182 0 115 (dk_at dksX1_cart_3 10 rfl rfl)
theorem dX1_cart_84 : decode cX1_cart 84 = .ok (.pop, 1) := dk_87 (dk_at dksX1_cart_3 13 rfl rfl)
theorem dX1_cart_85 : decode cX1_cart 85 = .ok (.aload_n 0, 1) := dk_42 (dk_at dksX1_cart_3 14 rfl rfl)
theorem dX1_cart_86 : decode cX1_cart 86 = .ok (.getfield 10, 3) := dk_180 0 10 (dk_at dksX1_cart_3 15 rfl rfl)
theorem dX1_cart_89 : decode cX1_cart 89 = .ok (.iload_n 1, 1) := dk_27 (dk_at dksX1_cart_3 18 rfl rfl)
theorem dX1_cart_90 : decode cX1_cart 90 = .ok (.invokevirtual 119, 3) := dk_182 0 119 (dk_at dksX1_cart_3 19 rfl rfl)
theorem dX1_cart_93 : decode cX1_cart 93 = .ok (.iload_n 3, 1) := dk_29 (dk_at dksX1_cart_3 22 rfl rfl)
theorem dX1_cart_94 : decode cX1_cart 94 = .ok (.invokestatic 123, 3) := dk_184 0 123 (dk_at dksX1_cart_4 0 rfl rfl)
theorem dX1_cart_97 : decode cX1_cart 97 = .ok (.invokevirtual 115, 3) := dk_182 0 115 (dk_at dksX1_cart_4 3 rfl rfl)
theorem dX1_cart_100 : decode cX1_cart 100 = .ok (.pop, 1) := dk_87 (dk_at dksX1_cart_4 6 rfl rfl)
theorem dX1_cart_101 : decode cX1_cart 101 = .ok (.iload_n 3, 1) := dk_29 (dk_at dksX1_cart_4 7 rfl rfl)
theorem dX1_cart_102 : decode cX1_cart 102 = .ok (.ireturn, 1) := dk_172 (dk_at dksX1_cart_4 8 rfl rfl)
abbrev cX1_inRange : ByteArray := prog_1_method_4_code
def yX1_inRange : MethodName := ⟨RX1, "inRange", "(III)V"⟩
def dkwX1_inRange_0 : List UInt8 := [42, 27, 28, 29, 184, 0, 49, 154, 0, 7, 4, 167, 0, 4, 3, 4, 27, 182, 0, 53, 177]
abbrev dktX1_inRange_0 : List UInt8 := dkwX1_inRange_0 ++ []
theorem dksX1_inRange_0 : cX1_inRange.data.toList.drop 0 = dktX1_inRange_0 := by decide +kernel
theorem dX1_inRange_0 : decode cX1_inRange 0 = .ok (.aload_n 0, 1) := dk_42 (dk_at dksX1_inRange_0 0 rfl rfl)
theorem dX1_inRange_1 : decode cX1_inRange 1 = .ok (.iload_n 1, 1) := dk_27 (dk_at dksX1_inRange_0 1 rfl rfl)
theorem dX1_inRange_2 : decode cX1_inRange 2 = .ok (.iload_n 2, 1) := dk_28 (dk_at dksX1_inRange_0 2 rfl rfl)
theorem dX1_inRange_3 : decode cX1_inRange 3 = .ok (.iload_n 3, 1) := dk_29 (dk_at dksX1_inRange_0 3 rfl rfl)
theorem dX1_inRange_4 : decode cX1_inRange 4 = .ok (.invokestatic 49, 3) := dk_184 0 49 (dk_at dksX1_inRange_0 4 rfl rfl)
theorem dX1_inRange_7 : decode cX1_inRange 7 = .ok (.ifCond .ne 7, 3) := dk_154 0 7 (dk_at dksX1_inRange_0 7 rfl rfl)
theorem dX1_inRange_10 : decode cX1_inRange 10 = .ok (.iconst 1, 1) := dk_4 (dk_at dksX1_inRange_0 10 rfl rfl)
theorem dX1_inRange_11 : decode cX1_inRange 11 = .ok (.goto 4, 3) := dk_167 0 4 (dk_at dksX1_inRange_0 11 rfl rfl)
theorem dX1_inRange_14 : decode cX1_inRange 14 = .ok (.iconst 0, 1) := dk_3 (dk_at dksX1_inRange_0 14 rfl rfl)
theorem dX1_inRange_15 : decode cX1_inRange 15 = .ok (.iconst 1, 1) := dk_4 (dk_at dksX1_inRange_0 15 rfl rfl)
theorem dX1_inRange_16 : decode cX1_inRange 16 = .ok (.iload_n 1, 1) := dk_27 (dk_at dksX1_inRange_0 16 rfl rfl)
theorem dX1_inRange_17 : decode cX1_inRange 17 = .ok (.invokevirtual 53, 3) := dk_182 0 53 (dk_at dksX1_inRange_0 17 rfl rfl)
theorem dX1_inRange_20 : decode cX1_inRange 20 = .ok (.return_, 1) := dk_177 (dk_at dksX1_inRange_0 20 rfl rfl)
abbrev cX1_refuse : ByteArray := prog_1_method_3_code
def yX1_refuse : MethodName := ⟨RX1, "refuse", "(ZII)V"⟩
def dkwX1_refuse_1 : List UInt8 := [183, 0, 48, 191, 177]
abbrev dktX1_refuse_1 : List UInt8 := dkwX1_refuse_1 ++ []
def dkwX1_refuse_0 : List UInt8 := [27, 153, 0, 25, 42, 187, 0, 37, 89, 28, 29, 1, 183, 0, 39, 181, 0, 42, 187, 0, 46, 89]
abbrev dktX1_refuse_0 : List UInt8 := dkwX1_refuse_0 ++ dktX1_refuse_1
theorem dksX1_refuse_0 : cX1_refuse.data.toList.drop 0 = dktX1_refuse_0 := by decide +kernel
theorem dksX1_refuse_1 : cX1_refuse.data.toList.drop 22 = dktX1_refuse_1 := dk_seg dksX1_refuse_0 22 rfl rfl
theorem dX1_refuse_0 : decode cX1_refuse 0 = .ok (.iload_n 1, 1) := dk_27 (dk_at dksX1_refuse_0 0 rfl rfl)
theorem dX1_refuse_1 : decode cX1_refuse 1 = .ok (.ifCond .eq 25, 3) := dk_153 0 25 (dk_at dksX1_refuse_0 1 rfl rfl)
theorem dX1_refuse_4 : decode cX1_refuse 4 = .ok (.aload_n 0, 1) := dk_42 (dk_at dksX1_refuse_0 4 rfl rfl)
theorem dX1_refuse_5 : decode cX1_refuse 5 = .ok (.new 37, 3) := dk_187 0 37 (dk_at dksX1_refuse_0 5 rfl rfl)
theorem dX1_refuse_8 : decode cX1_refuse 8 = .ok (.dup, 1) := dk_89 (dk_at dksX1_refuse_0 8 rfl rfl)
theorem dX1_refuse_9 : decode cX1_refuse 9 = .ok (.iload_n 2, 1) := dk_28 (dk_at dksX1_refuse_0 9 rfl rfl)
theorem dX1_refuse_10 : decode cX1_refuse 10 = .ok (.iload_n 3, 1) := dk_29 (dk_at dksX1_refuse_0 10 rfl rfl)
theorem dX1_refuse_11 : decode cX1_refuse 11 = .ok (.aconst_null, 1) := dk_1 (dk_at dksX1_refuse_0 11 rfl rfl)
theorem dX1_refuse_12 : decode cX1_refuse 12 = .ok (.invokespecial 39, 3) := dk_183 0 39 (dk_at dksX1_refuse_0 12 rfl rfl)
theorem dX1_refuse_15 : decode cX1_refuse 15 = .ok (.putfield 42, 3) := dk_181 0 42 (dk_at dksX1_refuse_0 15 rfl rfl)
theorem dX1_refuse_18 : decode cX1_refuse 18 = .ok (.new 46, 3) := dk_187 0 46 (dk_at dksX1_refuse_0 18 rfl rfl)
theorem dX1_refuse_21 : decode cX1_refuse 21 = .ok (.dup, 1) := dk_89 (dk_at dksX1_refuse_0 21 rfl rfl)
theorem dX1_refuse_22 : decode cX1_refuse 22 = .ok (.invokespecial 48, 3) := dk_183 0 48 (dk_at dksX1_refuse_1 0 rfl rfl)
theorem dX1_refuse_25 : decode cX1_refuse 25 = .ok (.athrow, 1) := dk_191 (dk_at dksX1_refuse_1 3 rfl rfl)
theorem dX1_refuse_26 : decode cX1_refuse 26 = .ok (.return_, 1) := dk_177 (dk_at dksX1_refuse_1 4 rfl rfl)
abbrev cX1_change : ByteArray := prog_1_method_12_code
def yX1_change : MethodName := ⟨RX1, "change", "()V"⟩
def dkwX1_change_1 : List UInt8 := [180, 0, 19, 182, 0, 85, 16, 8, 164, 0, 11, 42, 180, 0, 19, 182, 0, 89, 87, 177]
abbrev dktX1_change_1 : List UInt8 := dkwX1_change_1 ++ []
def dkwX1_change_0 : List UInt8 := [42, 180, 0, 73, 153, 0, 4, 177, 42, 180, 0, 19, 42, 180, 0, 10, 182, 0, 77, 182, 0, 81, 42]
abbrev dktX1_change_0 : List UInt8 := dkwX1_change_0 ++ dktX1_change_1
theorem dksX1_change_0 : cX1_change.data.toList.drop 0 = dktX1_change_0 := by decide +kernel
theorem dksX1_change_1 : cX1_change.data.toList.drop 23 = dktX1_change_1 := dk_seg dksX1_change_0 23 rfl rfl
theorem dX1_change_0 : decode cX1_change 0 = .ok (.aload_n 0, 1) := dk_42 (dk_at dksX1_change_0 0 rfl rfl)
theorem dX1_change_1 : decode cX1_change 1 = .ok (.getfield 73, 3) := dk_180 0 73 (dk_at dksX1_change_0 1 rfl rfl)
theorem dX1_change_4 : decode cX1_change 4 = .ok (.ifCond .eq 4, 3) := dk_153 0 4 (dk_at dksX1_change_0 4 rfl rfl)
theorem dX1_change_7 : decode cX1_change 7 = .ok (.return_, 1) := dk_177 (dk_at dksX1_change_0 7 rfl rfl)
theorem dX1_change_8 : decode cX1_change 8 = .ok (.aload_n 0, 1) := dk_42 (dk_at dksX1_change_0 8 rfl rfl)
theorem dX1_change_9 : decode cX1_change 9 = .ok (.getfield 19, 3) := dk_180 0 19 (dk_at dksX1_change_0 9 rfl rfl)
theorem dX1_change_12 : decode cX1_change 12 = .ok (.aload_n 0, 1) := dk_42 (dk_at dksX1_change_0 12 rfl rfl)
theorem dX1_change_13 : decode cX1_change 13 = .ok (.getfield 10, 3) := dk_180 0 10 (dk_at dksX1_change_0 13 rfl rfl)
theorem dX1_change_16 : decode cX1_change 16 = .ok (.invokevirtual 77, 3) := dk_182 0 77 (dk_at dksX1_change_0 16 rfl rfl)
theorem dX1_change_19 : decode cX1_change 19 = .ok (.invokevirtual 81, 3) := dk_182 0 81 (dk_at dksX1_change_0 19 rfl rfl)
theorem dX1_change_22 : decode cX1_change 22 = .ok (.aload_n 0, 1) := dk_42 (dk_at dksX1_change_0 22 rfl rfl)
theorem dX1_change_23 : decode cX1_change 23 = .ok (.getfield 19, 3) := dk_180 0 19 (dk_at dksX1_change_1 0 rfl rfl)
theorem dX1_change_26 : decode cX1_change 26 = .ok (.invokevirtual 85, 3) := dk_182 0 85 (dk_at dksX1_change_1 3 rfl rfl)
theorem dX1_change_29 : decode cX1_change 29 = .ok (.bipush 8, 2) := dk_16 8 (dk_at dksX1_change_1 6 rfl rfl)
theorem dX1_change_31 : decode cX1_change 31 = .ok (.if_icmp .le 11, 3) := dk_164 0 11 (dk_at dksX1_change_1 8 rfl rfl)
theorem dX1_change_34 : decode cX1_change 34 = .ok (.aload_n 0, 1) := dk_42 (dk_at dksX1_change_1 11 rfl rfl)
theorem dX1_change_35 : decode cX1_change 35 = .ok (.getfield 19, 3) := dk_180 0 19 (dk_at dksX1_change_1 12 rfl rfl)
theorem dX1_change_38 : decode cX1_change 38 = .ok (.invokevirtual 89, 3) := dk_182 0 89 (dk_at dksX1_change_1 15 rfl rfl)
theorem dX1_change_41 : decode cX1_change 41 = .ok (.pop, 1) := dk_87 (dk_at dksX1_change_1 18 rfl rfl)
theorem dX1_change_42 : decode cX1_change 42 = .ok (.return_, 1) := dk_177 (dk_at dksX1_change_1 19 rfl rfl)
abbrev cX1_tick : ByteArray := prog_1_method_14_code
def yX1_tick : MethodName := ⟨RX1, "tick", "(I)I"⟩
def dkwX1_tick_1 : List UInt8 := [180, 0, 10, 182, 0, 129, 96, 61, 132, 3, 1, 167, 255, 238, 28, 172]
abbrev dktX1_tick_1 : List UInt8 := dkwX1_tick_1 ++ []
def dkwX1_tick_0 : List UInt8 := [42, 27, 4, 16, 20, 182, 0, 93, 42, 182, 0, 104, 3, 61, 3, 62, 29, 27, 162, 0, 19, 28, 42]
abbrev dktX1_tick_0 : List UInt8 := dkwX1_tick_0 ++ dktX1_tick_1
theorem dksX1_tick_0 : cX1_tick.data.toList.drop 0 = dktX1_tick_0 := by decide +kernel
theorem dksX1_tick_1 : cX1_tick.data.toList.drop 23 = dktX1_tick_1 := dk_seg dksX1_tick_0 23 rfl rfl
theorem dX1_tick_0 : decode cX1_tick 0 = .ok (.aload_n 0, 1) := dk_42 (dk_at dksX1_tick_0 0 rfl rfl)
theorem dX1_tick_1 : decode cX1_tick 1 = .ok (.iload_n 1, 1) := dk_27 (dk_at dksX1_tick_0 1 rfl rfl)
theorem dX1_tick_2 : decode cX1_tick 2 = .ok (.iconst 1, 1) := dk_4 (dk_at dksX1_tick_0 2 rfl rfl)
theorem dX1_tick_3 : decode cX1_tick 3 = .ok (.bipush 20, 2) := dk_16 20 (dk_at dksX1_tick_0 3 rfl rfl)
theorem dX1_tick_5 : decode cX1_tick 5 = .ok (.invokevirtual 93, 3) := dk_182 0 93 (dk_at dksX1_tick_0 5 rfl rfl)
theorem dX1_tick_8 : decode cX1_tick 8 = .ok (.aload_n 0, 1) := dk_42 (dk_at dksX1_tick_0 8 rfl rfl)
theorem dX1_tick_9 : decode cX1_tick 9 = .ok (.invokevirtual 104, 3) := dk_182 0 104 (dk_at dksX1_tick_0 9 rfl rfl)
theorem dX1_tick_12 : decode cX1_tick 12 = .ok (.iconst 0, 1) := dk_3 (dk_at dksX1_tick_0 12 rfl rfl)
theorem dX1_tick_13 : decode cX1_tick 13 = .ok (.istore_n 2, 1) := dk_61 (dk_at dksX1_tick_0 13 rfl rfl)
theorem dX1_tick_14 : decode cX1_tick 14 = .ok (.iconst 0, 1) := dk_3 (dk_at dksX1_tick_0 14 rfl rfl)
theorem dX1_tick_15 : decode cX1_tick 15 = .ok (.istore_n 3, 1) := dk_62 (dk_at dksX1_tick_0 15 rfl rfl)
theorem dX1_tick_16 : decode cX1_tick 16 = .ok (.iload_n 3, 1) := dk_29 (dk_at dksX1_tick_0 16 rfl rfl)
theorem dX1_tick_17 : decode cX1_tick 17 = .ok (.iload_n 1, 1) := dk_27 (dk_at dksX1_tick_0 17 rfl rfl)
theorem dX1_tick_18 : decode cX1_tick 18 = .ok (.if_icmp .ge 19, 3) := dk_162 0 19 (dk_at dksX1_tick_0 18 rfl rfl)
theorem dX1_tick_21 : decode cX1_tick 21 = .ok (.iload_n 2, 1) := dk_28 (dk_at dksX1_tick_0 21 rfl rfl)
theorem dX1_tick_22 : decode cX1_tick 22 = .ok (.aload_n 0, 1) := dk_42 (dk_at dksX1_tick_0 22 rfl rfl)
theorem dX1_tick_23 : decode cX1_tick 23 = .ok (.getfield 10, 3) := dk_180 0 10 (dk_at dksX1_tick_1 0 rfl rfl)
theorem dX1_tick_26 : decode cX1_tick 26 = .ok (.invokevirtual 129, 3) := dk_182 0 129 (dk_at dksX1_tick_1 3 rfl rfl)
theorem dX1_tick_29 : decode cX1_tick 29 = .ok (.iadd, 1) := dk_96 (dk_at dksX1_tick_1 6 rfl rfl)
theorem dX1_tick_30 : decode cX1_tick 30 = .ok (.istore_n 2, 1) := dk_61 (dk_at dksX1_tick_1 7 rfl rfl)
theorem dX1_tick_31 : decode cX1_tick 31 = .ok (.iinc 3 1, 3) := dk_132 3 1 (dk_at dksX1_tick_1 8 rfl rfl)
theorem dX1_tick_34 : decode cX1_tick 34 = .ok (.goto (-18), 3) := dk_167 255 238 (dk_at dksX1_tick_1 11 rfl rfl)
theorem dX1_tick_37 : decode cX1_tick 37 = .ok (.iload_n 2, 1) := dk_28 (dk_at dksX1_tick_1 14 rfl rfl)
theorem dX1_tick_38 : decode cX1_tick 38 = .ok (.ireturn, 1) := dk_172 (dk_at dksX1_tick_1 15 rfl rfl)
abbrev cX1_law : ByteArray := prog_1_method_16_code
def yX1_law : MethodName := ⟨RX1, "law", "(I)I"⟩
def dkwX1_law_1 : List UInt8 := [182, 0, 104, 42, 180, 0, 10, 27, 181, 0, 132, 28, 172]
abbrev dktX1_law_1 : List UInt8 := dkwX1_law_1 ++ []
def dkwX1_law_0 : List UInt8 := [42, 27, 3, 6, 182, 0, 93, 42, 180, 0, 10, 180, 0, 132, 61, 42, 27, 28, 182, 0, 135, 42]
abbrev dktX1_law_0 : List UInt8 := dkwX1_law_0 ++ dktX1_law_1
theorem dksX1_law_0 : cX1_law.data.toList.drop 0 = dktX1_law_0 := by decide +kernel
theorem dksX1_law_1 : cX1_law.data.toList.drop 22 = dktX1_law_1 := dk_seg dksX1_law_0 22 rfl rfl
theorem dX1_law_0 : decode cX1_law 0 = .ok (.aload_n 0, 1) := dk_42 (dk_at dksX1_law_0 0 rfl rfl)
theorem dX1_law_1 : decode cX1_law 1 = .ok (.iload_n 1, 1) := dk_27 (dk_at dksX1_law_0 1 rfl rfl)
theorem dX1_law_2 : decode cX1_law 2 = .ok (.iconst 0, 1) := dk_3 (dk_at dksX1_law_0 2 rfl rfl)
theorem dX1_law_3 : decode cX1_law 3 = .ok (.iconst 3, 1) := dk_6 (dk_at dksX1_law_0 3 rfl rfl)
theorem dX1_law_4 : decode cX1_law 4 = .ok (.invokevirtual 93, 3) := dk_182 0 93 (dk_at dksX1_law_0 4 rfl rfl)
theorem dX1_law_7 : decode cX1_law 7 = .ok (.aload_n 0, 1) := dk_42 (dk_at dksX1_law_0 7 rfl rfl)
theorem dX1_law_8 : decode cX1_law 8 = .ok (.getfield 10, 3) := dk_180 0 10 (dk_at dksX1_law_0 8 rfl rfl)
theorem dX1_law_11 : decode cX1_law 11 = .ok (.getfield 132, 3) := dk_180 0 132 (dk_at dksX1_law_0 11 rfl rfl)
theorem dX1_law_14 : decode cX1_law 14 = .ok (.istore_n 2, 1) := dk_61 (dk_at dksX1_law_0 14 rfl rfl)
theorem dX1_law_15 : decode cX1_law 15 = .ok (.aload_n 0, 1) := dk_42 (dk_at dksX1_law_0 15 rfl rfl)
theorem dX1_law_16 : decode cX1_law 16 = .ok (.iload_n 1, 1) := dk_27 (dk_at dksX1_law_0 16 rfl rfl)
theorem dX1_law_17 : decode cX1_law 17 = .ok (.iload_n 2, 1) := dk_28 (dk_at dksX1_law_0 17 rfl rfl)
theorem dX1_law_18 : decode cX1_law 18 = .ok (.invokevirtual 135, 3) := dk_182 0 135 (dk_at dksX1_law_0 18 rfl rfl)
theorem dX1_law_21 : decode cX1_law 21 = .ok (.aload_n 0, 1) := dk_42 (dk_at dksX1_law_0 21 rfl rfl)
theorem dX1_law_22 : decode cX1_law 22 = .ok (.invokevirtual 104, 3) := dk_182 0 104 (dk_at dksX1_law_1 0 rfl rfl)
theorem dX1_law_25 : decode cX1_law 25 = .ok (.aload_n 0, 1) := dk_42 (dk_at dksX1_law_1 3 rfl rfl)
theorem dX1_law_26 : decode cX1_law 26 = .ok (.getfield 10, 3) := dk_180 0 10 (dk_at dksX1_law_1 4 rfl rfl)
theorem dX1_law_29 : decode cX1_law 29 = .ok (.iload_n 1, 1) := dk_27 (dk_at dksX1_law_1 7 rfl rfl)
theorem dX1_law_30 : decode cX1_law 30 = .ok (.putfield 132, 3) := dk_181 0 132 (dk_at dksX1_law_1 8 rfl rfl)
theorem dX1_law_33 : decode cX1_law 33 = .ok (.iload_n 2, 1) := dk_28 (dk_at dksX1_law_1 11 rfl rfl)
theorem dX1_law_34 : decode cX1_law 34 = .ok (.ireturn, 1) := dk_172 (dk_at dksX1_law_1 12 rfl rfl)
abbrev cX1_mustBeOther : ByteArray := prog_1_method_15_code
def yX1_mustBeOther : MethodName := ⟨RX1, "mustBeOther", "(II)V"⟩
def dkwX1_mustBeOther_0 : List UInt8 := [42, 27, 28, 160, 0, 7, 4, 167, 0, 4, 3, 7, 27, 182, 0, 53, 177]
abbrev dktX1_mustBeOther_0 : List UInt8 := dkwX1_mustBeOther_0 ++ []
theorem dksX1_mustBeOther_0 : cX1_mustBeOther.data.toList.drop 0 = dktX1_mustBeOther_0 := by decide +kernel
theorem dX1_mustBeOther_0 : decode cX1_mustBeOther 0 = .ok (.aload_n 0, 1) := dk_42 (dk_at dksX1_mustBeOther_0 0 rfl rfl)
theorem dX1_mustBeOther_1 : decode cX1_mustBeOther 1 = .ok (.iload_n 1, 1) := dk_27 (dk_at dksX1_mustBeOther_0 1 rfl rfl)
theorem dX1_mustBeOther_2 : decode cX1_mustBeOther 2 = .ok (.iload_n 2, 1) := dk_28 (dk_at dksX1_mustBeOther_0 2 rfl rfl)
theorem dX1_mustBeOther_3 : decode cX1_mustBeOther 3 = .ok (.if_icmp .ne 7, 3) := dk_160 0 7 (dk_at dksX1_mustBeOther_0 3 rfl rfl)
theorem dX1_mustBeOther_6 : decode cX1_mustBeOther 6 = .ok (.iconst 1, 1) := dk_4 (dk_at dksX1_mustBeOther_0 6 rfl rfl)
theorem dX1_mustBeOther_7 : decode cX1_mustBeOther 7 = .ok (.goto 4, 3) := dk_167 0 4 (dk_at dksX1_mustBeOther_0 7 rfl rfl)
theorem dX1_mustBeOther_10 : decode cX1_mustBeOther 10 = .ok (.iconst 0, 1) := dk_3 (dk_at dksX1_mustBeOther_0 10 rfl rfl)
theorem dX1_mustBeOther_11 : decode cX1_mustBeOther 11 = .ok (.iconst 4, 1) := dk_7 (dk_at dksX1_mustBeOther_0 11 rfl rfl)
theorem dX1_mustBeOther_12 : decode cX1_mustBeOther 12 = .ok (.iload_n 1, 1) := dk_27 (dk_at dksX1_mustBeOther_0 12 rfl rfl)
theorem dX1_mustBeOther_13 : decode cX1_mustBeOther 13 = .ok (.invokevirtual 53, 3) := dk_182 0 53 (dk_at dksX1_mustBeOther_0 13 rfl rfl)
theorem dX1_mustBeOther_16 : decode cX1_mustBeOther 16 = .ok (.return_, 1) := dk_177 (dk_at dksX1_mustBeOther_0 16 rfl rfl)
abbrev cX1_share : ByteArray := prog_1_method_17_code
def yX1_share : MethodName := ⟨RX1, "share", "(I)I"⟩
def dkwX1_share_1 : List UInt8 := [182, 0, 104, 42, 180, 0, 10, 27, 181, 0, 139, 28, 172]
abbrev dktX1_share_1 : List UInt8 := dkwX1_share_1 ++ []
def dkwX1_share_0 : List UInt8 := [42, 27, 4, 8, 182, 0, 93, 42, 180, 0, 10, 180, 0, 139, 61, 42, 27, 28, 182, 0, 135, 42]
abbrev dktX1_share_0 : List UInt8 := dkwX1_share_0 ++ dktX1_share_1
theorem dksX1_share_0 : cX1_share.data.toList.drop 0 = dktX1_share_0 := by decide +kernel
theorem dksX1_share_1 : cX1_share.data.toList.drop 22 = dktX1_share_1 := dk_seg dksX1_share_0 22 rfl rfl
theorem dX1_share_0 : decode cX1_share 0 = .ok (.aload_n 0, 1) := dk_42 (dk_at dksX1_share_0 0 rfl rfl)
theorem dX1_share_1 : decode cX1_share 1 = .ok (.iload_n 1, 1) := dk_27 (dk_at dksX1_share_0 1 rfl rfl)
theorem dX1_share_2 : decode cX1_share 2 = .ok (.iconst 1, 1) := dk_4 (dk_at dksX1_share_0 2 rfl rfl)
theorem dX1_share_3 : decode cX1_share 3 = .ok (.iconst 5, 1) := dk_8 (dk_at dksX1_share_0 3 rfl rfl)
theorem dX1_share_4 : decode cX1_share 4 = .ok (.invokevirtual 93, 3) := dk_182 0 93 (dk_at dksX1_share_0 4 rfl rfl)
theorem dX1_share_7 : decode cX1_share 7 = .ok (.aload_n 0, 1) := dk_42 (dk_at dksX1_share_0 7 rfl rfl)
theorem dX1_share_8 : decode cX1_share 8 = .ok (.getfield 10, 3) := dk_180 0 10 (dk_at dksX1_share_0 8 rfl rfl)
theorem dX1_share_11 : decode cX1_share 11 = .ok (.getfield 139, 3) := dk_180 0 139 (dk_at dksX1_share_0 11 rfl rfl)
theorem dX1_share_14 : decode cX1_share 14 = .ok (.istore_n 2, 1) := dk_61 (dk_at dksX1_share_0 14 rfl rfl)
theorem dX1_share_15 : decode cX1_share 15 = .ok (.aload_n 0, 1) := dk_42 (dk_at dksX1_share_0 15 rfl rfl)
theorem dX1_share_16 : decode cX1_share 16 = .ok (.iload_n 1, 1) := dk_27 (dk_at dksX1_share_0 16 rfl rfl)
theorem dX1_share_17 : decode cX1_share 17 = .ok (.iload_n 2, 1) := dk_28 (dk_at dksX1_share_0 17 rfl rfl)
theorem dX1_share_18 : decode cX1_share 18 = .ok (.invokevirtual 135, 3) := dk_182 0 135 (dk_at dksX1_share_0 18 rfl rfl)
theorem dX1_share_21 : decode cX1_share 21 = .ok (.aload_n 0, 1) := dk_42 (dk_at dksX1_share_0 21 rfl rfl)
theorem dX1_share_22 : decode cX1_share 22 = .ok (.invokevirtual 104, 3) := dk_182 0 104 (dk_at dksX1_share_1 0 rfl rfl)
theorem dX1_share_25 : decode cX1_share 25 = .ok (.aload_n 0, 1) := dk_42 (dk_at dksX1_share_1 3 rfl rfl)
theorem dX1_share_26 : decode cX1_share 26 = .ok (.getfield 10, 3) := dk_180 0 10 (dk_at dksX1_share_1 4 rfl rfl)
theorem dX1_share_29 : decode cX1_share 29 = .ok (.iload_n 1, 1) := dk_27 (dk_at dksX1_share_1 7 rfl rfl)
theorem dX1_share_30 : decode cX1_share 30 = .ok (.putfield 139, 3) := dk_181 0 139 (dk_at dksX1_share_1 8 rfl rfl)
theorem dX1_share_33 : decode cX1_share 33 = .ok (.iload_n 2, 1) := dk_28 (dk_at dksX1_share_1 11 rfl rfl)
theorem dX1_share_34 : decode cX1_share 34 = .ok (.ireturn, 1) := dk_172 (dk_at dksX1_share_1 12 rfl rfl)
abbrev cX1_spans : ByteArray := prog_1_method_18_code
def yX1_spans : MethodName := ⟨RX1, "spans", "(I)I"⟩
def dkwX1_spans_2 : List UInt8 := [182, 0, 104, 42, 180, 0, 10, 27, 181, 0, 145, 29, 172]
abbrev dktX1_spans_2 : List UInt8 := dkwX1_spans_2 ++ []
def dkwX1_spans_1 : List UInt8 := [167, 0, 4, 3, 8, 28, 182, 0, 53, 42, 180, 0, 10, 180, 0, 145, 62, 42, 27, 29, 182, 0, 135, 42]
abbrev dktX1_spans_1 : List UInt8 := dkwX1_spans_1 ++ dktX1_spans_2
def dkwX1_spans_0 : List UInt8 := [42, 27, 5, 16, 8, 182, 0, 93, 42, 180, 0, 10, 182, 0, 142, 61, 42, 28, 158, 0, 7, 4]
abbrev dktX1_spans_0 : List UInt8 := dkwX1_spans_0 ++ dktX1_spans_1
theorem dksX1_spans_0 : cX1_spans.data.toList.drop 0 = dktX1_spans_0 := by decide +kernel
theorem dksX1_spans_1 : cX1_spans.data.toList.drop 22 = dktX1_spans_1 := dk_seg dksX1_spans_0 22 rfl rfl
theorem dksX1_spans_2 : cX1_spans.data.toList.drop 46 = dktX1_spans_2 := dk_seg dksX1_spans_1 24 rfl rfl
theorem dX1_spans_0 : decode cX1_spans 0 = .ok (.aload_n 0, 1) := dk_42 (dk_at dksX1_spans_0 0 rfl rfl)
theorem dX1_spans_1 : decode cX1_spans 1 = .ok (.iload_n 1, 1) := dk_27 (dk_at dksX1_spans_0 1 rfl rfl)
theorem dX1_spans_2 : decode cX1_spans 2 = .ok (.iconst 2, 1) := dk_5 (dk_at dksX1_spans_0 2 rfl rfl)
theorem dX1_spans_3 : decode cX1_spans 3 = .ok (.bipush 8, 2) := dk_16 8 (dk_at dksX1_spans_0 3 rfl rfl)
theorem dX1_spans_5 : decode cX1_spans 5 = .ok (.invokevirtual 93, 3) := dk_182 0 93 (dk_at dksX1_spans_0 5 rfl rfl)
theorem dX1_spans_8 : decode cX1_spans 8 = .ok (.aload_n 0, 1) := dk_42 (dk_at dksX1_spans_0 8 rfl rfl)
theorem dX1_spans_9 : decode cX1_spans 9 = .ok (.getfield 10, 3) := dk_180 0 10 (dk_at dksX1_spans_0 9 rfl rfl)
theorem dX1_spans_12 : decode cX1_spans 12 = .ok (.invokevirtual 142, 3) := dk_182 0 142 (dk_at dksX1_spans_0 12 rfl rfl)
theorem dX1_spans_15 : decode cX1_spans 15 = .ok (.istore_n 2, 1) := dk_61 (dk_at dksX1_spans_0 15 rfl rfl)
theorem dX1_spans_16 : decode cX1_spans 16 = .ok (.aload_n 0, 1) := dk_42 (dk_at dksX1_spans_0 16 rfl rfl)
theorem dX1_spans_17 : decode cX1_spans 17 = .ok (.iload_n 2, 1) := dk_28 (dk_at dksX1_spans_0 17 rfl rfl)
theorem dX1_spans_18 : decode cX1_spans 18 = .ok (.ifCond .le 7, 3) := dk_158 0 7 (dk_at dksX1_spans_0 18 rfl rfl)
theorem dX1_spans_21 : decode cX1_spans 21 = .ok (.iconst 1, 1) := dk_4 (dk_at dksX1_spans_0 21 rfl rfl)
theorem dX1_spans_22 : decode cX1_spans 22 = .ok (.goto 4, 3) := dk_167 0 4 (dk_at dksX1_spans_1 0 rfl rfl)
theorem dX1_spans_25 : decode cX1_spans 25 = .ok (.iconst 0, 1) := dk_3 (dk_at dksX1_spans_1 3 rfl rfl)
theorem dX1_spans_26 : decode cX1_spans 26 = .ok (.iconst 5, 1) := dk_8 (dk_at dksX1_spans_1 4 rfl rfl)
theorem dX1_spans_27 : decode cX1_spans 27 = .ok (.iload_n 2, 1) := dk_28 (dk_at dksX1_spans_1 5 rfl rfl)
theorem dX1_spans_28 : decode cX1_spans 28 = .ok (.invokevirtual 53, 3) := dk_182 0 53 (dk_at dksX1_spans_1 6 rfl rfl)
theorem dX1_spans_31 : decode cX1_spans 31 = .ok (.aload_n 0, 1) := dk_42 (dk_at dksX1_spans_1 9 rfl rfl)
theorem dX1_spans_32 : decode cX1_spans 32 = .ok (.getfield 10, 3) := dk_180 0 10 (dk_at dksX1_spans_1 10 rfl rfl)
theorem dX1_spans_35 : decode cX1_spans 35 = .ok (.getfield 145, 3) := dk_180 0 145 (dk_at dksX1_spans_1 13 rfl rfl)
theorem dX1_spans_38 : decode cX1_spans 38 = .ok (.istore_n 3, 1) := dk_62 (dk_at dksX1_spans_1 16 rfl rfl)
theorem dX1_spans_39 : decode cX1_spans 39 = .ok (.aload_n 0, 1) := dk_42 (dk_at dksX1_spans_1 17 rfl rfl)
theorem dX1_spans_40 : decode cX1_spans 40 = .ok (.iload_n 1, 1) := dk_27 (dk_at dksX1_spans_1 18 rfl rfl)
theorem dX1_spans_41 : decode cX1_spans 41 = .ok (.iload_n 3, 1) := dk_29 (dk_at dksX1_spans_1 19 rfl rfl)
theorem dX1_spans_42 : decode cX1_spans 42 = .ok (.invokevirtual 135, 3) := dk_182 0 135 (dk_at dksX1_spans_1 20 rfl rfl)
theorem dX1_spans_45 : decode cX1_spans 45 = .ok (.aload_n 0, 1) := dk_42 (dk_at dksX1_spans_1 23 rfl rfl)
theorem dX1_spans_46 : decode cX1_spans 46 = .ok (.invokevirtual 104, 3) := dk_182 0 104 (dk_at dksX1_spans_2 0 rfl rfl)
theorem dX1_spans_49 : decode cX1_spans 49 = .ok (.aload_n 0, 1) := dk_42 (dk_at dksX1_spans_2 3 rfl rfl)
theorem dX1_spans_50 : decode cX1_spans 50 = .ok (.getfield 10, 3) := dk_180 0 10 (dk_at dksX1_spans_2 4 rfl rfl)
theorem dX1_spans_53 : decode cX1_spans 53 = .ok (.iload_n 1, 1) := dk_27 (dk_at dksX1_spans_2 7 rfl rfl)
theorem dX1_spans_54 : decode cX1_spans 54 = .ok (.putfield 145, 3) := dk_181 0 145 (dk_at dksX1_spans_2 8 rfl rfl)
theorem dX1_spans_57 : decode cX1_spans 57 = .ok (.iload_n 3, 1) := dk_29 (dk_at dksX1_spans_2 11 rfl rfl)
theorem dX1_spans_58 : decode cX1_spans 58 = .ok (.ireturn, 1) := dk_172 (dk_at dksX1_spans_2 12 rfl rfl)
abbrev cX1_leave : ByteArray := prog_1_method_20_code
def yX1_leave : MethodName := ⟨RX1, "leave", "(I)I"⟩
def dkwX1_leave_3 : List UInt8 := [181, 0, 164, 45, 182, 0, 101, 172]
abbrev dktX1_leave_3 : List UInt8 := dkwX1_leave_3 ++ []
def dkwX1_leave_2 : List UInt8 := [27, 184, 0, 123, 182, 0, 173, 182, 0, 177, 87, 44, 42, 180, 0, 10, 180, 0, 109, 182, 0, 180, 44, 6]
abbrev dktX1_leave_2 : List UInt8 := dkwX1_leave_2 ++ dktX1_leave_3
def dkwX1_leave_1 : List UInt8 := [180, 0, 167, 182, 0, 53, 42, 182, 0, 104, 42, 180, 0, 10, 44, 180, 0, 170, 182, 0, 119, 78, 45, 45]
abbrev dktX1_leave_1 : List UInt8 := dkwX1_leave_1 ++ dktX1_leave_2
def dkwX1_leave_0 : List UInt8 := [42, 27, 182, 0, 160, 77, 42, 44, 180, 0, 164, 4, 160, 0, 7, 4, 167, 0, 4, 3, 16, 6, 44]
abbrev dktX1_leave_0 : List UInt8 := dkwX1_leave_0 ++ dktX1_leave_1
theorem dksX1_leave_0 : cX1_leave.data.toList.drop 0 = dktX1_leave_0 := by decide +kernel
theorem dksX1_leave_1 : cX1_leave.data.toList.drop 23 = dktX1_leave_1 := dk_seg dksX1_leave_0 23 rfl rfl
theorem dksX1_leave_2 : cX1_leave.data.toList.drop 47 = dktX1_leave_2 := dk_seg dksX1_leave_1 24 rfl rfl
theorem dksX1_leave_3 : cX1_leave.data.toList.drop 71 = dktX1_leave_3 := dk_seg dksX1_leave_2 24 rfl rfl
theorem dX1_leave_0 : decode cX1_leave 0 = .ok (.aload_n 0, 1) := dk_42 (dk_at dksX1_leave_0 0 rfl rfl)
theorem dX1_leave_1 : decode cX1_leave 1 = .ok (.iload_n 1, 1) := dk_27 (dk_at dksX1_leave_0 1 rfl rfl)
theorem dX1_leave_2 : decode cX1_leave 2 = .ok (.invokevirtual 160, 3) := dk_182 0 160 (dk_at dksX1_leave_0 2 rfl rfl)
theorem dX1_leave_5 : decode cX1_leave 5 = .ok (.astore_n 2, 1) := dk_77 (dk_at dksX1_leave_0 5 rfl rfl)
theorem dX1_leave_6 : decode cX1_leave 6 = .ok (.aload_n 0, 1) := dk_42 (dk_at dksX1_leave_0 6 rfl rfl)
theorem dX1_leave_7 : decode cX1_leave 7 = .ok (.aload_n 2, 1) := dk_44 (dk_at dksX1_leave_0 7 rfl rfl)
theorem dX1_leave_8 : decode cX1_leave 8 = .ok (.getfield 164, 3) := dk_180 0 164 (dk_at dksX1_leave_0 8 rfl rfl)
theorem dX1_leave_11 : decode cX1_leave 11 = .ok (.iconst 1, 1) := dk_4 (dk_at dksX1_leave_0 11 rfl rfl)
theorem dX1_leave_12 : decode cX1_leave 12 = .ok (.if_icmp .ne 7, 3) := dk_160 0 7 (dk_at dksX1_leave_0 12 rfl rfl)
theorem dX1_leave_15 : decode cX1_leave 15 = .ok (.iconst 1, 1) := dk_4 (dk_at dksX1_leave_0 15 rfl rfl)
theorem dX1_leave_16 : decode cX1_leave 16 = .ok (.goto 4, 3) := dk_167 0 4 (dk_at dksX1_leave_0 16 rfl rfl)
theorem dX1_leave_19 : decode cX1_leave 19 = .ok (.iconst 0, 1) := dk_3 (dk_at dksX1_leave_0 19 rfl rfl)
theorem dX1_leave_20 : decode cX1_leave 20 = .ok (.bipush 6, 2) := dk_16 6 (dk_at dksX1_leave_0 20 rfl rfl)
theorem dX1_leave_22 : decode cX1_leave 22 = .ok (.aload_n 2, 1) := dk_44 (dk_at dksX1_leave_0 22 rfl rfl)
theorem dX1_leave_23 : decode cX1_leave 23 = .ok (.getfield 167, 3) := dk_180 0 167 (dk_at dksX1_leave_1 0 rfl rfl)
theorem dX1_leave_26 : decode cX1_leave 26 = .ok (.invokevirtual 53, 3) := dk_182 0 53 (dk_at dksX1_leave_1 3 rfl rfl)
theorem dX1_leave_29 : decode cX1_leave 29 = .ok (.aload_n 0, 1) := dk_42 (dk_at dksX1_leave_1 6 rfl rfl)
theorem dX1_leave_30 : decode cX1_leave 30 = .ok (.invokevirtual 104, 3) := dk_182 0 104 (dk_at dksX1_leave_1 7 rfl rfl)
theorem dX1_leave_33 : decode cX1_leave 33 = .ok (.aload_n 0, 1) := dk_42 (dk_at dksX1_leave_1 10 rfl rfl)
theorem dX1_leave_34 : decode cX1_leave 34 = .ok (.getfield 10, 3) := dk_180 0 10 (dk_at dksX1_leave_1 11 rfl rfl)
theorem dX1_leave_37 : decode cX1_leave 37 = .ok (.aload_n 2, 1) := dk_44 (dk_at dksX1_leave_1 14 rfl rfl)
theorem dX1_leave_38 : decode cX1_leave 38 = .ok (.getfield 170, 3) := dk_180 0 170 (dk_at dksX1_leave_1 15 rfl rfl)
theorem dX1_leave_41 : decode cX1_leave 41 = .ok (.invokevirtual 119, 3) := dk_182 0 119 (dk_at dksX1_leave_1 18 rfl rfl)
theorem dX1_leave_44 : decode cX1_leave 44 = .ok (.astore_n 3, 1) := dk_78 (dk_at dksX1_leave_1 21 rfl rfl)
theorem dX1_leave_45 : decode cX1_leave 45 = .ok (.aload_n 3, 1) := dk_45 (dk_at dksX1_leave_1 22 rfl rfl)
theorem dX1_leave_46 : decode cX1_leave 46 = .ok (.aload_n 3, 1) := dk_45 (dk_at dksX1_leave_1 23 rfl rfl)
theorem dX1_leave_47 : decode cX1_leave 47 = .ok (.iload_n 1, 1) := dk_27 (dk_at dksX1_leave_2 0 rfl rfl)
theorem dX1_leave_48 : decode cX1_leave 48 = .ok (.invokestatic 123, 3) := dk_184 0 123 (dk_at dksX1_leave_2 1 rfl rfl)
theorem dX1_leave_51 : decode cX1_leave 51 = .ok (.invokevirtual 173, 3) := dk_182 0 173 (dk_at dksX1_leave_2 4 rfl rfl)
theorem dX1_leave_54 : decode cX1_leave 54 = .ok (.invokevirtual 177, 3) := dk_182 0 177 (dk_at dksX1_leave_2 7 rfl rfl)
theorem dX1_leave_57 : decode cX1_leave 57 = .ok (.pop, 1) := dk_87 (dk_at dksX1_leave_2 10 rfl rfl)
theorem dX1_leave_58 : decode cX1_leave 58 = .ok (.aload_n 2, 1) := dk_44 (dk_at dksX1_leave_2 11 rfl rfl)
theorem dX1_leave_59 : decode cX1_leave 59 = .ok (.aload_n 0, 1) := dk_42 (dk_at dksX1_leave_2 12 rfl rfl)
theorem dX1_leave_60 : decode cX1_leave 60 = .ok (.getfield 10, 3) := dk_180 0 10 (dk_at dksX1_leave_2 13 rfl rfl)
theorem dX1_leave_63 : decode cX1_leave 63 = .ok (.getfield 109, 3) := dk_180 0 109 (dk_at dksX1_leave_2 16 rfl rfl)
theorem dX1_leave_66 : decode cX1_leave 66 = .ok (.invokevirtual 180, 3) := dk_182 0 180 (dk_at dksX1_leave_2 19 rfl rfl)
theorem dX1_leave_69 : decode cX1_leave 69 = .ok (.aload_n 2, 1) := dk_44 (dk_at dksX1_leave_2 22 rfl rfl)
theorem dX1_leave_70 : decode cX1_leave 70 = .ok (.iconst 3, 1) := dk_6 (dk_at dksX1_leave_2 23 rfl rfl)
theorem dX1_leave_71 : decode cX1_leave 71 = .ok (.putfield 164, 3) := dk_181 0 164 (dk_at dksX1_leave_3 0 rfl rfl)
theorem dX1_leave_74 : decode cX1_leave 74 = .ok (.aload_n 3, 1) := dk_45 (dk_at dksX1_leave_3 3 rfl rfl)
theorem dX1_leave_75 : decode cX1_leave 75 = .ok (.invokevirtual 101, 3) := dk_182 0 101 (dk_at dksX1_leave_3 4 rfl rfl)
theorem dX1_leave_78 : decode cX1_leave 78 = .ok (.ireturn, 1) := dk_172 (dk_at dksX1_leave_3 7 rfl rfl)
abbrev cX1_mustBeThere : ByteArray := prog_1_method_19_code
def yX1_mustBeThere : MethodName := ⟨RX1, "mustBeThere", "(I)LCartBridge$Cart;"⟩
def dkwX1_mustBeThere_2 : List UInt8 := [180, 0, 97, 27, 182, 0, 152, 192, 0, 107, 176]
abbrev dktX1_mustBeThere_2 : List UInt8 := dkwX1_mustBeThere_2 ++ []
def dkwX1_mustBeThere_1 : List UInt8 := [192, 0, 107, 182, 0, 156, 154, 0, 7, 4, 167, 0, 4, 3, 6, 27, 182, 0, 53, 42, 180, 0, 10]
abbrev dktX1_mustBeThere_1 : List UInt8 := dkwX1_mustBeThere_1 ++ dktX1_mustBeThere_2
def dkwX1_mustBeThere_0 : List UInt8 := [42, 42, 180, 0, 10, 27, 182, 0, 148, 153, 0, 23, 42, 180, 0, 10, 180, 0, 97, 27, 182, 0, 152]
abbrev dktX1_mustBeThere_0 : List UInt8 := dkwX1_mustBeThere_0 ++ dktX1_mustBeThere_1
theorem dksX1_mustBeThere_0 : cX1_mustBeThere.data.toList.drop 0 = dktX1_mustBeThere_0 := by decide +kernel
theorem dksX1_mustBeThere_1 : cX1_mustBeThere.data.toList.drop 23 = dktX1_mustBeThere_1 := dk_seg dksX1_mustBeThere_0 23 rfl rfl
theorem dksX1_mustBeThere_2 : cX1_mustBeThere.data.toList.drop 46 = dktX1_mustBeThere_2 := dk_seg dksX1_mustBeThere_1 23 rfl rfl
theorem dX1_mustBeThere_0 : decode cX1_mustBeThere 0 = .ok (.aload_n 0, 1) := dk_42 (dk_at dksX1_mustBeThere_0 0 rfl rfl)
theorem dX1_mustBeThere_1 : decode cX1_mustBeThere 1 = .ok (.aload_n 0, 1) := dk_42 (dk_at dksX1_mustBeThere_0 1 rfl rfl)
theorem dX1_mustBeThere_2 : decode cX1_mustBeThere 2 = .ok (.getfield 10, 3) := dk_180 0 10 (dk_at dksX1_mustBeThere_0 2 rfl rfl)
theorem dX1_mustBeThere_5 : decode cX1_mustBeThere 5 = .ok (.iload_n 1, 1) := dk_27 (dk_at dksX1_mustBeThere_0 5 rfl rfl)
theorem dX1_mustBeThere_6 : decode cX1_mustBeThere 6 = .ok (.invokevirtual 148, 3) := dk_182 0 148 (dk_at dksX1_mustBeThere_0 6 rfl rfl)
theorem dX1_mustBeThere_9 : decode cX1_mustBeThere 9 = .ok (.ifCond .eq 23, 3) := dk_153 0 23 (dk_at dksX1_mustBeThere_0 9 rfl rfl)
theorem dX1_mustBeThere_12 : decode cX1_mustBeThere 12 = .ok (.aload_n 0, 1) := dk_42 (dk_at dksX1_mustBeThere_0 12 rfl rfl)
theorem dX1_mustBeThere_13 : decode cX1_mustBeThere 13 = .ok (.getfield 10, 3) := dk_180 0 10 (dk_at dksX1_mustBeThere_0 13 rfl rfl)
theorem dX1_mustBeThere_16 : decode cX1_mustBeThere 16 = .ok (.getfield 97, 3) := dk_180 0 97 (dk_at dksX1_mustBeThere_0 16 rfl rfl)
theorem dX1_mustBeThere_19 : decode cX1_mustBeThere 19 = .ok (.iload_n 1, 1) := dk_27 (dk_at dksX1_mustBeThere_0 19 rfl rfl)
theorem dX1_mustBeThere_20 : decode cX1_mustBeThere 20 = .ok (.invokevirtual 152, 3) := dk_182 0 152 (dk_at dksX1_mustBeThere_0 20 rfl rfl)
theorem dX1_mustBeThere_23 : decode cX1_mustBeThere 23 = .ok (.checkcast 107, 3) := dk_192 0 107 (dk_at dksX1_mustBeThere_1 0 rfl rfl)
theorem dX1_mustBeThere_26 : decode cX1_mustBeThere 26 = .ok (.invokevirtual 156, 3) := dk_182 0 156 (dk_at dksX1_mustBeThere_1 3 rfl rfl)
theorem dX1_mustBeThere_29 : decode cX1_mustBeThere 29 = .ok (.ifCond .ne 7, 3) := dk_154 0 7 (dk_at dksX1_mustBeThere_1 6 rfl rfl)
theorem dX1_mustBeThere_32 : decode cX1_mustBeThere 32 = .ok (.iconst 1, 1) := dk_4 (dk_at dksX1_mustBeThere_1 9 rfl rfl)
theorem dX1_mustBeThere_33 : decode cX1_mustBeThere 33 = .ok (.goto 4, 3) := dk_167 0 4 (dk_at dksX1_mustBeThere_1 10 rfl rfl)
theorem dX1_mustBeThere_36 : decode cX1_mustBeThere 36 = .ok (.iconst 0, 1) := dk_3 (dk_at dksX1_mustBeThere_1 13 rfl rfl)
theorem dX1_mustBeThere_37 : decode cX1_mustBeThere 37 = .ok (.iconst 3, 1) := dk_6 (dk_at dksX1_mustBeThere_1 14 rfl rfl)
theorem dX1_mustBeThere_38 : decode cX1_mustBeThere 38 = .ok (.iload_n 1, 1) := dk_27 (dk_at dksX1_mustBeThere_1 15 rfl rfl)
theorem dX1_mustBeThere_39 : decode cX1_mustBeThere 39 = .ok (.invokevirtual 53, 3) := dk_182 0 53 (dk_at dksX1_mustBeThere_1 16 rfl rfl)
theorem dX1_mustBeThere_42 : decode cX1_mustBeThere 42 = .ok (.aload_n 0, 1) := dk_42 (dk_at dksX1_mustBeThere_1 19 rfl rfl)
theorem dX1_mustBeThere_43 : decode cX1_mustBeThere 43 = .ok (.getfield 10, 3) := dk_180 0 10 (dk_at dksX1_mustBeThere_1 20 rfl rfl)
theorem dX1_mustBeThere_46 : decode cX1_mustBeThere 46 = .ok (.getfield 97, 3) := dk_180 0 97 (dk_at dksX1_mustBeThere_2 0 rfl rfl)
theorem dX1_mustBeThere_49 : decode cX1_mustBeThere 49 = .ok (.iload_n 1, 1) := dk_27 (dk_at dksX1_mustBeThere_2 3 rfl rfl)
theorem dX1_mustBeThere_50 : decode cX1_mustBeThere 50 = .ok (.invokevirtual 152, 3) := dk_182 0 152 (dk_at dksX1_mustBeThere_2 4 rfl rfl)
theorem dX1_mustBeThere_53 : decode cX1_mustBeThere 53 = .ok (.checkcast 107, 3) := dk_192 0 107 (dk_at dksX1_mustBeThere_2 7 rfl rfl)
theorem dX1_mustBeThere_56 : decode cX1_mustBeThere 56 = .ok (.areturn, 1) := dk_176 (dk_at dksX1_mustBeThere_2 10 rfl rfl)
abbrev cX1_turnRow : ByteArray := prog_1_method_21_code
def yX1_turnRow : MethodName := ⟨RX1, "turnRow", "(I)I"⟩
def dkwX1_turnRow_5 : List UInt8 := [192, 0, 124, 182, 0, 184, 172]
abbrev dktX1_turnRow_5 : List UInt8 := dkwX1_turnRow_5 ++ []
def dkwX1_turnRow_4 : List UInt8 := [21, 4, 21, 5, 184, 0, 123, 182, 0, 187, 87, 132, 3, 1, 167, 255, 193, 44, 3, 182, 0, 152]
abbrev dktX1_turnRow_4 : List UInt8 := dkwX1_turnRow_4 ++ dktX1_turnRow_5
def dkwX1_turnRow_3 : List UInt8 := [192, 0, 124, 182, 0, 184, 54, 5, 44, 29, 44, 21, 4, 182, 0, 152, 192, 0, 124, 182, 0, 187, 87, 44]
abbrev dktX1_turnRow_3 : List UInt8 := dkwX1_turnRow_3 ++ dktX1_turnRow_4
def dkwX1_turnRow_2 : List UInt8 := [44, 182, 0, 101, 5, 108, 162, 0, 59, 44, 182, 0, 101, 4, 100, 29, 100, 54, 4, 44, 29, 182, 0, 152]
abbrev dktX1_turnRow_2 : List UInt8 := dkwX1_turnRow_2 ++ dktX1_turnRow_3
def dkwX1_turnRow_1 : List UInt8 := [162, 0, 7, 4, 167, 0, 4, 3, 16, 7, 44, 182, 0, 101, 182, 0, 53, 42, 182, 0, 104, 3, 62, 29]
abbrev dktX1_turnRow_1 : List UInt8 := dkwX1_turnRow_1 ++ dktX1_turnRow_2
def dkwX1_turnRow_0 : List UInt8 := [42, 27, 3, 4, 182, 0, 93, 42, 180, 0, 10, 27, 182, 0, 119, 77, 42, 44, 182, 0, 101, 5]
abbrev dktX1_turnRow_0 : List UInt8 := dkwX1_turnRow_0 ++ dktX1_turnRow_1
theorem dksX1_turnRow_0 : cX1_turnRow.data.toList.drop 0 = dktX1_turnRow_0 := by decide +kernel
theorem dksX1_turnRow_1 : cX1_turnRow.data.toList.drop 22 = dktX1_turnRow_1 := dk_seg dksX1_turnRow_0 22 rfl rfl
theorem dksX1_turnRow_2 : cX1_turnRow.data.toList.drop 46 = dktX1_turnRow_2 := dk_seg dksX1_turnRow_1 24 rfl rfl
theorem dksX1_turnRow_3 : cX1_turnRow.data.toList.drop 70 = dktX1_turnRow_3 := dk_seg dksX1_turnRow_2 24 rfl rfl
theorem dksX1_turnRow_4 : cX1_turnRow.data.toList.drop 94 = dktX1_turnRow_4 := dk_seg dksX1_turnRow_3 24 rfl rfl
theorem dksX1_turnRow_5 : cX1_turnRow.data.toList.drop 116 = dktX1_turnRow_5 := dk_seg dksX1_turnRow_4 22 rfl rfl
theorem dX1_turnRow_0 : decode cX1_turnRow 0 = .ok (.aload_n 0, 1) := dk_42 (dk_at dksX1_turnRow_0 0 rfl rfl)
theorem dX1_turnRow_1 : decode cX1_turnRow 1 = .ok (.iload_n 1, 1) := dk_27 (dk_at dksX1_turnRow_0 1 rfl rfl)
theorem dX1_turnRow_2 : decode cX1_turnRow 2 = .ok (.iconst 0, 1) := dk_3 (dk_at dksX1_turnRow_0 2 rfl rfl)
theorem dX1_turnRow_3 : decode cX1_turnRow 3 = .ok (.iconst 1, 1) := dk_4 (dk_at dksX1_turnRow_0 3 rfl rfl)
theorem dX1_turnRow_4 : decode cX1_turnRow 4 = .ok (.invokevirtual 93, 3) := dk_182 0 93 (dk_at dksX1_turnRow_0 4 rfl rfl)
theorem dX1_turnRow_7 : decode cX1_turnRow 7 = .ok (.aload_n 0, 1) := dk_42 (dk_at dksX1_turnRow_0 7 rfl rfl)
theorem dX1_turnRow_8 : decode cX1_turnRow 8 = .ok (.getfield 10, 3) := dk_180 0 10 (dk_at dksX1_turnRow_0 8 rfl rfl)
theorem dX1_turnRow_11 : decode cX1_turnRow 11 = .ok (.iload_n 1, 1) := dk_27 (dk_at dksX1_turnRow_0 11 rfl rfl)
theorem dX1_turnRow_12 : decode cX1_turnRow 12 = .ok (.invokevirtual 119, 3) := dk_182 0 119 (dk_at dksX1_turnRow_0 12 rfl rfl)
theorem dX1_turnRow_15 : decode cX1_turnRow 15 = .ok (.astore_n 2, 1) := dk_77 (dk_at dksX1_turnRow_0 15 rfl rfl)
theorem dX1_turnRow_16 : decode cX1_turnRow 16 = .ok (.aload_n 0, 1) := dk_42 (dk_at dksX1_turnRow_0 16 rfl rfl)
theorem dX1_turnRow_17 : decode cX1_turnRow 17 = .ok (.aload_n 2, 1) := dk_44 (dk_at dksX1_turnRow_0 17 rfl rfl)
theorem dX1_turnRow_18 : decode cX1_turnRow 18 = .ok (.invokevirtual 101, 3) := dk_182 0 101 (dk_at dksX1_turnRow_0 18 rfl rfl)
theorem dX1_turnRow_21 : decode cX1_turnRow 21 = .ok (.iconst 2, 1) := dk_5 (dk_at dksX1_turnRow_0 21 rfl rfl)
theorem dX1_turnRow_22 : decode cX1_turnRow 22 = .ok (.if_icmp .ge 7, 3) := dk_162 0 7 (dk_at dksX1_turnRow_1 0 rfl rfl)
theorem dX1_turnRow_25 : decode cX1_turnRow 25 = .ok (.iconst 1, 1) := dk_4 (dk_at dksX1_turnRow_1 3 rfl rfl)
theorem dX1_turnRow_26 : decode cX1_turnRow 26 = .ok (.goto 4, 3) := dk_167 0 4 (dk_at dksX1_turnRow_1 4 rfl rfl)
theorem dX1_turnRow_29 : decode cX1_turnRow 29 = .ok (.iconst 0, 1) := dk_3 (dk_at dksX1_turnRow_1 7 rfl rfl)
theorem dX1_turnRow_30 : decode cX1_turnRow 30 = .ok (.bipush 7, 2) := dk_16 7 (dk_at dksX1_turnRow_1 8 rfl rfl)
theorem dX1_turnRow_32 : decode cX1_turnRow 32 = .ok (.aload_n 2, 1) := dk_44 (dk_at dksX1_turnRow_1 10 rfl rfl)
theorem dX1_turnRow_33 : decode cX1_turnRow 33 = .ok (.invokevirtual 101, 3) := dk_182 0 101 (dk_at dksX1_turnRow_1 11 rfl rfl)
theorem dX1_turnRow_36 : decode cX1_turnRow 36 = .ok (.invokevirtual 53, 3) := dk_182 0 53 (dk_at dksX1_turnRow_1 14 rfl rfl)
theorem dX1_turnRow_39 : decode cX1_turnRow 39 = .ok (.aload_n 0, 1) := dk_42 (dk_at dksX1_turnRow_1 17 rfl rfl)
theorem dX1_turnRow_40 : decode cX1_turnRow 40 = .ok (.invokevirtual 104, 3) := dk_182 0 104 (dk_at dksX1_turnRow_1 18 rfl rfl)
theorem dX1_turnRow_43 : decode cX1_turnRow 43 = .ok (.iconst 0, 1) := dk_3 (dk_at dksX1_turnRow_1 21 rfl rfl)
theorem dX1_turnRow_44 : decode cX1_turnRow 44 = .ok (.istore_n 3, 1) := dk_62 (dk_at dksX1_turnRow_1 22 rfl rfl)
theorem dX1_turnRow_45 : decode cX1_turnRow 45 = .ok (.iload_n 3, 1) := dk_29 (dk_at dksX1_turnRow_1 23 rfl rfl)
theorem dX1_turnRow_46 : decode cX1_turnRow 46 = .ok (.aload_n 2, 1) := dk_44 (dk_at dksX1_turnRow_2 0 rfl rfl)
theorem dX1_turnRow_47 : decode cX1_turnRow 47 = .ok (.invokevirtual 101, 3) := dk_182 0 101 (dk_at dksX1_turnRow_2 1 rfl rfl)
theorem dX1_turnRow_50 : decode cX1_turnRow 50 = .ok (.iconst 2, 1) := dk_5 (dk_at dksX1_turnRow_2 4 rfl rfl)
theorem dX1_turnRow_51 : decode cX1_turnRow 51 = .ok (.idiv, 1) := dk_108 (dk_at dksX1_turnRow_2 5 rfl rfl)
theorem dX1_turnRow_52 : decode cX1_turnRow 52 = .ok (.if_icmp .ge 59, 3) := dk_162 0 59 (dk_at dksX1_turnRow_2 6 rfl rfl)
theorem dX1_turnRow_55 : decode cX1_turnRow 55 = .ok (.aload_n 2, 1) := dk_44 (dk_at dksX1_turnRow_2 9 rfl rfl)
theorem dX1_turnRow_56 : decode cX1_turnRow 56 = .ok (.invokevirtual 101, 3) := dk_182 0 101 (dk_at dksX1_turnRow_2 10 rfl rfl)
theorem dX1_turnRow_59 : decode cX1_turnRow 59 = .ok (.iconst 1, 1) := dk_4 (dk_at dksX1_turnRow_2 13 rfl rfl)
theorem dX1_turnRow_60 : decode cX1_turnRow 60 = .ok (.isub, 1) := dk_100 (dk_at dksX1_turnRow_2 14 rfl rfl)
theorem dX1_turnRow_61 : decode cX1_turnRow 61 = .ok (.iload_n 3, 1) := dk_29 (dk_at dksX1_turnRow_2 15 rfl rfl)
theorem dX1_turnRow_62 : decode cX1_turnRow 62 = .ok (.isub, 1) := dk_100 (dk_at dksX1_turnRow_2 16 rfl rfl)
theorem dX1_turnRow_63 : decode cX1_turnRow 63 = .ok (.istore 4, 2) := dk_54 4 (dk_at dksX1_turnRow_2 17 rfl rfl)
theorem dX1_turnRow_65 : decode cX1_turnRow 65 = .ok (.aload_n 2, 1) := dk_44 (dk_at dksX1_turnRow_2 19 rfl rfl)
theorem dX1_turnRow_66 : decode cX1_turnRow 66 = .ok (.iload_n 3, 1) := dk_29 (dk_at dksX1_turnRow_2 20 rfl rfl)
theorem dX1_turnRow_67 : decode cX1_turnRow 67 = .ok (.invokevirtual 152, 3) := dk_182 0 152 (dk_at dksX1_turnRow_2 21 rfl rfl)
theorem dX1_turnRow_70 : decode cX1_turnRow 70 = .ok (.checkcast 124, 3) := dk_192 0 124 (dk_at dksX1_turnRow_3 0 rfl rfl)
theorem dX1_turnRow_73 : decode cX1_turnRow 73 = .ok (.invokevirtual 184, 3) := dk_182 0 184 (dk_at dksX1_turnRow_3 3 rfl rfl)
theorem dX1_turnRow_76 : decode cX1_turnRow 76 = .ok (.istore 5, 2) := dk_54 5 (dk_at dksX1_turnRow_3 6 rfl rfl)
theorem dX1_turnRow_78 : decode cX1_turnRow 78 = .ok (.aload_n 2, 1) := dk_44 (dk_at dksX1_turnRow_3 8 rfl rfl)
theorem dX1_turnRow_79 : decode cX1_turnRow 79 = .ok (.iload_n 3, 1) := dk_29 (dk_at dksX1_turnRow_3 9 rfl rfl)
theorem dX1_turnRow_80 : decode cX1_turnRow 80 = .ok (.aload_n 2, 1) := dk_44 (dk_at dksX1_turnRow_3 10 rfl rfl)
theorem dX1_turnRow_81 : decode cX1_turnRow 81 = .ok (.iload 4, 2) := dk_21 4 (dk_at dksX1_turnRow_3 11 rfl rfl)
theorem dX1_turnRow_83 : decode cX1_turnRow 83 = .ok (.invokevirtual 152, 3) := dk_182 0 152 (dk_at dksX1_turnRow_3 13 rfl rfl)
theorem dX1_turnRow_86 : decode cX1_turnRow 86 = .ok (.checkcast 124, 3) := dk_192 0 124 (dk_at dksX1_turnRow_3 16 rfl rfl)
theorem dX1_turnRow_89 : decode cX1_turnRow 89 = .ok (.invokevirtual 187, 3) := dk_182 0 187 (dk_at dksX1_turnRow_3 19 rfl rfl)
theorem dX1_turnRow_92 : decode cX1_turnRow 92 = .ok (.pop, 1) := dk_87 (dk_at dksX1_turnRow_3 22 rfl rfl)
theorem dX1_turnRow_93 : decode cX1_turnRow 93 = .ok (.aload_n 2, 1) := dk_44 (dk_at dksX1_turnRow_3 23 rfl rfl)
theorem dX1_turnRow_94 : decode cX1_turnRow 94 = .ok (.iload 4, 2) := dk_21 4 (dk_at dksX1_turnRow_4 0 rfl rfl)
theorem dX1_turnRow_96 : decode cX1_turnRow 96 = .ok (.iload 5, 2) := dk_21 5 (dk_at dksX1_turnRow_4 2 rfl rfl)
theorem dX1_turnRow_98 : decode cX1_turnRow 98 = .ok (.invokestatic 123, 3) := dk_184 0 123 (dk_at dksX1_turnRow_4 4 rfl rfl)
theorem dX1_turnRow_101 : decode cX1_turnRow 101 = .ok (.invokevirtual 187, 3) := dk_182 0 187 (dk_at dksX1_turnRow_4 7 rfl rfl)
theorem dX1_turnRow_104 : decode cX1_turnRow 104 = .ok (.pop, 1) := dk_87 (dk_at dksX1_turnRow_4 10 rfl rfl)
theorem dX1_turnRow_105 : decode cX1_turnRow 105 = .ok (.iinc 3 1, 3) := dk_132 3 1 (dk_at dksX1_turnRow_4 11 rfl rfl)
theorem dX1_turnRow_108 : decode cX1_turnRow 108 = .ok (.goto (-63), 3) := dk_167 255 193 (dk_at dksX1_turnRow_4 14 rfl rfl)
theorem dX1_turnRow_111 : decode cX1_turnRow 111 = .ok (.aload_n 2, 1) := dk_44 (dk_at dksX1_turnRow_4 17 rfl rfl)
theorem dX1_turnRow_112 : decode cX1_turnRow 112 = .ok (.iconst 0, 1) := dk_3 (dk_at dksX1_turnRow_4 18 rfl rfl)
theorem dX1_turnRow_113 : decode cX1_turnRow 113 = .ok (.invokevirtual 152, 3) := dk_182 0 152 (dk_at dksX1_turnRow_4 19 rfl rfl)
theorem dX1_turnRow_116 : decode cX1_turnRow 116 = .ok (.checkcast 124, 3) := dk_192 0 124 (dk_at dksX1_turnRow_5 0 rfl rfl)
theorem dX1_turnRow_119 : decode cX1_turnRow 119 = .ok (.invokevirtual 184, 3) := dk_182 0 184 (dk_at dksX1_turnRow_5 3 rfl rfl)
theorem dX1_turnRow_122 : decode cX1_turnRow 122 = .ok (.ireturn, 1) := dk_172 (dk_at dksX1_turnRow_5 6 rfl rfl)
abbrev cX1_yieldBy : ByteArray := prog_1_method_23_code
def yX1_yieldBy : MethodName := ⟨RX1, "yieldBy", "(I)I"⟩
def dkwX1_yieldBy_2 : List UInt8 := [182, 0, 201, 29, 172]
abbrev dktX1_yieldBy_2 : List UInt8 := dkwX1_yieldBy_2 ++ []
def dkwX1_yieldBy_1 : List UInt8 := [182, 0, 194, 182, 0, 53, 42, 182, 0, 104, 42, 180, 0, 10, 44, 182, 0, 198, 62, 42, 180, 0, 10]
abbrev dktX1_yieldBy_1 : List UInt8 := dkwX1_yieldBy_1 ++ dktX1_yieldBy_2
def dkwX1_yieldBy_0 : List UInt8 := [42, 27, 182, 0, 160, 77, 42, 44, 180, 0, 164, 4, 159, 0, 7, 4, 167, 0, 4, 3, 16, 8, 42, 44]
abbrev dktX1_yieldBy_0 : List UInt8 := dkwX1_yieldBy_0 ++ dktX1_yieldBy_1
theorem dksX1_yieldBy_0 : cX1_yieldBy.data.toList.drop 0 = dktX1_yieldBy_0 := by decide +kernel
theorem dksX1_yieldBy_1 : cX1_yieldBy.data.toList.drop 24 = dktX1_yieldBy_1 := dk_seg dksX1_yieldBy_0 24 rfl rfl
theorem dksX1_yieldBy_2 : cX1_yieldBy.data.toList.drop 47 = dktX1_yieldBy_2 := dk_seg dksX1_yieldBy_1 23 rfl rfl
theorem dX1_yieldBy_0 : decode cX1_yieldBy 0 = .ok (.aload_n 0, 1) := dk_42 (dk_at dksX1_yieldBy_0 0 rfl rfl)
theorem dX1_yieldBy_1 : decode cX1_yieldBy 1 = .ok (.iload_n 1, 1) := dk_27 (dk_at dksX1_yieldBy_0 1 rfl rfl)
theorem dX1_yieldBy_2 : decode cX1_yieldBy 2 = .ok (.invokevirtual 160, 3) := dk_182 0 160 (dk_at dksX1_yieldBy_0 2 rfl rfl)
theorem dX1_yieldBy_5 : decode cX1_yieldBy 5 = .ok (.astore_n 2, 1) := dk_77 (dk_at dksX1_yieldBy_0 5 rfl rfl)
theorem dX1_yieldBy_6 : decode cX1_yieldBy 6 = .ok (.aload_n 0, 1) := dk_42 (dk_at dksX1_yieldBy_0 6 rfl rfl)
theorem dX1_yieldBy_7 : decode cX1_yieldBy 7 = .ok (.aload_n 2, 1) := dk_44 (dk_at dksX1_yieldBy_0 7 rfl rfl)
theorem dX1_yieldBy_8 : decode cX1_yieldBy 8 = .ok (.getfield 164, 3) := dk_180 0 164 (dk_at dksX1_yieldBy_0 8 rfl rfl)
theorem dX1_yieldBy_11 : decode cX1_yieldBy 11 = .ok (.iconst 1, 1) := dk_4 (dk_at dksX1_yieldBy_0 11 rfl rfl)
theorem dX1_yieldBy_12 : decode cX1_yieldBy 12 = .ok (.if_icmp .eq 7, 3) := dk_159 0 7 (dk_at dksX1_yieldBy_0 12 rfl rfl)
theorem dX1_yieldBy_15 : decode cX1_yieldBy 15 = .ok (.iconst 1, 1) := dk_4 (dk_at dksX1_yieldBy_0 15 rfl rfl)
theorem dX1_yieldBy_16 : decode cX1_yieldBy 16 = .ok (.goto 4, 3) := dk_167 0 4 (dk_at dksX1_yieldBy_0 16 rfl rfl)
theorem dX1_yieldBy_19 : decode cX1_yieldBy 19 = .ok (.iconst 0, 1) := dk_3 (dk_at dksX1_yieldBy_0 19 rfl rfl)
theorem dX1_yieldBy_20 : decode cX1_yieldBy 20 = .ok (.bipush 8, 2) := dk_16 8 (dk_at dksX1_yieldBy_0 20 rfl rfl)
theorem dX1_yieldBy_22 : decode cX1_yieldBy 22 = .ok (.aload_n 0, 1) := dk_42 (dk_at dksX1_yieldBy_0 22 rfl rfl)
theorem dX1_yieldBy_23 : decode cX1_yieldBy 23 = .ok (.aload_n 2, 1) := dk_44 (dk_at dksX1_yieldBy_0 23 rfl rfl)
theorem dX1_yieldBy_24 : decode cX1_yieldBy 24 = .ok (.invokevirtual 194, 3) := dk_182 0 194 (dk_at dksX1_yieldBy_1 0 rfl rfl)
theorem dX1_yieldBy_27 : decode cX1_yieldBy 27 = .ok (.invokevirtual 53, 3) := dk_182 0 53 (dk_at dksX1_yieldBy_1 3 rfl rfl)
theorem dX1_yieldBy_30 : decode cX1_yieldBy 30 = .ok (.aload_n 0, 1) := dk_42 (dk_at dksX1_yieldBy_1 6 rfl rfl)
theorem dX1_yieldBy_31 : decode cX1_yieldBy 31 = .ok (.invokevirtual 104, 3) := dk_182 0 104 (dk_at dksX1_yieldBy_1 7 rfl rfl)
theorem dX1_yieldBy_34 : decode cX1_yieldBy 34 = .ok (.aload_n 0, 1) := dk_42 (dk_at dksX1_yieldBy_1 10 rfl rfl)
theorem dX1_yieldBy_35 : decode cX1_yieldBy 35 = .ok (.getfield 10, 3) := dk_180 0 10 (dk_at dksX1_yieldBy_1 11 rfl rfl)
theorem dX1_yieldBy_38 : decode cX1_yieldBy 38 = .ok (.aload_n 2, 1) := dk_44 (dk_at dksX1_yieldBy_1 14 rfl rfl)
theorem dX1_yieldBy_39 : decode cX1_yieldBy 39 = .ok (.invokevirtual 198, 3) := dk_182 0 198 (dk_at dksX1_yieldBy_1 15 rfl rfl)
theorem dX1_yieldBy_42 : decode cX1_yieldBy 42 = .ok (.istore_n 3, 1) := dk_62 (dk_at dksX1_yieldBy_1 18 rfl rfl)
theorem dX1_yieldBy_43 : decode cX1_yieldBy 43 = .ok (.aload_n 0, 1) := dk_42 (dk_at dksX1_yieldBy_1 19 rfl rfl)
theorem dX1_yieldBy_44 : decode cX1_yieldBy 44 = .ok (.getfield 10, 3) := dk_180 0 10 (dk_at dksX1_yieldBy_1 20 rfl rfl)
theorem dX1_yieldBy_47 : decode cX1_yieldBy 47 = .ok (.invokevirtual 201, 3) := dk_182 0 201 (dk_at dksX1_yieldBy_2 0 rfl rfl)
theorem dX1_yieldBy_50 : decode cX1_yieldBy 50 = .ok (.iload_n 3, 1) := dk_29 (dk_at dksX1_yieldBy_2 3 rfl rfl)
theorem dX1_yieldBy_51 : decode cX1_yieldBy 51 = .ok (.ireturn, 1) := dk_172 (dk_at dksX1_yieldBy_2 4 rfl rfl)
abbrev cX1_placeOf : ByteArray := prog_1_method_22_code
def yX1_placeOf : MethodName := ⟨RX1, "placeOf", "(LCartBridge$Cart;)I"⟩
def dkwX1_placeOf_1 : List UInt8 := [184, 0, 123, 182, 0, 173, 167, 0, 4, 2, 172]
abbrev dktX1_placeOf_1 : List UInt8 := dkwX1_placeOf_1 ++ []
def dkwX1_placeOf_0 : List UInt8 := [43, 180, 0, 164, 154, 0, 27, 42, 180, 0, 10, 43, 180, 0, 170, 182, 0, 119, 43, 180, 0, 191]
abbrev dktX1_placeOf_0 : List UInt8 := dkwX1_placeOf_0 ++ dktX1_placeOf_1
theorem dksX1_placeOf_0 : cX1_placeOf.data.toList.drop 0 = dktX1_placeOf_0 := by decide +kernel
theorem dksX1_placeOf_1 : cX1_placeOf.data.toList.drop 22 = dktX1_placeOf_1 := dk_seg dksX1_placeOf_0 22 rfl rfl
theorem dX1_placeOf_0 : decode cX1_placeOf 0 = .ok (.aload_n 1, 1) := dk_43 (dk_at dksX1_placeOf_0 0 rfl rfl)
theorem dX1_placeOf_1 : decode cX1_placeOf 1 = .ok (.getfield 164, 3) := dk_180 0 164 (dk_at dksX1_placeOf_0 1 rfl rfl)
theorem dX1_placeOf_4 : decode cX1_placeOf 4 = .ok (.ifCond .ne 27, 3) := dk_154 0 27 (dk_at dksX1_placeOf_0 4 rfl rfl)
theorem dX1_placeOf_7 : decode cX1_placeOf 7 = .ok (.aload_n 0, 1) := dk_42 (dk_at dksX1_placeOf_0 7 rfl rfl)
theorem dX1_placeOf_8 : decode cX1_placeOf 8 = .ok (.getfield 10, 3) := dk_180 0 10 (dk_at dksX1_placeOf_0 8 rfl rfl)
theorem dX1_placeOf_11 : decode cX1_placeOf 11 = .ok (.aload_n 1, 1) := dk_43 (dk_at dksX1_placeOf_0 11 rfl rfl)
theorem dX1_placeOf_12 : decode cX1_placeOf 12 = .ok (.getfield 170, 3) := dk_180 0 170 (dk_at dksX1_placeOf_0 12 rfl rfl)
theorem dX1_placeOf_15 : decode cX1_placeOf 15 = .ok (.invokevirtual 119, 3) := dk_182 0 119 (dk_at dksX1_placeOf_0 15 rfl rfl)
theorem dX1_placeOf_18 : decode cX1_placeOf 18 = .ok (.aload_n 1, 1) := dk_43 (dk_at dksX1_placeOf_0 18 rfl rfl)
theorem dX1_placeOf_19 : decode cX1_placeOf 19 = .ok (.getfield 191, 3) := dk_180 0 191 (dk_at dksX1_placeOf_0 19 rfl rfl)
theorem dX1_placeOf_22 : decode cX1_placeOf 22 = .ok (.invokestatic 123, 3) := dk_184 0 123 (dk_at dksX1_placeOf_1 0 rfl rfl)
theorem dX1_placeOf_25 : decode cX1_placeOf 25 = .ok (.invokevirtual 173, 3) := dk_182 0 173 (dk_at dksX1_placeOf_1 3 rfl rfl)
theorem dX1_placeOf_28 : decode cX1_placeOf 28 = .ok (.goto 4, 3) := dk_167 0 4 (dk_at dksX1_placeOf_1 6 rfl rfl)
theorem dX1_placeOf_31 : decode cX1_placeOf 31 = .ok (.iconst (-1), 1) := dk_2 (dk_at dksX1_placeOf_1 9 rfl rfl)
theorem dX1_placeOf_32 : decode cX1_placeOf 32 = .ok (.ireturn, 1) := dk_172 (dk_at dksX1_placeOf_1 10 rfl rfl)
abbrev cX1_cartOf : ByteArray := prog_1_method_26_code
def yX1_cartOf : MethodName := ⟨RX1, "cartOf", "(II)I"⟩
def dkwX1_cartOf_4 : List UInt8 := [167, 0, 8, 42, 45, 182, 0, 194, 172]
abbrev dktX1_cartOf_4 : List UInt8 := dkwX1_cartOf_4 ++ []
def dkwX1_cartOf_3 : List UInt8 := [180, 0, 167, 167, 0, 29, 45, 180, 0, 220, 167, 0, 22, 45, 180, 0, 223, 167, 0, 15, 45, 180, 0, 225]
abbrev dktX1_cartOf_3 : List UInt8 := dkwX1_cartOf_3 ++ dktX1_cartOf_4
def dkwX1_cartOf_2 : List UInt8 := [45, 180, 0, 170, 167, 0, 50, 45, 180, 0, 217, 167, 0, 43, 45, 180, 0, 164, 167, 0, 36, 45]
abbrev dktX1_cartOf_2 : List UInt8 := dkwX1_cartOf_2 ++ dktX1_cartOf_3
def dkwX1_cartOf_1 : List UInt8 := [170, 0, 0, 0, 0, 0, 92, 0, 0, 0, 0, 0, 0, 0, 6, 0, 0, 0, 43, 0, 0, 0, 50, 0, 0, 0, 57, 0, 0, 0, 64, 0, 0, 0, 71, 0, 0, 0, 78, 0, 0, 0, 85]
abbrev dktX1_cartOf_1 : List UInt8 := dkwX1_cartOf_1 ++ dktX1_cartOf_2
def dkwX1_cartOf_0 : List UInt8 := [42, 27, 182, 0, 208, 78, 28, 3, 16, 7, 184, 0, 49, 184, 0, 214, 28]
abbrev dktX1_cartOf_0 : List UInt8 := dkwX1_cartOf_0 ++ dktX1_cartOf_1
theorem dksX1_cartOf_0 : cX1_cartOf.data.toList.drop 0 = dktX1_cartOf_0 := by decide +kernel
theorem dksX1_cartOf_1 : cX1_cartOf.data.toList.drop 17 = dktX1_cartOf_1 := dk_seg dksX1_cartOf_0 17 rfl rfl
theorem dksX1_cartOf_2 : cX1_cartOf.data.toList.drop 60 = dktX1_cartOf_2 := dk_seg dksX1_cartOf_1 43 rfl rfl
theorem dksX1_cartOf_3 : cX1_cartOf.data.toList.drop 82 = dktX1_cartOf_3 := dk_seg dksX1_cartOf_2 22 rfl rfl
theorem dksX1_cartOf_4 : cX1_cartOf.data.toList.drop 106 = dktX1_cartOf_4 := dk_seg dksX1_cartOf_3 24 rfl rfl
theorem dX1_cartOf_0 : decode cX1_cartOf 0 = .ok (.aload_n 0, 1) := dk_42 (dk_at dksX1_cartOf_0 0 rfl rfl)
theorem dX1_cartOf_1 : decode cX1_cartOf 1 = .ok (.iload_n 1, 1) := dk_27 (dk_at dksX1_cartOf_0 1 rfl rfl)
theorem dX1_cartOf_2 : decode cX1_cartOf 2 = .ok (.invokevirtual 208, 3) := dk_182 0 208 (dk_at dksX1_cartOf_0 2 rfl rfl)
theorem dX1_cartOf_5 : decode cX1_cartOf 5 = .ok (.astore_n 3, 1) := dk_78 (dk_at dksX1_cartOf_0 5 rfl rfl)
theorem dX1_cartOf_6 : decode cX1_cartOf 6 = .ok (.iload_n 2, 1) := dk_28 (dk_at dksX1_cartOf_0 6 rfl rfl)
theorem dX1_cartOf_7 : decode cX1_cartOf 7 = .ok (.iconst 0, 1) := dk_3 (dk_at dksX1_cartOf_0 7 rfl rfl)
theorem dX1_cartOf_8 : decode cX1_cartOf 8 = .ok (.bipush 7, 2) := dk_16 7 (dk_at dksX1_cartOf_0 8 rfl rfl)
theorem dX1_cartOf_10 : decode cX1_cartOf 10 = .ok (.invokestatic 49, 3) := dk_184 0 49 (dk_at dksX1_cartOf_0 10 rfl rfl)
theorem dX1_cartOf_13 : decode cX1_cartOf 13 = .ok (.invokestatic 214, 3) := dk_184 0 214 (dk_at dksX1_cartOf_0 13 rfl rfl)
theorem dX1_cartOf_16 : decode cX1_cartOf 16 = .ok (.iload_n 2, 1) := dk_28 (dk_at dksX1_cartOf_0 16 rfl rfl)
theorem dX1_cartOf_17 : decode cX1_cartOf 17 = .ok (.tableswitch 92 0 6 #[43, 50, 57, 64, 71, 78, 85], 43) := by decide +kernel
theorem dX1_cartOf_60 : decode cX1_cartOf 60 = .ok (.aload_n 3, 1) := dk_45 (dk_at dksX1_cartOf_2 0 rfl rfl)
theorem dX1_cartOf_61 : decode cX1_cartOf 61 = .ok (.getfield 170, 3) := dk_180 0 170 (dk_at dksX1_cartOf_2 1 rfl rfl)
theorem dX1_cartOf_64 : decode cX1_cartOf 64 = .ok (.goto 50, 3) := dk_167 0 50 (dk_at dksX1_cartOf_2 4 rfl rfl)
theorem dX1_cartOf_67 : decode cX1_cartOf 67 = .ok (.aload_n 3, 1) := dk_45 (dk_at dksX1_cartOf_2 7 rfl rfl)
theorem dX1_cartOf_68 : decode cX1_cartOf 68 = .ok (.getfield 217, 3) := dk_180 0 217 (dk_at dksX1_cartOf_2 8 rfl rfl)
theorem dX1_cartOf_71 : decode cX1_cartOf 71 = .ok (.goto 43, 3) := dk_167 0 43 (dk_at dksX1_cartOf_2 11 rfl rfl)
theorem dX1_cartOf_74 : decode cX1_cartOf 74 = .ok (.aload_n 3, 1) := dk_45 (dk_at dksX1_cartOf_2 14 rfl rfl)
theorem dX1_cartOf_75 : decode cX1_cartOf 75 = .ok (.getfield 164, 3) := dk_180 0 164 (dk_at dksX1_cartOf_2 15 rfl rfl)
theorem dX1_cartOf_78 : decode cX1_cartOf 78 = .ok (.goto 36, 3) := dk_167 0 36 (dk_at dksX1_cartOf_2 18 rfl rfl)
theorem dX1_cartOf_81 : decode cX1_cartOf 81 = .ok (.aload_n 3, 1) := dk_45 (dk_at dksX1_cartOf_2 21 rfl rfl)
theorem dX1_cartOf_82 : decode cX1_cartOf 82 = .ok (.getfield 167, 3) := dk_180 0 167 (dk_at dksX1_cartOf_3 0 rfl rfl)
theorem dX1_cartOf_85 : decode cX1_cartOf 85 = .ok (.goto 29, 3) := dk_167 0 29 (dk_at dksX1_cartOf_3 3 rfl rfl)
theorem dX1_cartOf_88 : decode cX1_cartOf 88 = .ok (.aload_n 3, 1) := dk_45 (dk_at dksX1_cartOf_3 6 rfl rfl)
theorem dX1_cartOf_89 : decode cX1_cartOf 89 = .ok (.getfield 220, 3) := dk_180 0 220 (dk_at dksX1_cartOf_3 7 rfl rfl)
theorem dX1_cartOf_92 : decode cX1_cartOf 92 = .ok (.goto 22, 3) := dk_167 0 22 (dk_at dksX1_cartOf_3 10 rfl rfl)
theorem dX1_cartOf_95 : decode cX1_cartOf 95 = .ok (.aload_n 3, 1) := dk_45 (dk_at dksX1_cartOf_3 13 rfl rfl)
theorem dX1_cartOf_96 : decode cX1_cartOf 96 = .ok (.getfield 223, 3) := dk_180 0 223 (dk_at dksX1_cartOf_3 14 rfl rfl)
theorem dX1_cartOf_99 : decode cX1_cartOf 99 = .ok (.goto 15, 3) := dk_167 0 15 (dk_at dksX1_cartOf_3 17 rfl rfl)
theorem dX1_cartOf_102 : decode cX1_cartOf 102 = .ok (.aload_n 3, 1) := dk_45 (dk_at dksX1_cartOf_3 20 rfl rfl)
theorem dX1_cartOf_103 : decode cX1_cartOf 103 = .ok (.getfield 225, 3) := dk_180 0 225 (dk_at dksX1_cartOf_3 21 rfl rfl)
theorem dX1_cartOf_106 : decode cX1_cartOf 106 = .ok (.goto 8, 3) := dk_167 0 8 (dk_at dksX1_cartOf_4 0 rfl rfl)
theorem dX1_cartOf_109 : decode cX1_cartOf 109 = .ok (.aload_n 0, 1) := dk_42 (dk_at dksX1_cartOf_4 3 rfl rfl)
theorem dX1_cartOf_110 : decode cX1_cartOf 110 = .ok (.aload_n 3, 1) := dk_45 (dk_at dksX1_cartOf_4 4 rfl rfl)
theorem dX1_cartOf_111 : decode cX1_cartOf 111 = .ok (.invokevirtual 194, 3) := dk_182 0 194 (dk_at dksX1_cartOf_4 5 rfl rfl)
theorem dX1_cartOf_114 : decode cX1_cartOf 114 = .ok (.ireturn, 1) := dk_172 (dk_at dksX1_cartOf_4 8 rfl rfl)
abbrev cX1_cart0 : ByteArray := prog_1_method_24_code
def yX1_cart0 : MethodName := ⟨RX1, "cart0", "(I)LCartBridge$Cart;"⟩
def dkwX1_cart0_1 : List UInt8 := [192, 0, 107, 176]
abbrev dktX1_cart0_1 : List UInt8 := dkwX1_cart0_1 ++ []
def dkwX1_cart0_0 : List UInt8 := [42, 180, 0, 10, 27, 182, 0, 148, 184, 0, 204, 42, 180, 0, 10, 180, 0, 97, 27, 182, 0, 152]
abbrev dktX1_cart0_0 : List UInt8 := dkwX1_cart0_0 ++ dktX1_cart0_1
theorem dksX1_cart0_0 : cX1_cart0.data.toList.drop 0 = dktX1_cart0_0 := by decide +kernel
theorem dksX1_cart0_1 : cX1_cart0.data.toList.drop 22 = dktX1_cart0_1 := dk_seg dksX1_cart0_0 22 rfl rfl
theorem dX1_cart0_0 : decode cX1_cart0 0 = .ok (.aload_n 0, 1) := dk_42 (dk_at dksX1_cart0_0 0 rfl rfl)
theorem dX1_cart0_1 : decode cX1_cart0 1 = .ok (.getfield 10, 3) := dk_180 0 10 (dk_at dksX1_cart0_0 1 rfl rfl)
theorem dX1_cart0_4 : decode cX1_cart0 4 = .ok (.iload_n 1, 1) := dk_27 (dk_at dksX1_cart0_0 4 rfl rfl)
theorem dX1_cart0_5 : decode cX1_cart0 5 = .ok (.invokevirtual 148, 3) := dk_182 0 148 (dk_at dksX1_cart0_0 5 rfl rfl)
theorem dX1_cart0_8 : decode cX1_cart0 8 = .ok (.invokestatic 204, 3) := dk_184 0 204 (dk_at dksX1_cart0_0 8 rfl rfl)
theorem dX1_cart0_11 : decode cX1_cart0 11 = .ok (.aload_n 0, 1) := dk_42 (dk_at dksX1_cart0_0 11 rfl rfl)
theorem dX1_cart0_12 : decode cX1_cart0 12 = .ok (.getfield 10, 3) := dk_180 0 10 (dk_at dksX1_cart0_0 12 rfl rfl)
theorem dX1_cart0_15 : decode cX1_cart0 15 = .ok (.getfield 97, 3) := dk_180 0 97 (dk_at dksX1_cart0_0 15 rfl rfl)
theorem dX1_cart0_18 : decode cX1_cart0 18 = .ok (.iload_n 1, 1) := dk_27 (dk_at dksX1_cart0_0 18 rfl rfl)
theorem dX1_cart0_19 : decode cX1_cart0 19 = .ok (.invokevirtual 152, 3) := dk_182 0 152 (dk_at dksX1_cart0_0 19 rfl rfl)
theorem dX1_cart0_22 : decode cX1_cart0 22 = .ok (.checkcast 107, 3) := dk_192 0 107 (dk_at dksX1_cart0_1 0 rfl rfl)
theorem dX1_cart0_25 : decode cX1_cart0 25 = .ok (.areturn, 1) := dk_176 (dk_at dksX1_cart0_1 3 rfl rfl)
abbrev cX1_checkIndex : ByteArray := prog_1_method_6_code
def yX1_checkIndex : MethodName := ⟨RX1, "checkIndex", "(Z)V"⟩
def dkwX1_checkIndex_0 : List UInt8 := [26, 154, 0, 11, 187, 0, 60, 89, 183, 0, 62, 191, 177]
abbrev dktX1_checkIndex_0 : List UInt8 := dkwX1_checkIndex_0 ++ []
theorem dksX1_checkIndex_0 : cX1_checkIndex.data.toList.drop 0 = dktX1_checkIndex_0 := by decide +kernel
theorem dX1_checkIndex_0 : decode cX1_checkIndex 0 = .ok (.iload_n 0, 1) := dk_26 (dk_at dksX1_checkIndex_0 0 rfl rfl)
theorem dX1_checkIndex_1 : decode cX1_checkIndex 1 = .ok (.ifCond .ne 11, 3) := dk_154 0 11 (dk_at dksX1_checkIndex_0 1 rfl rfl)
theorem dX1_checkIndex_4 : decode cX1_checkIndex 4 = .ok (.new 60, 3) := dk_187 0 60 (dk_at dksX1_checkIndex_0 4 rfl rfl)
theorem dX1_checkIndex_7 : decode cX1_checkIndex 7 = .ok (.dup, 1) := dk_89 (dk_at dksX1_checkIndex_0 7 rfl rfl)
theorem dX1_checkIndex_8 : decode cX1_checkIndex 8 = .ok (.invokespecial 62, 3) := dk_183 0 62 (dk_at dksX1_checkIndex_0 8 rfl rfl)
theorem dX1_checkIndex_11 : decode cX1_checkIndex 11 = .ok (.athrow, 1) := dk_191 (dk_at dksX1_checkIndex_0 11 rfl rfl)
theorem dX1_checkIndex_12 : decode cX1_checkIndex 12 = .ok (.return_, 1) := dk_177 (dk_at dksX1_checkIndex_0 12 rfl rfl)
abbrev cX1_check : ByteArray := prog_1_method_5_code
def yX1_check : MethodName := ⟨RX1, "check", "(Z)V"⟩
def dkwX1_check_0 : List UInt8 := [26, 154, 0, 11, 187, 0, 57, 89, 183, 0, 59, 191, 177]
abbrev dktX1_check_0 : List UInt8 := dkwX1_check_0 ++ []
theorem dksX1_check_0 : cX1_check.data.toList.drop 0 = dktX1_check_0 := by decide +kernel
theorem dX1_check_0 : decode cX1_check 0 = .ok (.iload_n 0, 1) := dk_26 (dk_at dksX1_check_0 0 rfl rfl)
theorem dX1_check_1 : decode cX1_check 1 = .ok (.ifCond .ne 11, 3) := dk_154 0 11 (dk_at dksX1_check_0 1 rfl rfl)
theorem dX1_check_4 : decode cX1_check 4 = .ok (.new 57, 3) := dk_187 0 57 (dk_at dksX1_check_0 4 rfl rfl)
theorem dX1_check_7 : decode cX1_check 7 = .ok (.dup, 1) := dk_89 (dk_at dksX1_check_0 7 rfl rfl)
theorem dX1_check_8 : decode cX1_check 8 = .ok (.invokespecial 59, 3) := dk_183 0 59 (dk_at dksX1_check_0 8 rfl rfl)
theorem dX1_check_11 : decode cX1_check 11 = .ok (.athrow, 1) := dk_191 (dk_at dksX1_check_0 11 rfl rfl)
theorem dX1_check_12 : decode cX1_check 12 = .ok (.return_, 1) := dk_177 (dk_at dksX1_check_0 12 rfl rfl)
abbrev cX1_waited : ByteArray := prog_1_method_27_code
def yX1_waited : MethodName := ⟨RX1, "waited", "(I)I"⟩
def dkwX1_waited_0 : List UInt8 := [42, 27, 182, 0, 208, 180, 0, 228, 172]
abbrev dktX1_waited_0 : List UInt8 := dkwX1_waited_0 ++ []
theorem dksX1_waited_0 : cX1_waited.data.toList.drop 0 = dktX1_waited_0 := by decide +kernel
theorem dX1_waited_0 : decode cX1_waited 0 = .ok (.aload_n 0, 1) := dk_42 (dk_at dksX1_waited_0 0 rfl rfl)
theorem dX1_waited_1 : decode cX1_waited 1 = .ok (.iload_n 1, 1) := dk_27 (dk_at dksX1_waited_0 1 rfl rfl)
theorem dX1_waited_2 : decode cX1_waited 2 = .ok (.invokevirtual 208, 3) := dk_182 0 208 (dk_at dksX1_waited_0 2 rfl rfl)
theorem dX1_waited_5 : decode cX1_waited 5 = .ok (.getfield 228, 3) := dk_180 0 228 (dk_at dksX1_waited_0 5 rfl rfl)
theorem dX1_waited_8 : decode cX1_waited 8 = .ok (.ireturn, 1) := dk_172 (dk_at dksX1_waited_0 8 rfl rfl)
abbrev cX1_waitedAgain : ByteArray := prog_1_method_28_code
def yX1_waitedAgain : MethodName := ⟨RX1, "waitedAgain", "(I)I"⟩
def dkwX1_waitedAgain_0 : List UInt8 := [42, 27, 182, 0, 208, 42, 180, 0, 10, 180, 0, 109, 182, 0, 231, 172]
abbrev dktX1_waitedAgain_0 : List UInt8 := dkwX1_waitedAgain_0 ++ []
theorem dksX1_waitedAgain_0 : cX1_waitedAgain.data.toList.drop 0 = dktX1_waitedAgain_0 := by decide +kernel
theorem dX1_waitedAgain_0 : decode cX1_waitedAgain 0 = .ok (.aload_n 0, 1) := dk_42 (dk_at dksX1_waitedAgain_0 0 rfl rfl)
theorem dX1_waitedAgain_1 : decode cX1_waitedAgain 1 = .ok (.iload_n 1, 1) := dk_27 (dk_at dksX1_waitedAgain_0 1 rfl rfl)
theorem dX1_waitedAgain_2 : decode cX1_waitedAgain 2 = .ok (.invokevirtual 208, 3) := dk_182 0 208 (dk_at dksX1_waitedAgain_0 2 rfl rfl)
theorem dX1_waitedAgain_5 : decode cX1_waitedAgain 5 = .ok (.aload_n 0, 1) := dk_42 (dk_at dksX1_waitedAgain_0 5 rfl rfl)
theorem dX1_waitedAgain_6 : decode cX1_waitedAgain 6 = .ok (.getfield 10, 3) := dk_180 0 10 (dk_at dksX1_waitedAgain_0 6 rfl rfl)
theorem dX1_waitedAgain_9 : decode cX1_waitedAgain 9 = .ok (.getfield 109, 3) := dk_180 0 109 (dk_at dksX1_waitedAgain_0 9 rfl rfl)
theorem dX1_waitedAgain_12 : decode cX1_waitedAgain 12 = .ok (.invokevirtual 231, 3) := dk_182 0 231 (dk_at dksX1_waitedAgain_0 12 rfl rfl)
theorem dX1_waitedAgain_15 : decode cX1_waitedAgain 15 = .ok (.ireturn, 1) := dk_172 (dk_at dksX1_waitedAgain_0 15 rfl rfl)
abbrev cX1_waiting : ByteArray := prog_1_method_29_code
def yX1_waiting : MethodName := ⟨RX1, "waiting", "(II)I"⟩
def dkwX1_waiting_2 : List UInt8 := [172]
abbrev dktX1_waiting_2 : List UInt8 := dkwX1_waiting_2 ++ []
def dkwX1_waiting_1 : List UInt8 := [184, 0, 49, 184, 0, 238, 42, 180, 0, 10, 27, 182, 0, 119, 28, 182, 0, 152, 192, 0, 124, 182, 0, 184]
abbrev dktX1_waiting_1 : List UInt8 := dkwX1_waiting_1 ++ dktX1_waiting_2
def dkwX1_waiting_0 : List UInt8 := [27, 184, 0, 235, 184, 0, 214, 28, 3, 42, 180, 0, 10, 27, 182, 0, 119, 182, 0, 101, 4, 100]
abbrev dktX1_waiting_0 : List UInt8 := dkwX1_waiting_0 ++ dktX1_waiting_1
theorem dksX1_waiting_0 : cX1_waiting.data.toList.drop 0 = dktX1_waiting_0 := by decide +kernel
theorem dksX1_waiting_1 : cX1_waiting.data.toList.drop 22 = dktX1_waiting_1 := dk_seg dksX1_waiting_0 22 rfl rfl
theorem dksX1_waiting_2 : cX1_waiting.data.toList.drop 46 = dktX1_waiting_2 := dk_seg dksX1_waiting_1 24 rfl rfl
theorem dX1_waiting_0 : decode cX1_waiting 0 = .ok (.iload_n 1, 1) := dk_27 (dk_at dksX1_waiting_0 0 rfl rfl)
theorem dX1_waiting_1 : decode cX1_waiting 1 = .ok (.invokestatic 235, 3) := dk_184 0 235 (dk_at dksX1_waiting_0 1 rfl rfl)
theorem dX1_waiting_4 : decode cX1_waiting 4 = .ok (.invokestatic 214, 3) := dk_184 0 214 (dk_at dksX1_waiting_0 4 rfl rfl)
theorem dX1_waiting_7 : decode cX1_waiting 7 = .ok (.iload_n 2, 1) := dk_28 (dk_at dksX1_waiting_0 7 rfl rfl)
theorem dX1_waiting_8 : decode cX1_waiting 8 = .ok (.iconst 0, 1) := dk_3 (dk_at dksX1_waiting_0 8 rfl rfl)
theorem dX1_waiting_9 : decode cX1_waiting 9 = .ok (.aload_n 0, 1) := dk_42 (dk_at dksX1_waiting_0 9 rfl rfl)
theorem dX1_waiting_10 : decode cX1_waiting 10 = .ok (.getfield 10, 3) := dk_180 0 10 (dk_at dksX1_waiting_0 10 rfl rfl)
theorem dX1_waiting_13 : decode cX1_waiting 13 = .ok (.iload_n 1, 1) := dk_27 (dk_at dksX1_waiting_0 13 rfl rfl)
theorem dX1_waiting_14 : decode cX1_waiting 14 = .ok (.invokevirtual 119, 3) := dk_182 0 119 (dk_at dksX1_waiting_0 14 rfl rfl)
theorem dX1_waiting_17 : decode cX1_waiting 17 = .ok (.invokevirtual 101, 3) := dk_182 0 101 (dk_at dksX1_waiting_0 17 rfl rfl)
theorem dX1_waiting_20 : decode cX1_waiting 20 = .ok (.iconst 1, 1) := dk_4 (dk_at dksX1_waiting_0 20 rfl rfl)
theorem dX1_waiting_21 : decode cX1_waiting 21 = .ok (.isub, 1) := dk_100 (dk_at dksX1_waiting_0 21 rfl rfl)
theorem dX1_waiting_22 : decode cX1_waiting 22 = .ok (.invokestatic 49, 3) := dk_184 0 49 (dk_at dksX1_waiting_1 0 rfl rfl)
theorem dX1_waiting_25 : decode cX1_waiting 25 = .ok (.invokestatic 238, 3) := dk_184 0 238 (dk_at dksX1_waiting_1 3 rfl rfl)
theorem dX1_waiting_28 : decode cX1_waiting 28 = .ok (.aload_n 0, 1) := dk_42 (dk_at dksX1_waiting_1 6 rfl rfl)
theorem dX1_waiting_29 : decode cX1_waiting 29 = .ok (.getfield 10, 3) := dk_180 0 10 (dk_at dksX1_waiting_1 7 rfl rfl)
theorem dX1_waiting_32 : decode cX1_waiting 32 = .ok (.iload_n 1, 1) := dk_27 (dk_at dksX1_waiting_1 10 rfl rfl)
theorem dX1_waiting_33 : decode cX1_waiting 33 = .ok (.invokevirtual 119, 3) := dk_182 0 119 (dk_at dksX1_waiting_1 11 rfl rfl)
theorem dX1_waiting_36 : decode cX1_waiting 36 = .ok (.iload_n 2, 1) := dk_28 (dk_at dksX1_waiting_1 14 rfl rfl)
theorem dX1_waiting_37 : decode cX1_waiting 37 = .ok (.invokevirtual 152, 3) := dk_182 0 152 (dk_at dksX1_waiting_1 15 rfl rfl)
theorem dX1_waiting_40 : decode cX1_waiting 40 = .ok (.checkcast 124, 3) := dk_192 0 124 (dk_at dksX1_waiting_1 18 rfl rfl)
theorem dX1_waiting_43 : decode cX1_waiting 43 = .ok (.invokevirtual 184, 3) := dk_182 0 184 (dk_at dksX1_waiting_1 21 rfl rfl)
theorem dX1_waiting_46 : decode cX1_waiting 46 = .ok (.ireturn, 1) := dk_172 (dk_at dksX1_waiting_2 0 rfl rfl)
abbrev cX1_isSide : ByteArray := prog_1_method_9_code
def yX1_isSide : MethodName := ⟨RX1, "isSide", "(I)Z"⟩
def dkwX1_isSide_0 : List UInt8 := [26, 153, 0, 8, 26, 4, 160, 0, 7, 4, 167, 0, 4, 3, 172]
abbrev dktX1_isSide_0 : List UInt8 := dkwX1_isSide_0 ++ []
theorem dksX1_isSide_0 : cX1_isSide.data.toList.drop 0 = dktX1_isSide_0 := by decide +kernel
theorem dX1_isSide_0 : decode cX1_isSide 0 = .ok (.iload_n 0, 1) := dk_26 (dk_at dksX1_isSide_0 0 rfl rfl)
theorem dX1_isSide_1 : decode cX1_isSide 1 = .ok (.ifCond .eq 8, 3) := dk_153 0 8 (dk_at dksX1_isSide_0 1 rfl rfl)
theorem dX1_isSide_4 : decode cX1_isSide 4 = .ok (.iload_n 0, 1) := dk_26 (dk_at dksX1_isSide_0 4 rfl rfl)
theorem dX1_isSide_5 : decode cX1_isSide 5 = .ok (.iconst 1, 1) := dk_4 (dk_at dksX1_isSide_0 5 rfl rfl)
theorem dX1_isSide_6 : decode cX1_isSide 6 = .ok (.if_icmp .ne 7, 3) := dk_160 0 7 (dk_at dksX1_isSide_0 6 rfl rfl)
theorem dX1_isSide_9 : decode cX1_isSide 9 = .ok (.iconst 1, 1) := dk_4 (dk_at dksX1_isSide_0 9 rfl rfl)
theorem dX1_isSide_10 : decode cX1_isSide 10 = .ok (.goto 4, 3) := dk_167 0 4 (dk_at dksX1_isSide_0 10 rfl rfl)
theorem dX1_isSide_13 : decode cX1_isSide 13 = .ok (.iconst 0, 1) := dk_3 (dk_at dksX1_isSide_0 13 rfl rfl)
theorem dX1_isSide_14 : decode cX1_isSide 14 = .ok (.ireturn, 1) := dk_172 (dk_at dksX1_isSide_0 14 rfl rfl)
abbrev cX1_checkElement : ByteArray := prog_1_method_7_code
def yX1_checkElement : MethodName := ⟨RX1, "checkElement", "(Z)V"⟩
def dkwX1_checkElement_0 : List UInt8 := [26, 154, 0, 11, 187, 0, 63, 89, 183, 0, 65, 191, 177]
abbrev dktX1_checkElement_0 : List UInt8 := dkwX1_checkElement_0 ++ []
theorem dksX1_checkElement_0 : cX1_checkElement.data.toList.drop 0 = dktX1_checkElement_0 := by decide +kernel
theorem dX1_checkElement_0 : decode cX1_checkElement 0 = .ok (.iload_n 0, 1) := dk_26 (dk_at dksX1_checkElement_0 0 rfl rfl)
theorem dX1_checkElement_1 : decode cX1_checkElement 1 = .ok (.ifCond .ne 11, 3) := dk_154 0 11 (dk_at dksX1_checkElement_0 1 rfl rfl)
theorem dX1_checkElement_4 : decode cX1_checkElement 4 = .ok (.new 63, 3) := dk_187 0 63 (dk_at dksX1_checkElement_0 4 rfl rfl)
theorem dX1_checkElement_7 : decode cX1_checkElement 7 = .ok (.dup, 1) := dk_89 (dk_at dksX1_checkElement_0 7 rfl rfl)
theorem dX1_checkElement_8 : decode cX1_checkElement 8 = .ok (.invokespecial 65, 3) := dk_183 0 65 (dk_at dksX1_checkElement_0 8 rfl rfl)
theorem dX1_checkElement_11 : decode cX1_checkElement 11 = .ok (.athrow, 1) := dk_191 (dk_at dksX1_checkElement_0 11 rfl rfl)
theorem dX1_checkElement_12 : decode cX1_checkElement 12 = .ok (.return_, 1) := dk_177 (dk_at dksX1_checkElement_0 12 rfl rfl)
abbrev cX1_rowLoad : ByteArray := prog_1_method_30_code
def yX1_rowLoad : MethodName := ⟨RX1, "rowLoad", "(I)I"⟩
def dkwX1_rowLoad_0 : List UInt8 := [27, 184, 0, 235, 184, 0, 214, 42, 180, 0, 10, 27, 182, 0, 241, 172]
abbrev dktX1_rowLoad_0 : List UInt8 := dkwX1_rowLoad_0 ++ []
theorem dksX1_rowLoad_0 : cX1_rowLoad.data.toList.drop 0 = dktX1_rowLoad_0 := by decide +kernel
theorem dX1_rowLoad_0 : decode cX1_rowLoad 0 = .ok (.iload_n 1, 1) := dk_27 (dk_at dksX1_rowLoad_0 0 rfl rfl)
theorem dX1_rowLoad_1 : decode cX1_rowLoad 1 = .ok (.invokestatic 235, 3) := dk_184 0 235 (dk_at dksX1_rowLoad_0 1 rfl rfl)
theorem dX1_rowLoad_4 : decode cX1_rowLoad 4 = .ok (.invokestatic 214, 3) := dk_184 0 214 (dk_at dksX1_rowLoad_0 4 rfl rfl)
theorem dX1_rowLoad_7 : decode cX1_rowLoad 7 = .ok (.aload_n 0, 1) := dk_42 (dk_at dksX1_rowLoad_0 7 rfl rfl)
theorem dX1_rowLoad_8 : decode cX1_rowLoad 8 = .ok (.getfield 10, 3) := dk_180 0 10 (dk_at dksX1_rowLoad_0 8 rfl rfl)
theorem dX1_rowLoad_11 : decode cX1_rowLoad 11 = .ok (.iload_n 1, 1) := dk_27 (dk_at dksX1_rowLoad_0 11 rfl rfl)
theorem dX1_rowLoad_12 : decode cX1_rowLoad 12 = .ok (.invokevirtual 241, 3) := dk_182 0 241 (dk_at dksX1_rowLoad_0 12 rfl rfl)
theorem dX1_rowLoad_15 : decode cX1_rowLoad 15 = .ok (.ireturn, 1) := dk_172 (dk_at dksX1_rowLoad_0 15 rfl rfl)
abbrev cX1_onSpan : ByteArray := prog_1_method_31_code
def yX1_onSpan : MethodName := ⟨RX1, "onSpan", "(I)I"⟩
def dkwX1_onSpan_1 : List UInt8 := [27, 46, 172]
abbrev dktX1_onSpan_1 : List UInt8 := dkwX1_onSpan_1 ++ []
def dkwX1_onSpan_0 : List UInt8 := [27, 3, 42, 180, 0, 10, 180, 0, 145, 4, 100, 184, 0, 49, 184, 0, 204, 42, 180, 0, 10, 180, 0, 244]
abbrev dktX1_onSpan_0 : List UInt8 := dkwX1_onSpan_0 ++ dktX1_onSpan_1
theorem dksX1_onSpan_0 : cX1_onSpan.data.toList.drop 0 = dktX1_onSpan_0 := by decide +kernel
theorem dksX1_onSpan_1 : cX1_onSpan.data.toList.drop 24 = dktX1_onSpan_1 := dk_seg dksX1_onSpan_0 24 rfl rfl
theorem dX1_onSpan_0 : decode cX1_onSpan 0 = .ok (.iload_n 1, 1) := dk_27 (dk_at dksX1_onSpan_0 0 rfl rfl)
theorem dX1_onSpan_1 : decode cX1_onSpan 1 = .ok (.iconst 0, 1) := dk_3 (dk_at dksX1_onSpan_0 1 rfl rfl)
theorem dX1_onSpan_2 : decode cX1_onSpan 2 = .ok (.aload_n 0, 1) := dk_42 (dk_at dksX1_onSpan_0 2 rfl rfl)
theorem dX1_onSpan_3 : decode cX1_onSpan 3 = .ok (.getfield 10, 3) := dk_180 0 10 (dk_at dksX1_onSpan_0 3 rfl rfl)
theorem dX1_onSpan_6 : decode cX1_onSpan 6 = .ok (.getfield 145, 3) := dk_180 0 145 (dk_at dksX1_onSpan_0 6 rfl rfl)
theorem dX1_onSpan_9 : decode cX1_onSpan 9 = .ok (.iconst 1, 1) := dk_4 (dk_at dksX1_onSpan_0 9 rfl rfl)
theorem dX1_onSpan_10 : decode cX1_onSpan 10 = .ok (.isub, 1) := dk_100 (dk_at dksX1_onSpan_0 10 rfl rfl)
theorem dX1_onSpan_11 : decode cX1_onSpan 11 = .ok (.invokestatic 49, 3) := dk_184 0 49 (dk_at dksX1_onSpan_0 11 rfl rfl)
theorem dX1_onSpan_14 : decode cX1_onSpan 14 = .ok (.invokestatic 204, 3) := dk_184 0 204 (dk_at dksX1_onSpan_0 14 rfl rfl)
theorem dX1_onSpan_17 : decode cX1_onSpan 17 = .ok (.aload_n 0, 1) := dk_42 (dk_at dksX1_onSpan_0 17 rfl rfl)
theorem dX1_onSpan_18 : decode cX1_onSpan 18 = .ok (.getfield 10, 3) := dk_180 0 10 (dk_at dksX1_onSpan_0 18 rfl rfl)
theorem dX1_onSpan_21 : decode cX1_onSpan 21 = .ok (.getfield 244, 3) := dk_180 0 244 (dk_at dksX1_onSpan_0 21 rfl rfl)
theorem dX1_onSpan_24 : decode cX1_onSpan 24 = .ok (.iload_n 1, 1) := dk_27 (dk_at dksX1_onSpan_1 0 rfl rfl)
theorem dX1_onSpan_25 : decode cX1_onSpan 25 = .ok (.iaload, 1) := dk_46 (dk_at dksX1_onSpan_1 1 rfl rfl)
theorem dX1_onSpan_26 : decode cX1_onSpan 26 = .ok (.ireturn, 1) := dk_172 (dk_at dksX1_onSpan_1 2 rfl rfl)
abbrev cX1_runLoad : ByteArray := prog_1_method_32_code
def yX1_runLoad : MethodName := ⟨RX1, "runLoad", "(I)I"⟩
def dkwX1_runLoad_0 : List UInt8 := [42, 180, 0, 10, 42, 27, 182, 0, 248, 182, 0, 251, 172]
abbrev dktX1_runLoad_0 : List UInt8 := dkwX1_runLoad_0 ++ []
theorem dksX1_runLoad_0 : cX1_runLoad.data.toList.drop 0 = dktX1_runLoad_0 := by decide +kernel
theorem dX1_runLoad_0 : decode cX1_runLoad 0 = .ok (.aload_n 0, 1) := dk_42 (dk_at dksX1_runLoad_0 0 rfl rfl)
theorem dX1_runLoad_1 : decode cX1_runLoad 1 = .ok (.getfield 10, 3) := dk_180 0 10 (dk_at dksX1_runLoad_0 1 rfl rfl)
theorem dX1_runLoad_4 : decode cX1_runLoad 4 = .ok (.aload_n 0, 1) := dk_42 (dk_at dksX1_runLoad_0 4 rfl rfl)
theorem dX1_runLoad_5 : decode cX1_runLoad 5 = .ok (.iload_n 1, 1) := dk_27 (dk_at dksX1_runLoad_0 5 rfl rfl)
theorem dX1_runLoad_6 : decode cX1_runLoad 6 = .ok (.invokevirtual 248, 3) := dk_182 0 248 (dk_at dksX1_runLoad_0 6 rfl rfl)
theorem dX1_runLoad_9 : decode cX1_runLoad 9 = .ok (.invokevirtual 251, 3) := dk_182 0 251 (dk_at dksX1_runLoad_0 9 rfl rfl)
theorem dX1_runLoad_12 : decode cX1_runLoad 12 = .ok (.ireturn, 1) := dk_172 (dk_at dksX1_runLoad_0 12 rfl rfl)
abbrev cX1_crossing : ByteArray := prog_1_method_25_code
def yX1_crossing : MethodName := ⟨RX1, "crossing", "(I)LCartBridge$Cart;"⟩
def dkwX1_crossing_0 : List UInt8 := [42, 27, 182, 0, 208, 77, 44, 180, 0, 164, 4, 160, 0, 7, 4, 167, 0, 4, 3, 184, 0, 211, 44, 176]
abbrev dktX1_crossing_0 : List UInt8 := dkwX1_crossing_0 ++ []
theorem dksX1_crossing_0 : cX1_crossing.data.toList.drop 0 = dktX1_crossing_0 := by decide +kernel
theorem dX1_crossing_0 : decode cX1_crossing 0 = .ok (.aload_n 0, 1) := dk_42 (dk_at dksX1_crossing_0 0 rfl rfl)
theorem dX1_crossing_1 : decode cX1_crossing 1 = .ok (.iload_n 1, 1) := dk_27 (dk_at dksX1_crossing_0 1 rfl rfl)
theorem dX1_crossing_2 : decode cX1_crossing 2 = .ok (.invokevirtual 208, 3) := dk_182 0 208 (dk_at dksX1_crossing_0 2 rfl rfl)
theorem dX1_crossing_5 : decode cX1_crossing 5 = .ok (.astore_n 2, 1) := dk_77 (dk_at dksX1_crossing_0 5 rfl rfl)
theorem dX1_crossing_6 : decode cX1_crossing 6 = .ok (.aload_n 2, 1) := dk_44 (dk_at dksX1_crossing_0 6 rfl rfl)
theorem dX1_crossing_7 : decode cX1_crossing 7 = .ok (.getfield 164, 3) := dk_180 0 164 (dk_at dksX1_crossing_0 7 rfl rfl)
theorem dX1_crossing_10 : decode cX1_crossing 10 = .ok (.iconst 1, 1) := dk_4 (dk_at dksX1_crossing_0 10 rfl rfl)
theorem dX1_crossing_11 : decode cX1_crossing 11 = .ok (.if_icmp .ne 7, 3) := dk_160 0 7 (dk_at dksX1_crossing_0 11 rfl rfl)
theorem dX1_crossing_14 : decode cX1_crossing 14 = .ok (.iconst 1, 1) := dk_4 (dk_at dksX1_crossing_0 14 rfl rfl)
theorem dX1_crossing_15 : decode cX1_crossing 15 = .ok (.goto 4, 3) := dk_167 0 4 (dk_at dksX1_crossing_0 15 rfl rfl)
theorem dX1_crossing_18 : decode cX1_crossing 18 = .ok (.iconst 0, 1) := dk_3 (dk_at dksX1_crossing_0 18 rfl rfl)
theorem dX1_crossing_19 : decode cX1_crossing 19 = .ok (.invokestatic 211, 3) := dk_184 0 211 (dk_at dksX1_crossing_0 19 rfl rfl)
theorem dX1_crossing_22 : decode cX1_crossing 22 = .ok (.aload_n 2, 1) := dk_44 (dk_at dksX1_crossing_0 22 rfl rfl)
theorem dX1_crossing_23 : decode cX1_crossing 23 = .ok (.areturn, 1) := dk_176 (dk_at dksX1_crossing_0 23 rfl rfl)
abbrev cX1_checkState : ByteArray := prog_1_method_8_code
def yX1_checkState : MethodName := ⟨RX1, "checkState", "(Z)V"⟩
def dkwX1_checkState_0 : List UInt8 := [26, 154, 0, 11, 187, 0, 66, 89, 183, 0, 68, 191, 177]
abbrev dktX1_checkState_0 : List UInt8 := dkwX1_checkState_0 ++ []
theorem dksX1_checkState_0 : cX1_checkState.data.toList.drop 0 = dktX1_checkState_0 := by decide +kernel
theorem dX1_checkState_0 : decode cX1_checkState 0 = .ok (.iload_n 0, 1) := dk_26 (dk_at dksX1_checkState_0 0 rfl rfl)
theorem dX1_checkState_1 : decode cX1_checkState 1 = .ok (.ifCond .ne 11, 3) := dk_154 0 11 (dk_at dksX1_checkState_0 1 rfl rfl)
theorem dX1_checkState_4 : decode cX1_checkState 4 = .ok (.new 66, 3) := dk_187 0 66 (dk_at dksX1_checkState_0 4 rfl rfl)
theorem dX1_checkState_7 : decode cX1_checkState 7 = .ok (.dup, 1) := dk_89 (dk_at dksX1_checkState_0 7 rfl rfl)
theorem dX1_checkState_8 : decode cX1_checkState 8 = .ok (.invokespecial 68, 3) := dk_183 0 68 (dk_at dksX1_checkState_0 8 rfl rfl)
theorem dX1_checkState_11 : decode cX1_checkState 11 = .ok (.athrow, 1) := dk_191 (dk_at dksX1_checkState_0 11 rfl rfl)
theorem dX1_checkState_12 : decode cX1_checkState 12 = .ok (.return_, 1) := dk_177 (dk_at dksX1_checkState_0 12 rfl rfl)
abbrev cX1_runLoadAgain : ByteArray := prog_1_method_35_code
def yX1_runLoadAgain : MethodName := ⟨RX1, "runLoadAgain", "(I)I"⟩
def dkwX1_runLoadAgain_0 : List UInt8 := [42, 42, 27, 182, 0, 248, 182, 1, 13, 172]
abbrev dktX1_runLoadAgain_0 : List UInt8 := dkwX1_runLoadAgain_0 ++ []
theorem dksX1_runLoadAgain_0 : cX1_runLoadAgain.data.toList.drop 0 = dktX1_runLoadAgain_0 := by decide +kernel
theorem dX1_runLoadAgain_0 : decode cX1_runLoadAgain 0 = .ok (.aload_n 0, 1) := dk_42 (dk_at dksX1_runLoadAgain_0 0 rfl rfl)
theorem dX1_runLoadAgain_1 : decode cX1_runLoadAgain 1 = .ok (.aload_n 0, 1) := dk_42 (dk_at dksX1_runLoadAgain_0 1 rfl rfl)
theorem dX1_runLoadAgain_2 : decode cX1_runLoadAgain 2 = .ok (.iload_n 1, 1) := dk_27 (dk_at dksX1_runLoadAgain_0 2 rfl rfl)
theorem dX1_runLoadAgain_3 : decode cX1_runLoadAgain 3 = .ok (.invokevirtual 248, 3) := dk_182 0 248 (dk_at dksX1_runLoadAgain_0 3 rfl rfl)
theorem dX1_runLoadAgain_6 : decode cX1_runLoadAgain 6 = .ok (.invokevirtual 269, 3) := dk_182 1 13 (dk_at dksX1_runLoadAgain_0 6 rfl rfl)
theorem dX1_runLoadAgain_9 : decode cX1_runLoadAgain 9 = .ok (.ireturn, 1) := dk_172 (dk_at dksX1_runLoadAgain_0 9 rfl rfl)
abbrev cX1_runEnd : ByteArray := prog_1_method_36_code
def yX1_runEnd : MethodName := ⟨RX1, "runEnd", "(I)I"⟩
def dkwX1_runEnd_0 : List UInt8 := [42, 180, 0, 10, 180, 0, 244, 42, 180, 0, 10, 42, 27, 182, 0, 248, 182, 0, 254, 46, 172]
abbrev dktX1_runEnd_0 : List UInt8 := dkwX1_runEnd_0 ++ []
theorem dksX1_runEnd_0 : cX1_runEnd.data.toList.drop 0 = dktX1_runEnd_0 := by decide +kernel
theorem dX1_runEnd_0 : decode cX1_runEnd 0 = .ok (.aload_n 0, 1) := dk_42 (dk_at dksX1_runEnd_0 0 rfl rfl)
theorem dX1_runEnd_1 : decode cX1_runEnd 1 = .ok (.getfield 10, 3) := dk_180 0 10 (dk_at dksX1_runEnd_0 1 rfl rfl)
theorem dX1_runEnd_4 : decode cX1_runEnd 4 = .ok (.getfield 244, 3) := dk_180 0 244 (dk_at dksX1_runEnd_0 4 rfl rfl)
theorem dX1_runEnd_7 : decode cX1_runEnd 7 = .ok (.aload_n 0, 1) := dk_42 (dk_at dksX1_runEnd_0 7 rfl rfl)
theorem dX1_runEnd_8 : decode cX1_runEnd 8 = .ok (.getfield 10, 3) := dk_180 0 10 (dk_at dksX1_runEnd_0 8 rfl rfl)
theorem dX1_runEnd_11 : decode cX1_runEnd 11 = .ok (.aload_n 0, 1) := dk_42 (dk_at dksX1_runEnd_0 11 rfl rfl)
theorem dX1_runEnd_12 : decode cX1_runEnd 12 = .ok (.iload_n 1, 1) := dk_27 (dk_at dksX1_runEnd_0 12 rfl rfl)
theorem dX1_runEnd_13 : decode cX1_runEnd 13 = .ok (.invokevirtual 248, 3) := dk_182 0 248 (dk_at dksX1_runEnd_0 13 rfl rfl)
theorem dX1_runEnd_16 : decode cX1_runEnd 16 = .ok (.invokevirtual 254, 3) := dk_182 0 254 (dk_at dksX1_runEnd_0 16 rfl rfl)
theorem dX1_runEnd_19 : decode cX1_runEnd 19 = .ok (.iaload, 1) := dk_46 (dk_at dksX1_runEnd_0 19 rfl rfl)
theorem dX1_runEnd_20 : decode cX1_runEnd 20 = .ok (.ireturn, 1) := dk_172 (dk_at dksX1_runEnd_0 20 rfl rfl)
abbrev cX1_ahead : ByteArray := prog_1_method_37_code
def yX1_ahead : MethodName := ⟨RX1, "ahead", "(I)I"⟩
def dkwX1_ahead_3 : List UInt8 := [167, 255, 207, 187, 0, 63, 89, 183, 0, 65, 191]
abbrev dktX1_ahead_3 : List UInt8 := dkwX1_ahead_3 ++ []
def dkwX1_ahead_2 : List UInt8 := [21, 4, 46, 2, 159, 0, 14, 42, 180, 0, 10, 180, 0, 244, 21, 4, 46, 172, 21, 4, 29, 96, 54, 4]
abbrev dktX1_ahead_2 : List UInt8 := dkwX1_ahead_2 ++ dktX1_ahead_3
def dkwX1_ahead_1 : List UInt8 := [3, 42, 180, 0, 10, 180, 0, 145, 4, 100, 184, 0, 49, 153, 0, 37, 42, 180, 0, 10, 180, 0, 244]
abbrev dktX1_ahead_1 : List UInt8 := dkwX1_ahead_1 ++ dktX1_ahead_2
def dkwX1_ahead_0 : List UInt8 := [42, 27, 182, 0, 248, 77, 44, 180, 0, 220, 184, 1, 16, 62, 44, 180, 0, 167, 29, 96, 54, 4, 21, 4]
abbrev dktX1_ahead_0 : List UInt8 := dkwX1_ahead_0 ++ dktX1_ahead_1
theorem dksX1_ahead_0 : cX1_ahead.data.toList.drop 0 = dktX1_ahead_0 := by decide +kernel
theorem dksX1_ahead_1 : cX1_ahead.data.toList.drop 24 = dktX1_ahead_1 := dk_seg dksX1_ahead_0 24 rfl rfl
theorem dksX1_ahead_2 : cX1_ahead.data.toList.drop 47 = dktX1_ahead_2 := dk_seg dksX1_ahead_1 23 rfl rfl
theorem dksX1_ahead_3 : cX1_ahead.data.toList.drop 71 = dktX1_ahead_3 := dk_seg dksX1_ahead_2 24 rfl rfl
theorem dX1_ahead_0 : decode cX1_ahead 0 = .ok (.aload_n 0, 1) := dk_42 (dk_at dksX1_ahead_0 0 rfl rfl)
theorem dX1_ahead_1 : decode cX1_ahead 1 = .ok (.iload_n 1, 1) := dk_27 (dk_at dksX1_ahead_0 1 rfl rfl)
theorem dX1_ahead_2 : decode cX1_ahead 2 = .ok (.invokevirtual 248, 3) := dk_182 0 248 (dk_at dksX1_ahead_0 2 rfl rfl)
theorem dX1_ahead_5 : decode cX1_ahead 5 = .ok (.astore_n 2, 1) := dk_77 (dk_at dksX1_ahead_0 5 rfl rfl)
theorem dX1_ahead_6 : decode cX1_ahead 6 = .ok (.aload_n 2, 1) := dk_44 (dk_at dksX1_ahead_0 6 rfl rfl)
theorem dX1_ahead_7 : decode cX1_ahead 7 = .ok (.getfield 220, 3) := dk_180 0 220 (dk_at dksX1_ahead_0 7 rfl rfl)
theorem dX1_ahead_10 : decode cX1_ahead 10 = .ok (.invokestatic 272, 3) := dk_184 1 16 (dk_at dksX1_ahead_0 10 rfl rfl)
theorem dX1_ahead_13 : decode cX1_ahead 13 = .ok (.istore_n 3, 1) := dk_62 (dk_at dksX1_ahead_0 13 rfl rfl)
theorem dX1_ahead_14 : decode cX1_ahead 14 = .ok (.aload_n 2, 1) := dk_44 (dk_at dksX1_ahead_0 14 rfl rfl)
theorem dX1_ahead_15 : decode cX1_ahead 15 = .ok (.getfield 167, 3) := dk_180 0 167 (dk_at dksX1_ahead_0 15 rfl rfl)
theorem dX1_ahead_18 : decode cX1_ahead 18 = .ok (.iload_n 3, 1) := dk_29 (dk_at dksX1_ahead_0 18 rfl rfl)
theorem dX1_ahead_19 : decode cX1_ahead 19 = .ok (.iadd, 1) := dk_96 (dk_at dksX1_ahead_0 19 rfl rfl)
theorem dX1_ahead_20 : decode cX1_ahead 20 = .ok (.istore 4, 2) := dk_54 4 (dk_at dksX1_ahead_0 20 rfl rfl)
theorem dX1_ahead_22 : decode cX1_ahead 22 = .ok (.iload 4, 2) := dk_21 4 (dk_at dksX1_ahead_0 22 rfl rfl)
theorem dX1_ahead_24 : decode cX1_ahead 24 = .ok (.iconst 0, 1) := dk_3 (dk_at dksX1_ahead_1 0 rfl rfl)
theorem dX1_ahead_25 : decode cX1_ahead 25 = .ok (.aload_n 0, 1) := dk_42 (dk_at dksX1_ahead_1 1 rfl rfl)
theorem dX1_ahead_26 : decode cX1_ahead 26 = .ok (.getfield 10, 3) := dk_180 0 10 (dk_at dksX1_ahead_1 2 rfl rfl)
theorem dX1_ahead_29 : decode cX1_ahead 29 = .ok (.getfield 145, 3) := dk_180 0 145 (dk_at dksX1_ahead_1 5 rfl rfl)
theorem dX1_ahead_32 : decode cX1_ahead 32 = .ok (.iconst 1, 1) := dk_4 (dk_at dksX1_ahead_1 8 rfl rfl)
theorem dX1_ahead_33 : decode cX1_ahead 33 = .ok (.isub, 1) := dk_100 (dk_at dksX1_ahead_1 9 rfl rfl)
theorem dX1_ahead_34 : decode cX1_ahead 34 = .ok (.invokestatic 49, 3) := dk_184 0 49 (dk_at dksX1_ahead_1 10 rfl rfl)
theorem dX1_ahead_37 : decode cX1_ahead 37 = .ok (.ifCond .eq 37, 3) := dk_153 0 37 (dk_at dksX1_ahead_1 13 rfl rfl)
theorem dX1_ahead_40 : decode cX1_ahead 40 = .ok (.aload_n 0, 1) := dk_42 (dk_at dksX1_ahead_1 16 rfl rfl)
theorem dX1_ahead_41 : decode cX1_ahead 41 = .ok (.getfield 10, 3) := dk_180 0 10 (dk_at dksX1_ahead_1 17 rfl rfl)
theorem dX1_ahead_44 : decode cX1_ahead 44 = .ok (.getfield 244, 3) := dk_180 0 244 (dk_at dksX1_ahead_1 20 rfl rfl)
theorem dX1_ahead_47 : decode cX1_ahead 47 = .ok (.iload 4, 2) := dk_21 4 (dk_at dksX1_ahead_2 0 rfl rfl)
theorem dX1_ahead_49 : decode cX1_ahead 49 = .ok (.iaload, 1) := dk_46 (dk_at dksX1_ahead_2 2 rfl rfl)
theorem dX1_ahead_50 : decode cX1_ahead 50 = .ok (.iconst (-1), 1) := dk_2 (dk_at dksX1_ahead_2 3 rfl rfl)
theorem dX1_ahead_51 : decode cX1_ahead 51 = .ok (.if_icmp .eq 14, 3) := dk_159 0 14 (dk_at dksX1_ahead_2 4 rfl rfl)
theorem dX1_ahead_54 : decode cX1_ahead 54 = .ok (.aload_n 0, 1) := dk_42 (dk_at dksX1_ahead_2 7 rfl rfl)
theorem dX1_ahead_55 : decode cX1_ahead 55 = .ok (.getfield 10, 3) := dk_180 0 10 (dk_at dksX1_ahead_2 8 rfl rfl)
theorem dX1_ahead_58 : decode cX1_ahead 58 = .ok (.getfield 244, 3) := dk_180 0 244 (dk_at dksX1_ahead_2 11 rfl rfl)
theorem dX1_ahead_61 : decode cX1_ahead 61 = .ok (.iload 4, 2) := dk_21 4 (dk_at dksX1_ahead_2 14 rfl rfl)
theorem dX1_ahead_63 : decode cX1_ahead 63 = .ok (.iaload, 1) := dk_46 (dk_at dksX1_ahead_2 16 rfl rfl)
theorem dX1_ahead_64 : decode cX1_ahead 64 = .ok (.ireturn, 1) := dk_172 (dk_at dksX1_ahead_2 17 rfl rfl)
theorem dX1_ahead_65 : decode cX1_ahead 65 = .ok (.iload 4, 2) := dk_21 4 (dk_at dksX1_ahead_2 18 rfl rfl)
theorem dX1_ahead_67 : decode cX1_ahead 67 = .ok (.iload_n 3, 1) := dk_29 (dk_at dksX1_ahead_2 20 rfl rfl)
theorem dX1_ahead_68 : decode cX1_ahead 68 = .ok (.iadd, 1) := dk_96 (dk_at dksX1_ahead_2 21 rfl rfl)
theorem dX1_ahead_69 : decode cX1_ahead 69 = .ok (.istore 4, 2) := dk_54 4 (dk_at dksX1_ahead_2 22 rfl rfl)
theorem dX1_ahead_71 : decode cX1_ahead 71 = .ok (.goto (-49), 3) := dk_167 255 207 (dk_at dksX1_ahead_3 0 rfl rfl)
theorem dX1_ahead_74 : decode cX1_ahead 74 = .ok (.new 63, 3) := dk_187 0 63 (dk_at dksX1_ahead_3 3 rfl rfl)
theorem dX1_ahead_77 : decode cX1_ahead 77 = .ok (.dup, 1) := dk_89 (dk_at dksX1_ahead_3 6 rfl rfl)
theorem dX1_ahead_78 : decode cX1_ahead 78 = .ok (.invokespecial 65, 3) := dk_183 0 65 (dk_at dksX1_ahead_3 7 rfl rfl)
theorem dX1_ahead_81 : decode cX1_ahead 81 = .ok (.athrow, 1) := dk_191 (dk_at dksX1_ahead_3 10 rfl rfl)
abbrev cX1_spansLeft : ByteArray := prog_1_method_38_code
def yX1_spansLeft : MethodName := ⟨RX1, "spansLeft", "(I)I"⟩
def dkwX1_spansLeft_1 : List UInt8 := [184, 1, 22, 4, 96, 172]
abbrev dktX1_spansLeft_1 : List UInt8 := dkwX1_spansLeft_1 ++ []
def dkwX1_spansLeft_0 : List UInt8 := [42, 27, 182, 0, 248, 77, 42, 180, 0, 10, 44, 180, 0, 220, 182, 1, 19, 44, 180, 0, 167, 100]
abbrev dktX1_spansLeft_0 : List UInt8 := dkwX1_spansLeft_0 ++ dktX1_spansLeft_1
theorem dksX1_spansLeft_0 : cX1_spansLeft.data.toList.drop 0 = dktX1_spansLeft_0 := by decide +kernel
theorem dksX1_spansLeft_1 : cX1_spansLeft.data.toList.drop 22 = dktX1_spansLeft_1 := dk_seg dksX1_spansLeft_0 22 rfl rfl
theorem dX1_spansLeft_0 : decode cX1_spansLeft 0 = .ok (.aload_n 0, 1) := dk_42 (dk_at dksX1_spansLeft_0 0 rfl rfl)
theorem dX1_spansLeft_1 : decode cX1_spansLeft 1 = .ok (.iload_n 1, 1) := dk_27 (dk_at dksX1_spansLeft_0 1 rfl rfl)
theorem dX1_spansLeft_2 : decode cX1_spansLeft 2 = .ok (.invokevirtual 248, 3) := dk_182 0 248 (dk_at dksX1_spansLeft_0 2 rfl rfl)
theorem dX1_spansLeft_5 : decode cX1_spansLeft 5 = .ok (.astore_n 2, 1) := dk_77 (dk_at dksX1_spansLeft_0 5 rfl rfl)
theorem dX1_spansLeft_6 : decode cX1_spansLeft 6 = .ok (.aload_n 0, 1) := dk_42 (dk_at dksX1_spansLeft_0 6 rfl rfl)
theorem dX1_spansLeft_7 : decode cX1_spansLeft 7 = .ok (.getfield 10, 3) := dk_180 0 10 (dk_at dksX1_spansLeft_0 7 rfl rfl)
theorem dX1_spansLeft_10 : decode cX1_spansLeft 10 = .ok (.aload_n 2, 1) := dk_44 (dk_at dksX1_spansLeft_0 10 rfl rfl)
theorem dX1_spansLeft_11 : decode cX1_spansLeft 11 = .ok (.getfield 220, 3) := dk_180 0 220 (dk_at dksX1_spansLeft_0 11 rfl rfl)
theorem dX1_spansLeft_14 : decode cX1_spansLeft 14 = .ok (.invokevirtual 275, 3) := dk_182 1 19 (dk_at dksX1_spansLeft_0 14 rfl rfl)
theorem dX1_spansLeft_17 : decode cX1_spansLeft 17 = .ok (.aload_n 2, 1) := dk_44 (dk_at dksX1_spansLeft_0 17 rfl rfl)
theorem dX1_spansLeft_18 : decode cX1_spansLeft 18 = .ok (.getfield 167, 3) := dk_180 0 167 (dk_at dksX1_spansLeft_0 18 rfl rfl)
theorem dX1_spansLeft_21 : decode cX1_spansLeft 21 = .ok (.isub, 1) := dk_100 (dk_at dksX1_spansLeft_0 21 rfl rfl)
theorem dX1_spansLeft_22 : decode cX1_spansLeft 22 = .ok (.invokestatic 278, 3) := dk_184 1 22 (dk_at dksX1_spansLeft_1 0 rfl rfl)
theorem dX1_spansLeft_25 : decode cX1_spansLeft 25 = .ok (.iconst 1, 1) := dk_4 (dk_at dksX1_spansLeft_1 3 rfl rfl)
theorem dX1_spansLeft_26 : decode cX1_spansLeft 26 = .ok (.iadd, 1) := dk_96 (dk_at dksX1_spansLeft_1 4 rfl rfl)
theorem dX1_spansLeft_27 : decode cX1_spansLeft 27 = .ok (.ireturn, 1) := dk_172 (dk_at dksX1_spansLeft_1 5 rfl rfl)
abbrev cX1_may : ByteArray := prog_1_method_39_code
def yX1_may : MethodName := ⟨RX1, "may", "(I)Z"⟩
def dkwX1_may_1 : List UInt8 := [185, 1, 31, 3, 0, 172]
abbrev dktX1_may_1 : List UInt8 := dkwX1_may_1 ++ []
def dkwX1_may_0 : List UInt8 := [27, 184, 0, 235, 184, 0, 214, 42, 180, 0, 10, 180, 0, 132, 184, 1, 25, 42, 180, 0, 10, 27]
abbrev dktX1_may_0 : List UInt8 := dkwX1_may_0 ++ dktX1_may_1
theorem dksX1_may_0 : cX1_may.data.toList.drop 0 = dktX1_may_0 := by decide +kernel
theorem dksX1_may_1 : cX1_may.data.toList.drop 22 = dktX1_may_1 := dk_seg dksX1_may_0 22 rfl rfl
theorem dX1_may_0 : decode cX1_may 0 = .ok (.iload_n 1, 1) := dk_27 (dk_at dksX1_may_0 0 rfl rfl)
theorem dX1_may_1 : decode cX1_may 1 = .ok (.invokestatic 235, 3) := dk_184 0 235 (dk_at dksX1_may_0 1 rfl rfl)
theorem dX1_may_4 : decode cX1_may 4 = .ok (.invokestatic 214, 3) := dk_184 0 214 (dk_at dksX1_may_0 4 rfl rfl)
theorem dX1_may_7 : decode cX1_may 7 = .ok (.aload_n 0, 1) := dk_42 (dk_at dksX1_may_0 7 rfl rfl)
theorem dX1_may_8 : decode cX1_may 8 = .ok (.getfield 10, 3) := dk_180 0 10 (dk_at dksX1_may_0 8 rfl rfl)
theorem dX1_may_11 : decode cX1_may 11 = .ok (.getfield 132, 3) := dk_180 0 132 (dk_at dksX1_may_0 11 rfl rfl)
theorem dX1_may_14 : decode cX1_may 14 = .ok (.invokestatic 281, 3) := dk_184 1 25 (dk_at dksX1_may_0 14 rfl rfl)
theorem dX1_may_17 : decode cX1_may 17 = .ok (.aload_n 0, 1) := dk_42 (dk_at dksX1_may_0 17 rfl rfl)
theorem dX1_may_18 : decode cX1_may 18 = .ok (.getfield 10, 3) := dk_180 0 10 (dk_at dksX1_may_0 18 rfl rfl)
theorem dX1_may_21 : decode cX1_may 21 = .ok (.iload_n 1, 1) := dk_27 (dk_at dksX1_may_0 21 rfl rfl)
theorem dX1_may_22 : decode cX1_may 22 = .ok (.invokeinterface 287 3, 5) := by decide +kernel
theorem dX1_may_27 : decode cX1_may 27 = .ok (.ireturn, 1) := dk_172 (dk_at dksX1_may_1 5 rfl rfl)
abbrev cX1_passed : ByteArray := prog_1_method_42_code
def yX1_passed : MethodName := ⟨RX1, "passed", "(I)I"⟩
def dkwX1_passed_1 : List UInt8 := [180, 1, 42, 27, 182, 0, 152, 192, 0, 124, 182, 0, 184, 172]
abbrev dktX1_passed_1 : List UInt8 := dkwX1_passed_1 ++ []
def dkwX1_passed_0 : List UInt8 := [27, 3, 42, 180, 0, 10, 180, 1, 42, 182, 0, 101, 4, 100, 184, 0, 49, 184, 0, 238, 42, 180, 0, 10]
abbrev dktX1_passed_0 : List UInt8 := dkwX1_passed_0 ++ dktX1_passed_1
theorem dksX1_passed_0 : cX1_passed.data.toList.drop 0 = dktX1_passed_0 := by decide +kernel
theorem dksX1_passed_1 : cX1_passed.data.toList.drop 24 = dktX1_passed_1 := dk_seg dksX1_passed_0 24 rfl rfl
theorem dX1_passed_0 : decode cX1_passed 0 = .ok (.iload_n 1, 1) := dk_27 (dk_at dksX1_passed_0 0 rfl rfl)
theorem dX1_passed_1 : decode cX1_passed 1 = .ok (.iconst 0, 1) := dk_3 (dk_at dksX1_passed_0 1 rfl rfl)
theorem dX1_passed_2 : decode cX1_passed 2 = .ok (.aload_n 0, 1) := dk_42 (dk_at dksX1_passed_0 2 rfl rfl)
theorem dX1_passed_3 : decode cX1_passed 3 = .ok (.getfield 10, 3) := dk_180 0 10 (dk_at dksX1_passed_0 3 rfl rfl)
theorem dX1_passed_6 : decode cX1_passed 6 = .ok (.getfield 298, 3) := dk_180 1 42 (dk_at dksX1_passed_0 6 rfl rfl)
theorem dX1_passed_9 : decode cX1_passed 9 = .ok (.invokevirtual 101, 3) := dk_182 0 101 (dk_at dksX1_passed_0 9 rfl rfl)
theorem dX1_passed_12 : decode cX1_passed 12 = .ok (.iconst 1, 1) := dk_4 (dk_at dksX1_passed_0 12 rfl rfl)
theorem dX1_passed_13 : decode cX1_passed 13 = .ok (.isub, 1) := dk_100 (dk_at dksX1_passed_0 13 rfl rfl)
theorem dX1_passed_14 : decode cX1_passed 14 = .ok (.invokestatic 49, 3) := dk_184 0 49 (dk_at dksX1_passed_0 14 rfl rfl)
theorem dX1_passed_17 : decode cX1_passed 17 = .ok (.invokestatic 238, 3) := dk_184 0 238 (dk_at dksX1_passed_0 17 rfl rfl)
theorem dX1_passed_20 : decode cX1_passed 20 = .ok (.aload_n 0, 1) := dk_42 (dk_at dksX1_passed_0 20 rfl rfl)
theorem dX1_passed_21 : decode cX1_passed 21 = .ok (.getfield 10, 3) := dk_180 0 10 (dk_at dksX1_passed_0 21 rfl rfl)
theorem dX1_passed_24 : decode cX1_passed 24 = .ok (.getfield 298, 3) := dk_180 1 42 (dk_at dksX1_passed_1 0 rfl rfl)
theorem dX1_passed_27 : decode cX1_passed 27 = .ok (.iload_n 1, 1) := dk_27 (dk_at dksX1_passed_1 3 rfl rfl)
theorem dX1_passed_28 : decode cX1_passed 28 = .ok (.invokevirtual 152, 3) := dk_182 0 152 (dk_at dksX1_passed_1 4 rfl rfl)
theorem dX1_passed_31 : decode cX1_passed 31 = .ok (.checkcast 124, 3) := dk_192 0 124 (dk_at dksX1_passed_1 7 rfl rfl)
theorem dX1_passed_34 : decode cX1_passed 34 = .ok (.invokevirtual 184, 3) := dk_182 0 184 (dk_at dksX1_passed_1 10 rfl rfl)
theorem dX1_passed_37 : decode cX1_passed 37 = .ok (.ireturn, 1) := dk_172 (dk_at dksX1_passed_1 13 rfl rfl)
abbrev cX1_wouldPass : ByteArray := prog_1_method_43_code
def yX1_wouldPass : MethodName := ⟨RX1, "wouldPass", "(I)I"⟩
def dkwX1_wouldPass_1 : List UInt8 := [21, 4, 27, 162, 0, 16, 29, 44, 182, 0, 129, 96, 62, 132, 4, 1, 167, 255, 240, 29, 172]
abbrev dktX1_wouldPass_1 : List UInt8 := dkwX1_wouldPass_1 ++ []
def dkwX1_wouldPass_0 : List UInt8 := [27, 3, 16, 20, 184, 0, 49, 184, 0, 214, 42, 180, 0, 10, 182, 0, 77, 77, 3, 62, 3, 54, 4]
abbrev dktX1_wouldPass_0 : List UInt8 := dkwX1_wouldPass_0 ++ dktX1_wouldPass_1
theorem dksX1_wouldPass_0 : cX1_wouldPass.data.toList.drop 0 = dktX1_wouldPass_0 := by decide +kernel
theorem dksX1_wouldPass_1 : cX1_wouldPass.data.toList.drop 23 = dktX1_wouldPass_1 := dk_seg dksX1_wouldPass_0 23 rfl rfl
theorem dX1_wouldPass_0 : decode cX1_wouldPass 0 = .ok (.iload_n 1, 1) := dk_27 (dk_at dksX1_wouldPass_0 0 rfl rfl)
theorem dX1_wouldPass_1 : decode cX1_wouldPass 1 = .ok (.iconst 0, 1) := dk_3 (dk_at dksX1_wouldPass_0 1 rfl rfl)
theorem dX1_wouldPass_2 : decode cX1_wouldPass 2 = .ok (.bipush 20, 2) := dk_16 20 (dk_at dksX1_wouldPass_0 2 rfl rfl)
theorem dX1_wouldPass_4 : decode cX1_wouldPass 4 = .ok (.invokestatic 49, 3) := dk_184 0 49 (dk_at dksX1_wouldPass_0 4 rfl rfl)
theorem dX1_wouldPass_7 : decode cX1_wouldPass 7 = .ok (.invokestatic 214, 3) := dk_184 0 214 (dk_at dksX1_wouldPass_0 7 rfl rfl)
theorem dX1_wouldPass_10 : decode cX1_wouldPass 10 = .ok (.aload_n 0, 1) := dk_42 (dk_at dksX1_wouldPass_0 10 rfl rfl)
theorem dX1_wouldPass_11 : decode cX1_wouldPass 11 = .ok (.getfield 10, 3) := dk_180 0 10 (dk_at dksX1_wouldPass_0 11 rfl rfl)
theorem dX1_wouldPass_14 : decode cX1_wouldPass 14 = .ok (.invokevirtual 77, 3) := dk_182 0 77 (dk_at dksX1_wouldPass_0 14 rfl rfl)
theorem dX1_wouldPass_17 : decode cX1_wouldPass 17 = .ok (.astore_n 2, 1) := dk_77 (dk_at dksX1_wouldPass_0 17 rfl rfl)
theorem dX1_wouldPass_18 : decode cX1_wouldPass 18 = .ok (.iconst 0, 1) := dk_3 (dk_at dksX1_wouldPass_0 18 rfl rfl)
theorem dX1_wouldPass_19 : decode cX1_wouldPass 19 = .ok (.istore_n 3, 1) := dk_62 (dk_at dksX1_wouldPass_0 19 rfl rfl)
theorem dX1_wouldPass_20 : decode cX1_wouldPass 20 = .ok (.iconst 0, 1) := dk_3 (dk_at dksX1_wouldPass_0 20 rfl rfl)
theorem dX1_wouldPass_21 : decode cX1_wouldPass 21 = .ok (.istore 4, 2) := dk_54 4 (dk_at dksX1_wouldPass_0 21 rfl rfl)
theorem dX1_wouldPass_23 : decode cX1_wouldPass 23 = .ok (.iload 4, 2) := dk_21 4 (dk_at dksX1_wouldPass_1 0 rfl rfl)
theorem dX1_wouldPass_25 : decode cX1_wouldPass 25 = .ok (.iload_n 1, 1) := dk_27 (dk_at dksX1_wouldPass_1 2 rfl rfl)
theorem dX1_wouldPass_26 : decode cX1_wouldPass 26 = .ok (.if_icmp .ge 16, 3) := dk_162 0 16 (dk_at dksX1_wouldPass_1 3 rfl rfl)
theorem dX1_wouldPass_29 : decode cX1_wouldPass 29 = .ok (.iload_n 3, 1) := dk_29 (dk_at dksX1_wouldPass_1 6 rfl rfl)
theorem dX1_wouldPass_30 : decode cX1_wouldPass 30 = .ok (.aload_n 2, 1) := dk_44 (dk_at dksX1_wouldPass_1 7 rfl rfl)
theorem dX1_wouldPass_31 : decode cX1_wouldPass 31 = .ok (.invokevirtual 129, 3) := dk_182 0 129 (dk_at dksX1_wouldPass_1 8 rfl rfl)
theorem dX1_wouldPass_34 : decode cX1_wouldPass 34 = .ok (.iadd, 1) := dk_96 (dk_at dksX1_wouldPass_1 11 rfl rfl)
theorem dX1_wouldPass_35 : decode cX1_wouldPass 35 = .ok (.istore_n 3, 1) := dk_62 (dk_at dksX1_wouldPass_1 12 rfl rfl)
theorem dX1_wouldPass_36 : decode cX1_wouldPass 36 = .ok (.iinc 4 1, 3) := dk_132 4 1 (dk_at dksX1_wouldPass_1 13 rfl rfl)
theorem dX1_wouldPass_39 : decode cX1_wouldPass 39 = .ok (.goto (-16), 3) := dk_167 255 240 (dk_at dksX1_wouldPass_1 16 rfl rfl)
theorem dX1_wouldPass_42 : decode cX1_wouldPass 42 = .ok (.iload_n 3, 1) := dk_29 (dk_at dksX1_wouldPass_1 19 rfl rfl)
theorem dX1_wouldPass_43 : decode cX1_wouldPass 43 = .ok (.ireturn, 1) := dk_172 (dk_at dksX1_wouldPass_1 20 rfl rfl)
abbrev cX1_over : ByteArray := prog_1_method_44_code
def yX1_over : MethodName := ⟨RX1, "over", "()I"⟩
def dkwX1_over_1 : List UInt8 := [167, 0, 4, 3, 184, 0, 238, 43, 182, 0, 129, 87, 132, 2, 1, 167, 255, 227, 28, 172]
abbrev dktX1_over_1 : List UInt8 := dkwX1_over_1 ++ []
def dkwX1_over_0 : List UInt8 := [42, 180, 0, 10, 182, 0, 77, 76, 3, 61, 43, 182, 1, 45, 158, 0, 28, 28, 16, 99, 162, 0, 7, 4]
abbrev dktX1_over_0 : List UInt8 := dkwX1_over_0 ++ dktX1_over_1
theorem dksX1_over_0 : cX1_over.data.toList.drop 0 = dktX1_over_0 := by decide +kernel
theorem dksX1_over_1 : cX1_over.data.toList.drop 24 = dktX1_over_1 := dk_seg dksX1_over_0 24 rfl rfl
theorem dX1_over_0 : decode cX1_over 0 = .ok (.aload_n 0, 1) := dk_42 (dk_at dksX1_over_0 0 rfl rfl)
theorem dX1_over_1 : decode cX1_over 1 = .ok (.getfield 10, 3) := dk_180 0 10 (dk_at dksX1_over_0 1 rfl rfl)
theorem dX1_over_4 : decode cX1_over 4 = .ok (.invokevirtual 77, 3) := dk_182 0 77 (dk_at dksX1_over_0 4 rfl rfl)
theorem dX1_over_7 : decode cX1_over 7 = .ok (.astore_n 1, 1) := dk_76 (dk_at dksX1_over_0 7 rfl rfl)
theorem dX1_over_8 : decode cX1_over 8 = .ok (.iconst 0, 1) := dk_3 (dk_at dksX1_over_0 8 rfl rfl)
theorem dX1_over_9 : decode cX1_over 9 = .ok (.istore_n 2, 1) := dk_61 (dk_at dksX1_over_0 9 rfl rfl)
theorem dX1_over_10 : decode cX1_over 10 = .ok (.aload_n 1, 1) := dk_43 (dk_at dksX1_over_0 10 rfl rfl)
theorem dX1_over_11 : decode cX1_over 11 = .ok (.invokevirtual 301, 3) := dk_182 1 45 (dk_at dksX1_over_0 11 rfl rfl)
theorem dX1_over_14 : decode cX1_over 14 = .ok (.ifCond .le 28, 3) := dk_158 0 28 (dk_at dksX1_over_0 14 rfl rfl)
theorem dX1_over_17 : decode cX1_over 17 = .ok (.iload_n 2, 1) := dk_28 (dk_at dksX1_over_0 17 rfl rfl)
theorem dX1_over_18 : decode cX1_over 18 = .ok (.bipush 99, 2) := dk_16 99 (dk_at dksX1_over_0 18 rfl rfl)
theorem dX1_over_20 : decode cX1_over 20 = .ok (.if_icmp .ge 7, 3) := dk_162 0 7 (dk_at dksX1_over_0 20 rfl rfl)
theorem dX1_over_23 : decode cX1_over 23 = .ok (.iconst 1, 1) := dk_4 (dk_at dksX1_over_0 23 rfl rfl)
theorem dX1_over_24 : decode cX1_over 24 = .ok (.goto 4, 3) := dk_167 0 4 (dk_at dksX1_over_1 0 rfl rfl)
theorem dX1_over_27 : decode cX1_over 27 = .ok (.iconst 0, 1) := dk_3 (dk_at dksX1_over_1 3 rfl rfl)
theorem dX1_over_28 : decode cX1_over 28 = .ok (.invokestatic 238, 3) := dk_184 0 238 (dk_at dksX1_over_1 4 rfl rfl)
theorem dX1_over_31 : decode cX1_over 31 = .ok (.aload_n 1, 1) := dk_43 (dk_at dksX1_over_1 7 rfl rfl)
theorem dX1_over_32 : decode cX1_over 32 = .ok (.invokevirtual 129, 3) := dk_182 0 129 (dk_at dksX1_over_1 8 rfl rfl)
theorem dX1_over_35 : decode cX1_over 35 = .ok (.pop, 1) := dk_87 (dk_at dksX1_over_1 11 rfl rfl)
theorem dX1_over_36 : decode cX1_over 36 = .ok (.iinc 2 1, 3) := dk_132 2 1 (dk_at dksX1_over_1 12 rfl rfl)
theorem dX1_over_39 : decode cX1_over 39 = .ok (.goto (-29), 3) := dk_167 255 227 (dk_at dksX1_over_1 15 rfl rfl)
theorem dX1_over_42 : decode cX1_over 42 = .ok (.iload_n 2, 1) := dk_28 (dk_at dksX1_over_1 18 rfl rfl)
theorem dX1_over_43 : decode cX1_over 43 = .ok (.ireturn, 1) := dk_172 (dk_at dksX1_over_1 19 rfl rfl)
abbrev cX1_longest : ByteArray := prog_1_method_46_code
def yX1_longest : MethodName := ⟨RX1, "longest", "(I)I"⟩
def dkwX1_longest_5 : List UInt8 := [191]
abbrev dktX1_longest_5 : List UInt8 := dkwX1_longest_5 ++ []
def dkwX1_longest_4 : List UInt8 := [153, 0, 14, 21, 4, 27, 160, 0, 8, 45, 180, 0, 191, 172, 167, 255, 160, 187, 0, 63, 89, 183, 0, 65]
abbrev dktX1_longest_4 : List UInt8 := dkwX1_longest_4 ++ dktX1_longest_5
def dkwX1_longest_3 : List UInt8 := [25, 6, 45, 184, 1, 60, 153, 0, 7, 4, 167, 0, 4, 3, 96, 54, 4, 167, 255, 215, 45, 182, 0, 156]
abbrev dktX1_longest_3 : List UInt8 := dkwX1_longest_3 ++ dktX1_longest_4
def dkwX1_longest_2 : List UInt8 := [25, 5, 185, 1, 52, 1, 0, 153, 0, 37, 25, 5, 185, 1, 57, 1, 0, 192, 0, 107, 58, 6, 21, 4]
abbrev dktX1_longest_2 : List UInt8 := dkwX1_longest_2 ++ dktX1_longest_3
def dkwX1_longest_1 : List UInt8 := [185, 1, 57, 1, 0, 192, 0, 107, 78, 3, 54, 4, 42, 180, 0, 10, 180, 0, 97, 182, 1, 48, 58, 5]
abbrev dktX1_longest_1 : List UInt8 := dkwX1_longest_1 ++ dktX1_longest_2
def dkwX1_longest_0 : List UInt8 := [42, 180, 0, 10, 180, 0, 97, 182, 1, 48, 77, 44, 185, 1, 52, 1, 0, 153, 0, 93, 44]
abbrev dktX1_longest_0 : List UInt8 := dkwX1_longest_0 ++ dktX1_longest_1
theorem dksX1_longest_0 : cX1_longest.data.toList.drop 0 = dktX1_longest_0 := by decide +kernel
theorem dksX1_longest_1 : cX1_longest.data.toList.drop 21 = dktX1_longest_1 := dk_seg dksX1_longest_0 21 rfl rfl
theorem dksX1_longest_2 : cX1_longest.data.toList.drop 45 = dktX1_longest_2 := dk_seg dksX1_longest_1 24 rfl rfl
theorem dksX1_longest_3 : cX1_longest.data.toList.drop 69 = dktX1_longest_3 := dk_seg dksX1_longest_2 24 rfl rfl
theorem dksX1_longest_4 : cX1_longest.data.toList.drop 93 = dktX1_longest_4 := dk_seg dksX1_longest_3 24 rfl rfl
theorem dksX1_longest_5 : cX1_longest.data.toList.drop 117 = dktX1_longest_5 := dk_seg dksX1_longest_4 24 rfl rfl
theorem dX1_longest_0 : decode cX1_longest 0 = .ok (.aload_n 0, 1) := dk_42 (dk_at dksX1_longest_0 0 rfl rfl)
theorem dX1_longest_1 : decode cX1_longest 1 = .ok (.getfield 10, 3) := dk_180 0 10 (dk_at dksX1_longest_0 1 rfl rfl)
theorem dX1_longest_4 : decode cX1_longest 4 = .ok (.getfield 97, 3) := dk_180 0 97 (dk_at dksX1_longest_0 4 rfl rfl)
theorem dX1_longest_7 : decode cX1_longest 7 = .ok (.invokevirtual 304, 3) := dk_182 1 48 (dk_at dksX1_longest_0 7 rfl rfl)
theorem dX1_longest_10 : decode cX1_longest 10 = .ok (.astore_n 2, 1) := dk_77 (dk_at dksX1_longest_0 10 rfl rfl)
theorem dX1_longest_11 : decode cX1_longest 11 = .ok (.aload_n 2, 1) := dk_44 (dk_at dksX1_longest_0 11 rfl rfl)
theorem dX1_longest_12 : decode cX1_longest 12 = .ok (.invokeinterface 308 1, 5) := by decide +kernel
theorem dX1_longest_17 : decode cX1_longest 17 = .ok (.ifCond .eq 93, 3) := dk_153 0 93 (dk_at dksX1_longest_0 17 rfl rfl)
theorem dX1_longest_20 : decode cX1_longest 20 = .ok (.aload_n 2, 1) := dk_44 (dk_at dksX1_longest_0 20 rfl rfl)
theorem dX1_longest_21 : decode cX1_longest 21 = .ok (.invokeinterface 313 1, 5) := by decide +kernel
theorem dX1_longest_26 : decode cX1_longest 26 = .ok (.checkcast 107, 3) := dk_192 0 107 (dk_at dksX1_longest_1 5 rfl rfl)
theorem dX1_longest_29 : decode cX1_longest 29 = .ok (.astore_n 3, 1) := dk_78 (dk_at dksX1_longest_1 8 rfl rfl)
theorem dX1_longest_30 : decode cX1_longest 30 = .ok (.iconst 0, 1) := dk_3 (dk_at dksX1_longest_1 9 rfl rfl)
theorem dX1_longest_31 : decode cX1_longest 31 = .ok (.istore 4, 2) := dk_54 4 (dk_at dksX1_longest_1 10 rfl rfl)
theorem dX1_longest_33 : decode cX1_longest 33 = .ok (.aload_n 0, 1) := dk_42 (dk_at dksX1_longest_1 12 rfl rfl)
theorem dX1_longest_34 : decode cX1_longest 34 = .ok (.getfield 10, 3) := dk_180 0 10 (dk_at dksX1_longest_1 13 rfl rfl)
theorem dX1_longest_37 : decode cX1_longest 37 = .ok (.getfield 97, 3) := dk_180 0 97 (dk_at dksX1_longest_1 16 rfl rfl)
theorem dX1_longest_40 : decode cX1_longest 40 = .ok (.invokevirtual 304, 3) := dk_182 1 48 (dk_at dksX1_longest_1 19 rfl rfl)
theorem dX1_longest_43 : decode cX1_longest 43 = .ok (.astore 5, 2) := dk_58 5 (dk_at dksX1_longest_1 22 rfl rfl)
theorem dX1_longest_45 : decode cX1_longest 45 = .ok (.aload 5, 2) := dk_25 5 (dk_at dksX1_longest_2 0 rfl rfl)
theorem dX1_longest_47 : decode cX1_longest 47 = .ok (.invokeinterface 308 1, 5) := by decide +kernel
theorem dX1_longest_52 : decode cX1_longest 52 = .ok (.ifCond .eq 37, 3) := dk_153 0 37 (dk_at dksX1_longest_2 7 rfl rfl)
theorem dX1_longest_55 : decode cX1_longest 55 = .ok (.aload 5, 2) := dk_25 5 (dk_at dksX1_longest_2 10 rfl rfl)
theorem dX1_longest_57 : decode cX1_longest 57 = .ok (.invokeinterface 313 1, 5) := by decide +kernel
theorem dX1_longest_62 : decode cX1_longest 62 = .ok (.checkcast 107, 3) := dk_192 0 107 (dk_at dksX1_longest_2 17 rfl rfl)
theorem dX1_longest_65 : decode cX1_longest 65 = .ok (.astore 6, 2) := dk_58 6 (dk_at dksX1_longest_2 20 rfl rfl)
theorem dX1_longest_67 : decode cX1_longest 67 = .ok (.iload 4, 2) := dk_21 4 (dk_at dksX1_longest_2 22 rfl rfl)
theorem dX1_longest_69 : decode cX1_longest 69 = .ok (.aload 6, 2) := dk_25 6 (dk_at dksX1_longest_3 0 rfl rfl)
theorem dX1_longest_71 : decode cX1_longest 71 = .ok (.aload_n 3, 1) := dk_45 (dk_at dksX1_longest_3 2 rfl rfl)
theorem dX1_longest_72 : decode cX1_longest 72 = .ok (.invokestatic 316, 3) := dk_184 1 60 (dk_at dksX1_longest_3 3 rfl rfl)
theorem dX1_longest_75 : decode cX1_longest 75 = .ok (.ifCond .eq 7, 3) := dk_153 0 7 (dk_at dksX1_longest_3 6 rfl rfl)
theorem dX1_longest_78 : decode cX1_longest 78 = .ok (.iconst 1, 1) := dk_4 (dk_at dksX1_longest_3 9 rfl rfl)
theorem dX1_longest_79 : decode cX1_longest 79 = .ok (.goto 4, 3) := dk_167 0 4 (dk_at dksX1_longest_3 10 rfl rfl)
theorem dX1_longest_82 : decode cX1_longest 82 = .ok (.iconst 0, 1) := dk_3 (dk_at dksX1_longest_3 13 rfl rfl)
theorem dX1_longest_83 : decode cX1_longest 83 = .ok (.iadd, 1) := dk_96 (dk_at dksX1_longest_3 14 rfl rfl)
theorem dX1_longest_84 : decode cX1_longest 84 = .ok (.istore 4, 2) := dk_54 4 (dk_at dksX1_longest_3 15 rfl rfl)
theorem dX1_longest_86 : decode cX1_longest 86 = .ok (.goto (-41), 3) := dk_167 255 215 (dk_at dksX1_longest_3 17 rfl rfl)
theorem dX1_longest_89 : decode cX1_longest 89 = .ok (.aload_n 3, 1) := dk_45 (dk_at dksX1_longest_3 20 rfl rfl)
theorem dX1_longest_90 : decode cX1_longest 90 = .ok (.invokevirtual 156, 3) := dk_182 0 156 (dk_at dksX1_longest_3 21 rfl rfl)
theorem dX1_longest_93 : decode cX1_longest 93 = .ok (.ifCond .eq 14, 3) := dk_153 0 14 (dk_at dksX1_longest_4 0 rfl rfl)
theorem dX1_longest_96 : decode cX1_longest 96 = .ok (.iload 4, 2) := dk_21 4 (dk_at dksX1_longest_4 3 rfl rfl)
theorem dX1_longest_98 : decode cX1_longest 98 = .ok (.iload_n 1, 1) := dk_27 (dk_at dksX1_longest_4 5 rfl rfl)
theorem dX1_longest_99 : decode cX1_longest 99 = .ok (.if_icmp .ne 8, 3) := dk_160 0 8 (dk_at dksX1_longest_4 6 rfl rfl)
theorem dX1_longest_102 : decode cX1_longest 102 = .ok (.aload_n 3, 1) := dk_45 (dk_at dksX1_longest_4 9 rfl rfl)
theorem dX1_longest_103 : decode cX1_longest 103 = .ok (.getfield 191, 3) := dk_180 0 191 (dk_at dksX1_longest_4 10 rfl rfl)
theorem dX1_longest_106 : decode cX1_longest 106 = .ok (.ireturn, 1) := dk_172 (dk_at dksX1_longest_4 13 rfl rfl)
theorem dX1_longest_107 : decode cX1_longest 107 = .ok (.goto (-96), 3) := dk_167 255 160 (dk_at dksX1_longest_4 14 rfl rfl)
theorem dX1_longest_110 : decode cX1_longest 110 = .ok (.new 63, 3) := dk_187 0 63 (dk_at dksX1_longest_4 17 rfl rfl)
theorem dX1_longest_113 : decode cX1_longest 113 = .ok (.dup, 1) := dk_89 (dk_at dksX1_longest_4 20 rfl rfl)
theorem dX1_longest_114 : decode cX1_longest 114 = .ok (.invokespecial 65, 3) := dk_183 0 65 (dk_at dksX1_longest_4 21 rfl rfl)
theorem dX1_longest_117 : decode cX1_longest 117 = .ok (.athrow, 1) := dk_191 (dk_at dksX1_longest_5 0 rfl rfl)
abbrev cX1_isLonger : ByteArray := prog_1_method_45_code
def yX1_isLonger : MethodName := ⟨RX1, "isLonger", "(LCartBridge$Cart;LCartBridge$Cart;)Z"⟩
def dkwX1_isLonger_1 : List UInt8 := [180, 0, 228, 160, 0, 18, 42, 180, 0, 191, 43, 180, 0, 191, 162, 0, 7, 4, 167, 0, 4, 3, 172]
abbrev dktX1_isLonger_1 : List UInt8 := dkwX1_isLonger_1 ++ []
def dkwX1_isLonger_0 : List UInt8 := [42, 182, 0, 156, 153, 0, 40, 42, 180, 0, 228, 43, 180, 0, 228, 163, 0, 25, 42, 180, 0, 228, 43]
abbrev dktX1_isLonger_0 : List UInt8 := dkwX1_isLonger_0 ++ dktX1_isLonger_1
theorem dksX1_isLonger_0 : cX1_isLonger.data.toList.drop 0 = dktX1_isLonger_0 := by decide +kernel
theorem dksX1_isLonger_1 : cX1_isLonger.data.toList.drop 23 = dktX1_isLonger_1 := dk_seg dksX1_isLonger_0 23 rfl rfl
theorem dX1_isLonger_0 : decode cX1_isLonger 0 = .ok (.aload_n 0, 1) := dk_42 (dk_at dksX1_isLonger_0 0 rfl rfl)
theorem dX1_isLonger_1 : decode cX1_isLonger 1 = .ok (.invokevirtual 156, 3) := dk_182 0 156 (dk_at dksX1_isLonger_0 1 rfl rfl)
theorem dX1_isLonger_4 : decode cX1_isLonger 4 = .ok (.ifCond .eq 40, 3) := dk_153 0 40 (dk_at dksX1_isLonger_0 4 rfl rfl)
theorem dX1_isLonger_7 : decode cX1_isLonger 7 = .ok (.aload_n 0, 1) := dk_42 (dk_at dksX1_isLonger_0 7 rfl rfl)
theorem dX1_isLonger_8 : decode cX1_isLonger 8 = .ok (.getfield 228, 3) := dk_180 0 228 (dk_at dksX1_isLonger_0 8 rfl rfl)
theorem dX1_isLonger_11 : decode cX1_isLonger 11 = .ok (.aload_n 1, 1) := dk_43 (dk_at dksX1_isLonger_0 11 rfl rfl)
theorem dX1_isLonger_12 : decode cX1_isLonger 12 = .ok (.getfield 228, 3) := dk_180 0 228 (dk_at dksX1_isLonger_0 12 rfl rfl)
theorem dX1_isLonger_15 : decode cX1_isLonger 15 = .ok (.if_icmp .gt 25, 3) := dk_163 0 25 (dk_at dksX1_isLonger_0 15 rfl rfl)
theorem dX1_isLonger_18 : decode cX1_isLonger 18 = .ok (.aload_n 0, 1) := dk_42 (dk_at dksX1_isLonger_0 18 rfl rfl)
theorem dX1_isLonger_19 : decode cX1_isLonger 19 = .ok (.getfield 228, 3) := dk_180 0 228 (dk_at dksX1_isLonger_0 19 rfl rfl)
theorem dX1_isLonger_22 : decode cX1_isLonger 22 = .ok (.aload_n 1, 1) := dk_43 (dk_at dksX1_isLonger_0 22 rfl rfl)
theorem dX1_isLonger_23 : decode cX1_isLonger 23 = .ok (.getfield 228, 3) := dk_180 0 228 (dk_at dksX1_isLonger_1 0 rfl rfl)
theorem dX1_isLonger_26 : decode cX1_isLonger 26 = .ok (.if_icmp .ne 18, 3) := dk_160 0 18 (dk_at dksX1_isLonger_1 3 rfl rfl)
theorem dX1_isLonger_29 : decode cX1_isLonger 29 = .ok (.aload_n 0, 1) := dk_42 (dk_at dksX1_isLonger_1 6 rfl rfl)
theorem dX1_isLonger_30 : decode cX1_isLonger 30 = .ok (.getfield 191, 3) := dk_180 0 191 (dk_at dksX1_isLonger_1 7 rfl rfl)
theorem dX1_isLonger_33 : decode cX1_isLonger 33 = .ok (.aload_n 1, 1) := dk_43 (dk_at dksX1_isLonger_1 10 rfl rfl)
theorem dX1_isLonger_34 : decode cX1_isLonger 34 = .ok (.getfield 191, 3) := dk_180 0 191 (dk_at dksX1_isLonger_1 11 rfl rfl)
theorem dX1_isLonger_37 : decode cX1_isLonger 37 = .ok (.if_icmp .ge 7, 3) := dk_162 0 7 (dk_at dksX1_isLonger_1 14 rfl rfl)
theorem dX1_isLonger_40 : decode cX1_isLonger 40 = .ok (.iconst 1, 1) := dk_4 (dk_at dksX1_isLonger_1 17 rfl rfl)
theorem dX1_isLonger_41 : decode cX1_isLonger 41 = .ok (.goto 4, 3) := dk_167 0 4 (dk_at dksX1_isLonger_1 18 rfl rfl)
theorem dX1_isLonger_44 : decode cX1_isLonger 44 = .ok (.iconst 0, 1) := dk_3 (dk_at dksX1_isLonger_1 21 rfl rfl)
theorem dX1_isLonger_45 : decode cX1_isLonger 45 = .ok (.ireturn, 1) := dk_172 (dk_at dksX1_isLonger_1 22 rfl rfl)
abbrev cX1_mildest : ByteArray := prog_1_method_47_code
def yX1_mildest : MethodName := ⟨RX1, "mildest", "()I"⟩
def dkwX1_mildest_3 : List UInt8 := [132, 2, 1, 167, 255, 189, 27, 2, 159, 0, 7, 4, 167, 0, 4, 3, 184, 0, 238, 27, 172]
abbrev dktX1_mildest_3 : List UInt8 := dkwX1_mildest_3 ++ []
def dkwX1_mildest_2 : List UInt8 := [42, 180, 0, 10, 180, 0, 97, 27, 182, 0, 152, 192, 0, 107, 180, 0, 223, 164, 0, 5, 28, 60]
abbrev dktX1_mildest_2 : List UInt8 := dkwX1_mildest_2 ++ dktX1_mildest_3
def dkwX1_mildest_1 : List UInt8 := [180, 0, 97, 28, 182, 0, 152, 192, 0, 107, 180, 0, 223, 62, 29, 158, 0, 31, 27, 2, 159, 0, 24, 29]
abbrev dktX1_mildest_1 : List UInt8 := dkwX1_mildest_1 ++ dktX1_mildest_2
def dkwX1_mildest_0 : List UInt8 := [2, 60, 3, 61, 28, 42, 180, 0, 10, 180, 0, 97, 182, 0, 101, 162, 0, 59, 42, 180, 0, 10]
abbrev dktX1_mildest_0 : List UInt8 := dkwX1_mildest_0 ++ dktX1_mildest_1
theorem dksX1_mildest_0 : cX1_mildest.data.toList.drop 0 = dktX1_mildest_0 := by decide +kernel
theorem dksX1_mildest_1 : cX1_mildest.data.toList.drop 22 = dktX1_mildest_1 := dk_seg dksX1_mildest_0 22 rfl rfl
theorem dksX1_mildest_2 : cX1_mildest.data.toList.drop 46 = dktX1_mildest_2 := dk_seg dksX1_mildest_1 24 rfl rfl
theorem dksX1_mildest_3 : cX1_mildest.data.toList.drop 68 = dktX1_mildest_3 := dk_seg dksX1_mildest_2 22 rfl rfl
theorem dX1_mildest_0 : decode cX1_mildest 0 = .ok (.iconst (-1), 1) := dk_2 (dk_at dksX1_mildest_0 0 rfl rfl)
theorem dX1_mildest_1 : decode cX1_mildest 1 = .ok (.istore_n 1, 1) := dk_60 (dk_at dksX1_mildest_0 1 rfl rfl)
theorem dX1_mildest_2 : decode cX1_mildest 2 = .ok (.iconst 0, 1) := dk_3 (dk_at dksX1_mildest_0 2 rfl rfl)
theorem dX1_mildest_3 : decode cX1_mildest 3 = .ok (.istore_n 2, 1) := dk_61 (dk_at dksX1_mildest_0 3 rfl rfl)
theorem dX1_mildest_4 : decode cX1_mildest 4 = .ok (.iload_n 2, 1) := dk_28 (dk_at dksX1_mildest_0 4 rfl rfl)
theorem dX1_mildest_5 : decode cX1_mildest 5 = .ok (.aload_n 0, 1) := dk_42 (dk_at dksX1_mildest_0 5 rfl rfl)
theorem dX1_mildest_6 : decode cX1_mildest 6 = .ok (.getfield 10, 3) := dk_180 0 10 (dk_at dksX1_mildest_0 6 rfl rfl)
theorem dX1_mildest_9 : decode cX1_mildest 9 = .ok (.getfield 97, 3) := dk_180 0 97 (dk_at dksX1_mildest_0 9 rfl rfl)
theorem dX1_mildest_12 : decode cX1_mildest 12 = .ok (.invokevirtual 101, 3) := dk_182 0 101 (dk_at dksX1_mildest_0 12 rfl rfl)
theorem dX1_mildest_15 : decode cX1_mildest 15 = .ok (.if_icmp .ge 59, 3) := dk_162 0 59 (dk_at dksX1_mildest_0 15 rfl rfl)
theorem dX1_mildest_18 : decode cX1_mildest 18 = .ok (.aload_n 0, 1) := dk_42 (dk_at dksX1_mildest_0 18 rfl rfl)
theorem dX1_mildest_19 : decode cX1_mildest 19 = .ok (.getfield 10, 3) := dk_180 0 10 (dk_at dksX1_mildest_0 19 rfl rfl)
theorem dX1_mildest_22 : decode cX1_mildest 22 = .ok (.getfield 97, 3) := dk_180 0 97 (dk_at dksX1_mildest_1 0 rfl rfl)
theorem dX1_mildest_25 : decode cX1_mildest 25 = .ok (.iload_n 2, 1) := dk_28 (dk_at dksX1_mildest_1 3 rfl rfl)
theorem dX1_mildest_26 : decode cX1_mildest 26 = .ok (.invokevirtual 152, 3) := dk_182 0 152 (dk_at dksX1_mildest_1 4 rfl rfl)
theorem dX1_mildest_29 : decode cX1_mildest 29 = .ok (.checkcast 107, 3) := dk_192 0 107 (dk_at dksX1_mildest_1 7 rfl rfl)
theorem dX1_mildest_32 : decode cX1_mildest 32 = .ok (.getfield 223, 3) := dk_180 0 223 (dk_at dksX1_mildest_1 10 rfl rfl)
theorem dX1_mildest_35 : decode cX1_mildest 35 = .ok (.istore_n 3, 1) := dk_62 (dk_at dksX1_mildest_1 13 rfl rfl)
theorem dX1_mildest_36 : decode cX1_mildest 36 = .ok (.iload_n 3, 1) := dk_29 (dk_at dksX1_mildest_1 14 rfl rfl)
theorem dX1_mildest_37 : decode cX1_mildest 37 = .ok (.ifCond .le 31, 3) := dk_158 0 31 (dk_at dksX1_mildest_1 15 rfl rfl)
theorem dX1_mildest_40 : decode cX1_mildest 40 = .ok (.iload_n 1, 1) := dk_27 (dk_at dksX1_mildest_1 18 rfl rfl)
theorem dX1_mildest_41 : decode cX1_mildest 41 = .ok (.iconst (-1), 1) := dk_2 (dk_at dksX1_mildest_1 19 rfl rfl)
theorem dX1_mildest_42 : decode cX1_mildest 42 = .ok (.if_icmp .eq 24, 3) := dk_159 0 24 (dk_at dksX1_mildest_1 20 rfl rfl)
theorem dX1_mildest_45 : decode cX1_mildest 45 = .ok (.iload_n 3, 1) := dk_29 (dk_at dksX1_mildest_1 23 rfl rfl)
theorem dX1_mildest_46 : decode cX1_mildest 46 = .ok (.aload_n 0, 1) := dk_42 (dk_at dksX1_mildest_2 0 rfl rfl)
theorem dX1_mildest_47 : decode cX1_mildest 47 = .ok (.getfield 10, 3) := dk_180 0 10 (dk_at dksX1_mildest_2 1 rfl rfl)
theorem dX1_mildest_50 : decode cX1_mildest 50 = .ok (.getfield 97, 3) := dk_180 0 97 (dk_at dksX1_mildest_2 4 rfl rfl)
theorem dX1_mildest_53 : decode cX1_mildest 53 = .ok (.iload_n 1, 1) := dk_27 (dk_at dksX1_mildest_2 7 rfl rfl)
theorem dX1_mildest_54 : decode cX1_mildest 54 = .ok (.invokevirtual 152, 3) := dk_182 0 152 (dk_at dksX1_mildest_2 8 rfl rfl)
theorem dX1_mildest_57 : decode cX1_mildest 57 = .ok (.checkcast 107, 3) := dk_192 0 107 (dk_at dksX1_mildest_2 11 rfl rfl)
theorem dX1_mildest_60 : decode cX1_mildest 60 = .ok (.getfield 223, 3) := dk_180 0 223 (dk_at dksX1_mildest_2 14 rfl rfl)
theorem dX1_mildest_63 : decode cX1_mildest 63 = .ok (.if_icmp .le 5, 3) := dk_164 0 5 (dk_at dksX1_mildest_2 17 rfl rfl)
theorem dX1_mildest_66 : decode cX1_mildest 66 = .ok (.iload_n 2, 1) := dk_28 (dk_at dksX1_mildest_2 20 rfl rfl)
theorem dX1_mildest_67 : decode cX1_mildest 67 = .ok (.istore_n 1, 1) := dk_60 (dk_at dksX1_mildest_2 21 rfl rfl)
theorem dX1_mildest_68 : decode cX1_mildest 68 = .ok (.iinc 2 1, 3) := dk_132 2 1 (dk_at dksX1_mildest_3 0 rfl rfl)
theorem dX1_mildest_71 : decode cX1_mildest 71 = .ok (.goto (-67), 3) := dk_167 255 189 (dk_at dksX1_mildest_3 3 rfl rfl)
theorem dX1_mildest_74 : decode cX1_mildest 74 = .ok (.iload_n 1, 1) := dk_27 (dk_at dksX1_mildest_3 6 rfl rfl)
theorem dX1_mildest_75 : decode cX1_mildest 75 = .ok (.iconst (-1), 1) := dk_2 (dk_at dksX1_mildest_3 7 rfl rfl)
theorem dX1_mildest_76 : decode cX1_mildest 76 = .ok (.if_icmp .eq 7, 3) := dk_159 0 7 (dk_at dksX1_mildest_3 8 rfl rfl)
theorem dX1_mildest_79 : decode cX1_mildest 79 = .ok (.iconst 1, 1) := dk_4 (dk_at dksX1_mildest_3 11 rfl rfl)
theorem dX1_mildest_80 : decode cX1_mildest 80 = .ok (.goto 4, 3) := dk_167 0 4 (dk_at dksX1_mildest_3 12 rfl rfl)
theorem dX1_mildest_83 : decode cX1_mildest 83 = .ok (.iconst 0, 1) := dk_3 (dk_at dksX1_mildest_3 15 rfl rfl)
theorem dX1_mildest_84 : decode cX1_mildest 84 = .ok (.invokestatic 238, 3) := dk_184 0 238 (dk_at dksX1_mildest_3 16 rfl rfl)
theorem dX1_mildest_87 : decode cX1_mildest 87 = .ok (.iload_n 1, 1) := dk_27 (dk_at dksX1_mildest_3 19 rfl rfl)
theorem dX1_mildest_88 : decode cX1_mildest 88 = .ok (.ireturn, 1) := dk_172 (dk_at dksX1_mildest_3 20 rfl rfl)
abbrev cX1_heaviest : ByteArray := prog_1_method_48_code
def yX1_heaviest : MethodName := ⟨RX1, "heaviest", "()I"⟩
def dkwX1_heaviest_3 : List UInt8 := [60, 132, 2, 1, 167, 255, 186, 27, 2, 159, 0, 7, 4, 167, 0, 4, 3, 184, 0, 238, 27, 172]
abbrev dktX1_heaviest_3 : List UInt8 := dkwX1_heaviest_3 ++ []
def dkwX1_heaviest_2 : List UInt8 := [180, 0, 217, 42, 180, 0, 10, 180, 0, 97, 27, 182, 0, 152, 192, 0, 107, 180, 0, 217, 164, 0, 5, 28]
abbrev dktX1_heaviest_2 : List UInt8 := dkwX1_heaviest_2 ++ dktX1_heaviest_3
def dkwX1_heaviest_1 : List UInt8 := [180, 0, 97, 28, 182, 0, 152, 192, 0, 107, 78, 45, 182, 0, 156, 153, 0, 34, 27, 2, 159, 0, 27, 45]
abbrev dktX1_heaviest_1 : List UInt8 := dkwX1_heaviest_1 ++ dktX1_heaviest_2
def dkwX1_heaviest_0 : List UInt8 := [2, 60, 3, 61, 28, 42, 180, 0, 10, 180, 0, 97, 182, 0, 101, 162, 0, 62, 42, 180, 0, 10]
abbrev dktX1_heaviest_0 : List UInt8 := dkwX1_heaviest_0 ++ dktX1_heaviest_1
theorem dksX1_heaviest_0 : cX1_heaviest.data.toList.drop 0 = dktX1_heaviest_0 := by decide +kernel
theorem dksX1_heaviest_1 : cX1_heaviest.data.toList.drop 22 = dktX1_heaviest_1 := dk_seg dksX1_heaviest_0 22 rfl rfl
theorem dksX1_heaviest_2 : cX1_heaviest.data.toList.drop 46 = dktX1_heaviest_2 := dk_seg dksX1_heaviest_1 24 rfl rfl
theorem dksX1_heaviest_3 : cX1_heaviest.data.toList.drop 70 = dktX1_heaviest_3 := dk_seg dksX1_heaviest_2 24 rfl rfl
theorem dX1_heaviest_0 : decode cX1_heaviest 0 = .ok (.iconst (-1), 1) := dk_2 (dk_at dksX1_heaviest_0 0 rfl rfl)
theorem dX1_heaviest_1 : decode cX1_heaviest 1 = .ok (.istore_n 1, 1) := dk_60 (dk_at dksX1_heaviest_0 1 rfl rfl)
theorem dX1_heaviest_2 : decode cX1_heaviest 2 = .ok (.iconst 0, 1) := dk_3 (dk_at dksX1_heaviest_0 2 rfl rfl)
theorem dX1_heaviest_3 : decode cX1_heaviest 3 = .ok (.istore_n 2, 1) := dk_61 (dk_at dksX1_heaviest_0 3 rfl rfl)
theorem dX1_heaviest_4 : decode cX1_heaviest 4 = .ok (.iload_n 2, 1) := dk_28 (dk_at dksX1_heaviest_0 4 rfl rfl)
theorem dX1_heaviest_5 : decode cX1_heaviest 5 = .ok (.aload_n 0, 1) := dk_42 (dk_at dksX1_heaviest_0 5 rfl rfl)
theorem dX1_heaviest_6 : decode cX1_heaviest 6 = .ok (.getfield 10, 3) := dk_180 0 10 (dk_at dksX1_heaviest_0 6 rfl rfl)
theorem dX1_heaviest_9 : decode cX1_heaviest 9 = .ok (.getfield 97, 3) := dk_180 0 97 (dk_at dksX1_heaviest_0 9 rfl rfl)
theorem dX1_heaviest_12 : decode cX1_heaviest 12 = .ok (.invokevirtual 101, 3) := dk_182 0 101 (dk_at dksX1_heaviest_0 12 rfl rfl)
theorem dX1_heaviest_15 : decode cX1_heaviest 15 = .ok (.if_icmp .ge 62, 3) := dk_162 0 62 (dk_at dksX1_heaviest_0 15 rfl rfl)
theorem dX1_heaviest_18 : decode cX1_heaviest 18 = .ok (.aload_n 0, 1) := dk_42 (dk_at dksX1_heaviest_0 18 rfl rfl)
theorem dX1_heaviest_19 : decode cX1_heaviest 19 = .ok (.getfield 10, 3) := dk_180 0 10 (dk_at dksX1_heaviest_0 19 rfl rfl)
theorem dX1_heaviest_22 : decode cX1_heaviest 22 = .ok (.getfield 97, 3) := dk_180 0 97 (dk_at dksX1_heaviest_1 0 rfl rfl)
theorem dX1_heaviest_25 : decode cX1_heaviest 25 = .ok (.iload_n 2, 1) := dk_28 (dk_at dksX1_heaviest_1 3 rfl rfl)
theorem dX1_heaviest_26 : decode cX1_heaviest 26 = .ok (.invokevirtual 152, 3) := dk_182 0 152 (dk_at dksX1_heaviest_1 4 rfl rfl)
theorem dX1_heaviest_29 : decode cX1_heaviest 29 = .ok (.checkcast 107, 3) := dk_192 0 107 (dk_at dksX1_heaviest_1 7 rfl rfl)
theorem dX1_heaviest_32 : decode cX1_heaviest 32 = .ok (.astore_n 3, 1) := dk_78 (dk_at dksX1_heaviest_1 10 rfl rfl)
theorem dX1_heaviest_33 : decode cX1_heaviest 33 = .ok (.aload_n 3, 1) := dk_45 (dk_at dksX1_heaviest_1 11 rfl rfl)
theorem dX1_heaviest_34 : decode cX1_heaviest 34 = .ok (.invokevirtual 156, 3) := dk_182 0 156 (dk_at dksX1_heaviest_1 12 rfl rfl)
theorem dX1_heaviest_37 : decode cX1_heaviest 37 = .ok (.ifCond .eq 34, 3) := dk_153 0 34 (dk_at dksX1_heaviest_1 15 rfl rfl)
theorem dX1_heaviest_40 : decode cX1_heaviest 40 = .ok (.iload_n 1, 1) := dk_27 (dk_at dksX1_heaviest_1 18 rfl rfl)
theorem dX1_heaviest_41 : decode cX1_heaviest 41 = .ok (.iconst (-1), 1) := dk_2 (dk_at dksX1_heaviest_1 19 rfl rfl)
theorem dX1_heaviest_42 : decode cX1_heaviest 42 = .ok (.if_icmp .eq 27, 3) := dk_159 0 27 (dk_at dksX1_heaviest_1 20 rfl rfl)
theorem dX1_heaviest_45 : decode cX1_heaviest 45 = .ok (.aload_n 3, 1) := dk_45 (dk_at dksX1_heaviest_1 23 rfl rfl)
theorem dX1_heaviest_46 : decode cX1_heaviest 46 = .ok (.getfield 217, 3) := dk_180 0 217 (dk_at dksX1_heaviest_2 0 rfl rfl)
theorem dX1_heaviest_49 : decode cX1_heaviest 49 = .ok (.aload_n 0, 1) := dk_42 (dk_at dksX1_heaviest_2 3 rfl rfl)
theorem dX1_heaviest_50 : decode cX1_heaviest 50 = .ok (.getfield 10, 3) := dk_180 0 10 (dk_at dksX1_heaviest_2 4 rfl rfl)
theorem dX1_heaviest_53 : decode cX1_heaviest 53 = .ok (.getfield 97, 3) := dk_180 0 97 (dk_at dksX1_heaviest_2 7 rfl rfl)
theorem dX1_heaviest_56 : decode cX1_heaviest 56 = .ok (.iload_n 1, 1) := dk_27 (dk_at dksX1_heaviest_2 10 rfl rfl)
theorem dX1_heaviest_57 : decode cX1_heaviest 57 = .ok (.invokevirtual 152, 3) := dk_182 0 152 (dk_at dksX1_heaviest_2 11 rfl rfl)
theorem dX1_heaviest_60 : decode cX1_heaviest 60 = .ok (.checkcast 107, 3) := dk_192 0 107 (dk_at dksX1_heaviest_2 14 rfl rfl)
theorem dX1_heaviest_63 : decode cX1_heaviest 63 = .ok (.getfield 217, 3) := dk_180 0 217 (dk_at dksX1_heaviest_2 17 rfl rfl)
theorem dX1_heaviest_66 : decode cX1_heaviest 66 = .ok (.if_icmp .le 5, 3) := dk_164 0 5 (dk_at dksX1_heaviest_2 20 rfl rfl)
theorem dX1_heaviest_69 : decode cX1_heaviest 69 = .ok (.iload_n 2, 1) := dk_28 (dk_at dksX1_heaviest_2 23 rfl rfl)
theorem dX1_heaviest_70 : decode cX1_heaviest 70 = .ok (.istore_n 1, 1) := dk_60 (dk_at dksX1_heaviest_3 0 rfl rfl)
theorem dX1_heaviest_71 : decode cX1_heaviest 71 = .ok (.iinc 2 1, 3) := dk_132 2 1 (dk_at dksX1_heaviest_3 1 rfl rfl)
theorem dX1_heaviest_74 : decode cX1_heaviest 74 = .ok (.goto (-70), 3) := dk_167 255 186 (dk_at dksX1_heaviest_3 4 rfl rfl)
theorem dX1_heaviest_77 : decode cX1_heaviest 77 = .ok (.iload_n 1, 1) := dk_27 (dk_at dksX1_heaviest_3 7 rfl rfl)
theorem dX1_heaviest_78 : decode cX1_heaviest 78 = .ok (.iconst (-1), 1) := dk_2 (dk_at dksX1_heaviest_3 8 rfl rfl)
theorem dX1_heaviest_79 : decode cX1_heaviest 79 = .ok (.if_icmp .eq 7, 3) := dk_159 0 7 (dk_at dksX1_heaviest_3 9 rfl rfl)
theorem dX1_heaviest_82 : decode cX1_heaviest 82 = .ok (.iconst 1, 1) := dk_4 (dk_at dksX1_heaviest_3 12 rfl rfl)
theorem dX1_heaviest_83 : decode cX1_heaviest 83 = .ok (.goto 4, 3) := dk_167 0 4 (dk_at dksX1_heaviest_3 13 rfl rfl)
theorem dX1_heaviest_86 : decode cX1_heaviest 86 = .ok (.iconst 0, 1) := dk_3 (dk_at dksX1_heaviest_3 16 rfl rfl)
theorem dX1_heaviest_87 : decode cX1_heaviest 87 = .ok (.invokestatic 238, 3) := dk_184 0 238 (dk_at dksX1_heaviest_3 17 rfl rfl)
theorem dX1_heaviest_90 : decode cX1_heaviest 90 = .ok (.iload_n 1, 1) := dk_27 (dk_at dksX1_heaviest_3 20 rfl rfl)
theorem dX1_heaviest_91 : decode cX1_heaviest 91 = .ok (.ireturn, 1) := dk_172 (dk_at dksX1_heaviest_3 21 rfl rfl)
abbrev cX1_append : ByteArray := prog_1_method_55_code
def yX1_append : MethodName := ⟨RX1, "append", "(C)I"⟩
def dkwX1_append_1 : List UInt8 := [167, 0, 4, 3, 184, 0, 211, 42, 180, 0, 26, 27, 182, 1, 138, 87, 42, 180, 0, 26, 182, 1, 135, 172]
abbrev dktX1_append_1 : List UInt8 := dkwX1_append_1 ++ []
def dkwX1_append_0 : List UInt8 := [27, 16, 32, 16, 126, 184, 0, 49, 184, 0, 214, 42, 180, 0, 26, 182, 1, 135, 16, 60, 162, 0, 7, 4]
abbrev dktX1_append_0 : List UInt8 := dkwX1_append_0 ++ dktX1_append_1
theorem dksX1_append_0 : cX1_append.data.toList.drop 0 = dktX1_append_0 := by decide +kernel
theorem dksX1_append_1 : cX1_append.data.toList.drop 24 = dktX1_append_1 := dk_seg dksX1_append_0 24 rfl rfl
theorem dX1_append_0 : decode cX1_append 0 = .ok (.iload_n 1, 1) := dk_27 (dk_at dksX1_append_0 0 rfl rfl)
theorem dX1_append_1 : decode cX1_append 1 = .ok (.bipush 32, 2) := dk_16 32 (dk_at dksX1_append_0 1 rfl rfl)
theorem dX1_append_3 : decode cX1_append 3 = .ok (.bipush 126, 2) := dk_16 126 (dk_at dksX1_append_0 3 rfl rfl)
theorem dX1_append_5 : decode cX1_append 5 = .ok (.invokestatic 49, 3) := dk_184 0 49 (dk_at dksX1_append_0 5 rfl rfl)
theorem dX1_append_8 : decode cX1_append 8 = .ok (.invokestatic 214, 3) := dk_184 0 214 (dk_at dksX1_append_0 8 rfl rfl)
theorem dX1_append_11 : decode cX1_append 11 = .ok (.aload_n 0, 1) := dk_42 (dk_at dksX1_append_0 11 rfl rfl)
theorem dX1_append_12 : decode cX1_append 12 = .ok (.getfield 26, 3) := dk_180 0 26 (dk_at dksX1_append_0 12 rfl rfl)
theorem dX1_append_15 : decode cX1_append 15 = .ok (.invokevirtual 391, 3) := dk_182 1 135 (dk_at dksX1_append_0 15 rfl rfl)
theorem dX1_append_18 : decode cX1_append 18 = .ok (.bipush 60, 2) := dk_16 60 (dk_at dksX1_append_0 18 rfl rfl)
theorem dX1_append_20 : decode cX1_append 20 = .ok (.if_icmp .ge 7, 3) := dk_162 0 7 (dk_at dksX1_append_0 20 rfl rfl)
theorem dX1_append_23 : decode cX1_append 23 = .ok (.iconst 1, 1) := dk_4 (dk_at dksX1_append_0 23 rfl rfl)
theorem dX1_append_24 : decode cX1_append 24 = .ok (.goto 4, 3) := dk_167 0 4 (dk_at dksX1_append_1 0 rfl rfl)
theorem dX1_append_27 : decode cX1_append 27 = .ok (.iconst 0, 1) := dk_3 (dk_at dksX1_append_1 3 rfl rfl)
theorem dX1_append_28 : decode cX1_append 28 = .ok (.invokestatic 211, 3) := dk_184 0 211 (dk_at dksX1_append_1 4 rfl rfl)
theorem dX1_append_31 : decode cX1_append 31 = .ok (.aload_n 0, 1) := dk_42 (dk_at dksX1_append_1 7 rfl rfl)
theorem dX1_append_32 : decode cX1_append 32 = .ok (.getfield 26, 3) := dk_180 0 26 (dk_at dksX1_append_1 8 rfl rfl)
theorem dX1_append_35 : decode cX1_append 35 = .ok (.iload_n 1, 1) := dk_27 (dk_at dksX1_append_1 11 rfl rfl)
theorem dX1_append_36 : decode cX1_append 36 = .ok (.invokevirtual 394, 3) := dk_182 1 138 (dk_at dksX1_append_1 12 rfl rfl)
theorem dX1_append_39 : decode cX1_append 39 = .ok (.pop, 1) := dk_87 (dk_at dksX1_append_1 15 rfl rfl)
theorem dX1_append_40 : decode cX1_append 40 = .ok (.aload_n 0, 1) := dk_42 (dk_at dksX1_append_1 16 rfl rfl)
theorem dX1_append_41 : decode cX1_append 41 = .ok (.getfield 26, 3) := dk_180 0 26 (dk_at dksX1_append_1 17 rfl rfl)
theorem dX1_append_44 : decode cX1_append 44 = .ok (.invokevirtual 391, 3) := dk_182 1 135 (dk_at dksX1_append_1 20 rfl rfl)
theorem dX1_append_47 : decode cX1_append 47 = .ok (.ireturn, 1) := dk_172 (dk_at dksX1_append_1 23 rfl rfl)
abbrev cX1_run : ByteArray := prog_1_method_56_code
def yX1_run : MethodName := ⟨RX1, "run", "()I"⟩
def dkwX1_run_2 : List UInt8 := [43, 180, 1, 157, 182, 1, 160, 172]
abbrev dktX1_run_2 : List UInt8 := dkwX1_run_2 ++ []
def dkwX1_run_1 : List UInt8 := [43, 182, 1, 154, 181, 0, 33, 42, 180, 0, 33, 2, 160, 0, 7, 4, 167, 0, 4, 3, 184, 0, 214, 42]
abbrev dktX1_run_1 : List UInt8 := dkwX1_run_1 ++ dktX1_run_2
def dkwX1_run_0 : List UInt8 := [187, 1, 142, 89, 42, 180, 0, 26, 182, 1, 144, 183, 1, 148, 76, 42, 180, 0, 26, 3, 182, 1, 151, 42]
abbrev dktX1_run_0 : List UInt8 := dkwX1_run_0 ++ dktX1_run_1
theorem dksX1_run_0 : cX1_run.data.toList.drop 0 = dktX1_run_0 := by decide +kernel
theorem dksX1_run_1 : cX1_run.data.toList.drop 24 = dktX1_run_1 := dk_seg dksX1_run_0 24 rfl rfl
theorem dksX1_run_2 : cX1_run.data.toList.drop 48 = dktX1_run_2 := dk_seg dksX1_run_1 24 rfl rfl
theorem dX1_run_0 : decode cX1_run 0 = .ok (.new 398, 3) := dk_187 1 142 (dk_at dksX1_run_0 0 rfl rfl)
theorem dX1_run_3 : decode cX1_run 3 = .ok (.dup, 1) := dk_89 (dk_at dksX1_run_0 3 rfl rfl)
theorem dX1_run_4 : decode cX1_run 4 = .ok (.aload_n 0, 1) := dk_42 (dk_at dksX1_run_0 4 rfl rfl)
theorem dX1_run_5 : decode cX1_run 5 = .ok (.getfield 26, 3) := dk_180 0 26 (dk_at dksX1_run_0 5 rfl rfl)
theorem dX1_run_8 : decode cX1_run 8 = .ok (.invokevirtual 400, 3) := dk_182 1 144 (dk_at dksX1_run_0 8 rfl rfl)
theorem dX1_run_11 : decode cX1_run 11 = .ok (.invokespecial 404, 3) := dk_183 1 148 (dk_at dksX1_run_0 11 rfl rfl)
theorem dX1_run_14 : decode cX1_run 14 = .ok (.astore_n 1, 1) := dk_76 (dk_at dksX1_run_0 14 rfl rfl)
theorem dX1_run_15 : decode cX1_run 15 = .ok (.aload_n 0, 1) := dk_42 (dk_at dksX1_run_0 15 rfl rfl)
theorem dX1_run_16 : decode cX1_run 16 = .ok (.getfield 26, 3) := dk_180 0 26 (dk_at dksX1_run_0 16 rfl rfl)
theorem dX1_run_19 : decode cX1_run 19 = .ok (.iconst 0, 1) := dk_3 (dk_at dksX1_run_0 19 rfl rfl)
theorem dX1_run_20 : decode cX1_run 20 = .ok (.invokevirtual 407, 3) := dk_182 1 151 (dk_at dksX1_run_0 20 rfl rfl)
theorem dX1_run_23 : decode cX1_run 23 = .ok (.aload_n 0, 1) := dk_42 (dk_at dksX1_run_0 23 rfl rfl)
theorem dX1_run_24 : decode cX1_run 24 = .ok (.aload_n 1, 1) := dk_43 (dk_at dksX1_run_1 0 rfl rfl)
theorem dX1_run_25 : decode cX1_run 25 = .ok (.invokevirtual 410, 3) := dk_182 1 154 (dk_at dksX1_run_1 1 rfl rfl)
theorem dX1_run_28 : decode cX1_run 28 = .ok (.putfield 33, 3) := dk_181 0 33 (dk_at dksX1_run_1 4 rfl rfl)
theorem dX1_run_31 : decode cX1_run 31 = .ok (.aload_n 0, 1) := dk_42 (dk_at dksX1_run_1 7 rfl rfl)
theorem dX1_run_32 : decode cX1_run 32 = .ok (.getfield 33, 3) := dk_180 0 33 (dk_at dksX1_run_1 8 rfl rfl)
theorem dX1_run_35 : decode cX1_run 35 = .ok (.iconst (-1), 1) := dk_2 (dk_at dksX1_run_1 11 rfl rfl)
theorem dX1_run_36 : decode cX1_run 36 = .ok (.if_icmp .ne 7, 3) := dk_160 0 7 (dk_at dksX1_run_1 12 rfl rfl)
theorem dX1_run_39 : decode cX1_run 39 = .ok (.iconst 1, 1) := dk_4 (dk_at dksX1_run_1 15 rfl rfl)
theorem dX1_run_40 : decode cX1_run 40 = .ok (.goto 4, 3) := dk_167 0 4 (dk_at dksX1_run_1 16 rfl rfl)
theorem dX1_run_43 : decode cX1_run 43 = .ok (.iconst 0, 1) := dk_3 (dk_at dksX1_run_1 19 rfl rfl)
theorem dX1_run_44 : decode cX1_run 44 = .ok (.invokestatic 214, 3) := dk_184 0 214 (dk_at dksX1_run_1 20 rfl rfl)
theorem dX1_run_47 : decode cX1_run 47 = .ok (.aload_n 0, 1) := dk_42 (dk_at dksX1_run_1 23 rfl rfl)
theorem dX1_run_48 : decode cX1_run 48 = .ok (.aload_n 1, 1) := dk_43 (dk_at dksX1_run_2 0 rfl rfl)
theorem dX1_run_49 : decode cX1_run 49 = .ok (.getfield 413, 3) := dk_180 1 157 (dk_at dksX1_run_2 1 rfl rfl)
theorem dX1_run_52 : decode cX1_run 52 = .ok (.invokevirtual 416, 3) := dk_182 1 160 (dk_at dksX1_run_2 4 rfl rfl)
theorem dX1_run_55 : decode cX1_run 55 = .ok (.ireturn, 1) := dk_172 (dk_at dksX1_run_2 7 rfl rfl)
abbrev cX1_doAll : ByteArray := prog_1_method_54_code
def yX1_doAll : MethodName := ⟨RX1, "doAll", "(Ljava/util/ArrayList;)I"⟩
def dkwX1_doAll_5 : List UInt8 := [182, 0, 104, 42, 25, 4, 181, 0, 10, 29, 172]
abbrev dktX1_doAll_5 : List UInt8 := dkwX1_doAll_5 ++ []
def dkwX1_doAll_4 : List UInt8 := [191, 58, 6, 42, 3, 181, 0, 73, 25, 6, 191, 42, 180, 0, 10, 58, 4, 42, 44, 181, 0, 10, 42]
abbrev dktX1_doAll_4 : List UInt8 := dkwX1_doAll_4 ++ dktX1_doAll_5
def dkwX1_doAll_3 : List UInt8 := [44, 181, 0, 10, 42, 187, 0, 37, 89, 16, 9, 29, 42, 180, 0, 42, 183, 0, 39, 181, 0, 42, 25, 4]
abbrev dktX1_doAll_3 : List UInt8 := dkwX1_doAll_3 ++ dktX1_doAll_4
def dkwX1_doAll_2 : List UInt8 := [42, 25, 5, 182, 1, 131, 87, 132, 3, 1, 167, 255, 224, 42, 3, 181, 0, 73, 167, 0, 41, 58, 4, 42]
abbrev dktX1_doAll_2 : List UInt8 := dkwX1_doAll_2 ++ dktX1_doAll_3
def dkwX1_doAll_1 : List UInt8 := [58, 4, 25, 4, 185, 1, 52, 1, 0, 153, 0, 28, 25, 4, 185, 1, 57, 1, 0, 192, 1, 85, 58, 5]
abbrev dktX1_doAll_1 : List UInt8 := dkwX1_doAll_1 ++ dktX1_doAll_2
def dkwX1_doAll_0 : List UInt8 := [42, 180, 0, 10, 77, 42, 44, 182, 0, 77, 181, 0, 10, 42, 4, 181, 0, 73, 3, 62, 43, 182, 1, 48]
abbrev dktX1_doAll_0 : List UInt8 := dkwX1_doAll_0 ++ dktX1_doAll_1
theorem dksX1_doAll_0 : cX1_doAll.data.toList.drop 0 = dktX1_doAll_0 := by decide +kernel
theorem dksX1_doAll_1 : cX1_doAll.data.toList.drop 24 = dktX1_doAll_1 := dk_seg dksX1_doAll_0 24 rfl rfl
theorem dksX1_doAll_2 : cX1_doAll.data.toList.drop 48 = dktX1_doAll_2 := dk_seg dksX1_doAll_1 24 rfl rfl
theorem dksX1_doAll_3 : cX1_doAll.data.toList.drop 72 = dktX1_doAll_3 := dk_seg dksX1_doAll_2 24 rfl rfl
theorem dksX1_doAll_4 : cX1_doAll.data.toList.drop 96 = dktX1_doAll_4 := dk_seg dksX1_doAll_3 24 rfl rfl
theorem dksX1_doAll_5 : cX1_doAll.data.toList.drop 119 = dktX1_doAll_5 := dk_seg dksX1_doAll_4 23 rfl rfl
theorem dX1_doAll_0 : decode cX1_doAll 0 = .ok (.aload_n 0, 1) := dk_42 (dk_at dksX1_doAll_0 0 rfl rfl)
theorem dX1_doAll_1 : decode cX1_doAll 1 = .ok (.getfield 10, 3) := dk_180 0 10 (dk_at dksX1_doAll_0 1 rfl rfl)
theorem dX1_doAll_4 : decode cX1_doAll 4 = .ok (.astore_n 2, 1) := dk_77 (dk_at dksX1_doAll_0 4 rfl rfl)
theorem dX1_doAll_5 : decode cX1_doAll 5 = .ok (.aload_n 0, 1) := dk_42 (dk_at dksX1_doAll_0 5 rfl rfl)
theorem dX1_doAll_6 : decode cX1_doAll 6 = .ok (.aload_n 2, 1) := dk_44 (dk_at dksX1_doAll_0 6 rfl rfl)
theorem dX1_doAll_7 : decode cX1_doAll 7 = .ok (.invokevirtual 77, 3) := dk_182 0 77 (dk_at dksX1_doAll_0 7 rfl rfl)
theorem dX1_doAll_10 : decode cX1_doAll 10 = .ok (.putfield 10, 3) := dk_181 0 10 (dk_at dksX1_doAll_0 10 rfl rfl)
theorem dX1_doAll_13 : decode cX1_doAll 13 = .ok (.aload_n 0, 1) := dk_42 (dk_at dksX1_doAll_0 13 rfl rfl)
theorem dX1_doAll_14 : decode cX1_doAll 14 = .ok (.iconst 1, 1) := dk_4 (dk_at dksX1_doAll_0 14 rfl rfl)
theorem dX1_doAll_15 : decode cX1_doAll 15 = .ok (.putfield 73, 3) := dk_181 0 73 (dk_at dksX1_doAll_0 15 rfl rfl)
theorem dX1_doAll_18 : decode cX1_doAll 18 = .ok (.iconst 0, 1) := dk_3 (dk_at dksX1_doAll_0 18 rfl rfl)
theorem dX1_doAll_19 : decode cX1_doAll 19 = .ok (.istore_n 3, 1) := dk_62 (dk_at dksX1_doAll_0 19 rfl rfl)
theorem dX1_doAll_20 : decode cX1_doAll 20 = .ok (.aload_n 1, 1) := dk_43 (dk_at dksX1_doAll_0 20 rfl rfl)
theorem dX1_doAll_21 : decode cX1_doAll 21 = .ok (.invokevirtual 304, 3) := dk_182 1 48 (dk_at dksX1_doAll_0 21 rfl rfl)
theorem dX1_doAll_24 : decode cX1_doAll 24 = .ok (.astore 4, 2) := dk_58 4 (dk_at dksX1_doAll_1 0 rfl rfl)
theorem dX1_doAll_26 : decode cX1_doAll 26 = .ok (.aload 4, 2) := dk_25 4 (dk_at dksX1_doAll_1 2 rfl rfl)
theorem dX1_doAll_28 : decode cX1_doAll 28 = .ok (.invokeinterface 308 1, 5) := by decide +kernel
theorem dX1_doAll_33 : decode cX1_doAll 33 = .ok (.ifCond .eq 28, 3) := dk_153 0 28 (dk_at dksX1_doAll_1 9 rfl rfl)
theorem dX1_doAll_36 : decode cX1_doAll 36 = .ok (.aload 4, 2) := dk_25 4 (dk_at dksX1_doAll_1 12 rfl rfl)
theorem dX1_doAll_38 : decode cX1_doAll 38 = .ok (.invokeinterface 313 1, 5) := by decide +kernel
theorem dX1_doAll_43 : decode cX1_doAll 43 = .ok (.checkcast 341, 3) := dk_192 1 85 (dk_at dksX1_doAll_1 19 rfl rfl)
theorem dX1_doAll_46 : decode cX1_doAll 46 = .ok (.astore 5, 2) := dk_58 5 (dk_at dksX1_doAll_1 22 rfl rfl)
theorem dX1_doAll_48 : decode cX1_doAll 48 = .ok (.aload_n 0, 1) := dk_42 (dk_at dksX1_doAll_2 0 rfl rfl)
theorem dX1_doAll_49 : decode cX1_doAll 49 = .ok (.aload 5, 2) := dk_25 5 (dk_at dksX1_doAll_2 1 rfl rfl)
theorem dX1_doAll_51 : decode cX1_doAll 51 = .ok (.invokevirtual 387, 3) := dk_182 1 131 (dk_at dksX1_doAll_2 3 rfl rfl)
theorem dX1_doAll_54 : decode cX1_doAll 54 = .ok (.pop, 1) := dk_87 (dk_at dksX1_doAll_2 6 rfl rfl)
theorem dX1_doAll_55 : decode cX1_doAll 55 = .ok (.iinc 3 1, 3) := dk_132 3 1 (dk_at dksX1_doAll_2 7 rfl rfl)
theorem dX1_doAll_58 : decode cX1_doAll 58 = .ok (.goto (-32), 3) := dk_167 255 224 (dk_at dksX1_doAll_2 10 rfl rfl)
theorem dX1_doAll_61 : decode cX1_doAll 61 = .ok (.aload_n 0, 1) := dk_42 (dk_at dksX1_doAll_2 13 rfl rfl)
theorem dX1_doAll_62 : decode cX1_doAll 62 = .ok (.iconst 0, 1) := dk_3 (dk_at dksX1_doAll_2 14 rfl rfl)
theorem dX1_doAll_63 : decode cX1_doAll 63 = .ok (.putfield 73, 3) := dk_181 0 73 (dk_at dksX1_doAll_2 15 rfl rfl)
theorem dX1_doAll_66 : decode cX1_doAll 66 = .ok (.goto 41, 3) := dk_167 0 41 (dk_at dksX1_doAll_2 18 rfl rfl)
theorem dX1_doAll_69 : decode cX1_doAll 69 = .ok (.astore 4, 2) := dk_58 4 (dk_at dksX1_doAll_2 21 rfl rfl)
theorem dX1_doAll_71 : decode cX1_doAll 71 = .ok (.aload_n 0, 1) := dk_42 (dk_at dksX1_doAll_2 23 rfl rfl)
theorem dX1_doAll_72 : decode cX1_doAll 72 = .ok (.aload_n 2, 1) := dk_44 (dk_at dksX1_doAll_3 0 rfl rfl)
theorem dX1_doAll_73 : decode cX1_doAll 73 = .ok (.putfield 10, 3) := dk_181 0 10 (dk_at dksX1_doAll_3 1 rfl rfl)
theorem dX1_doAll_76 : decode cX1_doAll 76 = .ok (.aload_n 0, 1) := dk_42 (dk_at dksX1_doAll_3 4 rfl rfl)
theorem dX1_doAll_77 : decode cX1_doAll 77 = .ok (.new 37, 3) := dk_187 0 37 (dk_at dksX1_doAll_3 5 rfl rfl)
theorem dX1_doAll_80 : decode cX1_doAll 80 = .ok (.dup, 1) := dk_89 (dk_at dksX1_doAll_3 8 rfl rfl)
theorem dX1_doAll_81 : decode cX1_doAll 81 = .ok (.bipush 9, 2) := dk_16 9 (dk_at dksX1_doAll_3 9 rfl rfl)
theorem dX1_doAll_83 : decode cX1_doAll 83 = .ok (.iload_n 3, 1) := dk_29 (dk_at dksX1_doAll_3 11 rfl rfl)
theorem dX1_doAll_84 : decode cX1_doAll 84 = .ok (.aload_n 0, 1) := dk_42 (dk_at dksX1_doAll_3 12 rfl rfl)
theorem dX1_doAll_85 : decode cX1_doAll 85 = .ok (.getfield 42, 3) := dk_180 0 42 (dk_at dksX1_doAll_3 13 rfl rfl)
theorem dX1_doAll_88 : decode cX1_doAll 88 = .ok (.invokespecial 39, 3) := dk_183 0 39 (dk_at dksX1_doAll_3 16 rfl rfl)
theorem dX1_doAll_91 : decode cX1_doAll 91 = .ok (.putfield 42, 3) := dk_181 0 42 (dk_at dksX1_doAll_3 19 rfl rfl)
theorem dX1_doAll_94 : decode cX1_doAll 94 = .ok (.aload 4, 2) := dk_25 4 (dk_at dksX1_doAll_3 22 rfl rfl)
theorem dX1_doAll_96 : decode cX1_doAll 96 = .ok (.athrow, 1) := dk_191 (dk_at dksX1_doAll_4 0 rfl rfl)
theorem dX1_doAll_97 : decode cX1_doAll 97 = .ok (.astore 6, 2) := dk_58 6 (dk_at dksX1_doAll_4 1 rfl rfl)
theorem dX1_doAll_99 : decode cX1_doAll 99 = .ok (.aload_n 0, 1) := dk_42 (dk_at dksX1_doAll_4 3 rfl rfl)
theorem dX1_doAll_100 : decode cX1_doAll 100 = .ok (.iconst 0, 1) := dk_3 (dk_at dksX1_doAll_4 4 rfl rfl)
theorem dX1_doAll_101 : decode cX1_doAll 101 = .ok (.putfield 73, 3) := dk_181 0 73 (dk_at dksX1_doAll_4 5 rfl rfl)
theorem dX1_doAll_104 : decode cX1_doAll 104 = .ok (.aload 6, 2) := dk_25 6 (dk_at dksX1_doAll_4 8 rfl rfl)
theorem dX1_doAll_106 : decode cX1_doAll 106 = .ok (.athrow, 1) := dk_191 (dk_at dksX1_doAll_4 10 rfl rfl)
theorem dX1_doAll_107 : decode cX1_doAll 107 = .ok (.aload_n 0, 1) := dk_42 (dk_at dksX1_doAll_4 11 rfl rfl)
theorem dX1_doAll_108 : decode cX1_doAll 108 = .ok (.getfield 10, 3) := dk_180 0 10 (dk_at dksX1_doAll_4 12 rfl rfl)
theorem dX1_doAll_111 : decode cX1_doAll 111 = .ok (.astore 4, 2) := dk_58 4 (dk_at dksX1_doAll_4 15 rfl rfl)
theorem dX1_doAll_113 : decode cX1_doAll 113 = .ok (.aload_n 0, 1) := dk_42 (dk_at dksX1_doAll_4 17 rfl rfl)
theorem dX1_doAll_114 : decode cX1_doAll 114 = .ok (.aload_n 2, 1) := dk_44 (dk_at dksX1_doAll_4 18 rfl rfl)
theorem dX1_doAll_115 : decode cX1_doAll 115 = .ok (.putfield 10, 3) := dk_181 0 10 (dk_at dksX1_doAll_4 19 rfl rfl)
theorem dX1_doAll_118 : decode cX1_doAll 118 = .ok (.aload_n 0, 1) := dk_42 (dk_at dksX1_doAll_4 22 rfl rfl)
theorem dX1_doAll_119 : decode cX1_doAll 119 = .ok (.invokevirtual 104, 3) := dk_182 0 104 (dk_at dksX1_doAll_5 0 rfl rfl)
theorem dX1_doAll_122 : decode cX1_doAll 122 = .ok (.aload_n 0, 1) := dk_42 (dk_at dksX1_doAll_5 3 rfl rfl)
theorem dX1_doAll_123 : decode cX1_doAll 123 = .ok (.aload 4, 2) := dk_25 4 (dk_at dksX1_doAll_5 4 rfl rfl)
theorem dX1_doAll_125 : decode cX1_doAll 125 = .ok (.putfield 10, 3) := dk_181 0 10 (dk_at dksX1_doAll_5 6 rfl rfl)
theorem dX1_doAll_128 : decode cX1_doAll 128 = .ok (.iload_n 3, 1) := dk_29 (dk_at dksX1_doAll_5 9 rfl rfl)
theorem dX1_doAll_129 : decode cX1_doAll 129 = .ok (.ireturn, 1) := dk_172 (dk_at dksX1_doAll_5 10 rfl rfl)
abbrev cX1_does : ByteArray := prog_1_method_53_code
def yX1_does : MethodName := ⟨RX1, "does", "(LCartBridge$Command;)I"⟩
def dkwX1_does_11 : List UInt8 := [167, 0, 22, 42, 43, 180, 1, 107, 182, 1, 125, 167, 0, 11, 42, 43, 180, 1, 107, 182, 1, 128, 172]
abbrev dktX1_does_11 : List UInt8 := dkwX1_does_11 ++ []
def dkwX1_does_10 : List UInt8 := [167, 0, 44, 42, 43, 180, 1, 107, 182, 1, 121, 167, 0, 33, 42, 43, 180, 1, 107, 182, 1, 123]
abbrev dktX1_does_10 : List UInt8 := dkwX1_does_10 ++ dktX1_does_11
def dkwX1_does_9 : List UInt8 := [167, 0, 66, 42, 43, 180, 1, 107, 182, 1, 117, 167, 0, 55, 42, 43, 180, 1, 107, 182, 1, 119]
abbrev dktX1_does_9 : List UInt8 := dkwX1_does_9 ++ dktX1_does_10
def dkwX1_does_8 : List UInt8 := [42, 43, 180, 1, 107, 43, 180, 1, 110, 182, 1, 113, 167, 0, 77, 42, 43, 180, 1, 107, 182, 1, 115]
abbrev dktX1_does_8 : List UInt8 := dkwX1_does_8 ++ dktX1_does_9
def dkwX1_does_7 : List UInt8 := [170, 0, 0, 0, 0, 0, 0, 125, 0, 0, 0, 0, 0, 0, 0, 6, 0, 0, 0, 44, 0, 0, 0, 59, 0, 0, 0, 70, 0, 0, 0, 81, 0, 0, 0, 92, 0, 0, 0, 103, 0, 0, 0, 114]
abbrev dktX1_does_7 : List UInt8 := dkwX1_does_7 ++ dktX1_does_8
def dkwX1_does_6 : List UInt8 := [182, 1, 97, 153, 0, 6, 16, 6, 62, 29]
abbrev dktX1_does_6 : List UInt8 := dkwX1_does_6 ++ dktX1_does_7
def dkwX1_does_5 : List UInt8 := [7, 62, 167, 0, 31, 44, 19, 1, 104, 182, 1, 97, 153, 0, 21, 8, 62, 167, 0, 16, 44, 19, 1, 106]
abbrev dktX1_does_5 : List UInt8 := dkwX1_does_5 ++ dktX1_does_6
def dkwX1_does_4 : List UInt8 := [19, 1, 102, 182, 1, 97, 153, 0, 51, 6, 62, 167, 0, 46, 44, 19, 1, 103, 182, 1, 97, 153, 0, 36]
abbrev dktX1_does_4 : List UInt8 := dkwX1_does_4 ++ dktX1_does_5
def dkwX1_does_3 : List UInt8 := [153, 0, 81, 4, 62, 167, 0, 76, 44, 19, 1, 101, 182, 1, 97, 153, 0, 66, 5, 62, 167, 0, 61, 44]
abbrev dktX1_does_3 : List UInt8 := dkwX1_does_3 ++ dktX1_does_4
def dkwX1_does_2 : List UInt8 := [44, 19, 1, 95, 182, 1, 97, 153, 0, 96, 3, 62, 167, 0, 91, 44, 19, 1, 100, 182, 1, 97]
abbrev dktX1_does_2 : List UInt8 := dkwX1_does_2 ++ dktX1_does_3
def dkwX1_does_1 : List UInt8 := [171, 0, 0, 0, 168, 0, 0, 0, 7, 0, 1, 161, 162, 0, 0, 0, 95, 0, 46, 123, 32, 0, 0, 0, 65, 0, 54, 81, 157, 0, 0, 0, 80, 0, 54, 128, 125, 0, 0, 0, 155, 6, 33, 78, 183, 0, 0, 0, 140, 6, 133, 79, 223, 0, 0, 0, 110, 6, 136, 242, 105, 0, 0, 0, 125]
abbrev dktX1_does_1 : List UInt8 := dkwX1_does_1 ++ dktX1_does_2
def dkwX1_does_0 : List UInt8 := [43, 180, 1, 84, 77, 2, 62, 44, 182, 1, 90]
abbrev dktX1_does_0 : List UInt8 := dkwX1_does_0 ++ dktX1_does_1
theorem dksX1_does_0 : cX1_does.data.toList.drop 0 = dktX1_does_0 := by decide +kernel
theorem dksX1_does_1 : cX1_does.data.toList.drop 11 = dktX1_does_1 := dk_seg dksX1_does_0 11 rfl rfl
theorem dksX1_does_2 : cX1_does.data.toList.drop 76 = dktX1_does_2 := dk_seg dksX1_does_1 65 rfl rfl
theorem dksX1_does_3 : cX1_does.data.toList.drop 98 = dktX1_does_3 := dk_seg dksX1_does_2 22 rfl rfl
theorem dksX1_does_4 : cX1_does.data.toList.drop 122 = dktX1_does_4 := dk_seg dksX1_does_3 24 rfl rfl
theorem dksX1_does_5 : cX1_does.data.toList.drop 146 = dktX1_does_5 := dk_seg dksX1_does_4 24 rfl rfl
theorem dksX1_does_6 : cX1_does.data.toList.drop 170 = dktX1_does_6 := dk_seg dksX1_does_5 24 rfl rfl
theorem dksX1_does_7 : cX1_does.data.toList.drop 180 = dktX1_does_7 := dk_seg dksX1_does_6 10 rfl rfl
theorem dksX1_does_8 : cX1_does.data.toList.drop 224 = dktX1_does_8 := dk_seg dksX1_does_7 44 rfl rfl
theorem dksX1_does_9 : cX1_does.data.toList.drop 247 = dktX1_does_9 := dk_seg dksX1_does_8 23 rfl rfl
theorem dksX1_does_10 : cX1_does.data.toList.drop 269 = dktX1_does_10 := dk_seg dksX1_does_9 22 rfl rfl
theorem dksX1_does_11 : cX1_does.data.toList.drop 291 = dktX1_does_11 := dk_seg dksX1_does_10 22 rfl rfl
theorem dX1_does_0 : decode cX1_does 0 = .ok (.aload_n 1, 1) := dk_43 (dk_at dksX1_does_0 0 rfl rfl)
theorem dX1_does_1 : decode cX1_does 1 = .ok (.getfield 340, 3) := dk_180 1 84 (dk_at dksX1_does_0 1 rfl rfl)
theorem dX1_does_4 : decode cX1_does 4 = .ok (.astore_n 2, 1) := dk_77 (dk_at dksX1_does_0 4 rfl rfl)
theorem dX1_does_5 : decode cX1_does 5 = .ok (.iconst (-1), 1) := dk_2 (dk_at dksX1_does_0 5 rfl rfl)
theorem dX1_does_6 : decode cX1_does 6 = .ok (.istore_n 3, 1) := dk_62 (dk_at dksX1_does_0 6 rfl rfl)
theorem dX1_does_7 : decode cX1_does 7 = .ok (.aload_n 2, 1) := dk_44 (dk_at dksX1_does_0 7 rfl rfl)
theorem dX1_does_8 : decode cX1_does 8 = .ok (.invokevirtual 346, 3) := dk_182 1 90 (dk_at dksX1_does_0 8 rfl rfl)
theorem dX1_does_11 : decode cX1_does 11 = .ok (.lookupswitch 168 #[(106914, 95), (3046176, 65), (3559837, 80), (3571837, 155), (102846135, 140), (109400031, 110), (109638249, 125)], 65) := by decide +kernel
theorem dX1_does_76 : decode cX1_does 76 = .ok (.aload_n 2, 1) := dk_44 (dk_at dksX1_does_2 0 rfl rfl)
theorem dX1_does_77 : decode cX1_does 77 = .ok (.ldc_w 351, 3) := dk_19 1 95 (dk_at dksX1_does_2 1 rfl rfl)
theorem dX1_does_80 : decode cX1_does 80 = .ok (.invokevirtual 353, 3) := dk_182 1 97 (dk_at dksX1_does_2 4 rfl rfl)
theorem dX1_does_83 : decode cX1_does 83 = .ok (.ifCond .eq 96, 3) := dk_153 0 96 (dk_at dksX1_does_2 7 rfl rfl)
theorem dX1_does_86 : decode cX1_does 86 = .ok (.iconst 0, 1) := dk_3 (dk_at dksX1_does_2 10 rfl rfl)
theorem dX1_does_87 : decode cX1_does 87 = .ok (.istore_n 3, 1) := dk_62 (dk_at dksX1_does_2 11 rfl rfl)
theorem dX1_does_88 : decode cX1_does 88 = .ok (.goto 91, 3) := dk_167 0 91 (dk_at dksX1_does_2 12 rfl rfl)
theorem dX1_does_91 : decode cX1_does 91 = .ok (.aload_n 2, 1) := dk_44 (dk_at dksX1_does_2 15 rfl rfl)
theorem dX1_does_92 : decode cX1_does 92 = .ok (.ldc_w 356, 3) := dk_19 1 100 (dk_at dksX1_does_2 16 rfl rfl)
theorem dX1_does_95 : decode cX1_does 95 = .ok (.invokevirtual 353, 3) := dk_182 1 97 (dk_at dksX1_does_2 19 rfl rfl)
theorem dX1_does_98 : decode cX1_does 98 = .ok (.ifCond .eq 81, 3) := dk_153 0 81 (dk_at dksX1_does_3 0 rfl rfl)
theorem dX1_does_101 : decode cX1_does 101 = .ok (.iconst 1, 1) := dk_4 (dk_at dksX1_does_3 3 rfl rfl)
theorem dX1_does_102 : decode cX1_does 102 = .ok (.istore_n 3, 1) := dk_62 (dk_at dksX1_does_3 4 rfl rfl)
theorem dX1_does_103 : decode cX1_does 103 = .ok (.goto 76, 3) := dk_167 0 76 (dk_at dksX1_does_3 5 rfl rfl)
theorem dX1_does_106 : decode cX1_does 106 = .ok (.aload_n 2, 1) := dk_44 (dk_at dksX1_does_3 8 rfl rfl)
theorem dX1_does_107 : decode cX1_does 107 = .ok (.ldc_w 357, 3) := dk_19 1 101 (dk_at dksX1_does_3 9 rfl rfl)
theorem dX1_does_110 : decode cX1_does 110 = .ok (.invokevirtual 353, 3) := dk_182 1 97 (dk_at dksX1_does_3 12 rfl rfl)
theorem dX1_does_113 : decode cX1_does 113 = .ok (.ifCond .eq 66, 3) := dk_153 0 66 (dk_at dksX1_does_3 15 rfl rfl)
theorem dX1_does_116 : decode cX1_does 116 = .ok (.iconst 2, 1) := dk_5 (dk_at dksX1_does_3 18 rfl rfl)
theorem dX1_does_117 : decode cX1_does 117 = .ok (.istore_n 3, 1) := dk_62 (dk_at dksX1_does_3 19 rfl rfl)
theorem dX1_does_118 : decode cX1_does 118 = .ok (.goto 61, 3) := dk_167 0 61 (dk_at dksX1_does_3 20 rfl rfl)
theorem dX1_does_121 : decode cX1_does 121 = .ok (.aload_n 2, 1) := dk_44 (dk_at dksX1_does_3 23 rfl rfl)
theorem dX1_does_122 : decode cX1_does 122 = .ok (.ldc_w 358, 3) := dk_19 1 102 (dk_at dksX1_does_4 0 rfl rfl)
theorem dX1_does_125 : decode cX1_does 125 = .ok (.invokevirtual 353, 3) := dk_182 1 97 (dk_at dksX1_does_4 3 rfl rfl)
theorem dX1_does_128 : decode cX1_does 128 = .ok (.ifCond .eq 51, 3) := dk_153 0 51 (dk_at dksX1_does_4 6 rfl rfl)
theorem dX1_does_131 : decode cX1_does 131 = .ok (.iconst 3, 1) := dk_6 (dk_at dksX1_does_4 9 rfl rfl)
theorem dX1_does_132 : decode cX1_does 132 = .ok (.istore_n 3, 1) := dk_62 (dk_at dksX1_does_4 10 rfl rfl)
theorem dX1_does_133 : decode cX1_does 133 = .ok (.goto 46, 3) := dk_167 0 46 (dk_at dksX1_does_4 11 rfl rfl)
theorem dX1_does_136 : decode cX1_does 136 = .ok (.aload_n 2, 1) := dk_44 (dk_at dksX1_does_4 14 rfl rfl)
theorem dX1_does_137 : decode cX1_does 137 = .ok (.ldc_w 359, 3) := dk_19 1 103 (dk_at dksX1_does_4 15 rfl rfl)
theorem dX1_does_140 : decode cX1_does 140 = .ok (.invokevirtual 353, 3) := dk_182 1 97 (dk_at dksX1_does_4 18 rfl rfl)
theorem dX1_does_143 : decode cX1_does 143 = .ok (.ifCond .eq 36, 3) := dk_153 0 36 (dk_at dksX1_does_4 21 rfl rfl)
theorem dX1_does_146 : decode cX1_does 146 = .ok (.iconst 4, 1) := dk_7 (dk_at dksX1_does_5 0 rfl rfl)
theorem dX1_does_147 : decode cX1_does 147 = .ok (.istore_n 3, 1) := dk_62 (dk_at dksX1_does_5 1 rfl rfl)
theorem dX1_does_148 : decode cX1_does 148 = .ok (.goto 31, 3) := dk_167 0 31 (dk_at dksX1_does_5 2 rfl rfl)
theorem dX1_does_151 : decode cX1_does 151 = .ok (.aload_n 2, 1) := dk_44 (dk_at dksX1_does_5 5 rfl rfl)
theorem dX1_does_152 : decode cX1_does 152 = .ok (.ldc_w 360, 3) := dk_19 1 104 (dk_at dksX1_does_5 6 rfl rfl)
theorem dX1_does_155 : decode cX1_does 155 = .ok (.invokevirtual 353, 3) := dk_182 1 97 (dk_at dksX1_does_5 9 rfl rfl)
theorem dX1_does_158 : decode cX1_does 158 = .ok (.ifCond .eq 21, 3) := dk_153 0 21 (dk_at dksX1_does_5 12 rfl rfl)
theorem dX1_does_161 : decode cX1_does 161 = .ok (.iconst 5, 1) := dk_8 (dk_at dksX1_does_5 15 rfl rfl)
theorem dX1_does_162 : decode cX1_does 162 = .ok (.istore_n 3, 1) := dk_62 (dk_at dksX1_does_5 16 rfl rfl)
theorem dX1_does_163 : decode cX1_does 163 = .ok (.goto 16, 3) := dk_167 0 16 (dk_at dksX1_does_5 17 rfl rfl)
theorem dX1_does_166 : decode cX1_does 166 = .ok (.aload_n 2, 1) := dk_44 (dk_at dksX1_does_5 20 rfl rfl)
theorem dX1_does_167 : decode cX1_does 167 = .ok (.ldc_w 362, 3) := dk_19 1 106 (dk_at dksX1_does_5 21 rfl rfl)
theorem dX1_does_170 : decode cX1_does 170 = .ok (.invokevirtual 353, 3) := dk_182 1 97 (dk_at dksX1_does_6 0 rfl rfl)
theorem dX1_does_173 : decode cX1_does 173 = .ok (.ifCond .eq 6, 3) := dk_153 0 6 (dk_at dksX1_does_6 3 rfl rfl)
theorem dX1_does_176 : decode cX1_does 176 = .ok (.bipush 6, 2) := dk_16 6 (dk_at dksX1_does_6 6 rfl rfl)
theorem dX1_does_178 : decode cX1_does 178 = .ok (.istore_n 3, 1) := dk_62 (dk_at dksX1_does_6 8 rfl rfl)
theorem dX1_does_179 : decode cX1_does 179 = .ok (.iload_n 3, 1) := dk_29 (dk_at dksX1_does_6 9 rfl rfl)
theorem dX1_does_180 : decode cX1_does 180 = .ok (.tableswitch 125 0 6 #[44, 59, 70, 81, 92, 103, 114], 44) := by decide +kernel
theorem dX1_does_224 : decode cX1_does 224 = .ok (.aload_n 0, 1) := dk_42 (dk_at dksX1_does_8 0 rfl rfl)
theorem dX1_does_225 : decode cX1_does 225 = .ok (.aload_n 1, 1) := dk_43 (dk_at dksX1_does_8 1 rfl rfl)
theorem dX1_does_226 : decode cX1_does 226 = .ok (.getfield 363, 3) := dk_180 1 107 (dk_at dksX1_does_8 2 rfl rfl)
theorem dX1_does_229 : decode cX1_does 229 = .ok (.aload_n 1, 1) := dk_43 (dk_at dksX1_does_8 5 rfl rfl)
theorem dX1_does_230 : decode cX1_does 230 = .ok (.getfield 366, 3) := dk_180 1 110 (dk_at dksX1_does_8 6 rfl rfl)
theorem dX1_does_233 : decode cX1_does 233 = .ok (.invokevirtual 369, 3) := dk_182 1 113 (dk_at dksX1_does_8 9 rfl rfl)
theorem dX1_does_236 : decode cX1_does 236 = .ok (.goto 77, 3) := dk_167 0 77 (dk_at dksX1_does_8 12 rfl rfl)
theorem dX1_does_239 : decode cX1_does 239 = .ok (.aload_n 0, 1) := dk_42 (dk_at dksX1_does_8 15 rfl rfl)
theorem dX1_does_240 : decode cX1_does 240 = .ok (.aload_n 1, 1) := dk_43 (dk_at dksX1_does_8 16 rfl rfl)
theorem dX1_does_241 : decode cX1_does 241 = .ok (.getfield 363, 3) := dk_180 1 107 (dk_at dksX1_does_8 17 rfl rfl)
theorem dX1_does_244 : decode cX1_does 244 = .ok (.invokevirtual 371, 3) := dk_182 1 115 (dk_at dksX1_does_8 20 rfl rfl)
theorem dX1_does_247 : decode cX1_does 247 = .ok (.goto 66, 3) := dk_167 0 66 (dk_at dksX1_does_9 0 rfl rfl)
theorem dX1_does_250 : decode cX1_does 250 = .ok (.aload_n 0, 1) := dk_42 (dk_at dksX1_does_9 3 rfl rfl)
theorem dX1_does_251 : decode cX1_does 251 = .ok (.aload_n 1, 1) := dk_43 (dk_at dksX1_does_9 4 rfl rfl)
theorem dX1_does_252 : decode cX1_does 252 = .ok (.getfield 363, 3) := dk_180 1 107 (dk_at dksX1_does_9 5 rfl rfl)
theorem dX1_does_255 : decode cX1_does 255 = .ok (.invokevirtual 373, 3) := dk_182 1 117 (dk_at dksX1_does_9 8 rfl rfl)
theorem dX1_does_258 : decode cX1_does 258 = .ok (.goto 55, 3) := dk_167 0 55 (dk_at dksX1_does_9 11 rfl rfl)
theorem dX1_does_261 : decode cX1_does 261 = .ok (.aload_n 0, 1) := dk_42 (dk_at dksX1_does_9 14 rfl rfl)
theorem dX1_does_262 : decode cX1_does 262 = .ok (.aload_n 1, 1) := dk_43 (dk_at dksX1_does_9 15 rfl rfl)
theorem dX1_does_263 : decode cX1_does 263 = .ok (.getfield 363, 3) := dk_180 1 107 (dk_at dksX1_does_9 16 rfl rfl)
theorem dX1_does_266 : decode cX1_does 266 = .ok (.invokevirtual 375, 3) := dk_182 1 119 (dk_at dksX1_does_9 19 rfl rfl)
theorem dX1_does_269 : decode cX1_does 269 = .ok (.goto 44, 3) := dk_167 0 44 (dk_at dksX1_does_10 0 rfl rfl)
theorem dX1_does_272 : decode cX1_does 272 = .ok (.aload_n 0, 1) := dk_42 (dk_at dksX1_does_10 3 rfl rfl)
theorem dX1_does_273 : decode cX1_does 273 = .ok (.aload_n 1, 1) := dk_43 (dk_at dksX1_does_10 4 rfl rfl)
theorem dX1_does_274 : decode cX1_does 274 = .ok (.getfield 363, 3) := dk_180 1 107 (dk_at dksX1_does_10 5 rfl rfl)
theorem dX1_does_277 : decode cX1_does 277 = .ok (.invokevirtual 377, 3) := dk_182 1 121 (dk_at dksX1_does_10 8 rfl rfl)
theorem dX1_does_280 : decode cX1_does 280 = .ok (.goto 33, 3) := dk_167 0 33 (dk_at dksX1_does_10 11 rfl rfl)
theorem dX1_does_283 : decode cX1_does 283 = .ok (.aload_n 0, 1) := dk_42 (dk_at dksX1_does_10 14 rfl rfl)
theorem dX1_does_284 : decode cX1_does 284 = .ok (.aload_n 1, 1) := dk_43 (dk_at dksX1_does_10 15 rfl rfl)
theorem dX1_does_285 : decode cX1_does 285 = .ok (.getfield 363, 3) := dk_180 1 107 (dk_at dksX1_does_10 16 rfl rfl)
theorem dX1_does_288 : decode cX1_does 288 = .ok (.invokevirtual 379, 3) := dk_182 1 123 (dk_at dksX1_does_10 19 rfl rfl)
theorem dX1_does_291 : decode cX1_does 291 = .ok (.goto 22, 3) := dk_167 0 22 (dk_at dksX1_does_11 0 rfl rfl)
theorem dX1_does_294 : decode cX1_does 294 = .ok (.aload_n 0, 1) := dk_42 (dk_at dksX1_does_11 3 rfl rfl)
theorem dX1_does_295 : decode cX1_does 295 = .ok (.aload_n 1, 1) := dk_43 (dk_at dksX1_does_11 4 rfl rfl)
theorem dX1_does_296 : decode cX1_does 296 = .ok (.getfield 363, 3) := dk_180 1 107 (dk_at dksX1_does_11 5 rfl rfl)
theorem dX1_does_299 : decode cX1_does 299 = .ok (.invokevirtual 381, 3) := dk_182 1 125 (dk_at dksX1_does_11 8 rfl rfl)
theorem dX1_does_302 : decode cX1_does 302 = .ok (.goto 11, 3) := dk_167 0 11 (dk_at dksX1_does_11 11 rfl rfl)
theorem dX1_does_305 : decode cX1_does 305 = .ok (.aload_n 0, 1) := dk_42 (dk_at dksX1_does_11 14 rfl rfl)
theorem dX1_does_306 : decode cX1_does 306 = .ok (.aload_n 1, 1) := dk_43 (dk_at dksX1_does_11 15 rfl rfl)
theorem dX1_does_307 : decode cX1_does 307 = .ok (.getfield 363, 3) := dk_180 1 107 (dk_at dksX1_does_11 16 rfl rfl)
theorem dX1_does_310 : decode cX1_does 310 = .ok (.invokevirtual 384, 3) := dk_182 1 128 (dk_at dksX1_does_11 19 rfl rfl)
theorem dX1_does_313 : decode cX1_does 313 = .ok (.ireturn, 1) := dk_172 (dk_at dksX1_does_11 22 rfl rfl)
abbrev cX1_reason : ByteArray := prog_1_method_58_code
def yX1_reason : MethodName := ⟨RX1, "reason", "(IZ)I"⟩
def dkwX1_reason_2 : List UInt8 := [199, 0, 7, 3, 167, 0, 18, 28, 153, 0, 10, 45, 180, 1, 167, 167, 0, 7, 45, 180, 1, 170, 172]
abbrev dktX1_reason_2 : List UInt8 := dkwX1_reason_2 ++ []
def dkwX1_reason_1 : List UInt8 := [167, 0, 10, 42, 180, 0, 42, 180, 1, 164, 78, 45, 198, 0, 7, 4, 167, 0, 4, 3, 184, 0, 238, 45]
abbrev dktX1_reason_1 : List UInt8 := dkwX1_reason_1 ++ dktX1_reason_2
def dkwX1_reason_0 : List UInt8 := [27, 3, 4, 184, 0, 49, 184, 0, 214, 42, 180, 0, 42, 198, 0, 7, 27, 154, 0, 10, 42, 180, 0, 42]
abbrev dktX1_reason_0 : List UInt8 := dkwX1_reason_0 ++ dktX1_reason_1
theorem dksX1_reason_0 : cX1_reason.data.toList.drop 0 = dktX1_reason_0 := by decide +kernel
theorem dksX1_reason_1 : cX1_reason.data.toList.drop 24 = dktX1_reason_1 := dk_seg dksX1_reason_0 24 rfl rfl
theorem dksX1_reason_2 : cX1_reason.data.toList.drop 48 = dktX1_reason_2 := dk_seg dksX1_reason_1 24 rfl rfl
theorem dX1_reason_0 : decode cX1_reason 0 = .ok (.iload_n 1, 1) := dk_27 (dk_at dksX1_reason_0 0 rfl rfl)
theorem dX1_reason_1 : decode cX1_reason 1 = .ok (.iconst 0, 1) := dk_3 (dk_at dksX1_reason_0 1 rfl rfl)
theorem dX1_reason_2 : decode cX1_reason 2 = .ok (.iconst 1, 1) := dk_4 (dk_at dksX1_reason_0 2 rfl rfl)
theorem dX1_reason_3 : decode cX1_reason 3 = .ok (.invokestatic 49, 3) := dk_184 0 49 (dk_at dksX1_reason_0 3 rfl rfl)
theorem dX1_reason_6 : decode cX1_reason 6 = .ok (.invokestatic 214, 3) := dk_184 0 214 (dk_at dksX1_reason_0 6 rfl rfl)
theorem dX1_reason_9 : decode cX1_reason 9 = .ok (.aload_n 0, 1) := dk_42 (dk_at dksX1_reason_0 9 rfl rfl)
theorem dX1_reason_10 : decode cX1_reason 10 = .ok (.getfield 42, 3) := dk_180 0 42 (dk_at dksX1_reason_0 10 rfl rfl)
theorem dX1_reason_13 : decode cX1_reason 13 = .ok (.ifnull 7, 3) := dk_198 0 7 (dk_at dksX1_reason_0 13 rfl rfl)
theorem dX1_reason_16 : decode cX1_reason 16 = .ok (.iload_n 1, 1) := dk_27 (dk_at dksX1_reason_0 16 rfl rfl)
theorem dX1_reason_17 : decode cX1_reason 17 = .ok (.ifCond .ne 10, 3) := dk_154 0 10 (dk_at dksX1_reason_0 17 rfl rfl)
theorem dX1_reason_20 : decode cX1_reason 20 = .ok (.aload_n 0, 1) := dk_42 (dk_at dksX1_reason_0 20 rfl rfl)
theorem dX1_reason_21 : decode cX1_reason 21 = .ok (.getfield 42, 3) := dk_180 0 42 (dk_at dksX1_reason_0 21 rfl rfl)
theorem dX1_reason_24 : decode cX1_reason 24 = .ok (.goto 10, 3) := dk_167 0 10 (dk_at dksX1_reason_1 0 rfl rfl)
theorem dX1_reason_27 : decode cX1_reason 27 = .ok (.aload_n 0, 1) := dk_42 (dk_at dksX1_reason_1 3 rfl rfl)
theorem dX1_reason_28 : decode cX1_reason 28 = .ok (.getfield 42, 3) := dk_180 0 42 (dk_at dksX1_reason_1 4 rfl rfl)
theorem dX1_reason_31 : decode cX1_reason 31 = .ok (.getfield 420, 3) := dk_180 1 164 (dk_at dksX1_reason_1 7 rfl rfl)
theorem dX1_reason_34 : decode cX1_reason 34 = .ok (.astore_n 3, 1) := dk_78 (dk_at dksX1_reason_1 10 rfl rfl)
theorem dX1_reason_35 : decode cX1_reason 35 = .ok (.aload_n 3, 1) := dk_45 (dk_at dksX1_reason_1 11 rfl rfl)
theorem dX1_reason_36 : decode cX1_reason 36 = .ok (.ifnull 7, 3) := dk_198 0 7 (dk_at dksX1_reason_1 12 rfl rfl)
theorem dX1_reason_39 : decode cX1_reason 39 = .ok (.iconst 1, 1) := dk_4 (dk_at dksX1_reason_1 15 rfl rfl)
theorem dX1_reason_40 : decode cX1_reason 40 = .ok (.goto 4, 3) := dk_167 0 4 (dk_at dksX1_reason_1 16 rfl rfl)
theorem dX1_reason_43 : decode cX1_reason 43 = .ok (.iconst 0, 1) := dk_3 (dk_at dksX1_reason_1 19 rfl rfl)
theorem dX1_reason_44 : decode cX1_reason 44 = .ok (.invokestatic 238, 3) := dk_184 0 238 (dk_at dksX1_reason_1 20 rfl rfl)
theorem dX1_reason_47 : decode cX1_reason 47 = .ok (.aload_n 3, 1) := dk_45 (dk_at dksX1_reason_1 23 rfl rfl)
theorem dX1_reason_48 : decode cX1_reason 48 = .ok (.ifnonnull 7, 3) := dk_199 0 7 (dk_at dksX1_reason_2 0 rfl rfl)
theorem dX1_reason_51 : decode cX1_reason 51 = .ok (.iconst 0, 1) := dk_3 (dk_at dksX1_reason_2 3 rfl rfl)
theorem dX1_reason_52 : decode cX1_reason 52 = .ok (.goto 18, 3) := dk_167 0 18 (dk_at dksX1_reason_2 4 rfl rfl)
theorem dX1_reason_55 : decode cX1_reason 55 = .ok (.iload_n 2, 1) := dk_28 (dk_at dksX1_reason_2 7 rfl rfl)
theorem dX1_reason_56 : decode cX1_reason 56 = .ok (.ifCond .eq 10, 3) := dk_153 0 10 (dk_at dksX1_reason_2 8 rfl rfl)
theorem dX1_reason_59 : decode cX1_reason 59 = .ok (.aload_n 3, 1) := dk_45 (dk_at dksX1_reason_2 11 rfl rfl)
theorem dX1_reason_60 : decode cX1_reason 60 = .ok (.getfield 423, 3) := dk_180 1 167 (dk_at dksX1_reason_2 12 rfl rfl)
theorem dX1_reason_63 : decode cX1_reason 63 = .ok (.goto 7, 3) := dk_167 0 7 (dk_at dksX1_reason_2 15 rfl rfl)
theorem dX1_reason_66 : decode cX1_reason 66 = .ok (.aload_n 3, 1) := dk_45 (dk_at dksX1_reason_2 18 rfl rfl)
theorem dX1_reason_67 : decode cX1_reason 67 = .ok (.getfield 426, 3) := dk_180 1 170 (dk_at dksX1_reason_2 19 rfl rfl)
theorem dX1_reason_70 : decode cX1_reason 70 = .ok (.ireturn, 1) := dk_172 (dk_at dksX1_reason_2 22 rfl rfl)
abbrev cX1_tellCart : ByteArray := prog_1_method_63_code
def yX1_tellCart : MethodName := ⟨RX1, "tellCart", "(I)I"⟩
def dkwX1_tellCart_2 : List UInt8 := [182, 1, 186, 16, 32, 182, 1, 138, 44, 182, 1, 212, 182, 1, 178, 87, 42, 180, 0, 30, 182, 1, 135, 172]
abbrev dktX1_tellCart_2 : List UInt8 := dkwX1_tellCart_2 ++ []
def dkwX1_tellCart_1 : List UInt8 := [182, 1, 186, 16, 58, 182, 1, 138, 44, 180, 0, 170, 184, 1, 209, 182, 1, 178, 44, 180, 0, 217]
abbrev dktX1_tellCart_1 : List UInt8 := dkwX1_tellCart_1 ++ dktX1_tellCart_2
def dkwX1_tellCart_0 : List UInt8 := [42, 27, 182, 0, 208, 77, 42, 180, 0, 30, 3, 182, 1, 151, 42, 180, 0, 30, 44, 180, 0, 191]
abbrev dktX1_tellCart_0 : List UInt8 := dkwX1_tellCart_0 ++ dktX1_tellCart_1
theorem dksX1_tellCart_0 : cX1_tellCart.data.toList.drop 0 = dktX1_tellCart_0 := by decide +kernel
theorem dksX1_tellCart_1 : cX1_tellCart.data.toList.drop 22 = dktX1_tellCart_1 := dk_seg dksX1_tellCart_0 22 rfl rfl
theorem dksX1_tellCart_2 : cX1_tellCart.data.toList.drop 44 = dktX1_tellCart_2 := dk_seg dksX1_tellCart_1 22 rfl rfl
theorem dX1_tellCart_0 : decode cX1_tellCart 0 = .ok (.aload_n 0, 1) := dk_42 (dk_at dksX1_tellCart_0 0 rfl rfl)
theorem dX1_tellCart_1 : decode cX1_tellCart 1 = .ok (.iload_n 1, 1) := dk_27 (dk_at dksX1_tellCart_0 1 rfl rfl)
theorem dX1_tellCart_2 : decode cX1_tellCart 2 = .ok (.invokevirtual 208, 3) := dk_182 0 208 (dk_at dksX1_tellCart_0 2 rfl rfl)
theorem dX1_tellCart_5 : decode cX1_tellCart 5 = .ok (.astore_n 2, 1) := dk_77 (dk_at dksX1_tellCart_0 5 rfl rfl)
theorem dX1_tellCart_6 : decode cX1_tellCart 6 = .ok (.aload_n 0, 1) := dk_42 (dk_at dksX1_tellCart_0 6 rfl rfl)
theorem dX1_tellCart_7 : decode cX1_tellCart 7 = .ok (.getfield 30, 3) := dk_180 0 30 (dk_at dksX1_tellCart_0 7 rfl rfl)
theorem dX1_tellCart_10 : decode cX1_tellCart 10 = .ok (.iconst 0, 1) := dk_3 (dk_at dksX1_tellCart_0 10 rfl rfl)
theorem dX1_tellCart_11 : decode cX1_tellCart 11 = .ok (.invokevirtual 407, 3) := dk_182 1 151 (dk_at dksX1_tellCart_0 11 rfl rfl)
theorem dX1_tellCart_14 : decode cX1_tellCart 14 = .ok (.aload_n 0, 1) := dk_42 (dk_at dksX1_tellCart_0 14 rfl rfl)
theorem dX1_tellCart_15 : decode cX1_tellCart 15 = .ok (.getfield 30, 3) := dk_180 0 30 (dk_at dksX1_tellCart_0 15 rfl rfl)
theorem dX1_tellCart_18 : decode cX1_tellCart 18 = .ok (.aload_n 2, 1) := dk_44 (dk_at dksX1_tellCart_0 18 rfl rfl)
theorem dX1_tellCart_19 : decode cX1_tellCart 19 = .ok (.getfield 191, 3) := dk_180 0 191 (dk_at dksX1_tellCart_0 19 rfl rfl)
theorem dX1_tellCart_22 : decode cX1_tellCart 22 = .ok (.invokevirtual 442, 3) := dk_182 1 186 (dk_at dksX1_tellCart_1 0 rfl rfl)
theorem dX1_tellCart_25 : decode cX1_tellCart 25 = .ok (.bipush 58, 2) := dk_16 58 (dk_at dksX1_tellCart_1 3 rfl rfl)
theorem dX1_tellCart_27 : decode cX1_tellCart 27 = .ok (.invokevirtual 394, 3) := dk_182 1 138 (dk_at dksX1_tellCart_1 5 rfl rfl)
theorem dX1_tellCart_30 : decode cX1_tellCart 30 = .ok (.aload_n 2, 1) := dk_44 (dk_at dksX1_tellCart_1 8 rfl rfl)
theorem dX1_tellCart_31 : decode cX1_tellCart 31 = .ok (.getfield 170, 3) := dk_180 0 170 (dk_at dksX1_tellCart_1 9 rfl rfl)
theorem dX1_tellCart_34 : decode cX1_tellCart 34 = .ok (.invokestatic 465, 3) := dk_184 1 209 (dk_at dksX1_tellCart_1 12 rfl rfl)
theorem dX1_tellCart_37 : decode cX1_tellCart 37 = .ok (.invokevirtual 434, 3) := dk_182 1 178 (dk_at dksX1_tellCart_1 15 rfl rfl)
theorem dX1_tellCart_40 : decode cX1_tellCart 40 = .ok (.aload_n 2, 1) := dk_44 (dk_at dksX1_tellCart_1 18 rfl rfl)
theorem dX1_tellCart_41 : decode cX1_tellCart 41 = .ok (.getfield 217, 3) := dk_180 0 217 (dk_at dksX1_tellCart_1 19 rfl rfl)
theorem dX1_tellCart_44 : decode cX1_tellCart 44 = .ok (.invokevirtual 442, 3) := dk_182 1 186 (dk_at dksX1_tellCart_2 0 rfl rfl)
theorem dX1_tellCart_47 : decode cX1_tellCart 47 = .ok (.bipush 32, 2) := dk_16 32 (dk_at dksX1_tellCart_2 3 rfl rfl)
theorem dX1_tellCart_49 : decode cX1_tellCart 49 = .ok (.invokevirtual 394, 3) := dk_182 1 138 (dk_at dksX1_tellCart_2 5 rfl rfl)
theorem dX1_tellCart_52 : decode cX1_tellCart 52 = .ok (.aload_n 2, 1) := dk_44 (dk_at dksX1_tellCart_2 8 rfl rfl)
theorem dX1_tellCart_53 : decode cX1_tellCart 53 = .ok (.invokevirtual 468, 3) := dk_182 1 212 (dk_at dksX1_tellCart_2 9 rfl rfl)
theorem dX1_tellCart_56 : decode cX1_tellCart 56 = .ok (.invokevirtual 434, 3) := dk_182 1 178 (dk_at dksX1_tellCart_2 12 rfl rfl)
theorem dX1_tellCart_59 : decode cX1_tellCart 59 = .ok (.pop, 1) := dk_87 (dk_at dksX1_tellCart_2 15 rfl rfl)
theorem dX1_tellCart_60 : decode cX1_tellCart 60 = .ok (.aload_n 0, 1) := dk_42 (dk_at dksX1_tellCart_2 16 rfl rfl)
theorem dX1_tellCart_61 : decode cX1_tellCart 61 = .ok (.getfield 30, 3) := dk_180 0 30 (dk_at dksX1_tellCart_2 17 rfl rfl)
theorem dX1_tellCart_64 : decode cX1_tellCart 64 = .ok (.invokevirtual 391, 3) := dk_182 1 135 (dk_at dksX1_tellCart_2 20 rfl rfl)
theorem dX1_tellCart_67 : decode cX1_tellCart 67 = .ok (.ireturn, 1) := dk_172 (dk_at dksX1_tellCart_2 23 rfl rfl)
abbrev cX1_character : ByteArray := prog_1_method_64_code
def yX1_character : MethodName := ⟨RX1, "character", "(I)C"⟩
def dkwX1_character_1 : List UInt8 := [182, 1, 214, 172]
abbrev dktX1_character_1 : List UInt8 := dkwX1_character_1 ++ []
def dkwX1_character_0 : List UInt8 := [27, 3, 42, 180, 0, 30, 182, 1, 135, 4, 100, 184, 0, 49, 184, 0, 204, 42, 180, 0, 30, 27]
abbrev dktX1_character_0 : List UInt8 := dkwX1_character_0 ++ dktX1_character_1
theorem dksX1_character_0 : cX1_character.data.toList.drop 0 = dktX1_character_0 := by decide +kernel
theorem dksX1_character_1 : cX1_character.data.toList.drop 22 = dktX1_character_1 := dk_seg dksX1_character_0 22 rfl rfl
theorem dX1_character_0 : decode cX1_character 0 = .ok (.iload_n 1, 1) := dk_27 (dk_at dksX1_character_0 0 rfl rfl)
theorem dX1_character_1 : decode cX1_character 1 = .ok (.iconst 0, 1) := dk_3 (dk_at dksX1_character_0 1 rfl rfl)
theorem dX1_character_2 : decode cX1_character 2 = .ok (.aload_n 0, 1) := dk_42 (dk_at dksX1_character_0 2 rfl rfl)
theorem dX1_character_3 : decode cX1_character 3 = .ok (.getfield 30, 3) := dk_180 0 30 (dk_at dksX1_character_0 3 rfl rfl)
theorem dX1_character_6 : decode cX1_character 6 = .ok (.invokevirtual 391, 3) := dk_182 1 135 (dk_at dksX1_character_0 6 rfl rfl)
theorem dX1_character_9 : decode cX1_character 9 = .ok (.iconst 1, 1) := dk_4 (dk_at dksX1_character_0 9 rfl rfl)
theorem dX1_character_10 : decode cX1_character 10 = .ok (.isub, 1) := dk_100 (dk_at dksX1_character_0 10 rfl rfl)
theorem dX1_character_11 : decode cX1_character 11 = .ok (.invokestatic 49, 3) := dk_184 0 49 (dk_at dksX1_character_0 11 rfl rfl)
theorem dX1_character_14 : decode cX1_character 14 = .ok (.invokestatic 204, 3) := dk_184 0 204 (dk_at dksX1_character_0 14 rfl rfl)
theorem dX1_character_17 : decode cX1_character 17 = .ok (.aload_n 0, 1) := dk_42 (dk_at dksX1_character_0 17 rfl rfl)
theorem dX1_character_18 : decode cX1_character 18 = .ok (.getfield 30, 3) := dk_180 0 30 (dk_at dksX1_character_0 18 rfl rfl)
theorem dX1_character_21 : decode cX1_character 21 = .ok (.iload_n 1, 1) := dk_27 (dk_at dksX1_character_0 21 rfl rfl)
theorem dX1_character_22 : decode cX1_character 22 = .ok (.invokevirtual 470, 3) := dk_182 1 214 (dk_at dksX1_character_1 0 rfl rfl)
theorem dX1_character_25 : decode cX1_character 25 = .ok (.ireturn, 1) := dk_172 (dk_at dksX1_character_1 3 rfl rfl)
abbrev cX1_account : ByteArray := prog_1_method_66_code
def yX1_account : MethodName := ⟨RX1, "account", "(I)I"⟩
def dkwX1_account_8 : List UInt8 := [180, 0, 19, 182, 0, 85, 172]
abbrev dktX1_account_8 : List UInt8 := dkwX1_account_8 ++ []
def dkwX1_account_7 : List UInt8 := [167, 0, 30, 42, 180, 0, 10, 180, 1, 222, 167, 0, 20, 42, 180, 0, 26, 182, 1, 135, 167, 0, 10, 42]
abbrev dktX1_account_7 : List UInt8 := dkwX1_account_7 ++ dktX1_account_8
def dkwX1_account_6 : List UInt8 := [180, 0, 139, 167, 0, 50, 42, 180, 0, 10, 180, 0, 145, 167, 0, 40, 42, 180, 0, 10, 180, 1, 221]
abbrev dktX1_account_6 : List UInt8 := dkwX1_account_6 ++ dktX1_account_7
def dkwX1_account_5 : List UInt8 := [42, 180, 0, 10, 180, 0, 109, 167, 0, 70, 42, 180, 0, 10, 180, 0, 132, 167, 0, 60, 42, 180, 0, 10]
abbrev dktX1_account_5 : List UInt8 := dkwX1_account_5 ++ dktX1_account_6
def dkwX1_account_4 : List UInt8 := [167, 0, 101, 42, 180, 0, 10, 180, 1, 42, 182, 0, 101, 167, 0, 88, 42, 6, 182, 1, 218, 167, 0, 80]
abbrev dktX1_account_4 : List UInt8 := dkwX1_account_4 ++ dktX1_account_5
def dkwX1_account_3 : List UInt8 := [167, 0, 124, 42, 180, 0, 10, 180, 1, 71, 182, 0, 101, 167, 0, 111, 42, 180, 0, 10, 182, 0, 142]
abbrev dktX1_account_3 : List UInt8 := dkwX1_account_3 ++ dktX1_account_4
def dkwX1_account_2 : List UInt8 := [42, 180, 0, 10, 180, 0, 97, 182, 0, 101, 167, 0, 137, 42, 180, 0, 10, 180, 1, 64, 182, 0, 101]
abbrev dktX1_account_2 : List UInt8 := dkwX1_account_2 ++ dktX1_account_3
def dkwX1_account_1 : List UInt8 := [170, 0, 0, 0, 205, 0, 0, 0, 0, 0, 0, 0, 12, 0, 0, 0, 65, 0, 0, 0, 78, 0, 0, 0, 91, 0, 0, 0, 104, 0, 0, 0, 114, 0, 0, 0, 127, 0, 0, 0, 135, 0, 0, 0, 145, 0, 0, 0, 155, 0, 0, 0, 165, 0, 0, 0, 175, 0, 0, 0, 185, 0, 0, 0, 195]
abbrev dktX1_account_1 : List UInt8 := dkwX1_account_1 ++ dktX1_account_2
def dkwX1_account_0 : List UInt8 := [27, 3, 16, 13, 184, 0, 49, 184, 0, 214, 27]
abbrev dktX1_account_0 : List UInt8 := dkwX1_account_0 ++ dktX1_account_1
theorem dksX1_account_0 : cX1_account.data.toList.drop 0 = dktX1_account_0 := by decide +kernel
theorem dksX1_account_1 : cX1_account.data.toList.drop 11 = dktX1_account_1 := dk_seg dksX1_account_0 11 rfl rfl
theorem dksX1_account_2 : cX1_account.data.toList.drop 76 = dktX1_account_2 := dk_seg dksX1_account_1 65 rfl rfl
theorem dksX1_account_3 : cX1_account.data.toList.drop 99 = dktX1_account_3 := dk_seg dksX1_account_2 23 rfl rfl
theorem dksX1_account_4 : cX1_account.data.toList.drop 122 = dktX1_account_4 := dk_seg dksX1_account_3 23 rfl rfl
theorem dksX1_account_5 : cX1_account.data.toList.drop 146 = dktX1_account_5 := dk_seg dksX1_account_4 24 rfl rfl
theorem dksX1_account_6 : cX1_account.data.toList.drop 170 = dktX1_account_6 := dk_seg dksX1_account_5 24 rfl rfl
theorem dksX1_account_7 : cX1_account.data.toList.drop 193 = dktX1_account_7 := dk_seg dksX1_account_6 23 rfl rfl
theorem dksX1_account_8 : cX1_account.data.toList.drop 217 = dktX1_account_8 := dk_seg dksX1_account_7 24 rfl rfl
theorem dX1_account_0 : decode cX1_account 0 = .ok (.iload_n 1, 1) := dk_27 (dk_at dksX1_account_0 0 rfl rfl)
theorem dX1_account_1 : decode cX1_account 1 = .ok (.iconst 0, 1) := dk_3 (dk_at dksX1_account_0 1 rfl rfl)
theorem dX1_account_2 : decode cX1_account 2 = .ok (.bipush 13, 2) := dk_16 13 (dk_at dksX1_account_0 2 rfl rfl)
theorem dX1_account_4 : decode cX1_account 4 = .ok (.invokestatic 49, 3) := dk_184 0 49 (dk_at dksX1_account_0 4 rfl rfl)
theorem dX1_account_7 : decode cX1_account 7 = .ok (.invokestatic 214, 3) := dk_184 0 214 (dk_at dksX1_account_0 7 rfl rfl)
theorem dX1_account_10 : decode cX1_account 10 = .ok (.iload_n 1, 1) := dk_27 (dk_at dksX1_account_0 10 rfl rfl)
theorem dX1_account_11 : decode cX1_account 11 = .ok (.tableswitch 205 0 12 #[65, 78, 91, 104, 114, 127, 135, 145, 155, 165, 175, 185, 195], 65) := by decide +kernel
theorem dX1_account_76 : decode cX1_account 76 = .ok (.aload_n 0, 1) := dk_42 (dk_at dksX1_account_2 0 rfl rfl)
theorem dX1_account_77 : decode cX1_account 77 = .ok (.getfield 10, 3) := dk_180 0 10 (dk_at dksX1_account_2 1 rfl rfl)
theorem dX1_account_80 : decode cX1_account 80 = .ok (.getfield 97, 3) := dk_180 0 97 (dk_at dksX1_account_2 4 rfl rfl)
theorem dX1_account_83 : decode cX1_account 83 = .ok (.invokevirtual 101, 3) := dk_182 0 101 (dk_at dksX1_account_2 7 rfl rfl)
theorem dX1_account_86 : decode cX1_account 86 = .ok (.goto 137, 3) := dk_167 0 137 (dk_at dksX1_account_2 10 rfl rfl)
theorem dX1_account_89 : decode cX1_account 89 = .ok (.aload_n 0, 1) := dk_42 (dk_at dksX1_account_2 13 rfl rfl)
theorem dX1_account_90 : decode cX1_account 90 = .ok (.getfield 10, 3) := dk_180 0 10 (dk_at dksX1_account_2 14 rfl rfl)
theorem dX1_account_93 : decode cX1_account 93 = .ok (.getfield 320, 3) := dk_180 1 64 (dk_at dksX1_account_2 17 rfl rfl)
theorem dX1_account_96 : decode cX1_account 96 = .ok (.invokevirtual 101, 3) := dk_182 0 101 (dk_at dksX1_account_2 20 rfl rfl)
theorem dX1_account_99 : decode cX1_account 99 = .ok (.goto 124, 3) := dk_167 0 124 (dk_at dksX1_account_3 0 rfl rfl)
theorem dX1_account_102 : decode cX1_account 102 = .ok (.aload_n 0, 1) := dk_42 (dk_at dksX1_account_3 3 rfl rfl)
theorem dX1_account_103 : decode cX1_account 103 = .ok (.getfield 10, 3) := dk_180 0 10 (dk_at dksX1_account_3 4 rfl rfl)
theorem dX1_account_106 : decode cX1_account 106 = .ok (.getfield 327, 3) := dk_180 1 71 (dk_at dksX1_account_3 7 rfl rfl)
theorem dX1_account_109 : decode cX1_account 109 = .ok (.invokevirtual 101, 3) := dk_182 0 101 (dk_at dksX1_account_3 10 rfl rfl)
theorem dX1_account_112 : decode cX1_account 112 = .ok (.goto 111, 3) := dk_167 0 111 (dk_at dksX1_account_3 13 rfl rfl)
theorem dX1_account_115 : decode cX1_account 115 = .ok (.aload_n 0, 1) := dk_42 (dk_at dksX1_account_3 16 rfl rfl)
theorem dX1_account_116 : decode cX1_account 116 = .ok (.getfield 10, 3) := dk_180 0 10 (dk_at dksX1_account_3 17 rfl rfl)
theorem dX1_account_119 : decode cX1_account 119 = .ok (.invokevirtual 142, 3) := dk_182 0 142 (dk_at dksX1_account_3 20 rfl rfl)
theorem dX1_account_122 : decode cX1_account 122 = .ok (.goto 101, 3) := dk_167 0 101 (dk_at dksX1_account_4 0 rfl rfl)
theorem dX1_account_125 : decode cX1_account 125 = .ok (.aload_n 0, 1) := dk_42 (dk_at dksX1_account_4 3 rfl rfl)
theorem dX1_account_126 : decode cX1_account 126 = .ok (.getfield 10, 3) := dk_180 0 10 (dk_at dksX1_account_4 4 rfl rfl)
theorem dX1_account_129 : decode cX1_account 129 = .ok (.getfield 298, 3) := dk_180 1 42 (dk_at dksX1_account_4 7 rfl rfl)
theorem dX1_account_132 : decode cX1_account 132 = .ok (.invokevirtual 101, 3) := dk_182 0 101 (dk_at dksX1_account_4 10 rfl rfl)
theorem dX1_account_135 : decode cX1_account 135 = .ok (.goto 88, 3) := dk_167 0 88 (dk_at dksX1_account_4 13 rfl rfl)
theorem dX1_account_138 : decode cX1_account 138 = .ok (.aload_n 0, 1) := dk_42 (dk_at dksX1_account_4 16 rfl rfl)
theorem dX1_account_139 : decode cX1_account 139 = .ok (.iconst 3, 1) := dk_6 (dk_at dksX1_account_4 17 rfl rfl)
theorem dX1_account_140 : decode cX1_account 140 = .ok (.invokevirtual 474, 3) := dk_182 1 218 (dk_at dksX1_account_4 18 rfl rfl)
theorem dX1_account_143 : decode cX1_account 143 = .ok (.goto 80, 3) := dk_167 0 80 (dk_at dksX1_account_4 21 rfl rfl)
theorem dX1_account_146 : decode cX1_account 146 = .ok (.aload_n 0, 1) := dk_42 (dk_at dksX1_account_5 0 rfl rfl)
theorem dX1_account_147 : decode cX1_account 147 = .ok (.getfield 10, 3) := dk_180 0 10 (dk_at dksX1_account_5 1 rfl rfl)
theorem dX1_account_150 : decode cX1_account 150 = .ok (.getfield 109, 3) := dk_180 0 109 (dk_at dksX1_account_5 4 rfl rfl)
theorem dX1_account_153 : decode cX1_account 153 = .ok (.goto 70, 3) := dk_167 0 70 (dk_at dksX1_account_5 7 rfl rfl)
theorem dX1_account_156 : decode cX1_account 156 = .ok (.aload_n 0, 1) := dk_42 (dk_at dksX1_account_5 10 rfl rfl)
theorem dX1_account_157 : decode cX1_account 157 = .ok (.getfield 10, 3) := dk_180 0 10 (dk_at dksX1_account_5 11 rfl rfl)
theorem dX1_account_160 : decode cX1_account 160 = .ok (.getfield 132, 3) := dk_180 0 132 (dk_at dksX1_account_5 14 rfl rfl)
theorem dX1_account_163 : decode cX1_account 163 = .ok (.goto 60, 3) := dk_167 0 60 (dk_at dksX1_account_5 17 rfl rfl)
theorem dX1_account_166 : decode cX1_account 166 = .ok (.aload_n 0, 1) := dk_42 (dk_at dksX1_account_5 20 rfl rfl)
theorem dX1_account_167 : decode cX1_account 167 = .ok (.getfield 10, 3) := dk_180 0 10 (dk_at dksX1_account_5 21 rfl rfl)
theorem dX1_account_170 : decode cX1_account 170 = .ok (.getfield 139, 3) := dk_180 0 139 (dk_at dksX1_account_6 0 rfl rfl)
theorem dX1_account_173 : decode cX1_account 173 = .ok (.goto 50, 3) := dk_167 0 50 (dk_at dksX1_account_6 3 rfl rfl)
theorem dX1_account_176 : decode cX1_account 176 = .ok (.aload_n 0, 1) := dk_42 (dk_at dksX1_account_6 6 rfl rfl)
theorem dX1_account_177 : decode cX1_account 177 = .ok (.getfield 10, 3) := dk_180 0 10 (dk_at dksX1_account_6 7 rfl rfl)
theorem dX1_account_180 : decode cX1_account 180 = .ok (.getfield 145, 3) := dk_180 0 145 (dk_at dksX1_account_6 10 rfl rfl)
theorem dX1_account_183 : decode cX1_account 183 = .ok (.goto 40, 3) := dk_167 0 40 (dk_at dksX1_account_6 13 rfl rfl)
theorem dX1_account_186 : decode cX1_account 186 = .ok (.aload_n 0, 1) := dk_42 (dk_at dksX1_account_6 16 rfl rfl)
theorem dX1_account_187 : decode cX1_account 187 = .ok (.getfield 10, 3) := dk_180 0 10 (dk_at dksX1_account_6 17 rfl rfl)
theorem dX1_account_190 : decode cX1_account 190 = .ok (.getfield 477, 3) := dk_180 1 221 (dk_at dksX1_account_6 20 rfl rfl)
theorem dX1_account_193 : decode cX1_account 193 = .ok (.goto 30, 3) := dk_167 0 30 (dk_at dksX1_account_7 0 rfl rfl)
theorem dX1_account_196 : decode cX1_account 196 = .ok (.aload_n 0, 1) := dk_42 (dk_at dksX1_account_7 3 rfl rfl)
theorem dX1_account_197 : decode cX1_account 197 = .ok (.getfield 10, 3) := dk_180 0 10 (dk_at dksX1_account_7 4 rfl rfl)
theorem dX1_account_200 : decode cX1_account 200 = .ok (.getfield 478, 3) := dk_180 1 222 (dk_at dksX1_account_7 7 rfl rfl)
theorem dX1_account_203 : decode cX1_account 203 = .ok (.goto 20, 3) := dk_167 0 20 (dk_at dksX1_account_7 10 rfl rfl)
theorem dX1_account_206 : decode cX1_account 206 = .ok (.aload_n 0, 1) := dk_42 (dk_at dksX1_account_7 13 rfl rfl)
theorem dX1_account_207 : decode cX1_account 207 = .ok (.getfield 26, 3) := dk_180 0 26 (dk_at dksX1_account_7 14 rfl rfl)
theorem dX1_account_210 : decode cX1_account 210 = .ok (.invokevirtual 391, 3) := dk_182 1 135 (dk_at dksX1_account_7 17 rfl rfl)
theorem dX1_account_213 : decode cX1_account 213 = .ok (.goto 10, 3) := dk_167 0 10 (dk_at dksX1_account_7 20 rfl rfl)
theorem dX1_account_216 : decode cX1_account 216 = .ok (.aload_n 0, 1) := dk_42 (dk_at dksX1_account_7 23 rfl rfl)
theorem dX1_account_217 : decode cX1_account 217 = .ok (.getfield 19, 3) := dk_180 0 19 (dk_at dksX1_account_8 0 rfl rfl)
theorem dX1_account_220 : decode cX1_account 220 = .ok (.invokevirtual 85, 3) := dk_182 0 85 (dk_at dksX1_account_8 3 rfl rfl)
theorem dX1_account_223 : decode cX1_account 223 = .ok (.ireturn, 1) := dk_172 (dk_at dksX1_account_8 6 rfl rfl)
abbrev cX1_cartsThat : ByteArray := prog_1_method_65_code
def yX1_cartsThat : MethodName := ⟨RX1, "cartsThat", "(I)I"⟩
def dkwX1_cartsThat_2 : List UInt8 := [3, 96, 61, 167, 255, 219, 28, 172]
abbrev dktX1_cartsThat_2 : List UInt8 := dkwX1_cartsThat_2 ++ []
def dkwX1_cartsThat_1 : List UInt8 := [185, 1, 57, 1, 0, 192, 0, 107, 58, 4, 28, 25, 4, 180, 0, 164, 27, 160, 0, 7, 4, 167, 0, 4]
abbrev dktX1_cartsThat_1 : List UInt8 := dkwX1_cartsThat_1 ++ dktX1_cartsThat_2
def dkwX1_cartsThat_0 : List UInt8 := [3, 61, 42, 180, 0, 10, 180, 0, 97, 182, 1, 48, 78, 45, 185, 1, 52, 1, 0, 153, 0, 34, 45]
abbrev dktX1_cartsThat_0 : List UInt8 := dkwX1_cartsThat_0 ++ dktX1_cartsThat_1
theorem dksX1_cartsThat_0 : cX1_cartsThat.data.toList.drop 0 = dktX1_cartsThat_0 := by decide +kernel
theorem dksX1_cartsThat_1 : cX1_cartsThat.data.toList.drop 23 = dktX1_cartsThat_1 := dk_seg dksX1_cartsThat_0 23 rfl rfl
theorem dksX1_cartsThat_2 : cX1_cartsThat.data.toList.drop 47 = dktX1_cartsThat_2 := dk_seg dksX1_cartsThat_1 24 rfl rfl
theorem dX1_cartsThat_0 : decode cX1_cartsThat 0 = .ok (.iconst 0, 1) := dk_3 (dk_at dksX1_cartsThat_0 0 rfl rfl)
theorem dX1_cartsThat_1 : decode cX1_cartsThat 1 = .ok (.istore_n 2, 1) := dk_61 (dk_at dksX1_cartsThat_0 1 rfl rfl)
theorem dX1_cartsThat_2 : decode cX1_cartsThat 2 = .ok (.aload_n 0, 1) := dk_42 (dk_at dksX1_cartsThat_0 2 rfl rfl)
theorem dX1_cartsThat_3 : decode cX1_cartsThat 3 = .ok (.getfield 10, 3) := dk_180 0 10 (dk_at dksX1_cartsThat_0 3 rfl rfl)
theorem dX1_cartsThat_6 : decode cX1_cartsThat 6 = .ok (.getfield 97, 3) := dk_180 0 97 (dk_at dksX1_cartsThat_0 6 rfl rfl)
theorem dX1_cartsThat_9 : decode cX1_cartsThat 9 = .ok (.invokevirtual 304, 3) := dk_182 1 48 (dk_at dksX1_cartsThat_0 9 rfl rfl)
theorem dX1_cartsThat_12 : decode cX1_cartsThat 12 = .ok (.astore_n 3, 1) := dk_78 (dk_at dksX1_cartsThat_0 12 rfl rfl)
theorem dX1_cartsThat_13 : decode cX1_cartsThat 13 = .ok (.aload_n 3, 1) := dk_45 (dk_at dksX1_cartsThat_0 13 rfl rfl)
theorem dX1_cartsThat_14 : decode cX1_cartsThat 14 = .ok (.invokeinterface 308 1, 5) := by decide +kernel
theorem dX1_cartsThat_19 : decode cX1_cartsThat 19 = .ok (.ifCond .eq 34, 3) := dk_153 0 34 (dk_at dksX1_cartsThat_0 19 rfl rfl)
theorem dX1_cartsThat_22 : decode cX1_cartsThat 22 = .ok (.aload_n 3, 1) := dk_45 (dk_at dksX1_cartsThat_0 22 rfl rfl)
theorem dX1_cartsThat_23 : decode cX1_cartsThat 23 = .ok (.invokeinterface 313 1, 5) := by decide +kernel
theorem dX1_cartsThat_28 : decode cX1_cartsThat 28 = .ok (.checkcast 107, 3) := dk_192 0 107 (dk_at dksX1_cartsThat_1 5 rfl rfl)
theorem dX1_cartsThat_31 : decode cX1_cartsThat 31 = .ok (.astore 4, 2) := dk_58 4 (dk_at dksX1_cartsThat_1 8 rfl rfl)
theorem dX1_cartsThat_33 : decode cX1_cartsThat 33 = .ok (.iload_n 2, 1) := dk_28 (dk_at dksX1_cartsThat_1 10 rfl rfl)
theorem dX1_cartsThat_34 : decode cX1_cartsThat 34 = .ok (.aload 4, 2) := dk_25 4 (dk_at dksX1_cartsThat_1 11 rfl rfl)
theorem dX1_cartsThat_36 : decode cX1_cartsThat 36 = .ok (.getfield 164, 3) := dk_180 0 164 (dk_at dksX1_cartsThat_1 13 rfl rfl)
theorem dX1_cartsThat_39 : decode cX1_cartsThat 39 = .ok (.iload_n 1, 1) := dk_27 (dk_at dksX1_cartsThat_1 16 rfl rfl)
theorem dX1_cartsThat_40 : decode cX1_cartsThat 40 = .ok (.if_icmp .ne 7, 3) := dk_160 0 7 (dk_at dksX1_cartsThat_1 17 rfl rfl)
theorem dX1_cartsThat_43 : decode cX1_cartsThat 43 = .ok (.iconst 1, 1) := dk_4 (dk_at dksX1_cartsThat_1 20 rfl rfl)
theorem dX1_cartsThat_44 : decode cX1_cartsThat 44 = .ok (.goto 4, 3) := dk_167 0 4 (dk_at dksX1_cartsThat_1 21 rfl rfl)
theorem dX1_cartsThat_47 : decode cX1_cartsThat 47 = .ok (.iconst 0, 1) := dk_3 (dk_at dksX1_cartsThat_2 0 rfl rfl)
theorem dX1_cartsThat_48 : decode cX1_cartsThat 48 = .ok (.iadd, 1) := dk_96 (dk_at dksX1_cartsThat_2 1 rfl rfl)
theorem dX1_cartsThat_49 : decode cX1_cartsThat 49 = .ok (.istore_n 2, 1) := dk_61 (dk_at dksX1_cartsThat_2 2 rfl rfl)
theorem dX1_cartsThat_50 : decode cX1_cartsThat 50 = .ok (.goto (-37), 3) := dk_167 255 219 (dk_at dksX1_cartsThat_2 3 rfl rfl)
theorem dX1_cartsThat_53 : decode cX1_cartsThat 53 = .ok (.iload_n 2, 1) := dk_28 (dk_at dksX1_cartsThat_2 6 rfl rfl)
theorem dX1_cartsThat_54 : decode cX1_cartsThat 54 = .ok (.ireturn, 1) := dk_172 (dk_at dksX1_cartsThat_2 7 rfl rfl)
abbrev cX1_meanWaited : ByteArray := prog_1_method_67_code
def yX1_meanWaited : MethodName := ⟨RX1, "meanWaited", "()D"⟩
def dkwX1_meanWaited_3 : List UInt8 := [180, 0, 10, 180, 0, 97, 182, 0, 101, 135, 111, 175]
abbrev dktX1_meanWaited_3 : List UInt8 := dkwX1_meanWaited_3 ++ []
def dkwX1_meanWaited_2 : List UInt8 := [185, 1, 57, 1, 0, 192, 0, 107, 78, 27, 45, 180, 0, 228, 96, 60, 167, 255, 230, 27, 135, 42]
abbrev dktX1_meanWaited_2 : List UInt8 := dkwX1_meanWaited_2 ++ dktX1_meanWaited_3
def dkwX1_meanWaited_1 : List UInt8 := [180, 0, 10, 180, 0, 97, 182, 1, 48, 77, 44, 185, 1, 52, 1, 0, 153, 0, 23, 44]
abbrev dktX1_meanWaited_1 : List UInt8 := dkwX1_meanWaited_1 ++ dktX1_meanWaited_2
def dkwX1_meanWaited_0 : List UInt8 := [42, 180, 0, 10, 180, 0, 97, 182, 1, 225, 153, 0, 11, 187, 1, 226, 89, 183, 1, 228, 191, 3, 60, 42]
abbrev dktX1_meanWaited_0 : List UInt8 := dkwX1_meanWaited_0 ++ dktX1_meanWaited_1
theorem dksX1_meanWaited_0 : cX1_meanWaited.data.toList.drop 0 = dktX1_meanWaited_0 := by decide +kernel
theorem dksX1_meanWaited_1 : cX1_meanWaited.data.toList.drop 24 = dktX1_meanWaited_1 := dk_seg dksX1_meanWaited_0 24 rfl rfl
theorem dksX1_meanWaited_2 : cX1_meanWaited.data.toList.drop 44 = dktX1_meanWaited_2 := dk_seg dksX1_meanWaited_1 20 rfl rfl
theorem dksX1_meanWaited_3 : cX1_meanWaited.data.toList.drop 66 = dktX1_meanWaited_3 := dk_seg dksX1_meanWaited_2 22 rfl rfl
theorem dX1_meanWaited_0 : decode cX1_meanWaited 0 = .ok (.aload_n 0, 1) := dk_42 (dk_at dksX1_meanWaited_0 0 rfl rfl)
theorem dX1_meanWaited_1 : decode cX1_meanWaited 1 = .ok (.getfield 10, 3) := dk_180 0 10 (dk_at dksX1_meanWaited_0 1 rfl rfl)
theorem dX1_meanWaited_4 : decode cX1_meanWaited 4 = .ok (.getfield 97, 3) := dk_180 0 97 (dk_at dksX1_meanWaited_0 4 rfl rfl)
theorem dX1_meanWaited_7 : decode cX1_meanWaited 7 = .ok (.invokevirtual 481, 3) := dk_182 1 225 (dk_at dksX1_meanWaited_0 7 rfl rfl)
theorem dX1_meanWaited_10 : decode cX1_meanWaited 10 = .ok (.ifCond .eq 11, 3) := dk_153 0 11 (dk_at dksX1_meanWaited_0 10 rfl rfl)
theorem dX1_meanWaited_13 : decode cX1_meanWaited 13 = .ok (.new 482, 3) := dk_187 1 226 (dk_at dksX1_meanWaited_0 13 rfl rfl)
theorem dX1_meanWaited_16 : decode cX1_meanWaited 16 = .ok (.dup, 1) := dk_89 (dk_at dksX1_meanWaited_0 16 rfl rfl)
theorem dX1_meanWaited_17 : decode cX1_meanWaited 17 = .ok (.invokespecial 484, 3) := dk_183 1 228 (dk_at dksX1_meanWaited_0 17 rfl rfl)
theorem dX1_meanWaited_20 : decode cX1_meanWaited 20 = .ok (.athrow, 1) := dk_191 (dk_at dksX1_meanWaited_0 20 rfl rfl)
theorem dX1_meanWaited_21 : decode cX1_meanWaited 21 = .ok (.iconst 0, 1) := dk_3 (dk_at dksX1_meanWaited_0 21 rfl rfl)
theorem dX1_meanWaited_22 : decode cX1_meanWaited 22 = .ok (.istore_n 1, 1) := dk_60 (dk_at dksX1_meanWaited_0 22 rfl rfl)
theorem dX1_meanWaited_23 : decode cX1_meanWaited 23 = .ok (.aload_n 0, 1) := dk_42 (dk_at dksX1_meanWaited_0 23 rfl rfl)
theorem dX1_meanWaited_24 : decode cX1_meanWaited 24 = .ok (.getfield 10, 3) := dk_180 0 10 (dk_at dksX1_meanWaited_1 0 rfl rfl)
theorem dX1_meanWaited_27 : decode cX1_meanWaited 27 = .ok (.getfield 97, 3) := dk_180 0 97 (dk_at dksX1_meanWaited_1 3 rfl rfl)
theorem dX1_meanWaited_30 : decode cX1_meanWaited 30 = .ok (.invokevirtual 304, 3) := dk_182 1 48 (dk_at dksX1_meanWaited_1 6 rfl rfl)
theorem dX1_meanWaited_33 : decode cX1_meanWaited 33 = .ok (.astore_n 2, 1) := dk_77 (dk_at dksX1_meanWaited_1 9 rfl rfl)
theorem dX1_meanWaited_34 : decode cX1_meanWaited 34 = .ok (.aload_n 2, 1) := dk_44 (dk_at dksX1_meanWaited_1 10 rfl rfl)
theorem dX1_meanWaited_35 : decode cX1_meanWaited 35 = .ok (.invokeinterface 308 1, 5) := by decide +kernel
theorem dX1_meanWaited_40 : decode cX1_meanWaited 40 = .ok (.ifCond .eq 23, 3) := dk_153 0 23 (dk_at dksX1_meanWaited_1 16 rfl rfl)
theorem dX1_meanWaited_43 : decode cX1_meanWaited 43 = .ok (.aload_n 2, 1) := dk_44 (dk_at dksX1_meanWaited_1 19 rfl rfl)
theorem dX1_meanWaited_44 : decode cX1_meanWaited 44 = .ok (.invokeinterface 313 1, 5) := by decide +kernel
theorem dX1_meanWaited_49 : decode cX1_meanWaited 49 = .ok (.checkcast 107, 3) := dk_192 0 107 (dk_at dksX1_meanWaited_2 5 rfl rfl)
theorem dX1_meanWaited_52 : decode cX1_meanWaited 52 = .ok (.astore_n 3, 1) := dk_78 (dk_at dksX1_meanWaited_2 8 rfl rfl)
theorem dX1_meanWaited_53 : decode cX1_meanWaited 53 = .ok (.iload_n 1, 1) := dk_27 (dk_at dksX1_meanWaited_2 9 rfl rfl)
theorem dX1_meanWaited_54 : decode cX1_meanWaited 54 = .ok (.aload_n 3, 1) := dk_45 (dk_at dksX1_meanWaited_2 10 rfl rfl)
theorem dX1_meanWaited_55 : decode cX1_meanWaited 55 = .ok (.getfield 228, 3) := dk_180 0 228 (dk_at dksX1_meanWaited_2 11 rfl rfl)
theorem dX1_meanWaited_58 : decode cX1_meanWaited 58 = .ok (.iadd, 1) := dk_96 (dk_at dksX1_meanWaited_2 14 rfl rfl)
theorem dX1_meanWaited_59 : decode cX1_meanWaited 59 = .ok (.istore_n 1, 1) := dk_60 (dk_at dksX1_meanWaited_2 15 rfl rfl)
theorem dX1_meanWaited_60 : decode cX1_meanWaited 60 = .ok (.goto (-26), 3) := dk_167 255 230 (dk_at dksX1_meanWaited_2 16 rfl rfl)
theorem dX1_meanWaited_63 : decode cX1_meanWaited 63 = .ok (.iload_n 1, 1) := dk_27 (dk_at dksX1_meanWaited_2 19 rfl rfl)
theorem dX1_meanWaited_64 : decode cX1_meanWaited 64 = .ok (.i2d, 1) := dk_135 (dk_at dksX1_meanWaited_2 20 rfl rfl)
theorem dX1_meanWaited_65 : decode cX1_meanWaited 65 = .ok (.aload_n 0, 1) := dk_42 (dk_at dksX1_meanWaited_2 21 rfl rfl)
theorem dX1_meanWaited_66 : decode cX1_meanWaited 66 = .ok (.getfield 10, 3) := dk_180 0 10 (dk_at dksX1_meanWaited_3 0 rfl rfl)
theorem dX1_meanWaited_69 : decode cX1_meanWaited 69 = .ok (.getfield 97, 3) := dk_180 0 97 (dk_at dksX1_meanWaited_3 3 rfl rfl)
theorem dX1_meanWaited_72 : decode cX1_meanWaited 72 = .ok (.invokevirtual 101, 3) := dk_182 0 101 (dk_at dksX1_meanWaited_3 6 rfl rfl)
theorem dX1_meanWaited_75 : decode cX1_meanWaited 75 = .ok (.i2d, 1) := dk_135 (dk_at dksX1_meanWaited_3 9 rfl rfl)
theorem dX1_meanWaited_76 : decode cX1_meanWaited 76 = .ok (.ddiv, 1) := dk_111 (dk_at dksX1_meanWaited_3 10 rfl rfl)
theorem dX1_meanWaited_77 : decode cX1_meanWaited 77 = .ok (.dreturn, 1) := dk_175 (dk_at dksX1_meanWaited_3 11 rfl rfl)
abbrev cX1_undo : ByteArray := prog_1_method_69_code
def yX1_undo : MethodName := ⟨RX1, "undo", "()I"⟩
def dkwX1_undo_1 : List UInt8 := [182, 1, 230, 192, 0, 7, 181, 0, 10, 42, 180, 0, 19, 182, 0, 85, 172]
abbrev dktX1_undo_1 : List UInt8 := dkwX1_undo_1 ++ []
def dkwX1_undo_0 : List UInt8 := [42, 180, 0, 19, 182, 1, 229, 154, 0, 7, 4, 167, 0, 4, 3, 184, 0, 211, 42, 42, 180, 0, 19]
abbrev dktX1_undo_0 : List UInt8 := dkwX1_undo_0 ++ dktX1_undo_1
theorem dksX1_undo_0 : cX1_undo.data.toList.drop 0 = dktX1_undo_0 := by decide +kernel
theorem dksX1_undo_1 : cX1_undo.data.toList.drop 23 = dktX1_undo_1 := dk_seg dksX1_undo_0 23 rfl rfl
theorem dX1_undo_0 : decode cX1_undo 0 = .ok (.aload_n 0, 1) := dk_42 (dk_at dksX1_undo_0 0 rfl rfl)
theorem dX1_undo_1 : decode cX1_undo 1 = .ok (.getfield 19, 3) := dk_180 0 19 (dk_at dksX1_undo_0 1 rfl rfl)
theorem dX1_undo_4 : decode cX1_undo 4 = .ok (.invokevirtual 485, 3) := dk_182 1 229 (dk_at dksX1_undo_0 4 rfl rfl)
theorem dX1_undo_7 : decode cX1_undo 7 = .ok (.ifCond .ne 7, 3) := dk_154 0 7 (dk_at dksX1_undo_0 7 rfl rfl)
theorem dX1_undo_10 : decode cX1_undo 10 = .ok (.iconst 1, 1) := dk_4 (dk_at dksX1_undo_0 10 rfl rfl)
theorem dX1_undo_11 : decode cX1_undo 11 = .ok (.goto 4, 3) := dk_167 0 4 (dk_at dksX1_undo_0 11 rfl rfl)
theorem dX1_undo_14 : decode cX1_undo 14 = .ok (.iconst 0, 1) := dk_3 (dk_at dksX1_undo_0 14 rfl rfl)
theorem dX1_undo_15 : decode cX1_undo 15 = .ok (.invokestatic 211, 3) := dk_184 0 211 (dk_at dksX1_undo_0 15 rfl rfl)
theorem dX1_undo_18 : decode cX1_undo 18 = .ok (.aload_n 0, 1) := dk_42 (dk_at dksX1_undo_0 18 rfl rfl)
theorem dX1_undo_19 : decode cX1_undo 19 = .ok (.aload_n 0, 1) := dk_42 (dk_at dksX1_undo_0 19 rfl rfl)
theorem dX1_undo_20 : decode cX1_undo 20 = .ok (.getfield 19, 3) := dk_180 0 19 (dk_at dksX1_undo_0 20 rfl rfl)
theorem dX1_undo_23 : decode cX1_undo 23 = .ok (.invokevirtual 486, 3) := dk_182 1 230 (dk_at dksX1_undo_1 0 rfl rfl)
theorem dX1_undo_26 : decode cX1_undo 26 = .ok (.checkcast 7, 3) := dk_192 0 7 (dk_at dksX1_undo_1 3 rfl rfl)
theorem dX1_undo_29 : decode cX1_undo 29 = .ok (.putfield 10, 3) := dk_181 0 10 (dk_at dksX1_undo_1 6 rfl rfl)
theorem dX1_undo_32 : decode cX1_undo 32 = .ok (.aload_n 0, 1) := dk_42 (dk_at dksX1_undo_1 9 rfl rfl)
theorem dX1_undo_33 : decode cX1_undo 33 = .ok (.getfield 19, 3) := dk_180 0 19 (dk_at dksX1_undo_1 10 rfl rfl)
theorem dX1_undo_36 : decode cX1_undo 36 = .ok (.invokevirtual 85, 3) := dk_182 0 85 (dk_at dksX1_undo_1 13 rfl rfl)
theorem dX1_undo_39 : decode cX1_undo 39 = .ok (.ireturn, 1) := dk_172 (dk_at dksX1_undo_1 16 rfl rfl)
abbrev cX1_restore : ByteArray := prog_1_method_71_code
def yX1_restore : MethodName := ⟨RX1, "restore", "()I"⟩
def dkwX1_restore_1 : List UInt8 := [181, 0, 10, 42, 180, 0, 19, 182, 1, 236, 42, 180, 0, 10, 180, 0, 97, 182, 0, 101, 172]
abbrev dktX1_restore_1 : List UInt8 := dkwX1_restore_1 ++ []
def dkwX1_restore_0 : List UInt8 := [42, 180, 1, 233, 198, 0, 7, 4, 167, 0, 4, 3, 184, 0, 211, 42, 42, 180, 1, 233, 182, 0, 77]
abbrev dktX1_restore_0 : List UInt8 := dkwX1_restore_0 ++ dktX1_restore_1
theorem dksX1_restore_0 : cX1_restore.data.toList.drop 0 = dktX1_restore_0 := by decide +kernel
theorem dksX1_restore_1 : cX1_restore.data.toList.drop 23 = dktX1_restore_1 := dk_seg dksX1_restore_0 23 rfl rfl
theorem dX1_restore_0 : decode cX1_restore 0 = .ok (.aload_n 0, 1) := dk_42 (dk_at dksX1_restore_0 0 rfl rfl)
theorem dX1_restore_1 : decode cX1_restore 1 = .ok (.getfield 489, 3) := dk_180 1 233 (dk_at dksX1_restore_0 1 rfl rfl)
theorem dX1_restore_4 : decode cX1_restore 4 = .ok (.ifnull 7, 3) := dk_198 0 7 (dk_at dksX1_restore_0 4 rfl rfl)
theorem dX1_restore_7 : decode cX1_restore 7 = .ok (.iconst 1, 1) := dk_4 (dk_at dksX1_restore_0 7 rfl rfl)
theorem dX1_restore_8 : decode cX1_restore 8 = .ok (.goto 4, 3) := dk_167 0 4 (dk_at dksX1_restore_0 8 rfl rfl)
theorem dX1_restore_11 : decode cX1_restore 11 = .ok (.iconst 0, 1) := dk_3 (dk_at dksX1_restore_0 11 rfl rfl)
theorem dX1_restore_12 : decode cX1_restore 12 = .ok (.invokestatic 211, 3) := dk_184 0 211 (dk_at dksX1_restore_0 12 rfl rfl)
theorem dX1_restore_15 : decode cX1_restore 15 = .ok (.aload_n 0, 1) := dk_42 (dk_at dksX1_restore_0 15 rfl rfl)
theorem dX1_restore_16 : decode cX1_restore 16 = .ok (.aload_n 0, 1) := dk_42 (dk_at dksX1_restore_0 16 rfl rfl)
theorem dX1_restore_17 : decode cX1_restore 17 = .ok (.getfield 489, 3) := dk_180 1 233 (dk_at dksX1_restore_0 17 rfl rfl)
theorem dX1_restore_20 : decode cX1_restore 20 = .ok (.invokevirtual 77, 3) := dk_182 0 77 (dk_at dksX1_restore_0 20 rfl rfl)
theorem dX1_restore_23 : decode cX1_restore 23 = .ok (.putfield 10, 3) := dk_181 0 10 (dk_at dksX1_restore_1 0 rfl rfl)
theorem dX1_restore_26 : decode cX1_restore 26 = .ok (.aload_n 0, 1) := dk_42 (dk_at dksX1_restore_1 3 rfl rfl)
theorem dX1_restore_27 : decode cX1_restore 27 = .ok (.getfield 19, 3) := dk_180 0 19 (dk_at dksX1_restore_1 4 rfl rfl)
theorem dX1_restore_30 : decode cX1_restore 30 = .ok (.invokevirtual 492, 3) := dk_182 1 236 (dk_at dksX1_restore_1 7 rfl rfl)
theorem dX1_restore_33 : decode cX1_restore 33 = .ok (.aload_n 0, 1) := dk_42 (dk_at dksX1_restore_1 10 rfl rfl)
theorem dX1_restore_34 : decode cX1_restore 34 = .ok (.getfield 10, 3) := dk_180 0 10 (dk_at dksX1_restore_1 11 rfl rfl)
theorem dX1_restore_37 : decode cX1_restore 37 = .ok (.getfield 97, 3) := dk_180 0 97 (dk_at dksX1_restore_1 14 rfl rfl)
theorem dX1_restore_40 : decode cX1_restore 40 = .ok (.invokevirtual 101, 3) := dk_182 0 101 (dk_at dksX1_restore_1 17 rfl rfl)
theorem dX1_restore_43 : decode cX1_restore 43 = .ok (.ireturn, 1) := dk_172 (dk_at dksX1_restore_1 20 rfl rfl)
abbrev MX1_init : zM := (yX1_init, cX1_init, 1, (Option.none : Option Jvm.ClassFile.FieldType), [])
theorem kX1_init : zMk MX1_init := ⟨zt (lw_at lw_m1 48 rfl), zt (lw_at lw_m1 1 rfl), by decide +kernel, by decide, by decide +kernel⟩
abbrev MX1_turn : zM := (yX1_turn, cX1_turn, 1, (Option.some Jvm.ClassFile.FieldType.int), [])
theorem kX1_turn : zMk MX1_turn := ⟨zt (lw_at lw_m1 223 rfl), zt (lw_at lw_m1 1 rfl), by decide +kernel, by decide, by decide +kernel⟩
abbrev MX1_noses : zM := (yX1_noses, cX1_noses, 3, (Option.some Jvm.ClassFile.FieldType.int), [])
theorem kX1_noses : zMk MX1_noses := ⟨zt (lw_at lw_m1 227 rfl), zt (lw_at lw_m1 1 rfl), by decide +kernel, by decide, by decide +kernel⟩
abbrev MX1_isBetween : zM := (yX1_isBetween, cX1_isBetween, 3, (Option.some Jvm.ClassFile.FieldType.boolean), [])
theorem kX1_isBetween : zMk MX1_isBetween := ⟨zt (lw_at lw_m1 234 rfl), zt (lw_at lw_m1 1 rfl), by decide +kernel, by decide, by decide +kernel⟩
abbrev MX1_isTold : zM := (yX1_isTold, cX1_isTold, 3, (Option.some Jvm.ClassFile.FieldType.boolean), [])
theorem kX1_isTold : zMk MX1_isTold := ⟨zt (lw_at lw_m2 13 rfl), zt (lw_at lw_m1 1 rfl), by decide +kernel, by decide, by decide +kernel⟩
abbrev MX1_isToldAlike : zM := (yX1_isToldAlike, cX1_isToldAlike, 3, (Option.some Jvm.ClassFile.FieldType.boolean), [])
theorem kX1_isToldAlike : zMk MX1_isToldAlike := ⟨zt (lw_at lw_m2 133 rfl), zt (lw_at lw_m1 1 rfl), by decide +kernel, by decide, by decide +kernel⟩
abbrev MX1_places : zM := (yX1_places, cX1_places, 4, (Option.some Jvm.ClassFile.FieldType.int), [])
theorem kX1_places : zMk MX1_places := ⟨zt (lw_at lw_m2 141 rfl), zt (lw_at lw_m1 1 rfl), by decide +kernel, by decide, by decide +kernel⟩
abbrev MX1_times : zM := (yX1_times, cX1_times, 4, (Option.some Jvm.ClassFile.FieldType.int), [])
theorem kX1_times : zMk MX1_times := ⟨zt (lw_at lw_m2 144 rfl), zt (lw_at lw_m1 1 rfl), by decide +kernel, by decide, by decide +kernel⟩
abbrev MX1_other : zM := (yX1_other, cX1_other, 1, (Option.some Jvm.ClassFile.FieldType.int), [])
theorem kX1_other : zMk MX1_other := ⟨zt (lw_at lw_m2 161 rfl), zt (lw_at lw_m1 1 rfl), by decide +kernel, by decide, by decide +kernel⟩
abbrev MX1_runLoadBySpans : zM := (yX1_runLoadBySpans, cX1_runLoadBySpans, 3, (Option.some Jvm.ClassFile.FieldType.int), [])
theorem kX1_runLoadBySpans : zMk MX1_runLoadBySpans := ⟨zt (lw_at lw_m2 169 rfl), zt (lw_at lw_m1 1 rfl), by decide +kernel, by decide, by decide +kernel⟩
abbrev MX1_loadsTo : zM := (yX1_loadsTo, cX1_loadsTo, 4, (Option.some Jvm.ClassFile.FieldType.int), [])
theorem kX1_loadsTo : zMk MX1_loadsTo := ⟨zt (lw_at lw_m2 180 rfl), zt (lw_at lw_m1 1 rfl), by decide +kernel, by decide, by decide +kernel⟩
abbrev MX1_faultPosition : zM := (yX1_faultPosition, cX1_faultPosition, 1, (Option.some Jvm.ClassFile.FieldType.int), [])
theorem kX1_faultPosition : zMk MX1_faultPosition := ⟨zt (lw_at lw_m2 191 rfl), zt (lw_at lw_m1 1 rfl), by decide +kernel, by decide, by decide +kernel⟩
abbrev MX1_tell : zM := (yX1_tell, cX1_tell, 2, (Option.some Jvm.ClassFile.FieldType.int), [])
theorem kX1_tell : zMk MX1_tell := ⟨zt (lw_at lw_m2 195 rfl), zt (lw_at lw_m1 1 rfl), by decide +kernel, by decide, by decide +kernel⟩
abbrev MX1_writes : zM := (yX1_writes, cX1_writes, 2, (Option.none : Option Jvm.ClassFile.FieldType), [])
theorem kX1_writes : zMk MX1_writes := ⟨zt (lw_at lw_m4 130 rfl), zt (lw_at lw_m1 1 rfl), by decide +kernel, by decide, by decide +kernel⟩
abbrev MX1_signOf : zM := (yX1_signOf, cX1_signOf, 2, (Option.some (Jvm.ClassFile.FieldType.object "java/lang/String")), [])
theorem kX1_signOf : zMk MX1_signOf := ⟨zt (lw_at lw_m5 28 rfl), zt (lw_at lw_m1 1 rfl), by decide +kernel, by decide, by decide +kernel⟩
abbrev MX1_tellLaw : zM := (yX1_tellLaw, cX1_tellLaw, 1, (Option.some Jvm.ClassFile.FieldType.int), [])
theorem kX1_tellLaw : zMk MX1_tellLaw := ⟨zt (lw_at lw_m5 37 rfl), zt (lw_at lw_m1 1 rfl), by decide +kernel, by decide, by decide +kernel⟩
abbrev MX1_letter : zM := (yX1_letter, cX1_letter, 1, (Option.some (Jvm.ClassFile.FieldType.object "java/lang/String")), [])
theorem kX1_letter : zMk MX1_letter := ⟨zt (lw_at lw_m5 125 rfl), zt (lw_at lw_m1 1 rfl), by decide +kernel, by decide, by decide +kernel⟩
abbrev MX1_fullShare : zM := (yX1_fullShare, cX1_fullShare, 1, (Option.some Jvm.ClassFile.FieldType.float), [])
theorem kX1_fullShare : zMk MX1_fullShare := ⟨zt (lw_at lw_m5 135 rfl), zt (lw_at lw_m1 1 rfl), by decide +kernel, by decide, by decide +kernel⟩
abbrev MX1_save : zM := (yX1_save, cX1_save, 1, (Option.some Jvm.ClassFile.FieldType.int), [])
theorem kX1_save : zMk MX1_save := ⟨zt (lw_at lw_m5 143 rfl), zt (lw_at lw_m1 1 rfl), by decide +kernel, by decide, by decide +kernel⟩
abbrev MX1_cart : zM := (yX1_cart, cX1_cart, 4, (Option.some Jvm.ClassFile.FieldType.int), [])
theorem kX1_cart : zMk MX1_cart := ⟨zt (lw_at lw_m6 39 rfl), zt (lw_at lw_m1 1 rfl), by decide +kernel, by decide, by decide +kernel⟩
abbrev MX1_inRange : zM := (yX1_inRange, cX1_inRange, 4, (Option.none : Option Jvm.ClassFile.FieldType), [])
theorem kX1_inRange : zMk MX1_inRange := ⟨zt (lw_at lw_m6 43 rfl), zt (lw_at lw_m1 1 rfl), by decide +kernel, by decide, by decide +kernel⟩
abbrev MX1_refuse : zM := (yX1_refuse, cX1_refuse, 4, (Option.none : Option Jvm.ClassFile.FieldType), [])
theorem kX1_refuse : zMk MX1_refuse := ⟨zt (lw_at lw_m6 48 rfl), zt (lw_at lw_m1 1 rfl), by decide +kernel, by decide, by decide +kernel⟩
abbrev MX1_change : zM := (yX1_change, cX1_change, 1, (Option.none : Option Jvm.ClassFile.FieldType), [])
theorem kX1_change : zMk MX1_change := ⟨zt (lw_at lw_m6 86 rfl), zt (lw_at lw_m1 1 rfl), by decide +kernel, by decide, by decide +kernel⟩
abbrev MX1_tick : zM := (yX1_tick, cX1_tick, 4, (Option.some Jvm.ClassFile.FieldType.int), [])
theorem kX1_tick : zMk MX1_tick := ⟨zt (lw_at lw_m6 155 rfl), zt (lw_at lw_m1 1 rfl), by decide +kernel, by decide, by decide +kernel⟩
abbrev MX1_law : zM := (yX1_law, cX1_law, 3, (Option.some Jvm.ClassFile.FieldType.int), [])
theorem kX1_law : zMk MX1_law := ⟨zt (lw_at lw_m7 92 rfl), zt (lw_at lw_m1 1 rfl), by decide +kernel, by decide, by decide +kernel⟩
abbrev MX1_mustBeOther : zM := (yX1_mustBeOther, cX1_mustBeOther, 3, (Option.none : Option Jvm.ClassFile.FieldType), [])
theorem kX1_mustBeOther : zMk MX1_mustBeOther := ⟨zt (lw_at lw_m7 96 rfl), zt (lw_at lw_m1 1 rfl), by decide +kernel, by decide, by decide +kernel⟩
abbrev MX1_share : zM := (yX1_share, cX1_share, 3, (Option.some Jvm.ClassFile.FieldType.int), [])
theorem kX1_share : zMk MX1_share := ⟨zt (lw_at lw_m7 103 rfl), zt (lw_at lw_m1 1 rfl), by decide +kernel, by decide, by decide +kernel⟩
abbrev MX1_spans : zM := (yX1_spans, cX1_spans, 4, (Option.some Jvm.ClassFile.FieldType.int), [])
theorem kX1_spans : zMk MX1_spans := ⟨zt (lw_at lw_m7 110 rfl), zt (lw_at lw_m1 1 rfl), by decide +kernel, by decide, by decide +kernel⟩
abbrev MX1_leave : zM := (yX1_leave, cX1_leave, 4, (Option.some Jvm.ClassFile.FieldType.int), [])
theorem kX1_leave : zMk MX1_leave := ⟨zt (lw_at lw_m7 117 rfl), zt (lw_at lw_m1 1 rfl), by decide +kernel, by decide, by decide +kernel⟩
abbrev MX1_mustBeThere : zM := (yX1_mustBeThere, cX1_mustBeThere, 2, (Option.some (Jvm.ClassFile.FieldType.object "CartBridge$Cart")), [])
theorem kX1_mustBeThere : zMk MX1_mustBeThere := ⟨zt (lw_at lw_m7 121 rfl), zt (lw_at lw_m1 1 rfl), by decide +kernel, by decide, by decide +kernel⟩
abbrev MX1_turnRow : zM := (yX1_turnRow, cX1_turnRow, 6, (Option.some Jvm.ClassFile.FieldType.int), [])
theorem kX1_turnRow : zMk MX1_turnRow := ⟨zt (lw_at lw_m7 182 rfl), zt (lw_at lw_m1 1 rfl), by decide +kernel, by decide, by decide +kernel⟩
abbrev MX1_yieldBy : zM := (yX1_yieldBy, cX1_yieldBy, 4, (Option.some Jvm.ClassFile.FieldType.int), [])
theorem kX1_yieldBy : zMk MX1_yieldBy := ⟨zt (lw_at lw_m7 193 rfl), zt (lw_at lw_m1 1 rfl), by decide +kernel, by decide, by decide +kernel⟩
abbrev MX1_placeOf : zM := (yX1_placeOf, cX1_placeOf, 2, (Option.some Jvm.ClassFile.FieldType.int), [])
theorem kX1_placeOf : zMk MX1_placeOf := ⟨zt (lw_at lw_m7 197 rfl), zt (lw_at lw_m1 1 rfl), by decide +kernel, by decide, by decide +kernel⟩
abbrev MX1_cartOf : zM := (yX1_cartOf, cX1_cartOf, 4, (Option.some Jvm.ClassFile.FieldType.int), [])
theorem kX1_cartOf : zMk MX1_cartOf := ⟨zt (lw_at lw_m7 210 rfl), zt (lw_at lw_m1 1 rfl), by decide +kernel, by decide, by decide +kernel⟩
abbrev MX1_cart0 : zM := (yX1_cart0, cX1_cart0, 2, (Option.some (Jvm.ClassFile.FieldType.object "CartBridge$Cart")), [])
theorem kX1_cart0 : zMk MX1_cart0 := ⟨zt (lw_at lw_m7 214 rfl), zt (lw_at lw_m1 1 rfl), by decide +kernel, by decide, by decide +kernel⟩
abbrev MX1_checkIndex : zM := (yX1_checkIndex, cX1_checkIndex, 1, (Option.none : Option Jvm.ClassFile.FieldType), [])
theorem kX1_checkIndex : zMk MX1_checkIndex := ⟨zt (lw_at lw_m7 217 rfl), zt (lw_at lw_m1 1 rfl), by decide +kernel, by decide, by decide +kernel⟩
abbrev MX1_check : zM := (yX1_check, cX1_check, 1, (Option.none : Option Jvm.ClassFile.FieldType), [])
theorem kX1_check : zMk MX1_check := ⟨zt (lw_at lw_m7 225 rfl), zt (lw_at lw_m1 1 rfl), by decide +kernel, by decide, by decide +kernel⟩
abbrev MX1_waited : zM := (yX1_waited, cX1_waited, 2, (Option.some Jvm.ClassFile.FieldType.int), [])
theorem kX1_waited : zMk MX1_waited := ⟨zt (lw_at lw_m7 237 rfl), zt (lw_at lw_m1 1 rfl), by decide +kernel, by decide, by decide +kernel⟩
abbrev MX1_waitedAgain : zM := (yX1_waitedAgain, cX1_waitedAgain, 2, (Option.some Jvm.ClassFile.FieldType.int), [])
theorem kX1_waitedAgain : zMk MX1_waitedAgain := ⟨zt (lw_at lw_m8 4 rfl), zt (lw_at lw_m1 1 rfl), by decide +kernel, by decide, by decide +kernel⟩
abbrev MX1_waiting : zM := (yX1_waiting, cX1_waiting, 3, (Option.some Jvm.ClassFile.FieldType.int), [])
theorem kX1_waiting : zMk MX1_waiting := ⟨zt (lw_at lw_m8 12 rfl), zt (lw_at lw_m1 1 rfl), by decide +kernel, by decide, by decide +kernel⟩
abbrev MX1_isSide : zM := (yX1_isSide, cX1_isSide, 1, (Option.some Jvm.ClassFile.FieldType.boolean), [])
theorem kX1_isSide : zMk MX1_isSide := ⟨zt (lw_at lw_m8 15 rfl), zt (lw_at lw_m1 1 rfl), by decide +kernel, by decide, by decide +kernel⟩
abbrev MX1_checkElement : zM := (yX1_checkElement, cX1_checkElement, 1, (Option.none : Option Jvm.ClassFile.FieldType), [])
theorem kX1_checkElement : zMk MX1_checkElement := ⟨zt (lw_at lw_m8 18 rfl), zt (lw_at lw_m1 1 rfl), by decide +kernel, by decide, by decide +kernel⟩
abbrev MX1_rowLoad : zM := (yX1_rowLoad, cX1_rowLoad, 2, (Option.some Jvm.ClassFile.FieldType.int), [])
theorem kX1_rowLoad : zMk MX1_rowLoad := ⟨zt (lw_at lw_m8 27 rfl), zt (lw_at lw_m1 1 rfl), by decide +kernel, by decide, by decide +kernel⟩
abbrev MX1_onSpan : zM := (yX1_onSpan, cX1_onSpan, 2, (Option.some Jvm.ClassFile.FieldType.int), [])
theorem kX1_onSpan : zMk MX1_onSpan := ⟨zt (lw_at lw_m8 35 rfl), zt (lw_at lw_m1 1 rfl), by decide +kernel, by decide, by decide +kernel⟩
abbrev MX1_runLoad : zM := (yX1_runLoad, cX1_runLoad, 2, (Option.some Jvm.ClassFile.FieldType.int), [])
theorem kX1_runLoad : zMk MX1_runLoad := ⟨zt (lw_at lw_m8 43 rfl), zt (lw_at lw_m1 1 rfl), by decide +kernel, by decide, by decide +kernel⟩
abbrev MX1_crossing : zM := (yX1_crossing, cX1_crossing, 3, (Option.some (Jvm.ClassFile.FieldType.object "CartBridge$Cart")), [])
theorem kX1_crossing : zMk MX1_crossing := ⟨zt (lw_at lw_m8 47 rfl), zt (lw_at lw_m1 1 rfl), by decide +kernel, by decide, by decide +kernel⟩
abbrev MX1_checkState : zM := (yX1_checkState, cX1_checkState, 1, (Option.none : Option Jvm.ClassFile.FieldType), [])
theorem kX1_checkState : zMk MX1_checkState := ⟨zt (lw_at lw_m8 50 rfl), zt (lw_at lw_m1 1 rfl), by decide +kernel, by decide, by decide +kernel⟩
abbrev MX1_runLoadAgain : zM := (yX1_runLoadAgain, cX1_runLoadAgain, 2, (Option.some Jvm.ClassFile.FieldType.int), [])
theorem kX1_runLoadAgain : zMk MX1_runLoadAgain := ⟨zt (lw_at lw_m8 62 rfl), zt (lw_at lw_m1 1 rfl), by decide +kernel, by decide, by decide +kernel⟩
abbrev MX1_runEnd : zM := (yX1_runEnd, cX1_runEnd, 2, (Option.some Jvm.ClassFile.FieldType.int), [])
theorem kX1_runEnd : zMk MX1_runEnd := ⟨zt (lw_at lw_m8 69 rfl), zt (lw_at lw_m1 1 rfl), by decide +kernel, by decide, by decide +kernel⟩
abbrev MX1_ahead : zM := (yX1_ahead, cX1_ahead, 5, (Option.some Jvm.ClassFile.FieldType.int), [])
theorem kX1_ahead : zMk MX1_ahead := ⟨zt (lw_at lw_m8 76 rfl), zt (lw_at lw_m1 1 rfl), by decide +kernel, by decide, by decide +kernel⟩
abbrev MX1_spansLeft : zM := (yX1_spansLeft, cX1_spansLeft, 3, (Option.some Jvm.ClassFile.FieldType.int), [])
theorem kX1_spansLeft : zMk MX1_spansLeft := ⟨zt (lw_at lw_m8 84 rfl), zt (lw_at lw_m1 1 rfl), by decide +kernel, by decide, by decide +kernel⟩
abbrev MX1_may : zM := (yX1_may, cX1_may, 2, (Option.some Jvm.ClassFile.FieldType.boolean), [])
theorem kX1_may : zMk MX1_may := ⟨zt (lw_at lw_m8 95 rfl), zt (lw_at lw_m1 1 rfl), by decide +kernel, by decide, by decide +kernel⟩
abbrev MX1_passed : zM := (yX1_passed, cX1_passed, 2, (Option.some Jvm.ClassFile.FieldType.int), [])
theorem kX1_passed : zMk MX1_passed := ⟨zt (lw_at lw_m8 104 rfl), zt (lw_at lw_m1 1 rfl), by decide +kernel, by decide, by decide +kernel⟩
abbrev MX1_wouldPass : zM := (yX1_wouldPass, cX1_wouldPass, 5, (Option.some Jvm.ClassFile.FieldType.int), [])
theorem kX1_wouldPass : zMk MX1_wouldPass := ⟨zt (lw_at lw_m8 111 rfl), zt (lw_at lw_m1 1 rfl), by decide +kernel, by decide, by decide +kernel⟩
abbrev MX1_over : zM := (yX1_over, cX1_over, 3, (Option.some Jvm.ClassFile.FieldType.int), [])
theorem kX1_over : zMk MX1_over := ⟨zt (lw_at lw_m8 118 rfl), zt (lw_at lw_m1 1 rfl), by decide +kernel, by decide, by decide +kernel⟩
abbrev MX1_longest : zM := (yX1_longest, cX1_longest, 7, (Option.some Jvm.ClassFile.FieldType.int), [])
theorem kX1_longest : zMk MX1_longest := ⟨zt (lw_at lw_m8 129 rfl), zt (lw_at lw_m1 1 rfl), by decide +kernel, by decide, by decide +kernel⟩
abbrev MX1_isLonger : zM := (yX1_isLonger, cX1_isLonger, 2, (Option.some Jvm.ClassFile.FieldType.boolean), [])
theorem kX1_isLonger : zMk MX1_isLonger := ⟨zt (lw_at lw_m8 132 rfl), zt (lw_at lw_m1 1 rfl), by decide +kernel, by decide, by decide +kernel⟩
abbrev MX1_mildest : zM := (yX1_mildest, cX1_mildest, 4, (Option.some Jvm.ClassFile.FieldType.int), [])
theorem kX1_mildest : zMk MX1_mildest := ⟨zt (lw_at lw_m8 139 rfl), zt (lw_at lw_m1 1 rfl), by decide +kernel, by decide, by decide +kernel⟩
abbrev MX1_heaviest : zM := (yX1_heaviest, cX1_heaviest, 4, (Option.some Jvm.ClassFile.FieldType.int), [])
theorem kX1_heaviest : zMk MX1_heaviest := ⟨zt (lw_at lw_m8 146 rfl), zt (lw_at lw_m1 1 rfl), by decide +kernel, by decide, by decide +kernel⟩
abbrev MX1_append : zM := (yX1_append, cX1_append, 2, (Option.some Jvm.ClassFile.FieldType.int), [])
theorem kX1_append : zMk MX1_append := ⟨zt (lw_at lw_m8 153 rfl), zt (lw_at lw_m1 1 rfl), by decide +kernel, by decide, by decide +kernel⟩
abbrev MX1_run : zM := (yX1_run, cX1_run, 2, (Option.some Jvm.ClassFile.FieldType.int), [])
theorem kX1_run : zMk MX1_run := ⟨zt (lw_at lw_m8 167 rfl), zt (lw_at lw_m1 1 rfl), by decide +kernel, by decide, by decide +kernel⟩
abbrev MX1_doAll : zM := (yX1_doAll, cX1_doAll, 7, (Option.some Jvm.ClassFile.FieldType.int), [(20, 61, 69, 46), (20, 61, 97, 0), (69, 99, 97, 0)])
theorem kX1_doAll : zMk MX1_doAll := ⟨zt (lw_at lw_m9 113 rfl), zt (lw_at lw_m1 1 rfl), by decide +kernel, by decide, by decide +kernel⟩
abbrev MX1_does : zM := (yX1_does, cX1_does, 4, (Option.some Jvm.ClassFile.FieldType.int), [])
theorem kX1_does : zMk MX1_does := ⟨zt (lw_at lw_m9 118 rfl), zt (lw_at lw_m1 1 rfl), by decide +kernel, by decide, by decide +kernel⟩
abbrev MX1_reason : zM := (yX1_reason, cX1_reason, 4, (Option.some Jvm.ClassFile.FieldType.int), [])
theorem kX1_reason : zMk MX1_reason := ⟨zt (lw_at lw_m9 142 rfl), zt (lw_at lw_m1 1 rfl), by decide +kernel, by decide, by decide +kernel⟩
abbrev MX1_tellCart : zM := (yX1_tellCart, cX1_tellCart, 3, (Option.some Jvm.ClassFile.FieldType.int), [])
theorem kX1_tellCart : zMk MX1_tellCart := ⟨zt (lw_at lw_m9 149 rfl), zt (lw_at lw_m1 1 rfl), by decide +kernel, by decide, by decide +kernel⟩
abbrev MX1_character : zM := (yX1_character, cX1_character, 2, (Option.some Jvm.ClassFile.FieldType.char), [])
theorem kX1_character : zMk MX1_character := ⟨zt (lw_at lw_m9 166 rfl), zt (lw_at lw_m1 1 rfl), by decide +kernel, by decide, by decide +kernel⟩
abbrev MX1_account : zM := (yX1_account, cX1_account, 2, (Option.some Jvm.ClassFile.FieldType.int), [])
theorem kX1_account : zMk MX1_account := ⟨zt (lw_at lw_m9 174 rfl), zt (lw_at lw_m1 1 rfl), by decide +kernel, by decide, by decide +kernel⟩
abbrev MX1_cartsThat : zM := (yX1_cartsThat, cX1_cartsThat, 5, (Option.some Jvm.ClassFile.FieldType.int), [])
theorem kX1_cartsThat : zMk MX1_cartsThat := ⟨zt (lw_at lw_m9 178 rfl), zt (lw_at lw_m1 1 rfl), by decide +kernel, by decide, by decide +kernel⟩
abbrev MX1_meanWaited : zM := (yX1_meanWaited, cX1_meanWaited, 4, (Option.some Jvm.ClassFile.FieldType.double), [])
theorem kX1_meanWaited : zMk MX1_meanWaited := ⟨zt (lw_at lw_m9 199 rfl), zt (lw_at lw_m1 1 rfl), by decide +kernel, by decide, by decide +kernel⟩
abbrev MX1_undo : zM := (yX1_undo, cX1_undo, 1, (Option.some Jvm.ClassFile.FieldType.int), [])
theorem kX1_undo : zMk MX1_undo := ⟨zt (lw_at lw_m9 212 rfl), zt (lw_at lw_m1 1 rfl), by decide +kernel, by decide, by decide +kernel⟩
abbrev MX1_restore : zM := (yX1_restore, cX1_restore, 1, (Option.some Jvm.ClassFile.FieldType.int), [])
theorem kX1_restore : zMk MX1_restore := ⟨zt (lw_at lw_m9 234 rfl), zt (lw_at lw_m1 1 rfl), by decide +kernel, by decide, by decide +kernel⟩
