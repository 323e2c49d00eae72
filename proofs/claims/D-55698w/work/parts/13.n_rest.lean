/-! CartBridgeLaw -/
set_option maxRecDepth 100000
abbrev cX0_cart : ByteArray := method_3_code
def yX0_cart : MethodName := ⟨RX0, "cart", "(LCartBridge;II[J)I"⟩
def dkwX0_cart_0 : List UInt8 := [45, 3, 42, 27, 28, 182, 0, 7, 133, 80, 167, 0, 7, 58, 4, 4, 172, 3, 172]
abbrev dktX0_cart_0 : List UInt8 := dkwX0_cart_0 ++ []
theorem dksX0_cart_0 : cX0_cart.data.toList.drop 0 = dktX0_cart_0 := by decide +kernel
theorem dX0_cart_0 : decode cX0_cart 0 = .ok (.aload_n 3, 1) := dk_45 (dk_at dksX0_cart_0 0 rfl rfl)
theorem dX0_cart_1 : decode cX0_cart 1 = .ok (.iconst 0, 1) := dk_3 (dk_at dksX0_cart_0 1 rfl rfl)
theorem dX0_cart_2 : decode cX0_cart 2 = .ok (.aload_n 0, 1) := dk_42 (dk_at dksX0_cart_0 2 rfl rfl)
theorem dX0_cart_3 : decode cX0_cart 3 = .ok (.iload_n 1, 1) := dk_27 (dk_at dksX0_cart_0 3 rfl rfl)
theorem dX0_cart_4 : decode cX0_cart 4 = .ok (.iload_n 2, 1) := dk_28 (dk_at dksX0_cart_0 4 rfl rfl)
theorem dX0_cart_5 : decode cX0_cart 5 = .ok (.invokevirtual 7, 3) := dk_182 0 7 (dk_at dksX0_cart_0 5 rfl rfl)
theorem dX0_cart_8 : decode cX0_cart 8 = .ok (.i2l, 1) := dk_133 (dk_at dksX0_cart_0 8 rfl rfl)
theorem dX0_cart_9 : decode cX0_cart 9 = .ok (.lastore, 1) := dk_80 (dk_at dksX0_cart_0 9 rfl rfl)
theorem dX0_cart_10 : decode cX0_cart 10 = .ok (.goto 7, 3) := dk_167 0 7 (dk_at dksX0_cart_0 10 rfl rfl)
theorem dX0_cart_13 : decode cX0_cart 13 = .ok (.astore 4, 2) := dk_58 4 (dk_at dksX0_cart_0 13 rfl rfl)
theorem dX0_cart_15 : decode cX0_cart 15 = .ok (.iconst 1, 1) := dk_4 (dk_at dksX0_cart_0 15 rfl rfl)
theorem dX0_cart_16 : decode cX0_cart 16 = .ok (.ireturn, 1) := dk_172 (dk_at dksX0_cart_0 16 rfl rfl)
theorem dX0_cart_17 : decode cX0_cart 17 = .ok (.iconst 0, 1) := dk_3 (dk_at dksX0_cart_0 17 rfl rfl)
theorem dX0_cart_18 : decode cX0_cart 18 = .ok (.ireturn, 1) := dk_172 (dk_at dksX0_cart_0 18 rfl rfl)
abbrev cX0_tick : ByteArray := method_4_code
def yX0_tick : MethodName := ⟨RX0, "tick", "(LCartBridge;I[J)I"⟩
def dkwX0_tick_0 : List UInt8 := [44, 3, 42, 27, 182, 0, 15, 133, 80, 167, 0, 6, 78, 4, 172, 3, 172]
abbrev dktX0_tick_0 : List UInt8 := dkwX0_tick_0 ++ []
theorem dksX0_tick_0 : cX0_tick.data.toList.drop 0 = dktX0_tick_0 := by decide +kernel
theorem dX0_tick_0 : decode cX0_tick 0 = .ok (.aload_n 2, 1) := dk_44 (dk_at dksX0_tick_0 0 rfl rfl)
theorem dX0_tick_1 : decode cX0_tick 1 = .ok (.iconst 0, 1) := dk_3 (dk_at dksX0_tick_0 1 rfl rfl)
theorem dX0_tick_2 : decode cX0_tick 2 = .ok (.aload_n 0, 1) := dk_42 (dk_at dksX0_tick_0 2 rfl rfl)
theorem dX0_tick_3 : decode cX0_tick 3 = .ok (.iload_n 1, 1) := dk_27 (dk_at dksX0_tick_0 3 rfl rfl)
theorem dX0_tick_4 : decode cX0_tick 4 = .ok (.invokevirtual 15, 3) := dk_182 0 15 (dk_at dksX0_tick_0 4 rfl rfl)
theorem dX0_tick_7 : decode cX0_tick 7 = .ok (.i2l, 1) := dk_133 (dk_at dksX0_tick_0 7 rfl rfl)
theorem dX0_tick_8 : decode cX0_tick 8 = .ok (.lastore, 1) := dk_80 (dk_at dksX0_tick_0 8 rfl rfl)
theorem dX0_tick_9 : decode cX0_tick 9 = .ok (.goto 6, 3) := dk_167 0 6 (dk_at dksX0_tick_0 9 rfl rfl)
theorem dX0_tick_12 : decode cX0_tick 12 = .ok (.astore_n 3, 1) := dk_78 (dk_at dksX0_tick_0 12 rfl rfl)
theorem dX0_tick_13 : decode cX0_tick 13 = .ok (.iconst 1, 1) := dk_4 (dk_at dksX0_tick_0 13 rfl rfl)
theorem dX0_tick_14 : decode cX0_tick 14 = .ok (.ireturn, 1) := dk_172 (dk_at dksX0_tick_0 14 rfl rfl)
theorem dX0_tick_15 : decode cX0_tick 15 = .ok (.iconst 0, 1) := dk_3 (dk_at dksX0_tick_0 15 rfl rfl)
theorem dX0_tick_16 : decode cX0_tick 16 = .ok (.ireturn, 1) := dk_172 (dk_at dksX0_tick_0 16 rfl rfl)
abbrev cX0_law : ByteArray := method_5_code
def yX0_law : MethodName := ⟨RX0, "law", "(LCartBridge;I[J)I"⟩
def dkwX0_law_0 : List UInt8 := [44, 3, 42, 27, 182, 0, 19, 133, 80, 167, 0, 6, 78, 4, 172, 3, 172]
abbrev dktX0_law_0 : List UInt8 := dkwX0_law_0 ++ []
theorem dksX0_law_0 : cX0_law.data.toList.drop 0 = dktX0_law_0 := by decide +kernel
theorem dX0_law_0 : decode cX0_law 0 = .ok (.aload_n 2, 1) := dk_44 (dk_at dksX0_law_0 0 rfl rfl)
theorem dX0_law_1 : decode cX0_law 1 = .ok (.iconst 0, 1) := dk_3 (dk_at dksX0_law_0 1 rfl rfl)
theorem dX0_law_2 : decode cX0_law 2 = .ok (.aload_n 0, 1) := dk_42 (dk_at dksX0_law_0 2 rfl rfl)
theorem dX0_law_3 : decode cX0_law 3 = .ok (.iload_n 1, 1) := dk_27 (dk_at dksX0_law_0 3 rfl rfl)
theorem dX0_law_4 : decode cX0_law 4 = .ok (.invokevirtual 19, 3) := dk_182 0 19 (dk_at dksX0_law_0 4 rfl rfl)
theorem dX0_law_7 : decode cX0_law 7 = .ok (.i2l, 1) := dk_133 (dk_at dksX0_law_0 7 rfl rfl)
theorem dX0_law_8 : decode cX0_law 8 = .ok (.lastore, 1) := dk_80 (dk_at dksX0_law_0 8 rfl rfl)
theorem dX0_law_9 : decode cX0_law 9 = .ok (.goto 6, 3) := dk_167 0 6 (dk_at dksX0_law_0 9 rfl rfl)
theorem dX0_law_12 : decode cX0_law 12 = .ok (.astore_n 3, 1) := dk_78 (dk_at dksX0_law_0 12 rfl rfl)
theorem dX0_law_13 : decode cX0_law 13 = .ok (.iconst 1, 1) := dk_4 (dk_at dksX0_law_0 13 rfl rfl)
theorem dX0_law_14 : decode cX0_law 14 = .ok (.ireturn, 1) := dk_172 (dk_at dksX0_law_0 14 rfl rfl)
theorem dX0_law_15 : decode cX0_law 15 = .ok (.iconst 0, 1) := dk_3 (dk_at dksX0_law_0 15 rfl rfl)
theorem dX0_law_16 : decode cX0_law 16 = .ok (.ireturn, 1) := dk_172 (dk_at dksX0_law_0 16 rfl rfl)
abbrev cX0_share : ByteArray := method_6_code
def yX0_share : MethodName := ⟨RX0, "share", "(LCartBridge;I[J)I"⟩
def dkwX0_share_0 : List UInt8 := [44, 3, 42, 27, 182, 0, 22, 133, 80, 167, 0, 6, 78, 4, 172, 3, 172]
abbrev dktX0_share_0 : List UInt8 := dkwX0_share_0 ++ []
theorem dksX0_share_0 : cX0_share.data.toList.drop 0 = dktX0_share_0 := by decide +kernel
theorem dX0_share_0 : decode cX0_share 0 = .ok (.aload_n 2, 1) := dk_44 (dk_at dksX0_share_0 0 rfl rfl)
theorem dX0_share_1 : decode cX0_share 1 = .ok (.iconst 0, 1) := dk_3 (dk_at dksX0_share_0 1 rfl rfl)
theorem dX0_share_2 : decode cX0_share 2 = .ok (.aload_n 0, 1) := dk_42 (dk_at dksX0_share_0 2 rfl rfl)
theorem dX0_share_3 : decode cX0_share 3 = .ok (.iload_n 1, 1) := dk_27 (dk_at dksX0_share_0 3 rfl rfl)
theorem dX0_share_4 : decode cX0_share 4 = .ok (.invokevirtual 22, 3) := dk_182 0 22 (dk_at dksX0_share_0 4 rfl rfl)
theorem dX0_share_7 : decode cX0_share 7 = .ok (.i2l, 1) := dk_133 (dk_at dksX0_share_0 7 rfl rfl)
theorem dX0_share_8 : decode cX0_share 8 = .ok (.lastore, 1) := dk_80 (dk_at dksX0_share_0 8 rfl rfl)
theorem dX0_share_9 : decode cX0_share 9 = .ok (.goto 6, 3) := dk_167 0 6 (dk_at dksX0_share_0 9 rfl rfl)
theorem dX0_share_12 : decode cX0_share 12 = .ok (.astore_n 3, 1) := dk_78 (dk_at dksX0_share_0 12 rfl rfl)
theorem dX0_share_13 : decode cX0_share 13 = .ok (.iconst 1, 1) := dk_4 (dk_at dksX0_share_0 13 rfl rfl)
theorem dX0_share_14 : decode cX0_share 14 = .ok (.ireturn, 1) := dk_172 (dk_at dksX0_share_0 14 rfl rfl)
theorem dX0_share_15 : decode cX0_share 15 = .ok (.iconst 0, 1) := dk_3 (dk_at dksX0_share_0 15 rfl rfl)
theorem dX0_share_16 : decode cX0_share 16 = .ok (.ireturn, 1) := dk_172 (dk_at dksX0_share_0 16 rfl rfl)
abbrev cX0_spans : ByteArray := method_7_code
def yX0_spans : MethodName := ⟨RX0, "spans", "(LCartBridge;I[J)I"⟩
def dkwX0_spans_0 : List UInt8 := [44, 3, 42, 27, 182, 0, 25, 133, 80, 167, 0, 6, 78, 4, 172, 3, 172]
abbrev dktX0_spans_0 : List UInt8 := dkwX0_spans_0 ++ []
theorem dksX0_spans_0 : cX0_spans.data.toList.drop 0 = dktX0_spans_0 := by decide +kernel
theorem dX0_spans_0 : decode cX0_spans 0 = .ok (.aload_n 2, 1) := dk_44 (dk_at dksX0_spans_0 0 rfl rfl)
theorem dX0_spans_1 : decode cX0_spans 1 = .ok (.iconst 0, 1) := dk_3 (dk_at dksX0_spans_0 1 rfl rfl)
theorem dX0_spans_2 : decode cX0_spans 2 = .ok (.aload_n 0, 1) := dk_42 (dk_at dksX0_spans_0 2 rfl rfl)
theorem dX0_spans_3 : decode cX0_spans 3 = .ok (.iload_n 1, 1) := dk_27 (dk_at dksX0_spans_0 3 rfl rfl)
theorem dX0_spans_4 : decode cX0_spans 4 = .ok (.invokevirtual 25, 3) := dk_182 0 25 (dk_at dksX0_spans_0 4 rfl rfl)
theorem dX0_spans_7 : decode cX0_spans 7 = .ok (.i2l, 1) := dk_133 (dk_at dksX0_spans_0 7 rfl rfl)
theorem dX0_spans_8 : decode cX0_spans 8 = .ok (.lastore, 1) := dk_80 (dk_at dksX0_spans_0 8 rfl rfl)
theorem dX0_spans_9 : decode cX0_spans 9 = .ok (.goto 6, 3) := dk_167 0 6 (dk_at dksX0_spans_0 9 rfl rfl)
theorem dX0_spans_12 : decode cX0_spans 12 = .ok (.astore_n 3, 1) := dk_78 (dk_at dksX0_spans_0 12 rfl rfl)
theorem dX0_spans_13 : decode cX0_spans 13 = .ok (.iconst 1, 1) := dk_4 (dk_at dksX0_spans_0 13 rfl rfl)
theorem dX0_spans_14 : decode cX0_spans 14 = .ok (.ireturn, 1) := dk_172 (dk_at dksX0_spans_0 14 rfl rfl)
theorem dX0_spans_15 : decode cX0_spans 15 = .ok (.iconst 0, 1) := dk_3 (dk_at dksX0_spans_0 15 rfl rfl)
theorem dX0_spans_16 : decode cX0_spans 16 = .ok (.ireturn, 1) := dk_172 (dk_at dksX0_spans_0 16 rfl rfl)
abbrev cX0_leave : ByteArray := method_8_code
def yX0_leave : MethodName := ⟨RX0, "leave", "(LCartBridge;I[J)I"⟩
def dkwX0_leave_0 : List UInt8 := [44, 3, 42, 27, 182, 0, 28, 133, 80, 167, 0, 6, 78, 4, 172, 3, 172]
abbrev dktX0_leave_0 : List UInt8 := dkwX0_leave_0 ++ []
theorem dksX0_leave_0 : cX0_leave.data.toList.drop 0 = dktX0_leave_0 := by decide +kernel
theorem dX0_leave_0 : decode cX0_leave 0 = .ok (.aload_n 2, 1) := dk_44 (dk_at dksX0_leave_0 0 rfl rfl)
theorem dX0_leave_1 : decode cX0_leave 1 = .ok (.iconst 0, 1) := dk_3 (dk_at dksX0_leave_0 1 rfl rfl)
theorem dX0_leave_2 : decode cX0_leave 2 = .ok (.aload_n 0, 1) := dk_42 (dk_at dksX0_leave_0 2 rfl rfl)
theorem dX0_leave_3 : decode cX0_leave 3 = .ok (.iload_n 1, 1) := dk_27 (dk_at dksX0_leave_0 3 rfl rfl)
theorem dX0_leave_4 : decode cX0_leave 4 = .ok (.invokevirtual 28, 3) := dk_182 0 28 (dk_at dksX0_leave_0 4 rfl rfl)
theorem dX0_leave_7 : decode cX0_leave 7 = .ok (.i2l, 1) := dk_133 (dk_at dksX0_leave_0 7 rfl rfl)
theorem dX0_leave_8 : decode cX0_leave 8 = .ok (.lastore, 1) := dk_80 (dk_at dksX0_leave_0 8 rfl rfl)
theorem dX0_leave_9 : decode cX0_leave 9 = .ok (.goto 6, 3) := dk_167 0 6 (dk_at dksX0_leave_0 9 rfl rfl)
theorem dX0_leave_12 : decode cX0_leave 12 = .ok (.astore_n 3, 1) := dk_78 (dk_at dksX0_leave_0 12 rfl rfl)
theorem dX0_leave_13 : decode cX0_leave 13 = .ok (.iconst 1, 1) := dk_4 (dk_at dksX0_leave_0 13 rfl rfl)
theorem dX0_leave_14 : decode cX0_leave 14 = .ok (.ireturn, 1) := dk_172 (dk_at dksX0_leave_0 14 rfl rfl)
theorem dX0_leave_15 : decode cX0_leave 15 = .ok (.iconst 0, 1) := dk_3 (dk_at dksX0_leave_0 15 rfl rfl)
theorem dX0_leave_16 : decode cX0_leave 16 = .ok (.ireturn, 1) := dk_172 (dk_at dksX0_leave_0 16 rfl rfl)
abbrev cX0_turnRow : ByteArray := method_9_code
def yX0_turnRow : MethodName := ⟨RX0, "turnRow", "(LCartBridge;I[J)I"⟩
def dkwX0_turnRow_0 : List UInt8 := [44, 3, 42, 27, 182, 0, 31, 133, 80, 167, 0, 6, 78, 4, 172, 3, 172]
abbrev dktX0_turnRow_0 : List UInt8 := dkwX0_turnRow_0 ++ []
theorem dksX0_turnRow_0 : cX0_turnRow.data.toList.drop 0 = dktX0_turnRow_0 := by decide +kernel
theorem dX0_turnRow_0 : decode cX0_turnRow 0 = .ok (.aload_n 2, 1) := dk_44 (dk_at dksX0_turnRow_0 0 rfl rfl)
theorem dX0_turnRow_1 : decode cX0_turnRow 1 = .ok (.iconst 0, 1) := dk_3 (dk_at dksX0_turnRow_0 1 rfl rfl)
theorem dX0_turnRow_2 : decode cX0_turnRow 2 = .ok (.aload_n 0, 1) := dk_42 (dk_at dksX0_turnRow_0 2 rfl rfl)
theorem dX0_turnRow_3 : decode cX0_turnRow 3 = .ok (.iload_n 1, 1) := dk_27 (dk_at dksX0_turnRow_0 3 rfl rfl)
theorem dX0_turnRow_4 : decode cX0_turnRow 4 = .ok (.invokevirtual 31, 3) := dk_182 0 31 (dk_at dksX0_turnRow_0 4 rfl rfl)
theorem dX0_turnRow_7 : decode cX0_turnRow 7 = .ok (.i2l, 1) := dk_133 (dk_at dksX0_turnRow_0 7 rfl rfl)
theorem dX0_turnRow_8 : decode cX0_turnRow 8 = .ok (.lastore, 1) := dk_80 (dk_at dksX0_turnRow_0 8 rfl rfl)
theorem dX0_turnRow_9 : decode cX0_turnRow 9 = .ok (.goto 6, 3) := dk_167 0 6 (dk_at dksX0_turnRow_0 9 rfl rfl)
theorem dX0_turnRow_12 : decode cX0_turnRow 12 = .ok (.astore_n 3, 1) := dk_78 (dk_at dksX0_turnRow_0 12 rfl rfl)
theorem dX0_turnRow_13 : decode cX0_turnRow 13 = .ok (.iconst 1, 1) := dk_4 (dk_at dksX0_turnRow_0 13 rfl rfl)
theorem dX0_turnRow_14 : decode cX0_turnRow 14 = .ok (.ireturn, 1) := dk_172 (dk_at dksX0_turnRow_0 14 rfl rfl)
theorem dX0_turnRow_15 : decode cX0_turnRow 15 = .ok (.iconst 0, 1) := dk_3 (dk_at dksX0_turnRow_0 15 rfl rfl)
theorem dX0_turnRow_16 : decode cX0_turnRow 16 = .ok (.ireturn, 1) := dk_172 (dk_at dksX0_turnRow_0 16 rfl rfl)
abbrev cX0_yieldBy : ByteArray := method_10_code
def yX0_yieldBy : MethodName := ⟨RX0, "yieldBy", "(LCartBridge;I[J)I"⟩
def dkwX0_yieldBy_0 : List UInt8 := [44, 3, 42, 27, 182, 0, 34, 133, 80, 167, 0, 6, 78, 4, 172, 3, 172]
abbrev dktX0_yieldBy_0 : List UInt8 := dkwX0_yieldBy_0 ++ []
theorem dksX0_yieldBy_0 : cX0_yieldBy.data.toList.drop 0 = dktX0_yieldBy_0 := by decide +kernel
theorem dX0_yieldBy_0 : decode cX0_yieldBy 0 = .ok (.aload_n 2, 1) := dk_44 (dk_at dksX0_yieldBy_0 0 rfl rfl)
theorem dX0_yieldBy_1 : decode cX0_yieldBy 1 = .ok (.iconst 0, 1) := dk_3 (dk_at dksX0_yieldBy_0 1 rfl rfl)
theorem dX0_yieldBy_2 : decode cX0_yieldBy 2 = .ok (.aload_n 0, 1) := dk_42 (dk_at dksX0_yieldBy_0 2 rfl rfl)
theorem dX0_yieldBy_3 : decode cX0_yieldBy 3 = .ok (.iload_n 1, 1) := dk_27 (dk_at dksX0_yieldBy_0 3 rfl rfl)
theorem dX0_yieldBy_4 : decode cX0_yieldBy 4 = .ok (.invokevirtual 34, 3) := dk_182 0 34 (dk_at dksX0_yieldBy_0 4 rfl rfl)
theorem dX0_yieldBy_7 : decode cX0_yieldBy 7 = .ok (.i2l, 1) := dk_133 (dk_at dksX0_yieldBy_0 7 rfl rfl)
theorem dX0_yieldBy_8 : decode cX0_yieldBy 8 = .ok (.lastore, 1) := dk_80 (dk_at dksX0_yieldBy_0 8 rfl rfl)
theorem dX0_yieldBy_9 : decode cX0_yieldBy 9 = .ok (.goto 6, 3) := dk_167 0 6 (dk_at dksX0_yieldBy_0 9 rfl rfl)
theorem dX0_yieldBy_12 : decode cX0_yieldBy 12 = .ok (.astore_n 3, 1) := dk_78 (dk_at dksX0_yieldBy_0 12 rfl rfl)
theorem dX0_yieldBy_13 : decode cX0_yieldBy 13 = .ok (.iconst 1, 1) := dk_4 (dk_at dksX0_yieldBy_0 13 rfl rfl)
theorem dX0_yieldBy_14 : decode cX0_yieldBy 14 = .ok (.ireturn, 1) := dk_172 (dk_at dksX0_yieldBy_0 14 rfl rfl)
theorem dX0_yieldBy_15 : decode cX0_yieldBy 15 = .ok (.iconst 0, 1) := dk_3 (dk_at dksX0_yieldBy_0 15 rfl rfl)
theorem dX0_yieldBy_16 : decode cX0_yieldBy 16 = .ok (.ireturn, 1) := dk_172 (dk_at dksX0_yieldBy_0 16 rfl rfl)
abbrev cX0_cartOf : ByteArray := method_11_code
def yX0_cartOf : MethodName := ⟨RX0, "cartOf", "(LCartBridge;II[J)I"⟩
def dkwX0_cartOf_0 : List UInt8 := [45, 3, 42, 27, 28, 182, 0, 37, 133, 80, 167, 0, 11, 58, 4, 4, 172, 58, 4, 5, 172, 3, 172]
abbrev dktX0_cartOf_0 : List UInt8 := dkwX0_cartOf_0 ++ []
theorem dksX0_cartOf_0 : cX0_cartOf.data.toList.drop 0 = dktX0_cartOf_0 := by decide +kernel
theorem dX0_cartOf_0 : decode cX0_cartOf 0 = .ok (.aload_n 3, 1) := dk_45 (dk_at dksX0_cartOf_0 0 rfl rfl)
theorem dX0_cartOf_1 : decode cX0_cartOf 1 = .ok (.iconst 0, 1) := dk_3 (dk_at dksX0_cartOf_0 1 rfl rfl)
theorem dX0_cartOf_2 : decode cX0_cartOf 2 = .ok (.aload_n 0, 1) := dk_42 (dk_at dksX0_cartOf_0 2 rfl rfl)
theorem dX0_cartOf_3 : decode cX0_cartOf 3 = .ok (.iload_n 1, 1) := dk_27 (dk_at dksX0_cartOf_0 3 rfl rfl)
theorem dX0_cartOf_4 : decode cX0_cartOf 4 = .ok (.iload_n 2, 1) := dk_28 (dk_at dksX0_cartOf_0 4 rfl rfl)
theorem dX0_cartOf_5 : decode cX0_cartOf 5 = .ok (.invokevirtual 37, 3) := dk_182 0 37 (dk_at dksX0_cartOf_0 5 rfl rfl)
theorem dX0_cartOf_8 : decode cX0_cartOf 8 = .ok (.i2l, 1) := dk_133 (dk_at dksX0_cartOf_0 8 rfl rfl)
theorem dX0_cartOf_9 : decode cX0_cartOf 9 = .ok (.lastore, 1) := dk_80 (dk_at dksX0_cartOf_0 9 rfl rfl)
theorem dX0_cartOf_10 : decode cX0_cartOf 10 = .ok (.goto 11, 3) := dk_167 0 11 (dk_at dksX0_cartOf_0 10 rfl rfl)
theorem dX0_cartOf_13 : decode cX0_cartOf 13 = .ok (.astore 4, 2) := dk_58 4 (dk_at dksX0_cartOf_0 13 rfl rfl)
theorem dX0_cartOf_15 : decode cX0_cartOf 15 = .ok (.iconst 1, 1) := dk_4 (dk_at dksX0_cartOf_0 15 rfl rfl)
theorem dX0_cartOf_16 : decode cX0_cartOf 16 = .ok (.ireturn, 1) := dk_172 (dk_at dksX0_cartOf_0 16 rfl rfl)
theorem dX0_cartOf_17 : decode cX0_cartOf 17 = .ok (.astore 4, 2) := dk_58 4 (dk_at dksX0_cartOf_0 17 rfl rfl)
theorem dX0_cartOf_19 : decode cX0_cartOf 19 = .ok (.iconst 2, 1) := dk_5 (dk_at dksX0_cartOf_0 19 rfl rfl)
theorem dX0_cartOf_20 : decode cX0_cartOf 20 = .ok (.ireturn, 1) := dk_172 (dk_at dksX0_cartOf_0 20 rfl rfl)
theorem dX0_cartOf_21 : decode cX0_cartOf 21 = .ok (.iconst 0, 1) := dk_3 (dk_at dksX0_cartOf_0 21 rfl rfl)
theorem dX0_cartOf_22 : decode cX0_cartOf 22 = .ok (.ireturn, 1) := dk_172 (dk_at dksX0_cartOf_0 22 rfl rfl)
abbrev cX0_waited : ByteArray := method_12_code
def yX0_waited : MethodName := ⟨RX0, "waited", "(LCartBridge;I[J)I"⟩
def dkwX0_waited_0 : List UInt8 := [44, 3, 42, 27, 182, 0, 44, 133, 80, 167, 0, 6, 78, 4, 172, 3, 172]
abbrev dktX0_waited_0 : List UInt8 := dkwX0_waited_0 ++ []
theorem dksX0_waited_0 : cX0_waited.data.toList.drop 0 = dktX0_waited_0 := by decide +kernel
theorem dX0_waited_0 : decode cX0_waited 0 = .ok (.aload_n 2, 1) := dk_44 (dk_at dksX0_waited_0 0 rfl rfl)
theorem dX0_waited_1 : decode cX0_waited 1 = .ok (.iconst 0, 1) := dk_3 (dk_at dksX0_waited_0 1 rfl rfl)
theorem dX0_waited_2 : decode cX0_waited 2 = .ok (.aload_n 0, 1) := dk_42 (dk_at dksX0_waited_0 2 rfl rfl)
theorem dX0_waited_3 : decode cX0_waited 3 = .ok (.iload_n 1, 1) := dk_27 (dk_at dksX0_waited_0 3 rfl rfl)
theorem dX0_waited_4 : decode cX0_waited 4 = .ok (.invokevirtual 44, 3) := dk_182 0 44 (dk_at dksX0_waited_0 4 rfl rfl)
theorem dX0_waited_7 : decode cX0_waited 7 = .ok (.i2l, 1) := dk_133 (dk_at dksX0_waited_0 7 rfl rfl)
theorem dX0_waited_8 : decode cX0_waited 8 = .ok (.lastore, 1) := dk_80 (dk_at dksX0_waited_0 8 rfl rfl)
theorem dX0_waited_9 : decode cX0_waited 9 = .ok (.goto 6, 3) := dk_167 0 6 (dk_at dksX0_waited_0 9 rfl rfl)
theorem dX0_waited_12 : decode cX0_waited 12 = .ok (.astore_n 3, 1) := dk_78 (dk_at dksX0_waited_0 12 rfl rfl)
theorem dX0_waited_13 : decode cX0_waited 13 = .ok (.iconst 1, 1) := dk_4 (dk_at dksX0_waited_0 13 rfl rfl)
theorem dX0_waited_14 : decode cX0_waited 14 = .ok (.ireturn, 1) := dk_172 (dk_at dksX0_waited_0 14 rfl rfl)
theorem dX0_waited_15 : decode cX0_waited 15 = .ok (.iconst 0, 1) := dk_3 (dk_at dksX0_waited_0 15 rfl rfl)
theorem dX0_waited_16 : decode cX0_waited 16 = .ok (.ireturn, 1) := dk_172 (dk_at dksX0_waited_0 16 rfl rfl)
abbrev cX0_waitedAgain : ByteArray := method_13_code
def yX0_waitedAgain : MethodName := ⟨RX0, "waitedAgain", "(LCartBridge;I[J)I"⟩
def dkwX0_waitedAgain_0 : List UInt8 := [44, 3, 42, 27, 182, 0, 47, 133, 80, 167, 0, 6, 78, 4, 172, 3, 172]
abbrev dktX0_waitedAgain_0 : List UInt8 := dkwX0_waitedAgain_0 ++ []
theorem dksX0_waitedAgain_0 : cX0_waitedAgain.data.toList.drop 0 = dktX0_waitedAgain_0 := by decide +kernel
theorem dX0_waitedAgain_0 : decode cX0_waitedAgain 0 = .ok (.aload_n 2, 1) := dk_44 (dk_at dksX0_waitedAgain_0 0 rfl rfl)
theorem dX0_waitedAgain_1 : decode cX0_waitedAgain 1 = .ok (.iconst 0, 1) := dk_3 (dk_at dksX0_waitedAgain_0 1 rfl rfl)
theorem dX0_waitedAgain_2 : decode cX0_waitedAgain 2 = .ok (.aload_n 0, 1) := dk_42 (dk_at dksX0_waitedAgain_0 2 rfl rfl)
theorem dX0_waitedAgain_3 : decode cX0_waitedAgain 3 = .ok (.iload_n 1, 1) := dk_27 (dk_at dksX0_waitedAgain_0 3 rfl rfl)
theorem dX0_waitedAgain_4 : decode cX0_waitedAgain 4 = .ok (.invokevirtual 47, 3) := dk_182 0 47 (dk_at dksX0_waitedAgain_0 4 rfl rfl)
theorem dX0_waitedAgain_7 : decode cX0_waitedAgain 7 = .ok (.i2l, 1) := dk_133 (dk_at dksX0_waitedAgain_0 7 rfl rfl)
theorem dX0_waitedAgain_8 : decode cX0_waitedAgain 8 = .ok (.lastore, 1) := dk_80 (dk_at dksX0_waitedAgain_0 8 rfl rfl)
theorem dX0_waitedAgain_9 : decode cX0_waitedAgain 9 = .ok (.goto 6, 3) := dk_167 0 6 (dk_at dksX0_waitedAgain_0 9 rfl rfl)
theorem dX0_waitedAgain_12 : decode cX0_waitedAgain 12 = .ok (.astore_n 3, 1) := dk_78 (dk_at dksX0_waitedAgain_0 12 rfl rfl)
theorem dX0_waitedAgain_13 : decode cX0_waitedAgain 13 = .ok (.iconst 1, 1) := dk_4 (dk_at dksX0_waitedAgain_0 13 rfl rfl)
theorem dX0_waitedAgain_14 : decode cX0_waitedAgain 14 = .ok (.ireturn, 1) := dk_172 (dk_at dksX0_waitedAgain_0 14 rfl rfl)
theorem dX0_waitedAgain_15 : decode cX0_waitedAgain 15 = .ok (.iconst 0, 1) := dk_3 (dk_at dksX0_waitedAgain_0 15 rfl rfl)
theorem dX0_waitedAgain_16 : decode cX0_waitedAgain 16 = .ok (.ireturn, 1) := dk_172 (dk_at dksX0_waitedAgain_0 16 rfl rfl)
abbrev cX0_waiting : ByteArray := method_14_code
def yX0_waiting : MethodName := ⟨RX0, "waiting", "(LCartBridge;II[J)I"⟩
def dkwX0_waiting_0 : List UInt8 := [45, 3, 42, 27, 28, 182, 0, 50, 133, 80, 167, 0, 11, 58, 4, 4, 172, 58, 4, 5, 172, 3, 172]
abbrev dktX0_waiting_0 : List UInt8 := dkwX0_waiting_0 ++ []
theorem dksX0_waiting_0 : cX0_waiting.data.toList.drop 0 = dktX0_waiting_0 := by decide +kernel
theorem dX0_waiting_0 : decode cX0_waiting 0 = .ok (.aload_n 3, 1) := dk_45 (dk_at dksX0_waiting_0 0 rfl rfl)
theorem dX0_waiting_1 : decode cX0_waiting 1 = .ok (.iconst 0, 1) := dk_3 (dk_at dksX0_waiting_0 1 rfl rfl)
theorem dX0_waiting_2 : decode cX0_waiting 2 = .ok (.aload_n 0, 1) := dk_42 (dk_at dksX0_waiting_0 2 rfl rfl)
theorem dX0_waiting_3 : decode cX0_waiting 3 = .ok (.iload_n 1, 1) := dk_27 (dk_at dksX0_waiting_0 3 rfl rfl)
theorem dX0_waiting_4 : decode cX0_waiting 4 = .ok (.iload_n 2, 1) := dk_28 (dk_at dksX0_waiting_0 4 rfl rfl)
theorem dX0_waiting_5 : decode cX0_waiting 5 = .ok (.invokevirtual 50, 3) := dk_182 0 50 (dk_at dksX0_waiting_0 5 rfl rfl)
theorem dX0_waiting_8 : decode cX0_waiting 8 = .ok (.i2l, 1) := dk_133 (dk_at dksX0_waiting_0 8 rfl rfl)
theorem dX0_waiting_9 : decode cX0_waiting 9 = .ok (.lastore, 1) := dk_80 (dk_at dksX0_waiting_0 9 rfl rfl)
theorem dX0_waiting_10 : decode cX0_waiting 10 = .ok (.goto 11, 3) := dk_167 0 11 (dk_at dksX0_waiting_0 10 rfl rfl)
theorem dX0_waiting_13 : decode cX0_waiting 13 = .ok (.astore 4, 2) := dk_58 4 (dk_at dksX0_waiting_0 13 rfl rfl)
theorem dX0_waiting_15 : decode cX0_waiting 15 = .ok (.iconst 1, 1) := dk_4 (dk_at dksX0_waiting_0 15 rfl rfl)
theorem dX0_waiting_16 : decode cX0_waiting 16 = .ok (.ireturn, 1) := dk_172 (dk_at dksX0_waiting_0 16 rfl rfl)
theorem dX0_waiting_17 : decode cX0_waiting 17 = .ok (.astore 4, 2) := dk_58 4 (dk_at dksX0_waiting_0 17 rfl rfl)
theorem dX0_waiting_19 : decode cX0_waiting 19 = .ok (.iconst 2, 1) := dk_5 (dk_at dksX0_waiting_0 19 rfl rfl)
theorem dX0_waiting_20 : decode cX0_waiting 20 = .ok (.ireturn, 1) := dk_172 (dk_at dksX0_waiting_0 20 rfl rfl)
theorem dX0_waiting_21 : decode cX0_waiting 21 = .ok (.iconst 0, 1) := dk_3 (dk_at dksX0_waiting_0 21 rfl rfl)
theorem dX0_waiting_22 : decode cX0_waiting 22 = .ok (.ireturn, 1) := dk_172 (dk_at dksX0_waiting_0 22 rfl rfl)
abbrev cX0_rowLoad : ByteArray := method_15_code
def yX0_rowLoad : MethodName := ⟨RX0, "rowLoad", "(LCartBridge;I[J)I"⟩
def dkwX0_rowLoad_0 : List UInt8 := [44, 3, 42, 27, 182, 0, 55, 133, 80, 167, 0, 6, 78, 4, 172, 3, 172]
abbrev dktX0_rowLoad_0 : List UInt8 := dkwX0_rowLoad_0 ++ []
theorem dksX0_rowLoad_0 : cX0_rowLoad.data.toList.drop 0 = dktX0_rowLoad_0 := by decide +kernel
theorem dX0_rowLoad_0 : decode cX0_rowLoad 0 = .ok (.aload_n 2, 1) := dk_44 (dk_at dksX0_rowLoad_0 0 rfl rfl)
theorem dX0_rowLoad_1 : decode cX0_rowLoad 1 = .ok (.iconst 0, 1) := dk_3 (dk_at dksX0_rowLoad_0 1 rfl rfl)
theorem dX0_rowLoad_2 : decode cX0_rowLoad 2 = .ok (.aload_n 0, 1) := dk_42 (dk_at dksX0_rowLoad_0 2 rfl rfl)
theorem dX0_rowLoad_3 : decode cX0_rowLoad 3 = .ok (.iload_n 1, 1) := dk_27 (dk_at dksX0_rowLoad_0 3 rfl rfl)
theorem dX0_rowLoad_4 : decode cX0_rowLoad 4 = .ok (.invokevirtual 55, 3) := dk_182 0 55 (dk_at dksX0_rowLoad_0 4 rfl rfl)
theorem dX0_rowLoad_7 : decode cX0_rowLoad 7 = .ok (.i2l, 1) := dk_133 (dk_at dksX0_rowLoad_0 7 rfl rfl)
theorem dX0_rowLoad_8 : decode cX0_rowLoad 8 = .ok (.lastore, 1) := dk_80 (dk_at dksX0_rowLoad_0 8 rfl rfl)
theorem dX0_rowLoad_9 : decode cX0_rowLoad 9 = .ok (.goto 6, 3) := dk_167 0 6 (dk_at dksX0_rowLoad_0 9 rfl rfl)
theorem dX0_rowLoad_12 : decode cX0_rowLoad 12 = .ok (.astore_n 3, 1) := dk_78 (dk_at dksX0_rowLoad_0 12 rfl rfl)
theorem dX0_rowLoad_13 : decode cX0_rowLoad 13 = .ok (.iconst 1, 1) := dk_4 (dk_at dksX0_rowLoad_0 13 rfl rfl)
theorem dX0_rowLoad_14 : decode cX0_rowLoad 14 = .ok (.ireturn, 1) := dk_172 (dk_at dksX0_rowLoad_0 14 rfl rfl)
theorem dX0_rowLoad_15 : decode cX0_rowLoad 15 = .ok (.iconst 0, 1) := dk_3 (dk_at dksX0_rowLoad_0 15 rfl rfl)
theorem dX0_rowLoad_16 : decode cX0_rowLoad 16 = .ok (.ireturn, 1) := dk_172 (dk_at dksX0_rowLoad_0 16 rfl rfl)
abbrev cX0_onSpan : ByteArray := method_16_code
def yX0_onSpan : MethodName := ⟨RX0, "onSpan", "(LCartBridge;I[J)I"⟩
def dkwX0_onSpan_0 : List UInt8 := [44, 3, 42, 27, 182, 0, 58, 133, 80, 167, 0, 6, 78, 4, 172, 3, 172]
abbrev dktX0_onSpan_0 : List UInt8 := dkwX0_onSpan_0 ++ []
theorem dksX0_onSpan_0 : cX0_onSpan.data.toList.drop 0 = dktX0_onSpan_0 := by decide +kernel
theorem dX0_onSpan_0 : decode cX0_onSpan 0 = .ok (.aload_n 2, 1) := dk_44 (dk_at dksX0_onSpan_0 0 rfl rfl)
theorem dX0_onSpan_1 : decode cX0_onSpan 1 = .ok (.iconst 0, 1) := dk_3 (dk_at dksX0_onSpan_0 1 rfl rfl)
theorem dX0_onSpan_2 : decode cX0_onSpan 2 = .ok (.aload_n 0, 1) := dk_42 (dk_at dksX0_onSpan_0 2 rfl rfl)
theorem dX0_onSpan_3 : decode cX0_onSpan 3 = .ok (.iload_n 1, 1) := dk_27 (dk_at dksX0_onSpan_0 3 rfl rfl)
theorem dX0_onSpan_4 : decode cX0_onSpan 4 = .ok (.invokevirtual 58, 3) := dk_182 0 58 (dk_at dksX0_onSpan_0 4 rfl rfl)
theorem dX0_onSpan_7 : decode cX0_onSpan 7 = .ok (.i2l, 1) := dk_133 (dk_at dksX0_onSpan_0 7 rfl rfl)
theorem dX0_onSpan_8 : decode cX0_onSpan 8 = .ok (.lastore, 1) := dk_80 (dk_at dksX0_onSpan_0 8 rfl rfl)
theorem dX0_onSpan_9 : decode cX0_onSpan 9 = .ok (.goto 6, 3) := dk_167 0 6 (dk_at dksX0_onSpan_0 9 rfl rfl)
theorem dX0_onSpan_12 : decode cX0_onSpan 12 = .ok (.astore_n 3, 1) := dk_78 (dk_at dksX0_onSpan_0 12 rfl rfl)
theorem dX0_onSpan_13 : decode cX0_onSpan 13 = .ok (.iconst 1, 1) := dk_4 (dk_at dksX0_onSpan_0 13 rfl rfl)
theorem dX0_onSpan_14 : decode cX0_onSpan 14 = .ok (.ireturn, 1) := dk_172 (dk_at dksX0_onSpan_0 14 rfl rfl)
theorem dX0_onSpan_15 : decode cX0_onSpan 15 = .ok (.iconst 0, 1) := dk_3 (dk_at dksX0_onSpan_0 15 rfl rfl)
theorem dX0_onSpan_16 : decode cX0_onSpan 16 = .ok (.ireturn, 1) := dk_172 (dk_at dksX0_onSpan_0 16 rfl rfl)
abbrev cX0_runLoad : ByteArray := method_17_code
def yX0_runLoad : MethodName := ⟨RX0, "runLoad", "(LCartBridge;I[J)I"⟩
def dkwX0_runLoad_0 : List UInt8 := [44, 3, 42, 27, 182, 0, 61, 133, 80, 167, 0, 9, 78, 4, 172, 78, 5, 172, 3, 172]
abbrev dktX0_runLoad_0 : List UInt8 := dkwX0_runLoad_0 ++ []
theorem dksX0_runLoad_0 : cX0_runLoad.data.toList.drop 0 = dktX0_runLoad_0 := by decide +kernel
theorem dX0_runLoad_0 : decode cX0_runLoad 0 = .ok (.aload_n 2, 1) := dk_44 (dk_at dksX0_runLoad_0 0 rfl rfl)
theorem dX0_runLoad_1 : decode cX0_runLoad 1 = .ok (.iconst 0, 1) := dk_3 (dk_at dksX0_runLoad_0 1 rfl rfl)
theorem dX0_runLoad_2 : decode cX0_runLoad 2 = .ok (.aload_n 0, 1) := dk_42 (dk_at dksX0_runLoad_0 2 rfl rfl)
theorem dX0_runLoad_3 : decode cX0_runLoad 3 = .ok (.iload_n 1, 1) := dk_27 (dk_at dksX0_runLoad_0 3 rfl rfl)
theorem dX0_runLoad_4 : decode cX0_runLoad 4 = .ok (.invokevirtual 61, 3) := dk_182 0 61 (dk_at dksX0_runLoad_0 4 rfl rfl)
theorem dX0_runLoad_7 : decode cX0_runLoad 7 = .ok (.i2l, 1) := dk_133 (dk_at dksX0_runLoad_0 7 rfl rfl)
theorem dX0_runLoad_8 : decode cX0_runLoad 8 = .ok (.lastore, 1) := dk_80 (dk_at dksX0_runLoad_0 8 rfl rfl)
theorem dX0_runLoad_9 : decode cX0_runLoad 9 = .ok (.goto 9, 3) := dk_167 0 9 (dk_at dksX0_runLoad_0 9 rfl rfl)
theorem dX0_runLoad_12 : decode cX0_runLoad 12 = .ok (.astore_n 3, 1) := dk_78 (dk_at dksX0_runLoad_0 12 rfl rfl)
theorem dX0_runLoad_13 : decode cX0_runLoad 13 = .ok (.iconst 1, 1) := dk_4 (dk_at dksX0_runLoad_0 13 rfl rfl)
theorem dX0_runLoad_14 : decode cX0_runLoad 14 = .ok (.ireturn, 1) := dk_172 (dk_at dksX0_runLoad_0 14 rfl rfl)
theorem dX0_runLoad_15 : decode cX0_runLoad 15 = .ok (.astore_n 3, 1) := dk_78 (dk_at dksX0_runLoad_0 15 rfl rfl)
theorem dX0_runLoad_16 : decode cX0_runLoad 16 = .ok (.iconst 2, 1) := dk_5 (dk_at dksX0_runLoad_0 16 rfl rfl)
theorem dX0_runLoad_17 : decode cX0_runLoad 17 = .ok (.ireturn, 1) := dk_172 (dk_at dksX0_runLoad_0 17 rfl rfl)
theorem dX0_runLoad_18 : decode cX0_runLoad 18 = .ok (.iconst 0, 1) := dk_3 (dk_at dksX0_runLoad_0 18 rfl rfl)
theorem dX0_runLoad_19 : decode cX0_runLoad 19 = .ok (.ireturn, 1) := dk_172 (dk_at dksX0_runLoad_0 19 rfl rfl)
abbrev cX0_runLoadAgain : ByteArray := method_18_code
def yX0_runLoadAgain : MethodName := ⟨RX0, "runLoadAgain", "(LCartBridge;I[J)I"⟩
def dkwX0_runLoadAgain_0 : List UInt8 := [44, 3, 42, 27, 182, 0, 66, 133, 80, 167, 0, 9, 78, 4, 172, 78, 5, 172, 3, 172]
abbrev dktX0_runLoadAgain_0 : List UInt8 := dkwX0_runLoadAgain_0 ++ []
theorem dksX0_runLoadAgain_0 : cX0_runLoadAgain.data.toList.drop 0 = dktX0_runLoadAgain_0 := by decide +kernel
theorem dX0_runLoadAgain_0 : decode cX0_runLoadAgain 0 = .ok (.aload_n 2, 1) := dk_44 (dk_at dksX0_runLoadAgain_0 0 rfl rfl)
theorem dX0_runLoadAgain_1 : decode cX0_runLoadAgain 1 = .ok (.iconst 0, 1) := dk_3 (dk_at dksX0_runLoadAgain_0 1 rfl rfl)
theorem dX0_runLoadAgain_2 : decode cX0_runLoadAgain 2 = .ok (.aload_n 0, 1) := dk_42 (dk_at dksX0_runLoadAgain_0 2 rfl rfl)
theorem dX0_runLoadAgain_3 : decode cX0_runLoadAgain 3 = .ok (.iload_n 1, 1) := dk_27 (dk_at dksX0_runLoadAgain_0 3 rfl rfl)
theorem dX0_runLoadAgain_4 : decode cX0_runLoadAgain 4 = .ok (.invokevirtual 66, 3) := dk_182 0 66 (dk_at dksX0_runLoadAgain_0 4 rfl rfl)
theorem dX0_runLoadAgain_7 : decode cX0_runLoadAgain 7 = .ok (.i2l, 1) := dk_133 (dk_at dksX0_runLoadAgain_0 7 rfl rfl)
theorem dX0_runLoadAgain_8 : decode cX0_runLoadAgain 8 = .ok (.lastore, 1) := dk_80 (dk_at dksX0_runLoadAgain_0 8 rfl rfl)
theorem dX0_runLoadAgain_9 : decode cX0_runLoadAgain 9 = .ok (.goto 9, 3) := dk_167 0 9 (dk_at dksX0_runLoadAgain_0 9 rfl rfl)
theorem dX0_runLoadAgain_12 : decode cX0_runLoadAgain 12 = .ok (.astore_n 3, 1) := dk_78 (dk_at dksX0_runLoadAgain_0 12 rfl rfl)
theorem dX0_runLoadAgain_13 : decode cX0_runLoadAgain 13 = .ok (.iconst 1, 1) := dk_4 (dk_at dksX0_runLoadAgain_0 13 rfl rfl)
theorem dX0_runLoadAgain_14 : decode cX0_runLoadAgain 14 = .ok (.ireturn, 1) := dk_172 (dk_at dksX0_runLoadAgain_0 14 rfl rfl)
theorem dX0_runLoadAgain_15 : decode cX0_runLoadAgain 15 = .ok (.astore_n 3, 1) := dk_78 (dk_at dksX0_runLoadAgain_0 15 rfl rfl)
theorem dX0_runLoadAgain_16 : decode cX0_runLoadAgain 16 = .ok (.iconst 2, 1) := dk_5 (dk_at dksX0_runLoadAgain_0 16 rfl rfl)
theorem dX0_runLoadAgain_17 : decode cX0_runLoadAgain 17 = .ok (.ireturn, 1) := dk_172 (dk_at dksX0_runLoadAgain_0 17 rfl rfl)
theorem dX0_runLoadAgain_18 : decode cX0_runLoadAgain 18 = .ok (.iconst 0, 1) := dk_3 (dk_at dksX0_runLoadAgain_0 18 rfl rfl)
theorem dX0_runLoadAgain_19 : decode cX0_runLoadAgain 19 = .ok (.ireturn, 1) := dk_172 (dk_at dksX0_runLoadAgain_0 19 rfl rfl)
abbrev cX0_runEnd : ByteArray := method_19_code
def yX0_runEnd : MethodName := ⟨RX0, "runEnd", "(LCartBridge;I[J)I"⟩
def dkwX0_runEnd_0 : List UInt8 := [44, 3, 42, 27, 182, 0, 69, 133, 80, 167, 0, 9, 78, 4, 172, 78, 5, 172, 3, 172]
abbrev dktX0_runEnd_0 : List UInt8 := dkwX0_runEnd_0 ++ []
theorem dksX0_runEnd_0 : cX0_runEnd.data.toList.drop 0 = dktX0_runEnd_0 := by decide +kernel
theorem dX0_runEnd_0 : decode cX0_runEnd 0 = .ok (.aload_n 2, 1) := dk_44 (dk_at dksX0_runEnd_0 0 rfl rfl)
theorem dX0_runEnd_1 : decode cX0_runEnd 1 = .ok (.iconst 0, 1) := dk_3 (dk_at dksX0_runEnd_0 1 rfl rfl)
theorem dX0_runEnd_2 : decode cX0_runEnd 2 = .ok (.aload_n 0, 1) := dk_42 (dk_at dksX0_runEnd_0 2 rfl rfl)
theorem dX0_runEnd_3 : decode cX0_runEnd 3 = .ok (.iload_n 1, 1) := dk_27 (dk_at dksX0_runEnd_0 3 rfl rfl)
theorem dX0_runEnd_4 : decode cX0_runEnd 4 = .ok (.invokevirtual 69, 3) := dk_182 0 69 (dk_at dksX0_runEnd_0 4 rfl rfl)
theorem dX0_runEnd_7 : decode cX0_runEnd 7 = .ok (.i2l, 1) := dk_133 (dk_at dksX0_runEnd_0 7 rfl rfl)
theorem dX0_runEnd_8 : decode cX0_runEnd 8 = .ok (.lastore, 1) := dk_80 (dk_at dksX0_runEnd_0 8 rfl rfl)
theorem dX0_runEnd_9 : decode cX0_runEnd 9 = .ok (.goto 9, 3) := dk_167 0 9 (dk_at dksX0_runEnd_0 9 rfl rfl)
theorem dX0_runEnd_12 : decode cX0_runEnd 12 = .ok (.astore_n 3, 1) := dk_78 (dk_at dksX0_runEnd_0 12 rfl rfl)
theorem dX0_runEnd_13 : decode cX0_runEnd 13 = .ok (.iconst 1, 1) := dk_4 (dk_at dksX0_runEnd_0 13 rfl rfl)
theorem dX0_runEnd_14 : decode cX0_runEnd 14 = .ok (.ireturn, 1) := dk_172 (dk_at dksX0_runEnd_0 14 rfl rfl)
theorem dX0_runEnd_15 : decode cX0_runEnd 15 = .ok (.astore_n 3, 1) := dk_78 (dk_at dksX0_runEnd_0 15 rfl rfl)
theorem dX0_runEnd_16 : decode cX0_runEnd 16 = .ok (.iconst 2, 1) := dk_5 (dk_at dksX0_runEnd_0 16 rfl rfl)
theorem dX0_runEnd_17 : decode cX0_runEnd 17 = .ok (.ireturn, 1) := dk_172 (dk_at dksX0_runEnd_0 17 rfl rfl)
theorem dX0_runEnd_18 : decode cX0_runEnd 18 = .ok (.iconst 0, 1) := dk_3 (dk_at dksX0_runEnd_0 18 rfl rfl)
theorem dX0_runEnd_19 : decode cX0_runEnd 19 = .ok (.ireturn, 1) := dk_172 (dk_at dksX0_runEnd_0 19 rfl rfl)
abbrev cX0_ahead : ByteArray := method_20_code
def yX0_ahead : MethodName := ⟨RX0, "ahead", "(LCartBridge;I[J)I"⟩
def dkwX0_ahead_0 : List UInt8 := [44, 3, 42, 27, 182, 0, 72, 133, 80, 167, 0, 12, 78, 4, 172, 78, 5, 172, 78, 6, 172, 3, 172]
abbrev dktX0_ahead_0 : List UInt8 := dkwX0_ahead_0 ++ []
theorem dksX0_ahead_0 : cX0_ahead.data.toList.drop 0 = dktX0_ahead_0 := by decide +kernel
theorem dX0_ahead_0 : decode cX0_ahead 0 = .ok (.aload_n 2, 1) := dk_44 (dk_at dksX0_ahead_0 0 rfl rfl)
theorem dX0_ahead_1 : decode cX0_ahead 1 = .ok (.iconst 0, 1) := dk_3 (dk_at dksX0_ahead_0 1 rfl rfl)
theorem dX0_ahead_2 : decode cX0_ahead 2 = .ok (.aload_n 0, 1) := dk_42 (dk_at dksX0_ahead_0 2 rfl rfl)
theorem dX0_ahead_3 : decode cX0_ahead 3 = .ok (.iload_n 1, 1) := dk_27 (dk_at dksX0_ahead_0 3 rfl rfl)
theorem dX0_ahead_4 : decode cX0_ahead 4 = .ok (.invokevirtual 72, 3) := dk_182 0 72 (dk_at dksX0_ahead_0 4 rfl rfl)
theorem dX0_ahead_7 : decode cX0_ahead 7 = .ok (.i2l, 1) := dk_133 (dk_at dksX0_ahead_0 7 rfl rfl)
theorem dX0_ahead_8 : decode cX0_ahead 8 = .ok (.lastore, 1) := dk_80 (dk_at dksX0_ahead_0 8 rfl rfl)
theorem dX0_ahead_9 : decode cX0_ahead 9 = .ok (.goto 12, 3) := dk_167 0 12 (dk_at dksX0_ahead_0 9 rfl rfl)
theorem dX0_ahead_12 : decode cX0_ahead 12 = .ok (.astore_n 3, 1) := dk_78 (dk_at dksX0_ahead_0 12 rfl rfl)
theorem dX0_ahead_13 : decode cX0_ahead 13 = .ok (.iconst 1, 1) := dk_4 (dk_at dksX0_ahead_0 13 rfl rfl)
theorem dX0_ahead_14 : decode cX0_ahead 14 = .ok (.ireturn, 1) := dk_172 (dk_at dksX0_ahead_0 14 rfl rfl)
theorem dX0_ahead_15 : decode cX0_ahead 15 = .ok (.astore_n 3, 1) := dk_78 (dk_at dksX0_ahead_0 15 rfl rfl)
theorem dX0_ahead_16 : decode cX0_ahead 16 = .ok (.iconst 2, 1) := dk_5 (dk_at dksX0_ahead_0 16 rfl rfl)
theorem dX0_ahead_17 : decode cX0_ahead 17 = .ok (.ireturn, 1) := dk_172 (dk_at dksX0_ahead_0 17 rfl rfl)
theorem dX0_ahead_18 : decode cX0_ahead 18 = .ok (.astore_n 3, 1) := dk_78 (dk_at dksX0_ahead_0 18 rfl rfl)
theorem dX0_ahead_19 : decode cX0_ahead 19 = .ok (.iconst 3, 1) := dk_6 (dk_at dksX0_ahead_0 19 rfl rfl)
theorem dX0_ahead_20 : decode cX0_ahead 20 = .ok (.ireturn, 1) := dk_172 (dk_at dksX0_ahead_0 20 rfl rfl)
theorem dX0_ahead_21 : decode cX0_ahead 21 = .ok (.iconst 0, 1) := dk_3 (dk_at dksX0_ahead_0 21 rfl rfl)
theorem dX0_ahead_22 : decode cX0_ahead 22 = .ok (.ireturn, 1) := dk_172 (dk_at dksX0_ahead_0 22 rfl rfl)
abbrev cX0_spansLeft : ByteArray := method_21_code
def yX0_spansLeft : MethodName := ⟨RX0, "spansLeft", "(LCartBridge;I[J)I"⟩
def dkwX0_spansLeft_0 : List UInt8 := [44, 3, 42, 27, 182, 0, 75, 133, 80, 167, 0, 9, 78, 4, 172, 78, 5, 172, 3, 172]
abbrev dktX0_spansLeft_0 : List UInt8 := dkwX0_spansLeft_0 ++ []
theorem dksX0_spansLeft_0 : cX0_spansLeft.data.toList.drop 0 = dktX0_spansLeft_0 := by decide +kernel
theorem dX0_spansLeft_0 : decode cX0_spansLeft 0 = .ok (.aload_n 2, 1) := dk_44 (dk_at dksX0_spansLeft_0 0 rfl rfl)
theorem dX0_spansLeft_1 : decode cX0_spansLeft 1 = .ok (.iconst 0, 1) := dk_3 (dk_at dksX0_spansLeft_0 1 rfl rfl)
theorem dX0_spansLeft_2 : decode cX0_spansLeft 2 = .ok (.aload_n 0, 1) := dk_42 (dk_at dksX0_spansLeft_0 2 rfl rfl)
theorem dX0_spansLeft_3 : decode cX0_spansLeft 3 = .ok (.iload_n 1, 1) := dk_27 (dk_at dksX0_spansLeft_0 3 rfl rfl)
theorem dX0_spansLeft_4 : decode cX0_spansLeft 4 = .ok (.invokevirtual 75, 3) := dk_182 0 75 (dk_at dksX0_spansLeft_0 4 rfl rfl)
theorem dX0_spansLeft_7 : decode cX0_spansLeft 7 = .ok (.i2l, 1) := dk_133 (dk_at dksX0_spansLeft_0 7 rfl rfl)
theorem dX0_spansLeft_8 : decode cX0_spansLeft 8 = .ok (.lastore, 1) := dk_80 (dk_at dksX0_spansLeft_0 8 rfl rfl)
theorem dX0_spansLeft_9 : decode cX0_spansLeft 9 = .ok (.goto 9, 3) := dk_167 0 9 (dk_at dksX0_spansLeft_0 9 rfl rfl)
theorem dX0_spansLeft_12 : decode cX0_spansLeft 12 = .ok (.astore_n 3, 1) := dk_78 (dk_at dksX0_spansLeft_0 12 rfl rfl)
theorem dX0_spansLeft_13 : decode cX0_spansLeft 13 = .ok (.iconst 1, 1) := dk_4 (dk_at dksX0_spansLeft_0 13 rfl rfl)
theorem dX0_spansLeft_14 : decode cX0_spansLeft 14 = .ok (.ireturn, 1) := dk_172 (dk_at dksX0_spansLeft_0 14 rfl rfl)
theorem dX0_spansLeft_15 : decode cX0_spansLeft 15 = .ok (.astore_n 3, 1) := dk_78 (dk_at dksX0_spansLeft_0 15 rfl rfl)
theorem dX0_spansLeft_16 : decode cX0_spansLeft 16 = .ok (.iconst 2, 1) := dk_5 (dk_at dksX0_spansLeft_0 16 rfl rfl)
theorem dX0_spansLeft_17 : decode cX0_spansLeft 17 = .ok (.ireturn, 1) := dk_172 (dk_at dksX0_spansLeft_0 17 rfl rfl)
theorem dX0_spansLeft_18 : decode cX0_spansLeft 18 = .ok (.iconst 0, 1) := dk_3 (dk_at dksX0_spansLeft_0 18 rfl rfl)
theorem dX0_spansLeft_19 : decode cX0_spansLeft 19 = .ok (.ireturn, 1) := dk_172 (dk_at dksX0_spansLeft_0 19 rfl rfl)
abbrev cX0_may : ByteArray := method_22_code
def yX0_may : MethodName := ⟨RX0, "may", "(LCartBridge;I[J)I"⟩
def dkwX0_may_0 : List UInt8 := [44, 3, 42, 27, 182, 0, 78, 153, 0, 7, 10, 167, 0, 4, 9, 80, 167, 0, 6, 78, 4, 172, 3, 172]
abbrev dktX0_may_0 : List UInt8 := dkwX0_may_0 ++ []
theorem dksX0_may_0 : cX0_may.data.toList.drop 0 = dktX0_may_0 := by decide +kernel
theorem dX0_may_0 : decode cX0_may 0 = .ok (.aload_n 2, 1) := dk_44 (dk_at dksX0_may_0 0 rfl rfl)
theorem dX0_may_1 : decode cX0_may 1 = .ok (.iconst 0, 1) := dk_3 (dk_at dksX0_may_0 1 rfl rfl)
theorem dX0_may_2 : decode cX0_may 2 = .ok (.aload_n 0, 1) := dk_42 (dk_at dksX0_may_0 2 rfl rfl)
theorem dX0_may_3 : decode cX0_may 3 = .ok (.iload_n 1, 1) := dk_27 (dk_at dksX0_may_0 3 rfl rfl)
theorem dX0_may_4 : decode cX0_may 4 = .ok (.invokevirtual 78, 3) := dk_182 0 78 (dk_at dksX0_may_0 4 rfl rfl)
theorem dX0_may_7 : decode cX0_may 7 = .ok (.ifCond .eq 7, 3) := dk_153 0 7 (dk_at dksX0_may_0 7 rfl rfl)
theorem dX0_may_10 : decode cX0_may 10 = .ok (.lconst 1, 1) := dk_10 (dk_at dksX0_may_0 10 rfl rfl)
theorem dX0_may_11 : decode cX0_may 11 = .ok (.goto 4, 3) := dk_167 0 4 (dk_at dksX0_may_0 11 rfl rfl)
theorem dX0_may_14 : decode cX0_may 14 = .ok (.lconst 0, 1) := dk_9 (dk_at dksX0_may_0 14 rfl rfl)
theorem dX0_may_15 : decode cX0_may 15 = .ok (.lastore, 1) := dk_80 (dk_at dksX0_may_0 15 rfl rfl)
theorem dX0_may_16 : decode cX0_may 16 = .ok (.goto 6, 3) := dk_167 0 6 (dk_at dksX0_may_0 16 rfl rfl)
theorem dX0_may_19 : decode cX0_may 19 = .ok (.astore_n 3, 1) := dk_78 (dk_at dksX0_may_0 19 rfl rfl)
theorem dX0_may_20 : decode cX0_may 20 = .ok (.iconst 1, 1) := dk_4 (dk_at dksX0_may_0 20 rfl rfl)
theorem dX0_may_21 : decode cX0_may 21 = .ok (.ireturn, 1) := dk_172 (dk_at dksX0_may_0 21 rfl rfl)
theorem dX0_may_22 : decode cX0_may 22 = .ok (.iconst 0, 1) := dk_3 (dk_at dksX0_may_0 22 rfl rfl)
theorem dX0_may_23 : decode cX0_may 23 = .ok (.ireturn, 1) := dk_172 (dk_at dksX0_may_0 23 rfl rfl)
abbrev cX0_passed : ByteArray := method_23_code
def yX0_passed : MethodName := ⟨RX0, "passed", "(LCartBridge;I[J)I"⟩
def dkwX0_passed_0 : List UInt8 := [44, 3, 42, 27, 182, 0, 82, 133, 80, 167, 0, 6, 78, 4, 172, 3, 172]
abbrev dktX0_passed_0 : List UInt8 := dkwX0_passed_0 ++ []
theorem dksX0_passed_0 : cX0_passed.data.toList.drop 0 = dktX0_passed_0 := by decide +kernel
theorem dX0_passed_0 : decode cX0_passed 0 = .ok (.aload_n 2, 1) := dk_44 (dk_at dksX0_passed_0 0 rfl rfl)
theorem dX0_passed_1 : decode cX0_passed 1 = .ok (.iconst 0, 1) := dk_3 (dk_at dksX0_passed_0 1 rfl rfl)
theorem dX0_passed_2 : decode cX0_passed 2 = .ok (.aload_n 0, 1) := dk_42 (dk_at dksX0_passed_0 2 rfl rfl)
theorem dX0_passed_3 : decode cX0_passed 3 = .ok (.iload_n 1, 1) := dk_27 (dk_at dksX0_passed_0 3 rfl rfl)
theorem dX0_passed_4 : decode cX0_passed 4 = .ok (.invokevirtual 82, 3) := dk_182 0 82 (dk_at dksX0_passed_0 4 rfl rfl)
theorem dX0_passed_7 : decode cX0_passed 7 = .ok (.i2l, 1) := dk_133 (dk_at dksX0_passed_0 7 rfl rfl)
theorem dX0_passed_8 : decode cX0_passed 8 = .ok (.lastore, 1) := dk_80 (dk_at dksX0_passed_0 8 rfl rfl)
theorem dX0_passed_9 : decode cX0_passed 9 = .ok (.goto 6, 3) := dk_167 0 6 (dk_at dksX0_passed_0 9 rfl rfl)
theorem dX0_passed_12 : decode cX0_passed 12 = .ok (.astore_n 3, 1) := dk_78 (dk_at dksX0_passed_0 12 rfl rfl)
theorem dX0_passed_13 : decode cX0_passed 13 = .ok (.iconst 1, 1) := dk_4 (dk_at dksX0_passed_0 13 rfl rfl)
theorem dX0_passed_14 : decode cX0_passed 14 = .ok (.ireturn, 1) := dk_172 (dk_at dksX0_passed_0 14 rfl rfl)
theorem dX0_passed_15 : decode cX0_passed 15 = .ok (.iconst 0, 1) := dk_3 (dk_at dksX0_passed_0 15 rfl rfl)
theorem dX0_passed_16 : decode cX0_passed 16 = .ok (.ireturn, 1) := dk_172 (dk_at dksX0_passed_0 16 rfl rfl)
abbrev cX0_wouldPass : ByteArray := method_24_code
def yX0_wouldPass : MethodName := ⟨RX0, "wouldPass", "(LCartBridge;I[J)I"⟩
def dkwX0_wouldPass_0 : List UInt8 := [44, 3, 42, 27, 182, 0, 85, 133, 80, 167, 0, 6, 78, 4, 172, 3, 172]
abbrev dktX0_wouldPass_0 : List UInt8 := dkwX0_wouldPass_0 ++ []
theorem dksX0_wouldPass_0 : cX0_wouldPass.data.toList.drop 0 = dktX0_wouldPass_0 := by decide +kernel
theorem dX0_wouldPass_0 : decode cX0_wouldPass 0 = .ok (.aload_n 2, 1) := dk_44 (dk_at dksX0_wouldPass_0 0 rfl rfl)
theorem dX0_wouldPass_1 : decode cX0_wouldPass 1 = .ok (.iconst 0, 1) := dk_3 (dk_at dksX0_wouldPass_0 1 rfl rfl)
theorem dX0_wouldPass_2 : decode cX0_wouldPass 2 = .ok (.aload_n 0, 1) := dk_42 (dk_at dksX0_wouldPass_0 2 rfl rfl)
theorem dX0_wouldPass_3 : decode cX0_wouldPass 3 = .ok (.iload_n 1, 1) := dk_27 (dk_at dksX0_wouldPass_0 3 rfl rfl)
theorem dX0_wouldPass_4 : decode cX0_wouldPass 4 = .ok (.invokevirtual 85, 3) := dk_182 0 85 (dk_at dksX0_wouldPass_0 4 rfl rfl)
theorem dX0_wouldPass_7 : decode cX0_wouldPass 7 = .ok (.i2l, 1) := dk_133 (dk_at dksX0_wouldPass_0 7 rfl rfl)
theorem dX0_wouldPass_8 : decode cX0_wouldPass 8 = .ok (.lastore, 1) := dk_80 (dk_at dksX0_wouldPass_0 8 rfl rfl)
theorem dX0_wouldPass_9 : decode cX0_wouldPass 9 = .ok (.goto 6, 3) := dk_167 0 6 (dk_at dksX0_wouldPass_0 9 rfl rfl)
theorem dX0_wouldPass_12 : decode cX0_wouldPass 12 = .ok (.astore_n 3, 1) := dk_78 (dk_at dksX0_wouldPass_0 12 rfl rfl)
theorem dX0_wouldPass_13 : decode cX0_wouldPass 13 = .ok (.iconst 1, 1) := dk_4 (dk_at dksX0_wouldPass_0 13 rfl rfl)
theorem dX0_wouldPass_14 : decode cX0_wouldPass 14 = .ok (.ireturn, 1) := dk_172 (dk_at dksX0_wouldPass_0 14 rfl rfl)
theorem dX0_wouldPass_15 : decode cX0_wouldPass 15 = .ok (.iconst 0, 1) := dk_3 (dk_at dksX0_wouldPass_0 15 rfl rfl)
theorem dX0_wouldPass_16 : decode cX0_wouldPass 16 = .ok (.ireturn, 1) := dk_172 (dk_at dksX0_wouldPass_0 16 rfl rfl)
abbrev cX0_over : ByteArray := method_25_code
def yX0_over : MethodName := ⟨RX0, "over", "(LCartBridge;[J)I"⟩
def dkwX0_over_0 : List UInt8 := [43, 3, 42, 182, 0, 88, 133, 80, 167, 0, 6, 77, 4, 172, 3, 172]
abbrev dktX0_over_0 : List UInt8 := dkwX0_over_0 ++ []
theorem dksX0_over_0 : cX0_over.data.toList.drop 0 = dktX0_over_0 := by decide +kernel
theorem dX0_over_0 : decode cX0_over 0 = .ok (.aload_n 1, 1) := dk_43 (dk_at dksX0_over_0 0 rfl rfl)
theorem dX0_over_1 : decode cX0_over 1 = .ok (.iconst 0, 1) := dk_3 (dk_at dksX0_over_0 1 rfl rfl)
theorem dX0_over_2 : decode cX0_over 2 = .ok (.aload_n 0, 1) := dk_42 (dk_at dksX0_over_0 2 rfl rfl)
theorem dX0_over_3 : decode cX0_over 3 = .ok (.invokevirtual 88, 3) := dk_182 0 88 (dk_at dksX0_over_0 3 rfl rfl)
theorem dX0_over_6 : decode cX0_over 6 = .ok (.i2l, 1) := dk_133 (dk_at dksX0_over_0 6 rfl rfl)
theorem dX0_over_7 : decode cX0_over 7 = .ok (.lastore, 1) := dk_80 (dk_at dksX0_over_0 7 rfl rfl)
theorem dX0_over_8 : decode cX0_over 8 = .ok (.goto 6, 3) := dk_167 0 6 (dk_at dksX0_over_0 8 rfl rfl)
theorem dX0_over_11 : decode cX0_over 11 = .ok (.astore_n 2, 1) := dk_77 (dk_at dksX0_over_0 11 rfl rfl)
theorem dX0_over_12 : decode cX0_over 12 = .ok (.iconst 1, 1) := dk_4 (dk_at dksX0_over_0 12 rfl rfl)
theorem dX0_over_13 : decode cX0_over 13 = .ok (.ireturn, 1) := dk_172 (dk_at dksX0_over_0 13 rfl rfl)
theorem dX0_over_14 : decode cX0_over 14 = .ok (.iconst 0, 1) := dk_3 (dk_at dksX0_over_0 14 rfl rfl)
theorem dX0_over_15 : decode cX0_over 15 = .ok (.ireturn, 1) := dk_172 (dk_at dksX0_over_0 15 rfl rfl)
abbrev cX0_longest : ByteArray := method_26_code
def yX0_longest : MethodName := ⟨RX0, "longest", "(LCartBridge;I[J)I"⟩
def dkwX0_longest_0 : List UInt8 := [44, 3, 42, 27, 182, 0, 92, 133, 80, 167, 0, 6, 78, 4, 172, 3, 172]
abbrev dktX0_longest_0 : List UInt8 := dkwX0_longest_0 ++ []
theorem dksX0_longest_0 : cX0_longest.data.toList.drop 0 = dktX0_longest_0 := by decide +kernel
theorem dX0_longest_0 : decode cX0_longest 0 = .ok (.aload_n 2, 1) := dk_44 (dk_at dksX0_longest_0 0 rfl rfl)
theorem dX0_longest_1 : decode cX0_longest 1 = .ok (.iconst 0, 1) := dk_3 (dk_at dksX0_longest_0 1 rfl rfl)
theorem dX0_longest_2 : decode cX0_longest 2 = .ok (.aload_n 0, 1) := dk_42 (dk_at dksX0_longest_0 2 rfl rfl)
theorem dX0_longest_3 : decode cX0_longest 3 = .ok (.iload_n 1, 1) := dk_27 (dk_at dksX0_longest_0 3 rfl rfl)
theorem dX0_longest_4 : decode cX0_longest 4 = .ok (.invokevirtual 92, 3) := dk_182 0 92 (dk_at dksX0_longest_0 4 rfl rfl)
theorem dX0_longest_7 : decode cX0_longest 7 = .ok (.i2l, 1) := dk_133 (dk_at dksX0_longest_0 7 rfl rfl)
theorem dX0_longest_8 : decode cX0_longest 8 = .ok (.lastore, 1) := dk_80 (dk_at dksX0_longest_0 8 rfl rfl)
theorem dX0_longest_9 : decode cX0_longest 9 = .ok (.goto 6, 3) := dk_167 0 6 (dk_at dksX0_longest_0 9 rfl rfl)
theorem dX0_longest_12 : decode cX0_longest 12 = .ok (.astore_n 3, 1) := dk_78 (dk_at dksX0_longest_0 12 rfl rfl)
theorem dX0_longest_13 : decode cX0_longest 13 = .ok (.iconst 1, 1) := dk_4 (dk_at dksX0_longest_0 13 rfl rfl)
theorem dX0_longest_14 : decode cX0_longest 14 = .ok (.ireturn, 1) := dk_172 (dk_at dksX0_longest_0 14 rfl rfl)
theorem dX0_longest_15 : decode cX0_longest 15 = .ok (.iconst 0, 1) := dk_3 (dk_at dksX0_longest_0 15 rfl rfl)
theorem dX0_longest_16 : decode cX0_longest 16 = .ok (.ireturn, 1) := dk_172 (dk_at dksX0_longest_0 16 rfl rfl)
abbrev cX0_mildest : ByteArray := method_27_code
def yX0_mildest : MethodName := ⟨RX0, "mildest", "(LCartBridge;[J)I"⟩
def dkwX0_mildest_0 : List UInt8 := [43, 3, 42, 182, 0, 95, 133, 80, 167, 0, 6, 77, 4, 172, 3, 172]
abbrev dktX0_mildest_0 : List UInt8 := dkwX0_mildest_0 ++ []
theorem dksX0_mildest_0 : cX0_mildest.data.toList.drop 0 = dktX0_mildest_0 := by decide +kernel
theorem dX0_mildest_0 : decode cX0_mildest 0 = .ok (.aload_n 1, 1) := dk_43 (dk_at dksX0_mildest_0 0 rfl rfl)
theorem dX0_mildest_1 : decode cX0_mildest 1 = .ok (.iconst 0, 1) := dk_3 (dk_at dksX0_mildest_0 1 rfl rfl)
theorem dX0_mildest_2 : decode cX0_mildest 2 = .ok (.aload_n 0, 1) := dk_42 (dk_at dksX0_mildest_0 2 rfl rfl)
theorem dX0_mildest_3 : decode cX0_mildest 3 = .ok (.invokevirtual 95, 3) := dk_182 0 95 (dk_at dksX0_mildest_0 3 rfl rfl)
theorem dX0_mildest_6 : decode cX0_mildest 6 = .ok (.i2l, 1) := dk_133 (dk_at dksX0_mildest_0 6 rfl rfl)
theorem dX0_mildest_7 : decode cX0_mildest 7 = .ok (.lastore, 1) := dk_80 (dk_at dksX0_mildest_0 7 rfl rfl)
theorem dX0_mildest_8 : decode cX0_mildest 8 = .ok (.goto 6, 3) := dk_167 0 6 (dk_at dksX0_mildest_0 8 rfl rfl)
theorem dX0_mildest_11 : decode cX0_mildest 11 = .ok (.astore_n 2, 1) := dk_77 (dk_at dksX0_mildest_0 11 rfl rfl)
theorem dX0_mildest_12 : decode cX0_mildest 12 = .ok (.iconst 1, 1) := dk_4 (dk_at dksX0_mildest_0 12 rfl rfl)
theorem dX0_mildest_13 : decode cX0_mildest 13 = .ok (.ireturn, 1) := dk_172 (dk_at dksX0_mildest_0 13 rfl rfl)
theorem dX0_mildest_14 : decode cX0_mildest 14 = .ok (.iconst 0, 1) := dk_3 (dk_at dksX0_mildest_0 14 rfl rfl)
theorem dX0_mildest_15 : decode cX0_mildest 15 = .ok (.ireturn, 1) := dk_172 (dk_at dksX0_mildest_0 15 rfl rfl)
abbrev cX0_heaviest : ByteArray := method_28_code
def yX0_heaviest : MethodName := ⟨RX0, "heaviest", "(LCartBridge;[J)I"⟩
def dkwX0_heaviest_0 : List UInt8 := [43, 3, 42, 182, 0, 98, 133, 80, 167, 0, 6, 77, 4, 172, 3, 172]
abbrev dktX0_heaviest_0 : List UInt8 := dkwX0_heaviest_0 ++ []
theorem dksX0_heaviest_0 : cX0_heaviest.data.toList.drop 0 = dktX0_heaviest_0 := by decide +kernel
theorem dX0_heaviest_0 : decode cX0_heaviest 0 = .ok (.aload_n 1, 1) := dk_43 (dk_at dksX0_heaviest_0 0 rfl rfl)
theorem dX0_heaviest_1 : decode cX0_heaviest 1 = .ok (.iconst 0, 1) := dk_3 (dk_at dksX0_heaviest_0 1 rfl rfl)
theorem dX0_heaviest_2 : decode cX0_heaviest 2 = .ok (.aload_n 0, 1) := dk_42 (dk_at dksX0_heaviest_0 2 rfl rfl)
theorem dX0_heaviest_3 : decode cX0_heaviest 3 = .ok (.invokevirtual 98, 3) := dk_182 0 98 (dk_at dksX0_heaviest_0 3 rfl rfl)
theorem dX0_heaviest_6 : decode cX0_heaviest 6 = .ok (.i2l, 1) := dk_133 (dk_at dksX0_heaviest_0 6 rfl rfl)
theorem dX0_heaviest_7 : decode cX0_heaviest 7 = .ok (.lastore, 1) := dk_80 (dk_at dksX0_heaviest_0 7 rfl rfl)
theorem dX0_heaviest_8 : decode cX0_heaviest 8 = .ok (.goto 6, 3) := dk_167 0 6 (dk_at dksX0_heaviest_0 8 rfl rfl)
theorem dX0_heaviest_11 : decode cX0_heaviest 11 = .ok (.astore_n 2, 1) := dk_77 (dk_at dksX0_heaviest_0 11 rfl rfl)
theorem dX0_heaviest_12 : decode cX0_heaviest 12 = .ok (.iconst 1, 1) := dk_4 (dk_at dksX0_heaviest_0 12 rfl rfl)
theorem dX0_heaviest_13 : decode cX0_heaviest 13 = .ok (.ireturn, 1) := dk_172 (dk_at dksX0_heaviest_0 13 rfl rfl)
theorem dX0_heaviest_14 : decode cX0_heaviest 14 = .ok (.iconst 0, 1) := dk_3 (dk_at dksX0_heaviest_0 14 rfl rfl)
theorem dX0_heaviest_15 : decode cX0_heaviest 15 = .ok (.ireturn, 1) := dk_172 (dk_at dksX0_heaviest_0 15 rfl rfl)
abbrev cX0_append : ByteArray := method_29_code
def yX0_append : MethodName := ⟨RX0, "append", "(LCartBridge;C[J)I"⟩
def dkwX0_append_0 : List UInt8 := [44, 3, 42, 27, 182, 0, 101, 133, 80, 167, 0, 9, 78, 4, 172, 78, 5, 172, 3, 172]
abbrev dktX0_append_0 : List UInt8 := dkwX0_append_0 ++ []
theorem dksX0_append_0 : cX0_append.data.toList.drop 0 = dktX0_append_0 := by decide +kernel
theorem dX0_append_0 : decode cX0_append 0 = .ok (.aload_n 2, 1) := dk_44 (dk_at dksX0_append_0 0 rfl rfl)
theorem dX0_append_1 : decode cX0_append 1 = .ok (.iconst 0, 1) := dk_3 (dk_at dksX0_append_0 1 rfl rfl)
theorem dX0_append_2 : decode cX0_append 2 = .ok (.aload_n 0, 1) := dk_42 (dk_at dksX0_append_0 2 rfl rfl)
theorem dX0_append_3 : decode cX0_append 3 = .ok (.iload_n 1, 1) := dk_27 (dk_at dksX0_append_0 3 rfl rfl)
theorem dX0_append_4 : decode cX0_append 4 = .ok (.invokevirtual 101, 3) := dk_182 0 101 (dk_at dksX0_append_0 4 rfl rfl)
theorem dX0_append_7 : decode cX0_append 7 = .ok (.i2l, 1) := dk_133 (dk_at dksX0_append_0 7 rfl rfl)
theorem dX0_append_8 : decode cX0_append 8 = .ok (.lastore, 1) := dk_80 (dk_at dksX0_append_0 8 rfl rfl)
theorem dX0_append_9 : decode cX0_append 9 = .ok (.goto 9, 3) := dk_167 0 9 (dk_at dksX0_append_0 9 rfl rfl)
theorem dX0_append_12 : decode cX0_append 12 = .ok (.astore_n 3, 1) := dk_78 (dk_at dksX0_append_0 12 rfl rfl)
theorem dX0_append_13 : decode cX0_append 13 = .ok (.iconst 1, 1) := dk_4 (dk_at dksX0_append_0 13 rfl rfl)
theorem dX0_append_14 : decode cX0_append 14 = .ok (.ireturn, 1) := dk_172 (dk_at dksX0_append_0 14 rfl rfl)
theorem dX0_append_15 : decode cX0_append 15 = .ok (.astore_n 3, 1) := dk_78 (dk_at dksX0_append_0 15 rfl rfl)
theorem dX0_append_16 : decode cX0_append 16 = .ok (.iconst 2, 1) := dk_5 (dk_at dksX0_append_0 16 rfl rfl)
theorem dX0_append_17 : decode cX0_append 17 = .ok (.ireturn, 1) := dk_172 (dk_at dksX0_append_0 17 rfl rfl)
theorem dX0_append_18 : decode cX0_append 18 = .ok (.iconst 0, 1) := dk_3 (dk_at dksX0_append_0 18 rfl rfl)
theorem dX0_append_19 : decode cX0_append 19 = .ok (.ireturn, 1) := dk_172 (dk_at dksX0_append_0 19 rfl rfl)
abbrev cX0_run : ByteArray := method_30_code
def yX0_run : MethodName := ⟨RX0, "run", "(LCartBridge;[J)I"⟩
def dkwX0_run_0 : List UInt8 := [43, 3, 42, 182, 0, 105, 133, 80, 167, 0, 9, 77, 4, 172, 77, 5, 172, 3, 172]
abbrev dktX0_run_0 : List UInt8 := dkwX0_run_0 ++ []
theorem dksX0_run_0 : cX0_run.data.toList.drop 0 = dktX0_run_0 := by decide +kernel
theorem dX0_run_0 : decode cX0_run 0 = .ok (.aload_n 1, 1) := dk_43 (dk_at dksX0_run_0 0 rfl rfl)
theorem dX0_run_1 : decode cX0_run 1 = .ok (.iconst 0, 1) := dk_3 (dk_at dksX0_run_0 1 rfl rfl)
theorem dX0_run_2 : decode cX0_run 2 = .ok (.aload_n 0, 1) := dk_42 (dk_at dksX0_run_0 2 rfl rfl)
theorem dX0_run_3 : decode cX0_run 3 = .ok (.invokevirtual 105, 3) := dk_182 0 105 (dk_at dksX0_run_0 3 rfl rfl)
theorem dX0_run_6 : decode cX0_run 6 = .ok (.i2l, 1) := dk_133 (dk_at dksX0_run_0 6 rfl rfl)
theorem dX0_run_7 : decode cX0_run 7 = .ok (.lastore, 1) := dk_80 (dk_at dksX0_run_0 7 rfl rfl)
theorem dX0_run_8 : decode cX0_run 8 = .ok (.goto 9, 3) := dk_167 0 9 (dk_at dksX0_run_0 8 rfl rfl)
theorem dX0_run_11 : decode cX0_run 11 = .ok (.astore_n 2, 1) := dk_77 (dk_at dksX0_run_0 11 rfl rfl)
theorem dX0_run_12 : decode cX0_run 12 = .ok (.iconst 1, 1) := dk_4 (dk_at dksX0_run_0 12 rfl rfl)
theorem dX0_run_13 : decode cX0_run 13 = .ok (.ireturn, 1) := dk_172 (dk_at dksX0_run_0 13 rfl rfl)
theorem dX0_run_14 : decode cX0_run 14 = .ok (.astore_n 2, 1) := dk_77 (dk_at dksX0_run_0 14 rfl rfl)
theorem dX0_run_15 : decode cX0_run 15 = .ok (.iconst 2, 1) := dk_5 (dk_at dksX0_run_0 15 rfl rfl)
theorem dX0_run_16 : decode cX0_run 16 = .ok (.ireturn, 1) := dk_172 (dk_at dksX0_run_0 16 rfl rfl)
theorem dX0_run_17 : decode cX0_run 17 = .ok (.iconst 0, 1) := dk_3 (dk_at dksX0_run_0 17 rfl rfl)
theorem dX0_run_18 : decode cX0_run 18 = .ok (.ireturn, 1) := dk_172 (dk_at dksX0_run_0 18 rfl rfl)
abbrev cX0_reason : ByteArray := method_31_code
def yX0_reason : MethodName := ⟨RX0, "reason", "(LCartBridge;IZ[J)I"⟩
def dkwX0_reason_0 : List UInt8 := [45, 3, 42, 27, 28, 182, 0, 108, 133, 80, 167, 0, 11, 58, 4, 4, 172, 58, 4, 5, 172, 3, 172]
abbrev dktX0_reason_0 : List UInt8 := dkwX0_reason_0 ++ []
theorem dksX0_reason_0 : cX0_reason.data.toList.drop 0 = dktX0_reason_0 := by decide +kernel
theorem dX0_reason_0 : decode cX0_reason 0 = .ok (.aload_n 3, 1) := dk_45 (dk_at dksX0_reason_0 0 rfl rfl)
theorem dX0_reason_1 : decode cX0_reason 1 = .ok (.iconst 0, 1) := dk_3 (dk_at dksX0_reason_0 1 rfl rfl)
theorem dX0_reason_2 : decode cX0_reason 2 = .ok (.aload_n 0, 1) := dk_42 (dk_at dksX0_reason_0 2 rfl rfl)
theorem dX0_reason_3 : decode cX0_reason 3 = .ok (.iload_n 1, 1) := dk_27 (dk_at dksX0_reason_0 3 rfl rfl)
theorem dX0_reason_4 : decode cX0_reason 4 = .ok (.iload_n 2, 1) := dk_28 (dk_at dksX0_reason_0 4 rfl rfl)
theorem dX0_reason_5 : decode cX0_reason 5 = .ok (.invokevirtual 108, 3) := dk_182 0 108 (dk_at dksX0_reason_0 5 rfl rfl)
theorem dX0_reason_8 : decode cX0_reason 8 = .ok (.i2l, 1) := dk_133 (dk_at dksX0_reason_0 8 rfl rfl)
theorem dX0_reason_9 : decode cX0_reason 9 = .ok (.lastore, 1) := dk_80 (dk_at dksX0_reason_0 9 rfl rfl)
theorem dX0_reason_10 : decode cX0_reason 10 = .ok (.goto 11, 3) := dk_167 0 11 (dk_at dksX0_reason_0 10 rfl rfl)
theorem dX0_reason_13 : decode cX0_reason 13 = .ok (.astore 4, 2) := dk_58 4 (dk_at dksX0_reason_0 13 rfl rfl)
theorem dX0_reason_15 : decode cX0_reason 15 = .ok (.iconst 1, 1) := dk_4 (dk_at dksX0_reason_0 15 rfl rfl)
theorem dX0_reason_16 : decode cX0_reason 16 = .ok (.ireturn, 1) := dk_172 (dk_at dksX0_reason_0 16 rfl rfl)
theorem dX0_reason_17 : decode cX0_reason 17 = .ok (.astore 4, 2) := dk_58 4 (dk_at dksX0_reason_0 17 rfl rfl)
theorem dX0_reason_19 : decode cX0_reason 19 = .ok (.iconst 2, 1) := dk_5 (dk_at dksX0_reason_0 19 rfl rfl)
theorem dX0_reason_20 : decode cX0_reason 20 = .ok (.ireturn, 1) := dk_172 (dk_at dksX0_reason_0 20 rfl rfl)
theorem dX0_reason_21 : decode cX0_reason 21 = .ok (.iconst 0, 1) := dk_3 (dk_at dksX0_reason_0 21 rfl rfl)
theorem dX0_reason_22 : decode cX0_reason 22 = .ok (.ireturn, 1) := dk_172 (dk_at dksX0_reason_0 22 rfl rfl)
abbrev cX0_tellCart : ByteArray := method_32_code
def yX0_tellCart : MethodName := ⟨RX0, "tellCart", "(LCartBridge;I[J)I"⟩
def dkwX0_tellCart_0 : List UInt8 := [44, 3, 42, 27, 182, 0, 112, 133, 80, 167, 0, 6, 78, 4, 172, 3, 172]
abbrev dktX0_tellCart_0 : List UInt8 := dkwX0_tellCart_0 ++ []
theorem dksX0_tellCart_0 : cX0_tellCart.data.toList.drop 0 = dktX0_tellCart_0 := by decide +kernel
theorem dX0_tellCart_0 : decode cX0_tellCart 0 = .ok (.aload_n 2, 1) := dk_44 (dk_at dksX0_tellCart_0 0 rfl rfl)
theorem dX0_tellCart_1 : decode cX0_tellCart 1 = .ok (.iconst 0, 1) := dk_3 (dk_at dksX0_tellCart_0 1 rfl rfl)
theorem dX0_tellCart_2 : decode cX0_tellCart 2 = .ok (.aload_n 0, 1) := dk_42 (dk_at dksX0_tellCart_0 2 rfl rfl)
theorem dX0_tellCart_3 : decode cX0_tellCart 3 = .ok (.iload_n 1, 1) := dk_27 (dk_at dksX0_tellCart_0 3 rfl rfl)
theorem dX0_tellCart_4 : decode cX0_tellCart 4 = .ok (.invokevirtual 112, 3) := dk_182 0 112 (dk_at dksX0_tellCart_0 4 rfl rfl)
theorem dX0_tellCart_7 : decode cX0_tellCart 7 = .ok (.i2l, 1) := dk_133 (dk_at dksX0_tellCart_0 7 rfl rfl)
theorem dX0_tellCart_8 : decode cX0_tellCart 8 = .ok (.lastore, 1) := dk_80 (dk_at dksX0_tellCart_0 8 rfl rfl)
theorem dX0_tellCart_9 : decode cX0_tellCart 9 = .ok (.goto 6, 3) := dk_167 0 6 (dk_at dksX0_tellCart_0 9 rfl rfl)
theorem dX0_tellCart_12 : decode cX0_tellCart 12 = .ok (.astore_n 3, 1) := dk_78 (dk_at dksX0_tellCart_0 12 rfl rfl)
theorem dX0_tellCart_13 : decode cX0_tellCart 13 = .ok (.iconst 1, 1) := dk_4 (dk_at dksX0_tellCart_0 13 rfl rfl)
theorem dX0_tellCart_14 : decode cX0_tellCart 14 = .ok (.ireturn, 1) := dk_172 (dk_at dksX0_tellCart_0 14 rfl rfl)
theorem dX0_tellCart_15 : decode cX0_tellCart 15 = .ok (.iconst 0, 1) := dk_3 (dk_at dksX0_tellCart_0 15 rfl rfl)
theorem dX0_tellCart_16 : decode cX0_tellCart 16 = .ok (.ireturn, 1) := dk_172 (dk_at dksX0_tellCart_0 16 rfl rfl)
abbrev cX0_character : ByteArray := method_33_code
def yX0_character : MethodName := ⟨RX0, "character", "(LCartBridge;I[J)I"⟩
def dkwX0_character_0 : List UInt8 := [44, 3, 42, 27, 182, 0, 115, 133, 80, 167, 0, 6, 78, 4, 172, 3, 172]
abbrev dktX0_character_0 : List UInt8 := dkwX0_character_0 ++ []
theorem dksX0_character_0 : cX0_character.data.toList.drop 0 = dktX0_character_0 := by decide +kernel
theorem dX0_character_0 : decode cX0_character 0 = .ok (.aload_n 2, 1) := dk_44 (dk_at dksX0_character_0 0 rfl rfl)
theorem dX0_character_1 : decode cX0_character 1 = .ok (.iconst 0, 1) := dk_3 (dk_at dksX0_character_0 1 rfl rfl)
theorem dX0_character_2 : decode cX0_character 2 = .ok (.aload_n 0, 1) := dk_42 (dk_at dksX0_character_0 2 rfl rfl)
theorem dX0_character_3 : decode cX0_character 3 = .ok (.iload_n 1, 1) := dk_27 (dk_at dksX0_character_0 3 rfl rfl)
theorem dX0_character_4 : decode cX0_character 4 = .ok (.invokevirtual 115, 3) := dk_182 0 115 (dk_at dksX0_character_0 4 rfl rfl)
theorem dX0_character_7 : decode cX0_character 7 = .ok (.i2l, 1) := dk_133 (dk_at dksX0_character_0 7 rfl rfl)
theorem dX0_character_8 : decode cX0_character 8 = .ok (.lastore, 1) := dk_80 (dk_at dksX0_character_0 8 rfl rfl)
theorem dX0_character_9 : decode cX0_character 9 = .ok (.goto 6, 3) := dk_167 0 6 (dk_at dksX0_character_0 9 rfl rfl)
theorem dX0_character_12 : decode cX0_character 12 = .ok (.astore_n 3, 1) := dk_78 (dk_at dksX0_character_0 12 rfl rfl)
theorem dX0_character_13 : decode cX0_character 13 = .ok (.iconst 1, 1) := dk_4 (dk_at dksX0_character_0 13 rfl rfl)
theorem dX0_character_14 : decode cX0_character 14 = .ok (.ireturn, 1) := dk_172 (dk_at dksX0_character_0 14 rfl rfl)
theorem dX0_character_15 : decode cX0_character 15 = .ok (.iconst 0, 1) := dk_3 (dk_at dksX0_character_0 15 rfl rfl)
theorem dX0_character_16 : decode cX0_character 16 = .ok (.ireturn, 1) := dk_172 (dk_at dksX0_character_0 16 rfl rfl)
abbrev cX0_account : ByteArray := method_34_code
def yX0_account : MethodName := ⟨RX0, "account", "(LCartBridge;I[J)I"⟩
def dkwX0_account_0 : List UInt8 := [44, 3, 42, 27, 182, 0, 119, 133, 80, 167, 0, 6, 78, 4, 172, 3, 172]
abbrev dktX0_account_0 : List UInt8 := dkwX0_account_0 ++ []
theorem dksX0_account_0 : cX0_account.data.toList.drop 0 = dktX0_account_0 := by decide +kernel
theorem dX0_account_0 : decode cX0_account 0 = .ok (.aload_n 2, 1) := dk_44 (dk_at dksX0_account_0 0 rfl rfl)
theorem dX0_account_1 : decode cX0_account 1 = .ok (.iconst 0, 1) := dk_3 (dk_at dksX0_account_0 1 rfl rfl)
theorem dX0_account_2 : decode cX0_account 2 = .ok (.aload_n 0, 1) := dk_42 (dk_at dksX0_account_0 2 rfl rfl)
theorem dX0_account_3 : decode cX0_account 3 = .ok (.iload_n 1, 1) := dk_27 (dk_at dksX0_account_0 3 rfl rfl)
theorem dX0_account_4 : decode cX0_account 4 = .ok (.invokevirtual 119, 3) := dk_182 0 119 (dk_at dksX0_account_0 4 rfl rfl)
theorem dX0_account_7 : decode cX0_account 7 = .ok (.i2l, 1) := dk_133 (dk_at dksX0_account_0 7 rfl rfl)
theorem dX0_account_8 : decode cX0_account 8 = .ok (.lastore, 1) := dk_80 (dk_at dksX0_account_0 8 rfl rfl)
theorem dX0_account_9 : decode cX0_account 9 = .ok (.goto 6, 3) := dk_167 0 6 (dk_at dksX0_account_0 9 rfl rfl)
theorem dX0_account_12 : decode cX0_account 12 = .ok (.astore_n 3, 1) := dk_78 (dk_at dksX0_account_0 12 rfl rfl)
theorem dX0_account_13 : decode cX0_account 13 = .ok (.iconst 1, 1) := dk_4 (dk_at dksX0_account_0 13 rfl rfl)
theorem dX0_account_14 : decode cX0_account 14 = .ok (.ireturn, 1) := dk_172 (dk_at dksX0_account_0 14 rfl rfl)
theorem dX0_account_15 : decode cX0_account 15 = .ok (.iconst 0, 1) := dk_3 (dk_at dksX0_account_0 15 rfl rfl)
theorem dX0_account_16 : decode cX0_account 16 = .ok (.ireturn, 1) := dk_172 (dk_at dksX0_account_0 16 rfl rfl)
abbrev cX0_meanWaited : ByteArray := method_35_code
def yX0_meanWaited : MethodName := ⟨RX0, "meanWaited", "(LCartBridge;[D)I"⟩
def dkwX0_meanWaited_0 : List UInt8 := [43, 3, 42, 182, 0, 122, 82, 167, 0, 6, 77, 4, 172, 3, 172]
abbrev dktX0_meanWaited_0 : List UInt8 := dkwX0_meanWaited_0 ++ []
theorem dksX0_meanWaited_0 : cX0_meanWaited.data.toList.drop 0 = dktX0_meanWaited_0 := by decide +kernel
theorem dX0_meanWaited_0 : decode cX0_meanWaited 0 = .ok (.aload_n 1, 1) := dk_43 (dk_at dksX0_meanWaited_0 0 rfl rfl)
theorem dX0_meanWaited_1 : decode cX0_meanWaited 1 = .ok (.iconst 0, 1) := dk_3 (dk_at dksX0_meanWaited_0 1 rfl rfl)
theorem dX0_meanWaited_2 : decode cX0_meanWaited 2 = .ok (.aload_n 0, 1) := dk_42 (dk_at dksX0_meanWaited_0 2 rfl rfl)
theorem dX0_meanWaited_3 : decode cX0_meanWaited 3 = .ok (.invokevirtual 122, 3) := dk_182 0 122 (dk_at dksX0_meanWaited_0 3 rfl rfl)
theorem dX0_meanWaited_6 : decode cX0_meanWaited 6 = .ok (.dastore, 1) := dk_82 (dk_at dksX0_meanWaited_0 6 rfl rfl)
theorem dX0_meanWaited_7 : decode cX0_meanWaited 7 = .ok (.goto 6, 3) := dk_167 0 6 (dk_at dksX0_meanWaited_0 7 rfl rfl)
theorem dX0_meanWaited_10 : decode cX0_meanWaited 10 = .ok (.astore_n 2, 1) := dk_77 (dk_at dksX0_meanWaited_0 10 rfl rfl)
theorem dX0_meanWaited_11 : decode cX0_meanWaited 11 = .ok (.iconst 1, 1) := dk_4 (dk_at dksX0_meanWaited_0 11 rfl rfl)
theorem dX0_meanWaited_12 : decode cX0_meanWaited 12 = .ok (.ireturn, 1) := dk_172 (dk_at dksX0_meanWaited_0 12 rfl rfl)
theorem dX0_meanWaited_13 : decode cX0_meanWaited 13 = .ok (.iconst 0, 1) := dk_3 (dk_at dksX0_meanWaited_0 13 rfl rfl)
theorem dX0_meanWaited_14 : decode cX0_meanWaited 14 = .ok (.ireturn, 1) := dk_172 (dk_at dksX0_meanWaited_0 14 rfl rfl)
abbrev cX0_undo : ByteArray := method_36_code
def yX0_undo : MethodName := ⟨RX0, "undo", "(LCartBridge;[J)I"⟩
def dkwX0_undo_0 : List UInt8 := [43, 3, 42, 182, 0, 128, 133, 80, 167, 0, 6, 77, 4, 172, 3, 172]
abbrev dktX0_undo_0 : List UInt8 := dkwX0_undo_0 ++ []
theorem dksX0_undo_0 : cX0_undo.data.toList.drop 0 = dktX0_undo_0 := by decide +kernel
theorem dX0_undo_0 : decode cX0_undo 0 = .ok (.aload_n 1, 1) := dk_43 (dk_at dksX0_undo_0 0 rfl rfl)
theorem dX0_undo_1 : decode cX0_undo 1 = .ok (.iconst 0, 1) := dk_3 (dk_at dksX0_undo_0 1 rfl rfl)
theorem dX0_undo_2 : decode cX0_undo 2 = .ok (.aload_n 0, 1) := dk_42 (dk_at dksX0_undo_0 2 rfl rfl)
theorem dX0_undo_3 : decode cX0_undo 3 = .ok (.invokevirtual 128, 3) := dk_182 0 128 (dk_at dksX0_undo_0 3 rfl rfl)
theorem dX0_undo_6 : decode cX0_undo 6 = .ok (.i2l, 1) := dk_133 (dk_at dksX0_undo_0 6 rfl rfl)
theorem dX0_undo_7 : decode cX0_undo 7 = .ok (.lastore, 1) := dk_80 (dk_at dksX0_undo_0 7 rfl rfl)
theorem dX0_undo_8 : decode cX0_undo 8 = .ok (.goto 6, 3) := dk_167 0 6 (dk_at dksX0_undo_0 8 rfl rfl)
theorem dX0_undo_11 : decode cX0_undo 11 = .ok (.astore_n 2, 1) := dk_77 (dk_at dksX0_undo_0 11 rfl rfl)
theorem dX0_undo_12 : decode cX0_undo 12 = .ok (.iconst 1, 1) := dk_4 (dk_at dksX0_undo_0 12 rfl rfl)
theorem dX0_undo_13 : decode cX0_undo 13 = .ok (.ireturn, 1) := dk_172 (dk_at dksX0_undo_0 13 rfl rfl)
theorem dX0_undo_14 : decode cX0_undo 14 = .ok (.iconst 0, 1) := dk_3 (dk_at dksX0_undo_0 14 rfl rfl)
theorem dX0_undo_15 : decode cX0_undo 15 = .ok (.ireturn, 1) := dk_172 (dk_at dksX0_undo_0 15 rfl rfl)
abbrev cX0_restore : ByteArray := method_37_code
def yX0_restore : MethodName := ⟨RX0, "restore", "(LCartBridge;[J)I"⟩
def dkwX0_restore_0 : List UInt8 := [43, 3, 42, 182, 0, 131, 133, 80, 167, 0, 6, 77, 4, 172, 3, 172]
abbrev dktX0_restore_0 : List UInt8 := dkwX0_restore_0 ++ []
theorem dksX0_restore_0 : cX0_restore.data.toList.drop 0 = dktX0_restore_0 := by decide +kernel
theorem dX0_restore_0 : decode cX0_restore 0 = .ok (.aload_n 1, 1) := dk_43 (dk_at dksX0_restore_0 0 rfl rfl)
theorem dX0_restore_1 : decode cX0_restore 1 = .ok (.iconst 0, 1) := dk_3 (dk_at dksX0_restore_0 1 rfl rfl)
theorem dX0_restore_2 : decode cX0_restore 2 = .ok (.aload_n 0, 1) := dk_42 (dk_at dksX0_restore_0 2 rfl rfl)
theorem dX0_restore_3 : decode cX0_restore 3 = .ok (.invokevirtual 131, 3) := dk_182 0 131 (dk_at dksX0_restore_0 3 rfl rfl)
theorem dX0_restore_6 : decode cX0_restore 6 = .ok (.i2l, 1) := dk_133 (dk_at dksX0_restore_0 6 rfl rfl)
theorem dX0_restore_7 : decode cX0_restore 7 = .ok (.lastore, 1) := dk_80 (dk_at dksX0_restore_0 7 rfl rfl)
theorem dX0_restore_8 : decode cX0_restore 8 = .ok (.goto 6, 3) := dk_167 0 6 (dk_at dksX0_restore_0 8 rfl rfl)
theorem dX0_restore_11 : decode cX0_restore 11 = .ok (.astore_n 2, 1) := dk_77 (dk_at dksX0_restore_0 11 rfl rfl)
theorem dX0_restore_12 : decode cX0_restore 12 = .ok (.iconst 1, 1) := dk_4 (dk_at dksX0_restore_0 12 rfl rfl)
theorem dX0_restore_13 : decode cX0_restore 13 = .ok (.ireturn, 1) := dk_172 (dk_at dksX0_restore_0 13 rfl rfl)
theorem dX0_restore_14 : decode cX0_restore 14 = .ok (.iconst 0, 1) := dk_3 (dk_at dksX0_restore_0 14 rfl rfl)
theorem dX0_restore_15 : decode cX0_restore 15 = .ok (.ireturn, 1) := dk_172 (dk_at dksX0_restore_0 15 rfl rfl)
abbrev MX0_cart : zM := (yX0_cart, cX0_cart, 5, (Option.some Jvm.ClassFile.FieldType.int), [(0, 10, 13, 13)])
theorem kX0_cart : zMk MX0_cart := ⟨zt (lw_at lw_m6 34 rfl), zt (lw_at lw_m1 0 rfl), by decide +kernel, by decide, by decide +kernel⟩
abbrev MX0_tick : zM := (yX0_tick, cX0_tick, 4, (Option.some Jvm.ClassFile.FieldType.int), [(0, 9, 12, 13)])
theorem kX0_tick : zMk MX0_tick := ⟨zt (lw_at lw_m6 151 rfl), zt (lw_at lw_m1 0 rfl), by decide +kernel, by decide, by decide +kernel⟩
abbrev MX0_law : zM := (yX0_law, cX0_law, 4, (Option.some Jvm.ClassFile.FieldType.int), [(0, 9, 12, 13)])
theorem kX0_law : zMk MX0_law := ⟨zt (lw_at lw_m7 88 rfl), zt (lw_at lw_m1 0 rfl), by decide +kernel, by decide, by decide +kernel⟩
abbrev MX0_share : zM := (yX0_share, cX0_share, 4, (Option.some Jvm.ClassFile.FieldType.int), [(0, 9, 12, 13)])
theorem kX0_share : zMk MX0_share := ⟨zt (lw_at lw_m7 99 rfl), zt (lw_at lw_m1 0 rfl), by decide +kernel, by decide, by decide +kernel⟩
abbrev MX0_spans : zM := (yX0_spans, cX0_spans, 4, (Option.some Jvm.ClassFile.FieldType.int), [(0, 9, 12, 13)])
theorem kX0_spans : zMk MX0_spans := ⟨zt (lw_at lw_m7 106 rfl), zt (lw_at lw_m1 0 rfl), by decide +kernel, by decide, by decide +kernel⟩
abbrev MX0_leave : zM := (yX0_leave, cX0_leave, 4, (Option.some Jvm.ClassFile.FieldType.int), [(0, 9, 12, 13)])
theorem kX0_leave : zMk MX0_leave := ⟨zt (lw_at lw_m7 113 rfl), zt (lw_at lw_m1 0 rfl), by decide +kernel, by decide, by decide +kernel⟩
abbrev MX0_turnRow : zM := (yX0_turnRow, cX0_turnRow, 4, (Option.some Jvm.ClassFile.FieldType.int), [(0, 9, 12, 13)])
theorem kX0_turnRow : zMk MX0_turnRow := ⟨zt (lw_at lw_m7 178 rfl), zt (lw_at lw_m1 0 rfl), by decide +kernel, by decide, by decide +kernel⟩
abbrev MX0_yieldBy : zM := (yX0_yieldBy, cX0_yieldBy, 4, (Option.some Jvm.ClassFile.FieldType.int), [(0, 9, 12, 13)])
theorem kX0_yieldBy : zMk MX0_yieldBy := ⟨zt (lw_at lw_m7 189 rfl), zt (lw_at lw_m1 0 rfl), by decide +kernel, by decide, by decide +kernel⟩
abbrev MX0_cartOf : zM := (yX0_cartOf, cX0_cartOf, 5, (Option.some Jvm.ClassFile.FieldType.int), [(0, 10, 13, 40), (0, 10, 17, 42)])
theorem kX0_cartOf : zMk MX0_cartOf := ⟨zt (lw_at lw_m7 202 rfl), zt (lw_at lw_m1 0 rfl), by decide +kernel, by decide, by decide +kernel⟩
abbrev MX0_waited : zM := (yX0_waited, cX0_waited, 4, (Option.some Jvm.ClassFile.FieldType.int), [(0, 9, 12, 40)])
theorem kX0_waited : zMk MX0_waited := ⟨zt (lw_at lw_m7 233 rfl), zt (lw_at lw_m1 0 rfl), by decide +kernel, by decide, by decide +kernel⟩
abbrev MX0_waitedAgain : zM := (yX0_waitedAgain, cX0_waitedAgain, 4, (Option.some Jvm.ClassFile.FieldType.int), [(0, 9, 12, 40)])
theorem kX0_waitedAgain : zMk MX0_waitedAgain := ⟨zt (lw_at lw_m8 0 rfl), zt (lw_at lw_m1 0 rfl), by decide +kernel, by decide, by decide +kernel⟩
abbrev MX0_waiting : zM := (yX0_waiting, cX0_waiting, 5, (Option.some Jvm.ClassFile.FieldType.int), [(0, 10, 13, 42), (0, 10, 17, 53)])
theorem kX0_waiting : zMk MX0_waiting := ⟨zt (lw_at lw_m8 7 rfl), zt (lw_at lw_m1 0 rfl), by decide +kernel, by decide, by decide +kernel⟩
abbrev MX0_rowLoad : zM := (yX0_rowLoad, cX0_rowLoad, 4, (Option.some Jvm.ClassFile.FieldType.int), [(0, 9, 12, 42)])
theorem kX0_rowLoad : zMk MX0_rowLoad := ⟨zt (lw_at lw_m8 23 rfl), zt (lw_at lw_m1 0 rfl), by decide +kernel, by decide, by decide +kernel⟩
abbrev MX0_onSpan : zM := (yX0_onSpan, cX0_onSpan, 4, (Option.some Jvm.ClassFile.FieldType.int), [(0, 9, 12, 40)])
theorem kX0_onSpan : zMk MX0_onSpan := ⟨zt (lw_at lw_m8 31 rfl), zt (lw_at lw_m1 0 rfl), by decide +kernel, by decide, by decide +kernel⟩
abbrev MX0_runLoad : zM := (yX0_runLoad, cX0_runLoad, 4, (Option.some Jvm.ClassFile.FieldType.int), [(0, 9, 12, 40), (0, 9, 15, 64)])
theorem kX0_runLoad : zMk MX0_runLoad := ⟨zt (lw_at lw_m8 38 rfl), zt (lw_at lw_m1 0 rfl), by decide +kernel, by decide, by decide +kernel⟩
abbrev MX0_runLoadAgain : zM := (yX0_runLoadAgain, cX0_runLoadAgain, 4, (Option.some Jvm.ClassFile.FieldType.int), [(0, 9, 12, 40), (0, 9, 15, 64)])
theorem kX0_runLoadAgain : zMk MX0_runLoadAgain := ⟨zt (lw_at lw_m8 58 rfl), zt (lw_at lw_m1 0 rfl), by decide +kernel, by decide, by decide +kernel⟩
abbrev MX0_runEnd : zM := (yX0_runEnd, cX0_runEnd, 4, (Option.some Jvm.ClassFile.FieldType.int), [(0, 9, 12, 40), (0, 9, 15, 64)])
theorem kX0_runEnd : zMk MX0_runEnd := ⟨zt (lw_at lw_m8 65 rfl), zt (lw_at lw_m1 0 rfl), by decide +kernel, by decide, by decide +kernel⟩
abbrev MX0_ahead : zM := (yX0_ahead, cX0_ahead, 4, (Option.some Jvm.ClassFile.FieldType.int), [(0, 9, 12, 40), (0, 9, 15, 64), (0, 9, 18, 53)])
theorem kX0_ahead : zMk MX0_ahead := ⟨zt (lw_at lw_m8 72 rfl), zt (lw_at lw_m1 0 rfl), by decide +kernel, by decide, by decide +kernel⟩
abbrev MX0_spansLeft : zM := (yX0_spansLeft, cX0_spansLeft, 4, (Option.some Jvm.ClassFile.FieldType.int), [(0, 9, 12, 40), (0, 9, 15, 64)])
theorem kX0_spansLeft : zMk MX0_spansLeft := ⟨zt (lw_at lw_m8 80 rfl), zt (lw_at lw_m1 0 rfl), by decide +kernel, by decide, by decide +kernel⟩
abbrev MX0_may : zM := (yX0_may, cX0_may, 4, (Option.some Jvm.ClassFile.FieldType.int), [(0, 16, 19, 42)])
theorem kX0_may : zMk MX0_may := ⟨zt (lw_at lw_m8 91 rfl), zt (lw_at lw_m1 0 rfl), by decide +kernel, by decide, by decide +kernel⟩
abbrev MX0_passed : zM := (yX0_passed, cX0_passed, 4, (Option.some Jvm.ClassFile.FieldType.int), [(0, 9, 12, 53)])
theorem kX0_passed : zMk MX0_passed := ⟨zt (lw_at lw_m8 100 rfl), zt (lw_at lw_m1 0 rfl), by decide +kernel, by decide, by decide +kernel⟩
abbrev MX0_wouldPass : zM := (yX0_wouldPass, cX0_wouldPass, 4, (Option.some Jvm.ClassFile.FieldType.int), [(0, 9, 12, 42)])
theorem kX0_wouldPass : zMk MX0_wouldPass := ⟨zt (lw_at lw_m8 107 rfl), zt (lw_at lw_m1 0 rfl), by decide +kernel, by decide, by decide +kernel⟩
abbrev MX0_over : zM := (yX0_over, cX0_over, 3, (Option.some Jvm.ClassFile.FieldType.int), [(0, 8, 11, 53)])
theorem kX0_over : zMk MX0_over := ⟨zt (lw_at lw_m8 114 rfl), zt (lw_at lw_m1 0 rfl), by decide +kernel, by decide, by decide +kernel⟩
abbrev MX0_longest : zM := (yX0_longest, cX0_longest, 4, (Option.some Jvm.ClassFile.FieldType.int), [(0, 9, 12, 53)])
theorem kX0_longest : zMk MX0_longest := ⟨zt (lw_at lw_m8 125 rfl), zt (lw_at lw_m1 0 rfl), by decide +kernel, by decide, by decide +kernel⟩
abbrev MX0_mildest : zM := (yX0_mildest, cX0_mildest, 3, (Option.some Jvm.ClassFile.FieldType.int), [(0, 8, 11, 53)])
theorem kX0_mildest : zMk MX0_mildest := ⟨zt (lw_at lw_m8 135 rfl), zt (lw_at lw_m1 0 rfl), by decide +kernel, by decide, by decide +kernel⟩
abbrev MX0_heaviest : zM := (yX0_heaviest, cX0_heaviest, 3, (Option.some Jvm.ClassFile.FieldType.int), [(0, 8, 11, 53)])
theorem kX0_heaviest : zMk MX0_heaviest := ⟨zt (lw_at lw_m8 142 rfl), zt (lw_at lw_m1 0 rfl), by decide +kernel, by decide, by decide +kernel⟩
abbrev MX0_append : zM := (yX0_append, cX0_append, 4, (Option.some Jvm.ClassFile.FieldType.int), [(0, 9, 12, 42), (0, 9, 15, 64)])
theorem kX0_append : zMk MX0_append := ⟨zt (lw_at lw_m8 149 rfl), zt (lw_at lw_m1 0 rfl), by decide +kernel, by decide, by decide +kernel⟩
abbrev MX0_run : zM := (yX0_run, cX0_run, 3, (Option.some Jvm.ClassFile.FieldType.int), [(0, 8, 11, 42), (0, 8, 14, 13)])
theorem kX0_run : zMk MX0_run := ⟨zt (lw_at lw_m8 163 rfl), zt (lw_at lw_m1 0 rfl), by decide +kernel, by decide, by decide +kernel⟩
abbrev MX0_reason : zM := (yX0_reason, cX0_reason, 5, (Option.some Jvm.ClassFile.FieldType.int), [(0, 10, 13, 42), (0, 10, 17, 53)])
theorem kX0_reason : zMk MX0_reason := ⟨zt (lw_at lw_m9 138 rfl), zt (lw_at lw_m1 0 rfl), by decide +kernel, by decide, by decide +kernel⟩
abbrev MX0_tellCart : zM := (yX0_tellCart, cX0_tellCart, 4, (Option.some Jvm.ClassFile.FieldType.int), [(0, 9, 12, 40)])
theorem kX0_tellCart : zMk MX0_tellCart := ⟨zt (lw_at lw_m9 145 rfl), zt (lw_at lw_m1 0 rfl), by decide +kernel, by decide, by decide +kernel⟩
abbrev MX0_character : zM := (yX0_character, cX0_character, 4, (Option.some Jvm.ClassFile.FieldType.int), [(0, 9, 12, 40)])
theorem kX0_character : zMk MX0_character := ⟨zt (lw_at lw_m9 162 rfl), zt (lw_at lw_m1 0 rfl), by decide +kernel, by decide, by decide +kernel⟩
abbrev MX0_account : zM := (yX0_account, cX0_account, 4, (Option.some Jvm.ClassFile.FieldType.int), [(0, 9, 12, 42)])
theorem kX0_account : zMk MX0_account := ⟨zt (lw_at lw_m9 170 rfl), zt (lw_at lw_m1 0 rfl), by decide +kernel, by decide, by decide +kernel⟩
abbrev MX0_meanWaited : zM := (yX0_meanWaited, cX0_meanWaited, 3, (Option.some Jvm.ClassFile.FieldType.int), [(0, 7, 10, 126)])
theorem kX0_meanWaited : zMk MX0_meanWaited := ⟨zt (lw_at lw_m9 181 rfl), zt (lw_at lw_m1 0 rfl), by decide +kernel, by decide, by decide +kernel⟩
abbrev MX0_undo : zM := (yX0_undo, cX0_undo, 3, (Option.some Jvm.ClassFile.FieldType.int), [(0, 8, 11, 64)])
theorem kX0_undo : zMk MX0_undo := ⟨zt (lw_at lw_m9 208 rfl), zt (lw_at lw_m1 0 rfl), by decide +kernel, by decide, by decide +kernel⟩
abbrev MX0_restore : zM := (yX0_restore, cX0_restore, 3, (Option.some Jvm.ClassFile.FieldType.int), [(0, 8, 11, 64)])
theorem kX0_restore : zMk MX0_restore := ⟨zt (lw_at lw_m9 230 rfl), zt (lw_at lw_m1 0 rfl), by decide +kernel, by decide, by decide +kernel⟩
/-! CartBridge$State -/
set_option maxRecDepth 100000
set_option maxRecDepth 100000 in
set_option maxRecDepth 100000 in
abbrev cX2_init : ByteArray := prog_10_method_1_code
def yX2_init : MethodName := ⟨RX2, "<init>", "()V"⟩
def dkwX2_init_4 : List UInt8 := [177]
abbrev dktX2_init_4 : List UInt8 := dkwX2_init_4 ++ []
def dkwX2_init_3 : List UInt8 := [181, 0, 38, 3, 60, 27, 16, 8, 162, 0, 16, 42, 180, 0, 27, 27, 2, 79, 132, 1, 1, 167, 255, 240]
abbrev dktX2_init_3 : List UInt8 := dkwX2_init_3 ++ dktX2_init_4
def dkwX2_init_2 : List UInt8 := [181, 0, 24, 42, 16, 8, 188, 10, 181, 0, 27, 42, 7, 181, 0, 31, 42, 5, 181, 0, 35, 42, 3]
abbrev dktX2_init_2 : List UInt8 := dkwX2_init_2 ++ dktX2_init_3
def dkwX2_init_1 : List UInt8 := [181, 0, 18, 42, 187, 0, 9, 89, 183, 0, 11, 181, 0, 21, 42, 187, 0, 9, 89, 183, 0, 11]
abbrev dktX2_init_1 : List UInt8 := dkwX2_init_1 ++ dktX2_init_2
def dkwX2_init_0 : List UInt8 := [42, 183, 0, 3, 42, 187, 0, 9, 89, 183, 0, 11, 181, 0, 12, 42, 187, 0, 9, 89, 183, 0, 11]
abbrev dktX2_init_0 : List UInt8 := dkwX2_init_0 ++ dktX2_init_1
theorem dksX2_init_0 : cX2_init.data.toList.drop 0 = dktX2_init_0 := by decide +kernel
theorem dksX2_init_1 : cX2_init.data.toList.drop 23 = dktX2_init_1 := dk_seg dksX2_init_0 23 rfl rfl
theorem dksX2_init_2 : cX2_init.data.toList.drop 45 = dktX2_init_2 := dk_seg dksX2_init_1 22 rfl rfl
theorem dksX2_init_3 : cX2_init.data.toList.drop 68 = dktX2_init_3 := dk_seg dksX2_init_2 23 rfl rfl
theorem dksX2_init_4 : cX2_init.data.toList.drop 92 = dktX2_init_4 := dk_seg dksX2_init_3 24 rfl rfl
theorem dX2_init_0 : decode cX2_init 0 = .ok (.aload_n 0, 1) := dk_42 (dk_at dksX2_init_0 0 rfl rfl)
theorem dX2_init_1 : decode cX2_init 1 = .ok (.invokespecial 3, 3) := dk_183 0 3 (dk_at dksX2_init_0 1 rfl rfl)
theorem dX2_init_4 : decode cX2_init 4 = .ok (.aload_n 0, 1) := dk_42 (dk_at dksX2_init_0 4 rfl rfl)
theorem dX2_init_5 : decode cX2_init 5 = .ok (.new 9, 3) := dk_187 0 9 (dk_at dksX2_init_0 5 rfl rfl)
theorem dX2_init_8 : decode cX2_init 8 = .ok (.dup, 1) := dk_89 (dk_at dksX2_init_0 8 rfl rfl)
theorem dX2_init_9 : decode cX2_init 9 = .ok (.invokespecial 11, 3) := dk_183 0 11 (dk_at dksX2_init_0 9 rfl rfl)
theorem dX2_init_12 : decode cX2_init 12 = .ok (.putfield 12, 3) := dk_181 0 12 (dk_at dksX2_init_0 12 rfl rfl)
theorem dX2_init_15 : decode cX2_init 15 = .ok (.aload_n 0, 1) := dk_42 (dk_at dksX2_init_0 15 rfl rfl)
theorem dX2_init_16 : decode cX2_init 16 = .ok (.new 9, 3) := dk_187 0 9 (dk_at dksX2_init_0 16 rfl rfl)
theorem dX2_init_19 : decode cX2_init 19 = .ok (.dup, 1) := dk_89 (dk_at dksX2_init_0 19 rfl rfl)
theorem dX2_init_20 : decode cX2_init 20 = .ok (.invokespecial 11, 3) := dk_183 0 11 (dk_at dksX2_init_0 20 rfl rfl)
theorem dX2_init_23 : decode cX2_init 23 = .ok (.putfield 18, 3) := dk_181 0 18 (dk_at dksX2_init_1 0 rfl rfl)
theorem dX2_init_26 : decode cX2_init 26 = .ok (.aload_n 0, 1) := dk_42 (dk_at dksX2_init_1 3 rfl rfl)
theorem dX2_init_27 : decode cX2_init 27 = .ok (.new 9, 3) := dk_187 0 9 (dk_at dksX2_init_1 4 rfl rfl)
theorem dX2_init_30 : decode cX2_init 30 = .ok (.dup, 1) := dk_89 (dk_at dksX2_init_1 7 rfl rfl)
theorem dX2_init_31 : decode cX2_init 31 = .ok (.invokespecial 11, 3) := dk_183 0 11 (dk_at dksX2_init_1 8 rfl rfl)
theorem dX2_init_34 : decode cX2_init 34 = .ok (.putfield 21, 3) := dk_181 0 21 (dk_at dksX2_init_1 11 rfl rfl)
theorem dX2_init_37 : decode cX2_init 37 = .ok (.aload_n 0, 1) := dk_42 (dk_at dksX2_init_1 14 rfl rfl)
theorem dX2_init_38 : decode cX2_init 38 = .ok (.new 9, 3) := dk_187 0 9 (dk_at dksX2_init_1 15 rfl rfl)
theorem dX2_init_41 : decode cX2_init 41 = .ok (.dup, 1) := dk_89 (dk_at dksX2_init_1 18 rfl rfl)
theorem dX2_init_42 : decode cX2_init 42 = .ok (.invokespecial 11, 3) := dk_183 0 11 (dk_at dksX2_init_1 19 rfl rfl)
theorem dX2_init_45 : decode cX2_init 45 = .ok (.putfield 24, 3) := dk_181 0 24 (dk_at dksX2_init_2 0 rfl rfl)
theorem dX2_init_48 : decode cX2_init 48 = .ok (.aload_n 0, 1) := dk_42 (dk_at dksX2_init_2 3 rfl rfl)
theorem dX2_init_49 : decode cX2_init 49 = .ok (.bipush 8, 2) := dk_16 8 (dk_at dksX2_init_2 4 rfl rfl)
theorem dX2_init_51 : decode cX2_init 51 = .ok (.newarray .int, 2) := dk_188_10 (dk_at dksX2_init_2 6 rfl rfl)
theorem dX2_init_53 : decode cX2_init 53 = .ok (.putfield 27, 3) := dk_181 0 27 (dk_at dksX2_init_2 8 rfl rfl)
theorem dX2_init_56 : decode cX2_init 56 = .ok (.aload_n 0, 1) := dk_42 (dk_at dksX2_init_2 11 rfl rfl)
theorem dX2_init_57 : decode cX2_init 57 = .ok (.iconst 4, 1) := dk_7 (dk_at dksX2_init_2 12 rfl rfl)
theorem dX2_init_58 : decode cX2_init 58 = .ok (.putfield 31, 3) := dk_181 0 31 (dk_at dksX2_init_2 13 rfl rfl)
theorem dX2_init_61 : decode cX2_init 61 = .ok (.aload_n 0, 1) := dk_42 (dk_at dksX2_init_2 16 rfl rfl)
theorem dX2_init_62 : decode cX2_init 62 = .ok (.iconst 2, 1) := dk_5 (dk_at dksX2_init_2 17 rfl rfl)
theorem dX2_init_63 : decode cX2_init 63 = .ok (.putfield 35, 3) := dk_181 0 35 (dk_at dksX2_init_2 18 rfl rfl)
theorem dX2_init_66 : decode cX2_init 66 = .ok (.aload_n 0, 1) := dk_42 (dk_at dksX2_init_2 21 rfl rfl)
theorem dX2_init_67 : decode cX2_init 67 = .ok (.iconst 0, 1) := dk_3 (dk_at dksX2_init_2 22 rfl rfl)
theorem dX2_init_68 : decode cX2_init 68 = .ok (.putfield 38, 3) := dk_181 0 38 (dk_at dksX2_init_3 0 rfl rfl)
theorem dX2_init_71 : decode cX2_init 71 = .ok (.iconst 0, 1) := dk_3 (dk_at dksX2_init_3 3 rfl rfl)
theorem dX2_init_72 : decode cX2_init 72 = .ok (.istore_n 1, 1) := dk_60 (dk_at dksX2_init_3 4 rfl rfl)
theorem dX2_init_73 : decode cX2_init 73 = .ok (.iload_n 1, 1) := dk_27 (dk_at dksX2_init_3 5 rfl rfl)
theorem dX2_init_74 : decode cX2_init 74 = .ok (.bipush 8, 2) := dk_16 8 (dk_at dksX2_init_3 6 rfl rfl)
theorem dX2_init_76 : decode cX2_init 76 = .ok (.if_icmp .ge 16, 3) := dk_162 0 16 (dk_at dksX2_init_3 8 rfl rfl)
theorem dX2_init_79 : decode cX2_init 79 = .ok (.aload_n 0, 1) := dk_42 (dk_at dksX2_init_3 11 rfl rfl)
theorem dX2_init_80 : decode cX2_init 80 = .ok (.getfield 27, 3) := dk_180 0 27 (dk_at dksX2_init_3 12 rfl rfl)
theorem dX2_init_83 : decode cX2_init 83 = .ok (.iload_n 1, 1) := dk_27 (dk_at dksX2_init_3 15 rfl rfl)
theorem dX2_init_84 : decode cX2_init 84 = .ok (.iconst (-1), 1) := dk_2 (dk_at dksX2_init_3 16 rfl rfl)
theorem dX2_init_85 : decode cX2_init 85 = .ok (.iastore, 1) := dk_79 (dk_at dksX2_init_3 17 rfl rfl)
theorem dX2_init_86 : decode cX2_init 86 = .ok (.iinc 1 1, 3) := dk_132 1 1 (dk_at dksX2_init_3 18 rfl rfl)
theorem dX2_init_89 : decode cX2_init 89 = .ok (.goto (-16), 3) := dk_167 255 240 (dk_at dksX2_init_3 21 rfl rfl)
theorem dX2_init_92 : decode cX2_init 92 = .ok (.return_, 1) := dk_177 (dk_at dksX2_init_4 0 rfl rfl)
abbrev cX2_heads : ByteArray := prog_10_method_8_code
def yX2_heads : MethodName := ⟨RX2, "heads", "(II)Z"⟩
def dkwX2_heads_2 : List UInt8 := [167, 0, 4, 3, 172]
abbrev dktX2_heads_2 : List UInt8 := dkwX2_heads_2 ++ []
def dkwX2_heads_1 : List UInt8 := [42, 180, 0, 12, 42, 180, 0, 27, 27, 46, 182, 0, 112, 192, 0, 70, 180, 0, 119, 28, 160, 0, 7, 4]
abbrev dktX2_heads_1 : List UInt8 := dkwX2_heads_1 ++ dktX2_heads_2
def dkwX2_heads_0 : List UInt8 := [27, 3, 42, 180, 0, 31, 4, 100, 184, 0, 104, 153, 0, 40, 42, 180, 0, 27, 27, 46, 2, 159, 0, 30]
abbrev dktX2_heads_0 : List UInt8 := dkwX2_heads_0 ++ dktX2_heads_1
theorem dksX2_heads_0 : cX2_heads.data.toList.drop 0 = dktX2_heads_0 := by decide +kernel
theorem dksX2_heads_1 : cX2_heads.data.toList.drop 24 = dktX2_heads_1 := dk_seg dksX2_heads_0 24 rfl rfl
theorem dksX2_heads_2 : cX2_heads.data.toList.drop 48 = dktX2_heads_2 := dk_seg dksX2_heads_1 24 rfl rfl
theorem dX2_heads_0 : decode cX2_heads 0 = .ok (.iload_n 1, 1) := dk_27 (dk_at dksX2_heads_0 0 rfl rfl)
theorem dX2_heads_1 : decode cX2_heads 1 = .ok (.iconst 0, 1) := dk_3 (dk_at dksX2_heads_0 1 rfl rfl)
theorem dX2_heads_2 : decode cX2_heads 2 = .ok (.aload_n 0, 1) := dk_42 (dk_at dksX2_heads_0 2 rfl rfl)
theorem dX2_heads_3 : decode cX2_heads 3 = .ok (.getfield 31, 3) := dk_180 0 31 (dk_at dksX2_heads_0 3 rfl rfl)
theorem dX2_heads_6 : decode cX2_heads 6 = .ok (.iconst 1, 1) := dk_4 (dk_at dksX2_heads_0 6 rfl rfl)
theorem dX2_heads_7 : decode cX2_heads 7 = .ok (.isub, 1) := dk_100 (dk_at dksX2_heads_0 7 rfl rfl)
theorem dX2_heads_8 : decode cX2_heads 8 = .ok (.invokestatic 104, 3) := dk_184 0 104 (dk_at dksX2_heads_0 8 rfl rfl)
theorem dX2_heads_11 : decode cX2_heads 11 = .ok (.ifCond .eq 40, 3) := dk_153 0 40 (dk_at dksX2_heads_0 11 rfl rfl)
theorem dX2_heads_14 : decode cX2_heads 14 = .ok (.aload_n 0, 1) := dk_42 (dk_at dksX2_heads_0 14 rfl rfl)
theorem dX2_heads_15 : decode cX2_heads 15 = .ok (.getfield 27, 3) := dk_180 0 27 (dk_at dksX2_heads_0 15 rfl rfl)
theorem dX2_heads_18 : decode cX2_heads 18 = .ok (.iload_n 1, 1) := dk_27 (dk_at dksX2_heads_0 18 rfl rfl)
theorem dX2_heads_19 : decode cX2_heads 19 = .ok (.iaload, 1) := dk_46 (dk_at dksX2_heads_0 19 rfl rfl)
theorem dX2_heads_20 : decode cX2_heads 20 = .ok (.iconst (-1), 1) := dk_2 (dk_at dksX2_heads_0 20 rfl rfl)
theorem dX2_heads_21 : decode cX2_heads 21 = .ok (.if_icmp .eq 30, 3) := dk_159 0 30 (dk_at dksX2_heads_0 21 rfl rfl)
theorem dX2_heads_24 : decode cX2_heads 24 = .ok (.aload_n 0, 1) := dk_42 (dk_at dksX2_heads_1 0 rfl rfl)
theorem dX2_heads_25 : decode cX2_heads 25 = .ok (.getfield 12, 3) := dk_180 0 12 (dk_at dksX2_heads_1 1 rfl rfl)
theorem dX2_heads_28 : decode cX2_heads 28 = .ok (.aload_n 0, 1) := dk_42 (dk_at dksX2_heads_1 4 rfl rfl)
theorem dX2_heads_29 : decode cX2_heads 29 = .ok (.getfield 27, 3) := dk_180 0 27 (dk_at dksX2_heads_1 5 rfl rfl)
theorem dX2_heads_32 : decode cX2_heads 32 = .ok (.iload_n 1, 1) := dk_27 (dk_at dksX2_heads_1 8 rfl rfl)
theorem dX2_heads_33 : decode cX2_heads 33 = .ok (.iaload, 1) := dk_46 (dk_at dksX2_heads_1 9 rfl rfl)
theorem dX2_heads_34 : decode cX2_heads 34 = .ok (.invokevirtual 112, 3) := dk_182 0 112 (dk_at dksX2_heads_1 10 rfl rfl)
theorem dX2_heads_37 : decode cX2_heads 37 = .ok (.checkcast 70, 3) := dk_192 0 70 (dk_at dksX2_heads_1 13 rfl rfl)
theorem dX2_heads_40 : decode cX2_heads 40 = .ok (.getfield 119, 3) := dk_180 0 119 (dk_at dksX2_heads_1 16 rfl rfl)
theorem dX2_heads_43 : decode cX2_heads 43 = .ok (.iload_n 2, 1) := dk_28 (dk_at dksX2_heads_1 19 rfl rfl)
theorem dX2_heads_44 : decode cX2_heads 44 = .ok (.if_icmp .ne 7, 3) := dk_160 0 7 (dk_at dksX2_heads_1 20 rfl rfl)
theorem dX2_heads_47 : decode cX2_heads 47 = .ok (.iconst 1, 1) := dk_4 (dk_at dksX2_heads_1 23 rfl rfl)
theorem dX2_heads_48 : decode cX2_heads 48 = .ok (.goto 4, 3) := dk_167 0 4 (dk_at dksX2_heads_2 0 rfl rfl)
theorem dX2_heads_51 : decode cX2_heads 51 = .ok (.iconst 0, 1) := dk_3 (dk_at dksX2_heads_2 3 rfl rfl)
theorem dX2_heads_52 : decode cX2_heads 52 = .ok (.ireturn, 1) := dk_172 (dk_at dksX2_heads_2 4 rfl rfl)
abbrev cX2_runLoad : ByteArray := prog_10_method_22_code
def yX2_runLoad : MethodName := ⟨RX2, "runLoad", "(LCartBridge$Cart;)I"⟩
def dkwX2_runLoad_2 : List UInt8 := [192, 0, 70, 180, 0, 116, 96, 61, 21, 4, 29, 96, 54, 4, 167, 255, 214, 28, 172]
abbrev dktX2_runLoad_2 : List UInt8 := dkwX2_runLoad_2 ++ []
def dkwX2_runLoad_1 : List UInt8 := [180, 0, 119, 182, 0, 122, 153, 0, 35, 28, 42, 180, 0, 12, 42, 180, 0, 27, 21, 4, 46, 182, 0, 112]
abbrev dktX2_runLoad_1 : List UInt8 := dkwX2_runLoad_1 ++ dktX2_runLoad_2
def dkwX2_runLoad_0 : List UInt8 := [3, 61, 43, 180, 0, 119, 184, 0, 180, 184, 0, 149, 62, 43, 180, 0, 156, 54, 4, 42, 21, 4, 43]
abbrev dktX2_runLoad_0 : List UInt8 := dkwX2_runLoad_0 ++ dktX2_runLoad_1
theorem dksX2_runLoad_0 : cX2_runLoad.data.toList.drop 0 = dktX2_runLoad_0 := by decide +kernel
theorem dksX2_runLoad_1 : cX2_runLoad.data.toList.drop 23 = dktX2_runLoad_1 := dk_seg dksX2_runLoad_0 23 rfl rfl
theorem dksX2_runLoad_2 : cX2_runLoad.data.toList.drop 47 = dktX2_runLoad_2 := dk_seg dksX2_runLoad_1 24 rfl rfl
theorem dX2_runLoad_0 : decode cX2_runLoad 0 = .ok (.iconst 0, 1) := dk_3 (dk_at dksX2_runLoad_0 0 rfl rfl)
theorem dX2_runLoad_1 : decode cX2_runLoad 1 = .ok (.istore_n 2, 1) := dk_61 (dk_at dksX2_runLoad_0 1 rfl rfl)
theorem dX2_runLoad_2 : decode cX2_runLoad 2 = .ok (.aload_n 1, 1) := dk_43 (dk_at dksX2_runLoad_0 2 rfl rfl)
theorem dX2_runLoad_3 : decode cX2_runLoad 3 = .ok (.getfield 119, 3) := dk_180 0 119 (dk_at dksX2_runLoad_0 3 rfl rfl)
theorem dX2_runLoad_6 : decode cX2_runLoad 6 = .ok (.invokestatic 180, 3) := dk_184 0 180 (dk_at dksX2_runLoad_0 6 rfl rfl)
theorem dX2_runLoad_9 : decode cX2_runLoad 9 = .ok (.invokestatic 149, 3) := dk_184 0 149 (dk_at dksX2_runLoad_0 9 rfl rfl)
theorem dX2_runLoad_12 : decode cX2_runLoad 12 = .ok (.istore_n 3, 1) := dk_62 (dk_at dksX2_runLoad_0 12 rfl rfl)
theorem dX2_runLoad_13 : decode cX2_runLoad 13 = .ok (.aload_n 1, 1) := dk_43 (dk_at dksX2_runLoad_0 13 rfl rfl)
theorem dX2_runLoad_14 : decode cX2_runLoad 14 = .ok (.getfield 156, 3) := dk_180 0 156 (dk_at dksX2_runLoad_0 14 rfl rfl)
theorem dX2_runLoad_17 : decode cX2_runLoad 17 = .ok (.istore 4, 2) := dk_54 4 (dk_at dksX2_runLoad_0 17 rfl rfl)
theorem dX2_runLoad_19 : decode cX2_runLoad 19 = .ok (.aload_n 0, 1) := dk_42 (dk_at dksX2_runLoad_0 19 rfl rfl)
theorem dX2_runLoad_20 : decode cX2_runLoad 20 = .ok (.iload 4, 2) := dk_21 4 (dk_at dksX2_runLoad_0 20 rfl rfl)
theorem dX2_runLoad_22 : decode cX2_runLoad 22 = .ok (.aload_n 1, 1) := dk_43 (dk_at dksX2_runLoad_0 22 rfl rfl)
theorem dX2_runLoad_23 : decode cX2_runLoad 23 = .ok (.getfield 119, 3) := dk_180 0 119 (dk_at dksX2_runLoad_1 0 rfl rfl)
theorem dX2_runLoad_26 : decode cX2_runLoad 26 = .ok (.invokevirtual 122, 3) := dk_182 0 122 (dk_at dksX2_runLoad_1 3 rfl rfl)
theorem dX2_runLoad_29 : decode cX2_runLoad 29 = .ok (.ifCond .eq 35, 3) := dk_153 0 35 (dk_at dksX2_runLoad_1 6 rfl rfl)
theorem dX2_runLoad_32 : decode cX2_runLoad 32 = .ok (.iload_n 2, 1) := dk_28 (dk_at dksX2_runLoad_1 9 rfl rfl)
theorem dX2_runLoad_33 : decode cX2_runLoad 33 = .ok (.aload_n 0, 1) := dk_42 (dk_at dksX2_runLoad_1 10 rfl rfl)
theorem dX2_runLoad_34 : decode cX2_runLoad 34 = .ok (.getfield 12, 3) := dk_180 0 12 (dk_at dksX2_runLoad_1 11 rfl rfl)
theorem dX2_runLoad_37 : decode cX2_runLoad 37 = .ok (.aload_n 0, 1) := dk_42 (dk_at dksX2_runLoad_1 14 rfl rfl)
theorem dX2_runLoad_38 : decode cX2_runLoad 38 = .ok (.getfield 27, 3) := dk_180 0 27 (dk_at dksX2_runLoad_1 15 rfl rfl)
theorem dX2_runLoad_41 : decode cX2_runLoad 41 = .ok (.iload 4, 2) := dk_21 4 (dk_at dksX2_runLoad_1 18 rfl rfl)
theorem dX2_runLoad_43 : decode cX2_runLoad 43 = .ok (.iaload, 1) := dk_46 (dk_at dksX2_runLoad_1 20 rfl rfl)
theorem dX2_runLoad_44 : decode cX2_runLoad 44 = .ok (.invokevirtual 112, 3) := dk_182 0 112 (dk_at dksX2_runLoad_1 21 rfl rfl)
theorem dX2_runLoad_47 : decode cX2_runLoad 47 = .ok (.checkcast 70, 3) := dk_192 0 70 (dk_at dksX2_runLoad_2 0 rfl rfl)
theorem dX2_runLoad_50 : decode cX2_runLoad 50 = .ok (.getfield 116, 3) := dk_180 0 116 (dk_at dksX2_runLoad_2 3 rfl rfl)
theorem dX2_runLoad_53 : decode cX2_runLoad 53 = .ok (.iadd, 1) := dk_96 (dk_at dksX2_runLoad_2 6 rfl rfl)
theorem dX2_runLoad_54 : decode cX2_runLoad 54 = .ok (.istore_n 2, 1) := dk_61 (dk_at dksX2_runLoad_2 7 rfl rfl)
theorem dX2_runLoad_55 : decode cX2_runLoad 55 = .ok (.iload 4, 2) := dk_21 4 (dk_at dksX2_runLoad_2 8 rfl rfl)
theorem dX2_runLoad_57 : decode cX2_runLoad 57 = .ok (.iload_n 3, 1) := dk_29 (dk_at dksX2_runLoad_2 10 rfl rfl)
theorem dX2_runLoad_58 : decode cX2_runLoad 58 = .ok (.iadd, 1) := dk_96 (dk_at dksX2_runLoad_2 11 rfl rfl)
theorem dX2_runLoad_59 : decode cX2_runLoad 59 = .ok (.istore 4, 2) := dk_54 4 (dk_at dksX2_runLoad_2 12 rfl rfl)
theorem dX2_runLoad_61 : decode cX2_runLoad 61 = .ok (.goto (-42), 3) := dk_167 255 214 (dk_at dksX2_runLoad_2 14 rfl rfl)
theorem dX2_runLoad_64 : decode cX2_runLoad 64 = .ok (.iload_n 2, 1) := dk_28 (dk_at dksX2_runLoad_2 17 rfl rfl)
theorem dX2_runLoad_65 : decode cX2_runLoad 65 = .ok (.ireturn, 1) := dk_172 (dk_at dksX2_runLoad_2 18 rfl rfl)
abbrev cX2_step : ByteArray := prog_10_method_11_code
def yX2_step : MethodName := ⟨RX2, "step", "(I)I"⟩
def dkwX2_step_0 : List UInt8 := [26, 154, 0, 7, 2, 167, 0, 4, 4, 172]
abbrev dktX2_step_0 : List UInt8 := dkwX2_step_0 ++ []
theorem dksX2_step_0 : cX2_step.data.toList.drop 0 = dktX2_step_0 := by decide +kernel
theorem dX2_step_0 : decode cX2_step 0 = .ok (.iload_n 0, 1) := dk_26 (dk_at dksX2_step_0 0 rfl rfl)
theorem dX2_step_1 : decode cX2_step 1 = .ok (.ifCond .ne 7, 3) := dk_154 0 7 (dk_at dksX2_step_0 1 rfl rfl)
theorem dX2_step_4 : decode cX2_step 4 = .ok (.iconst (-1), 1) := dk_2 (dk_at dksX2_step_0 4 rfl rfl)
theorem dX2_step_5 : decode cX2_step 5 = .ok (.goto 4, 3) := dk_167 0 4 (dk_at dksX2_step_0 5 rfl rfl)
theorem dX2_step_8 : decode cX2_step 8 = .ok (.iconst 1, 1) := dk_4 (dk_at dksX2_step_0 8 rfl rfl)
theorem dX2_step_9 : decode cX2_step 9 = .ok (.ireturn, 1) := dk_172 (dk_at dksX2_step_0 9 rfl rfl)
abbrev cX2_runEnd : ByteArray := prog_10_method_21_code
def yX2_runEnd : MethodName := ⟨RX2, "runEnd", "(LCartBridge$Cart;)I"⟩
def dkwX2_runEnd_1 : List UInt8 := [182, 0, 122, 153, 0, 10, 28, 29, 96, 61, 167, 255, 238, 28, 172]
abbrev dktX2_runEnd_1 : List UInt8 := dkwX2_runEnd_1 ++ []
def dkwX2_runEnd_0 : List UInt8 := [43, 180, 0, 156, 61, 43, 180, 0, 119, 184, 0, 180, 184, 0, 149, 62, 42, 28, 29, 96, 43, 180, 0, 119]
abbrev dktX2_runEnd_0 : List UInt8 := dkwX2_runEnd_0 ++ dktX2_runEnd_1
theorem dksX2_runEnd_0 : cX2_runEnd.data.toList.drop 0 = dktX2_runEnd_0 := by decide +kernel
theorem dksX2_runEnd_1 : cX2_runEnd.data.toList.drop 24 = dktX2_runEnd_1 := dk_seg dksX2_runEnd_0 24 rfl rfl
theorem dX2_runEnd_0 : decode cX2_runEnd 0 = .ok (.aload_n 1, 1) := dk_43 (dk_at dksX2_runEnd_0 0 rfl rfl)
theorem dX2_runEnd_1 : decode cX2_runEnd 1 = .ok (.getfield 156, 3) := dk_180 0 156 (dk_at dksX2_runEnd_0 1 rfl rfl)
theorem dX2_runEnd_4 : decode cX2_runEnd 4 = .ok (.istore_n 2, 1) := dk_61 (dk_at dksX2_runEnd_0 4 rfl rfl)
theorem dX2_runEnd_5 : decode cX2_runEnd 5 = .ok (.aload_n 1, 1) := dk_43 (dk_at dksX2_runEnd_0 5 rfl rfl)
theorem dX2_runEnd_6 : decode cX2_runEnd 6 = .ok (.getfield 119, 3) := dk_180 0 119 (dk_at dksX2_runEnd_0 6 rfl rfl)
theorem dX2_runEnd_9 : decode cX2_runEnd 9 = .ok (.invokestatic 180, 3) := dk_184 0 180 (dk_at dksX2_runEnd_0 9 rfl rfl)
theorem dX2_runEnd_12 : decode cX2_runEnd 12 = .ok (.invokestatic 149, 3) := dk_184 0 149 (dk_at dksX2_runEnd_0 12 rfl rfl)
theorem dX2_runEnd_15 : decode cX2_runEnd 15 = .ok (.istore_n 3, 1) := dk_62 (dk_at dksX2_runEnd_0 15 rfl rfl)
theorem dX2_runEnd_16 : decode cX2_runEnd 16 = .ok (.aload_n 0, 1) := dk_42 (dk_at dksX2_runEnd_0 16 rfl rfl)
theorem dX2_runEnd_17 : decode cX2_runEnd 17 = .ok (.iload_n 2, 1) := dk_28 (dk_at dksX2_runEnd_0 17 rfl rfl)
theorem dX2_runEnd_18 : decode cX2_runEnd 18 = .ok (.iload_n 3, 1) := dk_29 (dk_at dksX2_runEnd_0 18 rfl rfl)
theorem dX2_runEnd_19 : decode cX2_runEnd 19 = .ok (.iadd, 1) := dk_96 (dk_at dksX2_runEnd_0 19 rfl rfl)
theorem dX2_runEnd_20 : decode cX2_runEnd 20 = .ok (.aload_n 1, 1) := dk_43 (dk_at dksX2_runEnd_0 20 rfl rfl)
theorem dX2_runEnd_21 : decode cX2_runEnd 21 = .ok (.getfield 119, 3) := dk_180 0 119 (dk_at dksX2_runEnd_0 21 rfl rfl)
theorem dX2_runEnd_24 : decode cX2_runEnd 24 = .ok (.invokevirtual 122, 3) := dk_182 0 122 (dk_at dksX2_runEnd_1 0 rfl rfl)
theorem dX2_runEnd_27 : decode cX2_runEnd 27 = .ok (.ifCond .eq 10, 3) := dk_153 0 10 (dk_at dksX2_runEnd_1 3 rfl rfl)
theorem dX2_runEnd_30 : decode cX2_runEnd 30 = .ok (.iload_n 2, 1) := dk_28 (dk_at dksX2_runEnd_1 6 rfl rfl)
theorem dX2_runEnd_31 : decode cX2_runEnd 31 = .ok (.iload_n 3, 1) := dk_29 (dk_at dksX2_runEnd_1 7 rfl rfl)
theorem dX2_runEnd_32 : decode cX2_runEnd 32 = .ok (.iadd, 1) := dk_96 (dk_at dksX2_runEnd_1 8 rfl rfl)
theorem dX2_runEnd_33 : decode cX2_runEnd 33 = .ok (.istore_n 2, 1) := dk_61 (dk_at dksX2_runEnd_1 9 rfl rfl)
theorem dX2_runEnd_34 : decode cX2_runEnd 34 = .ok (.goto (-18), 3) := dk_167 255 238 (dk_at dksX2_runEnd_1 10 rfl rfl)
theorem dX2_runEnd_37 : decode cX2_runEnd 37 = .ok (.iload_n 2, 1) := dk_28 (dk_at dksX2_runEnd_1 13 rfl rfl)
theorem dX2_runEnd_38 : decode cX2_runEnd 38 = .ok (.ireturn, 1) := dk_172 (dk_at dksX2_runEnd_1 14 rfl rfl)
abbrev cX2_nose : ByteArray := prog_10_method_20_code
def yX2_nose : MethodName := ⟨RX2, "nose", "()I"⟩
def dkwX2_nose_1 : List UInt8 := [96, 3, 182, 0, 122, 153, 0, 5, 27, 172, 132, 1, 1, 167, 255, 221, 2, 172]
abbrev dktX2_nose_1 : List UInt8 := dkwX2_nose_1 ++ []
def dkwX2_nose_0 : List UInt8 := [3, 60, 27, 4, 96, 42, 180, 0, 31, 162, 0, 31, 42, 27, 4, 182, 0, 122, 153, 0, 16, 42, 27, 4]
abbrev dktX2_nose_0 : List UInt8 := dkwX2_nose_0 ++ dktX2_nose_1
theorem dksX2_nose_0 : cX2_nose.data.toList.drop 0 = dktX2_nose_0 := by decide +kernel
theorem dksX2_nose_1 : cX2_nose.data.toList.drop 24 = dktX2_nose_1 := dk_seg dksX2_nose_0 24 rfl rfl
theorem dX2_nose_0 : decode cX2_nose 0 = .ok (.iconst 0, 1) := dk_3 (dk_at dksX2_nose_0 0 rfl rfl)
theorem dX2_nose_1 : decode cX2_nose 1 = .ok (.istore_n 1, 1) := dk_60 (dk_at dksX2_nose_0 1 rfl rfl)
theorem dX2_nose_2 : decode cX2_nose 2 = .ok (.iload_n 1, 1) := dk_27 (dk_at dksX2_nose_0 2 rfl rfl)
theorem dX2_nose_3 : decode cX2_nose 3 = .ok (.iconst 1, 1) := dk_4 (dk_at dksX2_nose_0 3 rfl rfl)
theorem dX2_nose_4 : decode cX2_nose 4 = .ok (.iadd, 1) := dk_96 (dk_at dksX2_nose_0 4 rfl rfl)
theorem dX2_nose_5 : decode cX2_nose 5 = .ok (.aload_n 0, 1) := dk_42 (dk_at dksX2_nose_0 5 rfl rfl)
theorem dX2_nose_6 : decode cX2_nose 6 = .ok (.getfield 31, 3) := dk_180 0 31 (dk_at dksX2_nose_0 6 rfl rfl)
theorem dX2_nose_9 : decode cX2_nose 9 = .ok (.if_icmp .ge 31, 3) := dk_162 0 31 (dk_at dksX2_nose_0 9 rfl rfl)
theorem dX2_nose_12 : decode cX2_nose 12 = .ok (.aload_n 0, 1) := dk_42 (dk_at dksX2_nose_0 12 rfl rfl)
theorem dX2_nose_13 : decode cX2_nose 13 = .ok (.iload_n 1, 1) := dk_27 (dk_at dksX2_nose_0 13 rfl rfl)
theorem dX2_nose_14 : decode cX2_nose 14 = .ok (.iconst 1, 1) := dk_4 (dk_at dksX2_nose_0 14 rfl rfl)
theorem dX2_nose_15 : decode cX2_nose 15 = .ok (.invokevirtual 122, 3) := dk_182 0 122 (dk_at dksX2_nose_0 15 rfl rfl)
theorem dX2_nose_18 : decode cX2_nose 18 = .ok (.ifCond .eq 16, 3) := dk_153 0 16 (dk_at dksX2_nose_0 18 rfl rfl)
theorem dX2_nose_21 : decode cX2_nose 21 = .ok (.aload_n 0, 1) := dk_42 (dk_at dksX2_nose_0 21 rfl rfl)
theorem dX2_nose_22 : decode cX2_nose 22 = .ok (.iload_n 1, 1) := dk_27 (dk_at dksX2_nose_0 22 rfl rfl)
theorem dX2_nose_23 : decode cX2_nose 23 = .ok (.iconst 1, 1) := dk_4 (dk_at dksX2_nose_0 23 rfl rfl)
theorem dX2_nose_24 : decode cX2_nose 24 = .ok (.iadd, 1) := dk_96 (dk_at dksX2_nose_1 0 rfl rfl)
theorem dX2_nose_25 : decode cX2_nose 25 = .ok (.iconst 0, 1) := dk_3 (dk_at dksX2_nose_1 1 rfl rfl)
theorem dX2_nose_26 : decode cX2_nose 26 = .ok (.invokevirtual 122, 3) := dk_182 0 122 (dk_at dksX2_nose_1 2 rfl rfl)
theorem dX2_nose_29 : decode cX2_nose 29 = .ok (.ifCond .eq 5, 3) := dk_153 0 5 (dk_at dksX2_nose_1 5 rfl rfl)
theorem dX2_nose_32 : decode cX2_nose 32 = .ok (.iload_n 1, 1) := dk_27 (dk_at dksX2_nose_1 8 rfl rfl)
theorem dX2_nose_33 : decode cX2_nose 33 = .ok (.ireturn, 1) := dk_172 (dk_at dksX2_nose_1 9 rfl rfl)
theorem dX2_nose_34 : decode cX2_nose 34 = .ok (.iinc 1 1, 3) := dk_132 1 1 (dk_at dksX2_nose_1 10 rfl rfl)
theorem dX2_nose_37 : decode cX2_nose 37 = .ok (.goto (-35), 3) := dk_167 255 221 (dk_at dksX2_nose_1 13 rfl rfl)
theorem dX2_nose_40 : decode cX2_nose 40 = .ok (.iconst (-1), 1) := dk_2 (dk_at dksX2_nose_1 16 rfl rfl)
theorem dX2_nose_41 : decode cX2_nose 41 = .ok (.ireturn, 1) := dk_172 (dk_at dksX2_nose_1 17 rfl rfl)
abbrev cX2_onBridge : ByteArray := prog_10_method_7_code
def yX2_onBridge : MethodName := ⟨RX2, "onBridge", "()I"⟩
def dkwX2_onBridge_1 : List UInt8 := [167, 0, 4, 4, 96, 60, 132, 2, 1, 167, 255, 227, 27, 172]
abbrev dktX2_onBridge_1 : List UInt8 := dkwX2_onBridge_1 ++ []
def dkwX2_onBridge_0 : List UInt8 := [3, 60, 3, 61, 28, 42, 180, 0, 31, 162, 0, 27, 27, 42, 180, 0, 27, 28, 46, 2, 160, 0, 7, 3]
abbrev dktX2_onBridge_0 : List UInt8 := dkwX2_onBridge_0 ++ dktX2_onBridge_1
theorem dksX2_onBridge_0 : cX2_onBridge.data.toList.drop 0 = dktX2_onBridge_0 := by decide +kernel
theorem dksX2_onBridge_1 : cX2_onBridge.data.toList.drop 24 = dktX2_onBridge_1 := dk_seg dksX2_onBridge_0 24 rfl rfl
theorem dX2_onBridge_0 : decode cX2_onBridge 0 = .ok (.iconst 0, 1) := dk_3 (dk_at dksX2_onBridge_0 0 rfl rfl)
theorem dX2_onBridge_1 : decode cX2_onBridge 1 = .ok (.istore_n 1, 1) := dk_60 (dk_at dksX2_onBridge_0 1 rfl rfl)
theorem dX2_onBridge_2 : decode cX2_onBridge 2 = .ok (.iconst 0, 1) := dk_3 (dk_at dksX2_onBridge_0 2 rfl rfl)
theorem dX2_onBridge_3 : decode cX2_onBridge 3 = .ok (.istore_n 2, 1) := dk_61 (dk_at dksX2_onBridge_0 3 rfl rfl)
theorem dX2_onBridge_4 : decode cX2_onBridge 4 = .ok (.iload_n 2, 1) := dk_28 (dk_at dksX2_onBridge_0 4 rfl rfl)
theorem dX2_onBridge_5 : decode cX2_onBridge 5 = .ok (.aload_n 0, 1) := dk_42 (dk_at dksX2_onBridge_0 5 rfl rfl)
theorem dX2_onBridge_6 : decode cX2_onBridge 6 = .ok (.getfield 31, 3) := dk_180 0 31 (dk_at dksX2_onBridge_0 6 rfl rfl)
theorem dX2_onBridge_9 : decode cX2_onBridge 9 = .ok (.if_icmp .ge 27, 3) := dk_162 0 27 (dk_at dksX2_onBridge_0 9 rfl rfl)
theorem dX2_onBridge_12 : decode cX2_onBridge 12 = .ok (.iload_n 1, 1) := dk_27 (dk_at dksX2_onBridge_0 12 rfl rfl)
theorem dX2_onBridge_13 : decode cX2_onBridge 13 = .ok (.aload_n 0, 1) := dk_42 (dk_at dksX2_onBridge_0 13 rfl rfl)
theorem dX2_onBridge_14 : decode cX2_onBridge 14 = .ok (.getfield 27, 3) := dk_180 0 27 (dk_at dksX2_onBridge_0 14 rfl rfl)
theorem dX2_onBridge_17 : decode cX2_onBridge 17 = .ok (.iload_n 2, 1) := dk_28 (dk_at dksX2_onBridge_0 17 rfl rfl)
theorem dX2_onBridge_18 : decode cX2_onBridge 18 = .ok (.iaload, 1) := dk_46 (dk_at dksX2_onBridge_0 18 rfl rfl)
theorem dX2_onBridge_19 : decode cX2_onBridge 19 = .ok (.iconst (-1), 1) := dk_2 (dk_at dksX2_onBridge_0 19 rfl rfl)
theorem dX2_onBridge_20 : decode cX2_onBridge 20 = .ok (.if_icmp .ne 7, 3) := dk_160 0 7 (dk_at dksX2_onBridge_0 20 rfl rfl)
theorem dX2_onBridge_23 : decode cX2_onBridge 23 = .ok (.iconst 0, 1) := dk_3 (dk_at dksX2_onBridge_0 23 rfl rfl)
theorem dX2_onBridge_24 : decode cX2_onBridge 24 = .ok (.goto 4, 3) := dk_167 0 4 (dk_at dksX2_onBridge_1 0 rfl rfl)
theorem dX2_onBridge_27 : decode cX2_onBridge 27 = .ok (.iconst 1, 1) := dk_4 (dk_at dksX2_onBridge_1 3 rfl rfl)
theorem dX2_onBridge_28 : decode cX2_onBridge 28 = .ok (.iadd, 1) := dk_96 (dk_at dksX2_onBridge_1 4 rfl rfl)
theorem dX2_onBridge_29 : decode cX2_onBridge 29 = .ok (.istore_n 1, 1) := dk_60 (dk_at dksX2_onBridge_1 5 rfl rfl)
theorem dX2_onBridge_30 : decode cX2_onBridge 30 = .ok (.iinc 2 1, 3) := dk_132 2 1 (dk_at dksX2_onBridge_1 6 rfl rfl)
theorem dX2_onBridge_33 : decode cX2_onBridge 33 = .ok (.goto (-29), 3) := dk_167 255 227 (dk_at dksX2_onBridge_1 9 rfl rfl)
theorem dX2_onBridge_36 : decode cX2_onBridge 36 = .ok (.iload_n 1, 1) := dk_27 (dk_at dksX2_onBridge_1 12 rfl rfl)
theorem dX2_onBridge_37 : decode cX2_onBridge 37 = .ok (.ireturn, 1) := dk_172 (dk_at dksX2_onBridge_1 13 rfl rfl)
abbrev cX2_copy : ByteArray := prog_10_method_3_code
def yX2_copy : MethodName := ⟨RX2, "copy", "()LCartBridge$State;"⟩
def dkwX2_copy_6 : List UInt8 := [180, 0, 92, 181, 0, 92, 43, 42, 180, 0, 95, 181, 0, 95, 43, 42, 180, 0, 98, 181, 0, 98, 43, 176]
abbrev dktX2_copy_6 : List UInt8 := dkwX2_copy_6 ++ []
def dkwX2_copy_5 : List UInt8 := [180, 0, 35, 181, 0, 35, 43, 42, 180, 0, 38, 181, 0, 38, 43, 42, 180, 0, 89, 181, 0, 89, 43, 42]
abbrev dktX2_copy_5 : List UInt8 := dkwX2_copy_5 ++ dktX2_copy_6
def dkwX2_copy_4 : List UInt8 := [16, 8, 184, 0, 80, 43, 42, 180, 0, 31, 181, 0, 31, 43, 42, 180, 0, 86, 181, 0, 86, 43, 42]
abbrev dktX2_copy_4 : List UInt8 := dkwX2_copy_4 ++ dktX2_copy_5
def dkwX2_copy_3 : List UInt8 := [184, 0, 76, 42, 180, 0, 24, 43, 180, 0, 24, 184, 0, 76, 42, 180, 0, 27, 3, 43, 180, 0, 27, 3]
abbrev dktX2_copy_3 : List UInt8 := dkwX2_copy_3 ++ dktX2_copy_4
def dkwX2_copy_2 : List UInt8 := [87, 167, 255, 225, 42, 180, 0, 18, 43, 180, 0, 18, 184, 0, 76, 42, 180, 0, 21, 43, 180, 0, 21]
abbrev dktX2_copy_2 : List UInt8 := dkwX2_copy_2 ++ dktX2_copy_3
def dkwX2_copy_1 : List UInt8 := [153, 0, 28, 44, 185, 0, 51, 1, 0, 192, 0, 70, 78, 43, 180, 0, 12, 45, 182, 0, 72, 182, 0, 65]
abbrev dktX2_copy_1 : List UInt8 := dkwX2_copy_1 ++ dktX2_copy_2
def dkwX2_copy_0 : List UInt8 := [187, 0, 13, 89, 183, 0, 69, 76, 42, 180, 0, 12, 182, 0, 41, 77, 44, 185, 0, 45, 1, 0]
abbrev dktX2_copy_0 : List UInt8 := dkwX2_copy_0 ++ dktX2_copy_1
theorem dksX2_copy_0 : cX2_copy.data.toList.drop 0 = dktX2_copy_0 := by decide +kernel
theorem dksX2_copy_1 : cX2_copy.data.toList.drop 22 = dktX2_copy_1 := dk_seg dksX2_copy_0 22 rfl rfl
theorem dksX2_copy_2 : cX2_copy.data.toList.drop 46 = dktX2_copy_2 := dk_seg dksX2_copy_1 24 rfl rfl
theorem dksX2_copy_3 : cX2_copy.data.toList.drop 69 = dktX2_copy_3 := dk_seg dksX2_copy_2 23 rfl rfl
theorem dksX2_copy_4 : cX2_copy.data.toList.drop 93 = dktX2_copy_4 := dk_seg dksX2_copy_3 24 rfl rfl
theorem dksX2_copy_5 : cX2_copy.data.toList.drop 116 = dktX2_copy_5 := dk_seg dksX2_copy_4 23 rfl rfl
theorem dksX2_copy_6 : cX2_copy.data.toList.drop 140 = dktX2_copy_6 := dk_seg dksX2_copy_5 24 rfl rfl
theorem dX2_copy_0 : decode cX2_copy 0 = .ok (.new 13, 3) := dk_187 0 13 (dk_at dksX2_copy_0 0 rfl rfl)
theorem dX2_copy_3 : decode cX2_copy 3 = .ok (.dup, 1) := dk_89 (dk_at dksX2_copy_0 3 rfl rfl)
theorem dX2_copy_4 : decode cX2_copy 4 = .ok (.invokespecial 69, 3) := dk_183 0 69 (dk_at dksX2_copy_0 4 rfl rfl)
theorem dX2_copy_7 : decode cX2_copy 7 = .ok (.astore_n 1, 1) := dk_76 (dk_at dksX2_copy_0 7 rfl rfl)
theorem dX2_copy_8 : decode cX2_copy 8 = .ok (.aload_n 0, 1) := dk_42 (dk_at dksX2_copy_0 8 rfl rfl)
theorem dX2_copy_9 : decode cX2_copy 9 = .ok (.getfield 12, 3) := dk_180 0 12 (dk_at dksX2_copy_0 9 rfl rfl)
theorem dX2_copy_12 : decode cX2_copy 12 = .ok (.invokevirtual 41, 3) := dk_182 0 41 (dk_at dksX2_copy_0 12 rfl rfl)
theorem dX2_copy_15 : decode cX2_copy 15 = .ok (.astore_n 2, 1) := dk_77 (dk_at dksX2_copy_0 15 rfl rfl)
theorem dX2_copy_16 : decode cX2_copy 16 = .ok (.aload_n 2, 1) := dk_44 (dk_at dksX2_copy_0 16 rfl rfl)
theorem dX2_copy_17 : decode cX2_copy 17 = .ok (.invokeinterface 45 1, 5) := by decide +kernel
theorem dX2_copy_22 : decode cX2_copy 22 = .ok (.ifCond .eq 28, 3) := dk_153 0 28 (dk_at dksX2_copy_1 0 rfl rfl)
theorem dX2_copy_25 : decode cX2_copy 25 = .ok (.aload_n 2, 1) := dk_44 (dk_at dksX2_copy_1 3 rfl rfl)
theorem dX2_copy_26 : decode cX2_copy 26 = .ok (.invokeinterface 51 1, 5) := by decide +kernel
theorem dX2_copy_31 : decode cX2_copy 31 = .ok (.checkcast 70, 3) := dk_192 0 70 (dk_at dksX2_copy_1 9 rfl rfl)
theorem dX2_copy_34 : decode cX2_copy 34 = .ok (.astore_n 3, 1) := dk_78 (dk_at dksX2_copy_1 12 rfl rfl)
theorem dX2_copy_35 : decode cX2_copy 35 = .ok (.aload_n 1, 1) := dk_43 (dk_at dksX2_copy_1 13 rfl rfl)
theorem dX2_copy_36 : decode cX2_copy 36 = .ok (.getfield 12, 3) := dk_180 0 12 (dk_at dksX2_copy_1 14 rfl rfl)
theorem dX2_copy_39 : decode cX2_copy 39 = .ok (.aload_n 3, 1) := dk_45 (dk_at dksX2_copy_1 17 rfl rfl)
theorem dX2_copy_40 : decode cX2_copy 40 = .ok (.invokevirtual 72, 3) := dk_182 0 72 (dk_at dksX2_copy_1 18 rfl rfl)
theorem dX2_copy_43 : decode cX2_copy 43 = .ok (.invokevirtual 65, 3) := dk_182 0 65 (dk_at dksX2_copy_1 21 rfl rfl)
theorem dX2_copy_46 : decode cX2_copy 46 = .ok (.pop, 1) := dk_87 (dk_at dksX2_copy_2 0 rfl rfl)
theorem dX2_copy_47 : decode cX2_copy 47 = .ok (.goto (-31), 3) := dk_167 255 225 (dk_at dksX2_copy_2 1 rfl rfl)
theorem dX2_copy_50 : decode cX2_copy 50 = .ok (.aload_n 0, 1) := dk_42 (dk_at dksX2_copy_2 4 rfl rfl)
theorem dX2_copy_51 : decode cX2_copy 51 = .ok (.getfield 18, 3) := dk_180 0 18 (dk_at dksX2_copy_2 5 rfl rfl)
theorem dX2_copy_54 : decode cX2_copy 54 = .ok (.aload_n 1, 1) := dk_43 (dk_at dksX2_copy_2 8 rfl rfl)
theorem dX2_copy_55 : decode cX2_copy 55 = .ok (.getfield 18, 3) := dk_180 0 18 (dk_at dksX2_copy_2 9 rfl rfl)
theorem dX2_copy_58 : decode cX2_copy 58 = .ok (.invokestatic 76, 3) := dk_184 0 76 (dk_at dksX2_copy_2 12 rfl rfl)
theorem dX2_copy_61 : decode cX2_copy 61 = .ok (.aload_n 0, 1) := dk_42 (dk_at dksX2_copy_2 15 rfl rfl)
theorem dX2_copy_62 : decode cX2_copy 62 = .ok (.getfield 21, 3) := dk_180 0 21 (dk_at dksX2_copy_2 16 rfl rfl)
theorem dX2_copy_65 : decode cX2_copy 65 = .ok (.aload_n 1, 1) := dk_43 (dk_at dksX2_copy_2 19 rfl rfl)
theorem dX2_copy_66 : decode cX2_copy 66 = .ok (.getfield 21, 3) := dk_180 0 21 (dk_at dksX2_copy_2 20 rfl rfl)
theorem dX2_copy_69 : decode cX2_copy 69 = .ok (.invokestatic 76, 3) := dk_184 0 76 (dk_at dksX2_copy_3 0 rfl rfl)
theorem dX2_copy_72 : decode cX2_copy 72 = .ok (.aload_n 0, 1) := dk_42 (dk_at dksX2_copy_3 3 rfl rfl)
theorem dX2_copy_73 : decode cX2_copy 73 = .ok (.getfield 24, 3) := dk_180 0 24 (dk_at dksX2_copy_3 4 rfl rfl)
theorem dX2_copy_76 : decode cX2_copy 76 = .ok (.aload_n 1, 1) := dk_43 (dk_at dksX2_copy_3 7 rfl rfl)
theorem dX2_copy_77 : decode cX2_copy 77 = .ok (.getfield 24, 3) := dk_180 0 24 (dk_at dksX2_copy_3 8 rfl rfl)
theorem dX2_copy_80 : decode cX2_copy 80 = .ok (.invokestatic 76, 3) := dk_184 0 76 (dk_at dksX2_copy_3 11 rfl rfl)
theorem dX2_copy_83 : decode cX2_copy 83 = .ok (.aload_n 0, 1) := dk_42 (dk_at dksX2_copy_3 14 rfl rfl)
theorem dX2_copy_84 : decode cX2_copy 84 = .ok (.getfield 27, 3) := dk_180 0 27 (dk_at dksX2_copy_3 15 rfl rfl)
theorem dX2_copy_87 : decode cX2_copy 87 = .ok (.iconst 0, 1) := dk_3 (dk_at dksX2_copy_3 18 rfl rfl)
theorem dX2_copy_88 : decode cX2_copy 88 = .ok (.aload_n 1, 1) := dk_43 (dk_at dksX2_copy_3 19 rfl rfl)
theorem dX2_copy_89 : decode cX2_copy 89 = .ok (.getfield 27, 3) := dk_180 0 27 (dk_at dksX2_copy_3 20 rfl rfl)
theorem dX2_copy_92 : decode cX2_copy 92 = .ok (.iconst 0, 1) := dk_3 (dk_at dksX2_copy_3 23 rfl rfl)
theorem dX2_copy_93 : decode cX2_copy 93 = .ok (.bipush 8, 2) := dk_16 8 (dk_at dksX2_copy_4 0 rfl rfl)
theorem dX2_copy_95 : decode cX2_copy 95 = .ok (.invokestatic 80, 3) := dk_184 0 80 (dk_at dksX2_copy_4 2 rfl rfl)
theorem dX2_copy_98 : decode cX2_copy 98 = .ok (.aload_n 1, 1) := dk_43 (dk_at dksX2_copy_4 5 rfl rfl)
theorem dX2_copy_99 : decode cX2_copy 99 = .ok (.aload_n 0, 1) := dk_42 (dk_at dksX2_copy_4 6 rfl rfl)
theorem dX2_copy_100 : decode cX2_copy 100 = .ok (.getfield 31, 3) := dk_180 0 31 (dk_at dksX2_copy_4 7 rfl rfl)
theorem dX2_copy_103 : decode cX2_copy 103 = .ok (.putfield 31, 3) := dk_181 0 31 (dk_at dksX2_copy_4 10 rfl rfl)
theorem dX2_copy_106 : decode cX2_copy 106 = .ok (.aload_n 1, 1) := dk_43 (dk_at dksX2_copy_4 13 rfl rfl)
theorem dX2_copy_107 : decode cX2_copy 107 = .ok (.aload_n 0, 1) := dk_42 (dk_at dksX2_copy_4 14 rfl rfl)
theorem dX2_copy_108 : decode cX2_copy 108 = .ok (.getfield 86, 3) := dk_180 0 86 (dk_at dksX2_copy_4 15 rfl rfl)
theorem dX2_copy_111 : decode cX2_copy 111 = .ok (.putfield 86, 3) := dk_181 0 86 (dk_at dksX2_copy_4 18 rfl rfl)
theorem dX2_copy_114 : decode cX2_copy 114 = .ok (.aload_n 1, 1) := dk_43 (dk_at dksX2_copy_4 21 rfl rfl)
theorem dX2_copy_115 : decode cX2_copy 115 = .ok (.aload_n 0, 1) := dk_42 (dk_at dksX2_copy_4 22 rfl rfl)
theorem dX2_copy_116 : decode cX2_copy 116 = .ok (.getfield 35, 3) := dk_180 0 35 (dk_at dksX2_copy_5 0 rfl rfl)
theorem dX2_copy_119 : decode cX2_copy 119 = .ok (.putfield 35, 3) := dk_181 0 35 (dk_at dksX2_copy_5 3 rfl rfl)
theorem dX2_copy_122 : decode cX2_copy 122 = .ok (.aload_n 1, 1) := dk_43 (dk_at dksX2_copy_5 6 rfl rfl)
theorem dX2_copy_123 : decode cX2_copy 123 = .ok (.aload_n 0, 1) := dk_42 (dk_at dksX2_copy_5 7 rfl rfl)
theorem dX2_copy_124 : decode cX2_copy 124 = .ok (.getfield 38, 3) := dk_180 0 38 (dk_at dksX2_copy_5 8 rfl rfl)
theorem dX2_copy_127 : decode cX2_copy 127 = .ok (.putfield 38, 3) := dk_181 0 38 (dk_at dksX2_copy_5 11 rfl rfl)
theorem dX2_copy_130 : decode cX2_copy 130 = .ok (.aload_n 1, 1) := dk_43 (dk_at dksX2_copy_5 14 rfl rfl)
theorem dX2_copy_131 : decode cX2_copy 131 = .ok (.aload_n 0, 1) := dk_42 (dk_at dksX2_copy_5 15 rfl rfl)
theorem dX2_copy_132 : decode cX2_copy 132 = .ok (.getfield 89, 3) := dk_180 0 89 (dk_at dksX2_copy_5 16 rfl rfl)
theorem dX2_copy_135 : decode cX2_copy 135 = .ok (.putfield 89, 3) := dk_181 0 89 (dk_at dksX2_copy_5 19 rfl rfl)
theorem dX2_copy_138 : decode cX2_copy 138 = .ok (.aload_n 1, 1) := dk_43 (dk_at dksX2_copy_5 22 rfl rfl)
theorem dX2_copy_139 : decode cX2_copy 139 = .ok (.aload_n 0, 1) := dk_42 (dk_at dksX2_copy_5 23 rfl rfl)
theorem dX2_copy_140 : decode cX2_copy 140 = .ok (.getfield 92, 3) := dk_180 0 92 (dk_at dksX2_copy_6 0 rfl rfl)
theorem dX2_copy_143 : decode cX2_copy 143 = .ok (.putfield 92, 3) := dk_181 0 92 (dk_at dksX2_copy_6 3 rfl rfl)
theorem dX2_copy_146 : decode cX2_copy 146 = .ok (.aload_n 1, 1) := dk_43 (dk_at dksX2_copy_6 6 rfl rfl)
theorem dX2_copy_147 : decode cX2_copy 147 = .ok (.aload_n 0, 1) := dk_42 (dk_at dksX2_copy_6 7 rfl rfl)
theorem dX2_copy_148 : decode cX2_copy 148 = .ok (.getfield 95, 3) := dk_180 0 95 (dk_at dksX2_copy_6 8 rfl rfl)
theorem dX2_copy_151 : decode cX2_copy 151 = .ok (.putfield 95, 3) := dk_181 0 95 (dk_at dksX2_copy_6 11 rfl rfl)
theorem dX2_copy_154 : decode cX2_copy 154 = .ok (.aload_n 1, 1) := dk_43 (dk_at dksX2_copy_6 14 rfl rfl)
theorem dX2_copy_155 : decode cX2_copy 155 = .ok (.aload_n 0, 1) := dk_42 (dk_at dksX2_copy_6 15 rfl rfl)
theorem dX2_copy_156 : decode cX2_copy 156 = .ok (.getfield 98, 3) := dk_180 0 98 (dk_at dksX2_copy_6 16 rfl rfl)
theorem dX2_copy_159 : decode cX2_copy 159 = .ok (.putfield 98, 3) := dk_181 0 98 (dk_at dksX2_copy_6 19 rfl rfl)
theorem dX2_copy_162 : decode cX2_copy 162 = .ok (.aload_n 1, 1) := dk_43 (dk_at dksX2_copy_6 22 rfl rfl)
theorem dX2_copy_163 : decode cX2_copy 163 = .ok (.areturn, 1) := dk_176 (dk_at dksX2_copy_6 23 rfl rfl)
abbrev cX2_adds : ByteArray := prog_10_method_2_code
def yX2_adds : MethodName := ⟨RX2, "adds", "(Ljava/util/ArrayList;Ljava/util/ArrayList;)V"⟩
def dkwX2_adds_1 : List UInt8 := [182, 0, 57, 62, 43, 29, 184, 0, 61, 182, 0, 65, 87, 167, 255, 225, 177]
abbrev dktX2_adds_1 : List UInt8 := dkwX2_adds_1 ++ []
def dkwX2_adds_0 : List UInt8 := [42, 182, 0, 41, 77, 44, 185, 0, 45, 1, 0, 153, 0, 28, 44, 185, 0, 51, 1, 0, 192, 0, 55]
abbrev dktX2_adds_0 : List UInt8 := dkwX2_adds_0 ++ dktX2_adds_1
theorem dksX2_adds_0 : cX2_adds.data.toList.drop 0 = dktX2_adds_0 := by decide +kernel
theorem dksX2_adds_1 : cX2_adds.data.toList.drop 23 = dktX2_adds_1 := dk_seg dksX2_adds_0 23 rfl rfl
theorem dX2_adds_0 : decode cX2_adds 0 = .ok (.aload_n 0, 1) := dk_42 (dk_at dksX2_adds_0 0 rfl rfl)
theorem dX2_adds_1 : decode cX2_adds 1 = .ok (.invokevirtual 41, 3) := dk_182 0 41 (dk_at dksX2_adds_0 1 rfl rfl)
theorem dX2_adds_4 : decode cX2_adds 4 = .ok (.astore_n 2, 1) := dk_77 (dk_at dksX2_adds_0 4 rfl rfl)
theorem dX2_adds_5 : decode cX2_adds 5 = .ok (.aload_n 2, 1) := dk_44 (dk_at dksX2_adds_0 5 rfl rfl)
theorem dX2_adds_6 : decode cX2_adds 6 = .ok (.invokeinterface 45 1, 5) := by decide +kernel
theorem dX2_adds_11 : decode cX2_adds 11 = .ok (.ifCond .eq 28, 3) := dk_153 0 28 (dk_at dksX2_adds_0 11 rfl rfl)
theorem dX2_adds_14 : decode cX2_adds 14 = .ok (.aload_n 2, 1) := dk_44 (dk_at dksX2_adds_0 14 rfl rfl)
theorem dX2_adds_15 : decode cX2_adds 15 = .ok (.invokeinterface 51 1, 5) := by decide +kernel
theorem dX2_adds_20 : decode cX2_adds 20 = .ok (.checkcast 55, 3) := dk_192 0 55 (dk_at dksX2_adds_0 20 rfl rfl)
theorem dX2_adds_23 : decode cX2_adds 23 = .ok (.invokevirtual 57, 3) := dk_182 0 57 (dk_at dksX2_adds_1 0 rfl rfl)
theorem dX2_adds_26 : decode cX2_adds 26 = .ok (.istore_n 3, 1) := dk_62 (dk_at dksX2_adds_1 3 rfl rfl)
theorem dX2_adds_27 : decode cX2_adds 27 = .ok (.aload_n 1, 1) := dk_43 (dk_at dksX2_adds_1 4 rfl rfl)
theorem dX2_adds_28 : decode cX2_adds 28 = .ok (.iload_n 3, 1) := dk_29 (dk_at dksX2_adds_1 5 rfl rfl)
theorem dX2_adds_29 : decode cX2_adds 29 = .ok (.invokestatic 61, 3) := dk_184 0 61 (dk_at dksX2_adds_1 6 rfl rfl)
theorem dX2_adds_32 : decode cX2_adds 32 = .ok (.invokevirtual 65, 3) := dk_182 0 65 (dk_at dksX2_adds_1 9 rfl rfl)
theorem dX2_adds_35 : decode cX2_adds 35 = .ok (.pop, 1) := dk_87 (dk_at dksX2_adds_1 12 rfl rfl)
theorem dX2_adds_36 : decode cX2_adds 36 = .ok (.goto (-31), 3) := dk_167 255 225 (dk_at dksX2_adds_1 13 rfl rfl)
theorem dX2_adds_39 : decode cX2_adds 39 = .ok (.return_, 1) := dk_177 (dk_at dksX2_adds_1 16 rfl rfl)
abbrev cX2_row : ByteArray := prog_10_method_4_code
def yX2_row : MethodName := ⟨RX2, "row", "(I)Ljava/util/ArrayList;"⟩
def dkwX2_row_0 : List UInt8 := [27, 154, 0, 10, 42, 180, 0, 18, 167, 0, 7, 42, 180, 0, 21, 176]
abbrev dktX2_row_0 : List UInt8 := dkwX2_row_0 ++ []
theorem dksX2_row_0 : cX2_row.data.toList.drop 0 = dktX2_row_0 := by decide +kernel
theorem dX2_row_0 : decode cX2_row 0 = .ok (.iload_n 1, 1) := dk_27 (dk_at dksX2_row_0 0 rfl rfl)
theorem dX2_row_1 : decode cX2_row 1 = .ok (.ifCond .ne 10, 3) := dk_154 0 10 (dk_at dksX2_row_0 1 rfl rfl)
theorem dX2_row_4 : decode cX2_row 4 = .ok (.aload_n 0, 1) := dk_42 (dk_at dksX2_row_0 4 rfl rfl)
theorem dX2_row_5 : decode cX2_row 5 = .ok (.getfield 18, 3) := dk_180 0 18 (dk_at dksX2_row_0 5 rfl rfl)
theorem dX2_row_8 : decode cX2_row 8 = .ok (.goto 7, 3) := dk_167 0 7 (dk_at dksX2_row_0 8 rfl rfl)
theorem dX2_row_11 : decode cX2_row 11 = .ok (.aload_n 0, 1) := dk_42 (dk_at dksX2_row_0 11 rfl rfl)
theorem dX2_row_12 : decode cX2_row 12 = .ok (.getfield 21, 3) := dk_180 0 21 (dk_at dksX2_row_0 12 rfl rfl)
theorem dX2_row_15 : decode cX2_row 15 = .ok (.areturn, 1) := dk_176 (dk_at dksX2_row_0 15 rfl rfl)
abbrev cX2_tick : ByteArray := prog_10_method_13_code
def yX2_tick : MethodName := ⟨RX2, "tick", "()I"⟩
def dkwX2_tick_2 : List UInt8 := [180, 0, 92, 4, 96, 181, 0, 92, 42, 180, 0, 24, 182, 0, 101, 27, 100, 172]
abbrev dktX2_tick_2 : List UInt8 := dkwX2_tick_2 ++ []
def dkwX2_tick_1 : List UInt8 := [182, 0, 136, 42, 4, 182, 0, 136, 42, 182, 0, 139, 42, 3, 182, 0, 142, 42, 4, 182, 0, 142, 42, 89]
abbrev dktX2_tick_1 : List UInt8 := dkwX2_tick_1 ++ dktX2_tick_2
def dkwX2_tick_0 : List UInt8 := [42, 180, 0, 24, 182, 0, 101, 60, 42, 4, 182, 0, 129, 42, 3, 182, 0, 129, 42, 182, 0, 133, 42, 3]
abbrev dktX2_tick_0 : List UInt8 := dkwX2_tick_0 ++ dktX2_tick_1
theorem dksX2_tick_0 : cX2_tick.data.toList.drop 0 = dktX2_tick_0 := by decide +kernel
theorem dksX2_tick_1 : cX2_tick.data.toList.drop 24 = dktX2_tick_1 := dk_seg dksX2_tick_0 24 rfl rfl
theorem dksX2_tick_2 : cX2_tick.data.toList.drop 48 = dktX2_tick_2 := dk_seg dksX2_tick_1 24 rfl rfl
theorem dX2_tick_0 : decode cX2_tick 0 = .ok (.aload_n 0, 1) := dk_42 (dk_at dksX2_tick_0 0 rfl rfl)
theorem dX2_tick_1 : decode cX2_tick 1 = .ok (.getfield 24, 3) := dk_180 0 24 (dk_at dksX2_tick_0 1 rfl rfl)
theorem dX2_tick_4 : decode cX2_tick 4 = .ok (.invokevirtual 101, 3) := dk_182 0 101 (dk_at dksX2_tick_0 4 rfl rfl)
theorem dX2_tick_7 : decode cX2_tick 7 = .ok (.istore_n 1, 1) := dk_60 (dk_at dksX2_tick_0 7 rfl rfl)
theorem dX2_tick_8 : decode cX2_tick 8 = .ok (.aload_n 0, 1) := dk_42 (dk_at dksX2_tick_0 8 rfl rfl)
theorem dX2_tick_9 : decode cX2_tick 9 = .ok (.iconst 1, 1) := dk_4 (dk_at dksX2_tick_0 9 rfl rfl)
theorem dX2_tick_10 : decode cX2_tick 10 = .ok (.invokevirtual 129, 3) := dk_182 0 129 (dk_at dksX2_tick_0 10 rfl rfl)
theorem dX2_tick_13 : decode cX2_tick 13 = .ok (.aload_n 0, 1) := dk_42 (dk_at dksX2_tick_0 13 rfl rfl)
theorem dX2_tick_14 : decode cX2_tick 14 = .ok (.iconst 0, 1) := dk_3 (dk_at dksX2_tick_0 14 rfl rfl)
theorem dX2_tick_15 : decode cX2_tick 15 = .ok (.invokevirtual 129, 3) := dk_182 0 129 (dk_at dksX2_tick_0 15 rfl rfl)
theorem dX2_tick_18 : decode cX2_tick 18 = .ok (.aload_n 0, 1) := dk_42 (dk_at dksX2_tick_0 18 rfl rfl)
theorem dX2_tick_19 : decode cX2_tick 19 = .ok (.invokevirtual 133, 3) := dk_182 0 133 (dk_at dksX2_tick_0 19 rfl rfl)
theorem dX2_tick_22 : decode cX2_tick 22 = .ok (.aload_n 0, 1) := dk_42 (dk_at dksX2_tick_0 22 rfl rfl)
theorem dX2_tick_23 : decode cX2_tick 23 = .ok (.iconst 0, 1) := dk_3 (dk_at dksX2_tick_0 23 rfl rfl)
theorem dX2_tick_24 : decode cX2_tick 24 = .ok (.invokevirtual 136, 3) := dk_182 0 136 (dk_at dksX2_tick_1 0 rfl rfl)
theorem dX2_tick_27 : decode cX2_tick 27 = .ok (.aload_n 0, 1) := dk_42 (dk_at dksX2_tick_1 3 rfl rfl)
theorem dX2_tick_28 : decode cX2_tick 28 = .ok (.iconst 1, 1) := dk_4 (dk_at dksX2_tick_1 4 rfl rfl)
theorem dX2_tick_29 : decode cX2_tick 29 = .ok (.invokevirtual 136, 3) := dk_182 0 136 (dk_at dksX2_tick_1 5 rfl rfl)
theorem dX2_tick_32 : decode cX2_tick 32 = .ok (.aload_n 0, 1) := dk_42 (dk_at dksX2_tick_1 8 rfl rfl)
theorem dX2_tick_33 : decode cX2_tick 33 = .ok (.invokevirtual 139, 3) := dk_182 0 139 (dk_at dksX2_tick_1 9 rfl rfl)
theorem dX2_tick_36 : decode cX2_tick 36 = .ok (.aload_n 0, 1) := dk_42 (dk_at dksX2_tick_1 12 rfl rfl)
theorem dX2_tick_37 : decode cX2_tick 37 = .ok (.iconst 0, 1) := dk_3 (dk_at dksX2_tick_1 13 rfl rfl)
theorem dX2_tick_38 : decode cX2_tick 38 = .ok (.invokevirtual 142, 3) := dk_182 0 142 (dk_at dksX2_tick_1 14 rfl rfl)
theorem dX2_tick_41 : decode cX2_tick 41 = .ok (.aload_n 0, 1) := dk_42 (dk_at dksX2_tick_1 17 rfl rfl)
theorem dX2_tick_42 : decode cX2_tick 42 = .ok (.iconst 1, 1) := dk_4 (dk_at dksX2_tick_1 18 rfl rfl)
theorem dX2_tick_43 : decode cX2_tick 43 = .ok (.invokevirtual 142, 3) := dk_182 0 142 (dk_at dksX2_tick_1 19 rfl rfl)
theorem dX2_tick_46 : decode cX2_tick 46 = .ok (.aload_n 0, 1) := dk_42 (dk_at dksX2_tick_1 22 rfl rfl)
theorem dX2_tick_47 : decode cX2_tick 47 = .ok (.dup, 1) := dk_89 (dk_at dksX2_tick_1 23 rfl rfl)
theorem dX2_tick_48 : decode cX2_tick 48 = .ok (.getfield 92, 3) := dk_180 0 92 (dk_at dksX2_tick_2 0 rfl rfl)
theorem dX2_tick_51 : decode cX2_tick 51 = .ok (.iconst 1, 1) := dk_4 (dk_at dksX2_tick_2 3 rfl rfl)
theorem dX2_tick_52 : decode cX2_tick 52 = .ok (.iadd, 1) := dk_96 (dk_at dksX2_tick_2 4 rfl rfl)
theorem dX2_tick_53 : decode cX2_tick 53 = .ok (.putfield 92, 3) := dk_181 0 92 (dk_at dksX2_tick_2 5 rfl rfl)
theorem dX2_tick_56 : decode cX2_tick 56 = .ok (.aload_n 0, 1) := dk_42 (dk_at dksX2_tick_2 8 rfl rfl)
theorem dX2_tick_57 : decode cX2_tick 57 = .ok (.getfield 24, 3) := dk_180 0 24 (dk_at dksX2_tick_2 9 rfl rfl)
theorem dX2_tick_60 : decode cX2_tick 60 = .ok (.invokevirtual 101, 3) := dk_182 0 101 (dk_at dksX2_tick_2 12 rfl rfl)
theorem dX2_tick_63 : decode cX2_tick 63 = .ok (.iload_n 1, 1) := dk_27 (dk_at dksX2_tick_2 15 rfl rfl)
theorem dX2_tick_64 : decode cX2_tick 64 = .ok (.isub, 1) := dk_100 (dk_at dksX2_tick_2 16 rfl rfl)
theorem dX2_tick_65 : decode cX2_tick 65 = .ok (.ireturn, 1) := dk_172 (dk_at dksX2_tick_2 17 rfl rfl)
abbrev cX2_goOn : ByteArray := prog_10_method_14_code
def yX2_goOn : MethodName := ⟨RX2, "goOn", "(I)V"⟩
def dkwX2_goOn_2 : List UInt8 := [192, 0, 70, 182, 0, 152, 132, 2, 1, 167, 255, 203, 177]
abbrev dktX2_goOn_2 : List UInt8 := dkwX2_goOn_2 ++ []
def dkwX2_goOn_1 : List UInt8 := [29, 27, 182, 0, 122, 153, 0, 23, 42, 42, 180, 0, 12, 42, 180, 0, 27, 29, 46, 182, 0, 112]
abbrev dktX2_goOn_1 : List UInt8 := dkwX2_goOn_1 ++ dktX2_goOn_2
def dkwX2_goOn_0 : List UInt8 := [3, 61, 28, 42, 180, 0, 31, 162, 0, 51, 42, 27, 182, 0, 145, 28, 27, 184, 0, 149, 104, 100, 62, 42]
abbrev dktX2_goOn_0 : List UInt8 := dkwX2_goOn_0 ++ dktX2_goOn_1
theorem dksX2_goOn_0 : cX2_goOn.data.toList.drop 0 = dktX2_goOn_0 := by decide +kernel
theorem dksX2_goOn_1 : cX2_goOn.data.toList.drop 24 = dktX2_goOn_1 := dk_seg dksX2_goOn_0 24 rfl rfl
theorem dksX2_goOn_2 : cX2_goOn.data.toList.drop 46 = dktX2_goOn_2 := dk_seg dksX2_goOn_1 22 rfl rfl
theorem dX2_goOn_0 : decode cX2_goOn 0 = .ok (.iconst 0, 1) := dk_3 (dk_at dksX2_goOn_0 0 rfl rfl)
theorem dX2_goOn_1 : decode cX2_goOn 1 = .ok (.istore_n 2, 1) := dk_61 (dk_at dksX2_goOn_0 1 rfl rfl)
theorem dX2_goOn_2 : decode cX2_goOn 2 = .ok (.iload_n 2, 1) := dk_28 (dk_at dksX2_goOn_0 2 rfl rfl)
theorem dX2_goOn_3 : decode cX2_goOn 3 = .ok (.aload_n 0, 1) := dk_42 (dk_at dksX2_goOn_0 3 rfl rfl)
theorem dX2_goOn_4 : decode cX2_goOn 4 = .ok (.getfield 31, 3) := dk_180 0 31 (dk_at dksX2_goOn_0 4 rfl rfl)
theorem dX2_goOn_7 : decode cX2_goOn 7 = .ok (.if_icmp .ge 51, 3) := dk_162 0 51 (dk_at dksX2_goOn_0 7 rfl rfl)
theorem dX2_goOn_10 : decode cX2_goOn 10 = .ok (.aload_n 0, 1) := dk_42 (dk_at dksX2_goOn_0 10 rfl rfl)
theorem dX2_goOn_11 : decode cX2_goOn 11 = .ok (.iload_n 1, 1) := dk_27 (dk_at dksX2_goOn_0 11 rfl rfl)
theorem dX2_goOn_12 : decode cX2_goOn 12 = .ok (.invokevirtual 145, 3) := dk_182 0 145 (dk_at dksX2_goOn_0 12 rfl rfl)
theorem dX2_goOn_15 : decode cX2_goOn 15 = .ok (.iload_n 2, 1) := dk_28 (dk_at dksX2_goOn_0 15 rfl rfl)
theorem dX2_goOn_16 : decode cX2_goOn 16 = .ok (.iload_n 1, 1) := dk_27 (dk_at dksX2_goOn_0 16 rfl rfl)
theorem dX2_goOn_17 : decode cX2_goOn 17 = .ok (.invokestatic 149, 3) := dk_184 0 149 (dk_at dksX2_goOn_0 17 rfl rfl)
theorem dX2_goOn_20 : decode cX2_goOn 20 = .ok (.imul, 1) := dk_104 (dk_at dksX2_goOn_0 20 rfl rfl)
theorem dX2_goOn_21 : decode cX2_goOn 21 = .ok (.isub, 1) := dk_100 (dk_at dksX2_goOn_0 21 rfl rfl)
theorem dX2_goOn_22 : decode cX2_goOn 22 = .ok (.istore_n 3, 1) := dk_62 (dk_at dksX2_goOn_0 22 rfl rfl)
theorem dX2_goOn_23 : decode cX2_goOn 23 = .ok (.aload_n 0, 1) := dk_42 (dk_at dksX2_goOn_0 23 rfl rfl)
theorem dX2_goOn_24 : decode cX2_goOn 24 = .ok (.iload_n 3, 1) := dk_29 (dk_at dksX2_goOn_1 0 rfl rfl)
theorem dX2_goOn_25 : decode cX2_goOn 25 = .ok (.iload_n 1, 1) := dk_27 (dk_at dksX2_goOn_1 1 rfl rfl)
theorem dX2_goOn_26 : decode cX2_goOn 26 = .ok (.invokevirtual 122, 3) := dk_182 0 122 (dk_at dksX2_goOn_1 2 rfl rfl)
theorem dX2_goOn_29 : decode cX2_goOn 29 = .ok (.ifCond .eq 23, 3) := dk_153 0 23 (dk_at dksX2_goOn_1 5 rfl rfl)
theorem dX2_goOn_32 : decode cX2_goOn 32 = .ok (.aload_n 0, 1) := dk_42 (dk_at dksX2_goOn_1 8 rfl rfl)
theorem dX2_goOn_33 : decode cX2_goOn 33 = .ok (.aload_n 0, 1) := dk_42 (dk_at dksX2_goOn_1 9 rfl rfl)
theorem dX2_goOn_34 : decode cX2_goOn 34 = .ok (.getfield 12, 3) := dk_180 0 12 (dk_at dksX2_goOn_1 10 rfl rfl)
theorem dX2_goOn_37 : decode cX2_goOn 37 = .ok (.aload_n 0, 1) := dk_42 (dk_at dksX2_goOn_1 13 rfl rfl)
theorem dX2_goOn_38 : decode cX2_goOn 38 = .ok (.getfield 27, 3) := dk_180 0 27 (dk_at dksX2_goOn_1 14 rfl rfl)
theorem dX2_goOn_41 : decode cX2_goOn 41 = .ok (.iload_n 3, 1) := dk_29 (dk_at dksX2_goOn_1 17 rfl rfl)
theorem dX2_goOn_42 : decode cX2_goOn 42 = .ok (.iaload, 1) := dk_46 (dk_at dksX2_goOn_1 18 rfl rfl)
theorem dX2_goOn_43 : decode cX2_goOn 43 = .ok (.invokevirtual 112, 3) := dk_182 0 112 (dk_at dksX2_goOn_1 19 rfl rfl)
theorem dX2_goOn_46 : decode cX2_goOn 46 = .ok (.checkcast 70, 3) := dk_192 0 70 (dk_at dksX2_goOn_2 0 rfl rfl)
theorem dX2_goOn_49 : decode cX2_goOn 49 = .ok (.invokevirtual 152, 3) := dk_182 0 152 (dk_at dksX2_goOn_2 3 rfl rfl)
theorem dX2_goOn_52 : decode cX2_goOn 52 = .ok (.iinc 2 1, 3) := dk_132 2 1 (dk_at dksX2_goOn_2 6 rfl rfl)
theorem dX2_goOn_55 : decode cX2_goOn 55 = .ok (.goto (-53), 3) := dk_167 255 203 (dk_at dksX2_goOn_2 9 rfl rfl)
theorem dX2_goOn_58 : decode cX2_goOn 58 = .ok (.return_, 1) := dk_177 (dk_at dksX2_goOn_2 12 rfl rfl)
abbrev cX2_end : ByteArray := prog_10_method_10_code
def yX2_end : MethodName := ⟨RX2, "end", "(I)I"⟩
def dkwX2_end_0 : List UInt8 := [27, 154, 0, 7, 3, 167, 0, 9, 42, 180, 0, 31, 4, 100, 172]
abbrev dktX2_end_0 : List UInt8 := dkwX2_end_0 ++ []
theorem dksX2_end_0 : cX2_end.data.toList.drop 0 = dktX2_end_0 := by decide +kernel
theorem dX2_end_0 : decode cX2_end 0 = .ok (.iload_n 1, 1) := dk_27 (dk_at dksX2_end_0 0 rfl rfl)
theorem dX2_end_1 : decode cX2_end 1 = .ok (.ifCond .ne 7, 3) := dk_154 0 7 (dk_at dksX2_end_0 1 rfl rfl)
theorem dX2_end_4 : decode cX2_end 4 = .ok (.iconst 0, 1) := dk_3 (dk_at dksX2_end_0 4 rfl rfl)
theorem dX2_end_5 : decode cX2_end 5 = .ok (.goto 9, 3) := dk_167 0 9 (dk_at dksX2_end_0 5 rfl rfl)
theorem dX2_end_8 : decode cX2_end 8 = .ok (.aload_n 0, 1) := dk_42 (dk_at dksX2_end_0 8 rfl rfl)
theorem dX2_end_9 : decode cX2_end 9 = .ok (.getfield 31, 3) := dk_180 0 31 (dk_at dksX2_end_0 9 rfl rfl)
theorem dX2_end_12 : decode cX2_end 12 = .ok (.iconst 1, 1) := dk_4 (dk_at dksX2_end_0 12 rfl rfl)
theorem dX2_end_13 : decode cX2_end 13 = .ok (.isub, 1) := dk_100 (dk_at dksX2_end_0 13 rfl rfl)
theorem dX2_end_14 : decode cX2_end 14 = .ok (.ireturn, 1) := dk_172 (dk_at dksX2_end_0 14 rfl rfl)
abbrev cX2_goesOn : ByteArray := prog_10_method_15_code
def yX2_goesOn : MethodName := ⟨RX2, "goesOn", "(LCartBridge$Cart;)V"⟩
def dkwX2_goesOn_3 : List UInt8 := [28, 43, 180, 0, 162, 79, 43, 28, 181, 0, 156, 177]
abbrev dktX2_goesOn_3 : List UInt8 := dkwX2_goesOn_3 ++ []
def dkwX2_goesOn_2 : List UInt8 := [42, 180, 0, 27, 28, 46, 2, 160, 0, 28, 42, 180, 0, 27, 43, 180, 0, 156, 2, 79, 42, 180, 0, 27]
abbrev dktX2_goesOn_2 : List UInt8 := dkwX2_goesOn_2 ++ dktX2_goesOn_3
def dkwX2_goesOn_1 : List UInt8 := [182, 0, 145, 160, 0, 21, 42, 180, 0, 27, 43, 180, 0, 156, 2, 79, 42, 43, 182, 0, 159, 167, 0, 38]
abbrev dktX2_goesOn_1 : List UInt8 := dkwX2_goesOn_1 ++ dktX2_goesOn_2
def dkwX2_goesOn_0 : List UInt8 := [43, 180, 0, 156, 43, 180, 0, 119, 184, 0, 149, 96, 61, 43, 180, 0, 156, 42, 43, 180, 0, 119]
abbrev dktX2_goesOn_0 : List UInt8 := dkwX2_goesOn_0 ++ dktX2_goesOn_1
theorem dksX2_goesOn_0 : cX2_goesOn.data.toList.drop 0 = dktX2_goesOn_0 := by decide +kernel
theorem dksX2_goesOn_1 : cX2_goesOn.data.toList.drop 22 = dktX2_goesOn_1 := dk_seg dksX2_goesOn_0 22 rfl rfl
theorem dksX2_goesOn_2 : cX2_goesOn.data.toList.drop 46 = dktX2_goesOn_2 := dk_seg dksX2_goesOn_1 24 rfl rfl
theorem dksX2_goesOn_3 : cX2_goesOn.data.toList.drop 70 = dktX2_goesOn_3 := dk_seg dksX2_goesOn_2 24 rfl rfl
theorem dX2_goesOn_0 : decode cX2_goesOn 0 = .ok (.aload_n 1, 1) := dk_43 (dk_at dksX2_goesOn_0 0 rfl rfl)
theorem dX2_goesOn_1 : decode cX2_goesOn 1 = .ok (.getfield 156, 3) := dk_180 0 156 (dk_at dksX2_goesOn_0 1 rfl rfl)
theorem dX2_goesOn_4 : decode cX2_goesOn 4 = .ok (.aload_n 1, 1) := dk_43 (dk_at dksX2_goesOn_0 4 rfl rfl)
theorem dX2_goesOn_5 : decode cX2_goesOn 5 = .ok (.getfield 119, 3) := dk_180 0 119 (dk_at dksX2_goesOn_0 5 rfl rfl)
theorem dX2_goesOn_8 : decode cX2_goesOn 8 = .ok (.invokestatic 149, 3) := dk_184 0 149 (dk_at dksX2_goesOn_0 8 rfl rfl)
theorem dX2_goesOn_11 : decode cX2_goesOn 11 = .ok (.iadd, 1) := dk_96 (dk_at dksX2_goesOn_0 11 rfl rfl)
theorem dX2_goesOn_12 : decode cX2_goesOn 12 = .ok (.istore_n 2, 1) := dk_61 (dk_at dksX2_goesOn_0 12 rfl rfl)
theorem dX2_goesOn_13 : decode cX2_goesOn 13 = .ok (.aload_n 1, 1) := dk_43 (dk_at dksX2_goesOn_0 13 rfl rfl)
theorem dX2_goesOn_14 : decode cX2_goesOn 14 = .ok (.getfield 156, 3) := dk_180 0 156 (dk_at dksX2_goesOn_0 14 rfl rfl)
theorem dX2_goesOn_17 : decode cX2_goesOn 17 = .ok (.aload_n 0, 1) := dk_42 (dk_at dksX2_goesOn_0 17 rfl rfl)
theorem dX2_goesOn_18 : decode cX2_goesOn 18 = .ok (.aload_n 1, 1) := dk_43 (dk_at dksX2_goesOn_0 18 rfl rfl)
theorem dX2_goesOn_19 : decode cX2_goesOn 19 = .ok (.getfield 119, 3) := dk_180 0 119 (dk_at dksX2_goesOn_0 19 rfl rfl)
theorem dX2_goesOn_22 : decode cX2_goesOn 22 = .ok (.invokevirtual 145, 3) := dk_182 0 145 (dk_at dksX2_goesOn_1 0 rfl rfl)
theorem dX2_goesOn_25 : decode cX2_goesOn 25 = .ok (.if_icmp .ne 21, 3) := dk_160 0 21 (dk_at dksX2_goesOn_1 3 rfl rfl)
theorem dX2_goesOn_28 : decode cX2_goesOn 28 = .ok (.aload_n 0, 1) := dk_42 (dk_at dksX2_goesOn_1 6 rfl rfl)
theorem dX2_goesOn_29 : decode cX2_goesOn 29 = .ok (.getfield 27, 3) := dk_180 0 27 (dk_at dksX2_goesOn_1 7 rfl rfl)
theorem dX2_goesOn_32 : decode cX2_goesOn 32 = .ok (.aload_n 1, 1) := dk_43 (dk_at dksX2_goesOn_1 10 rfl rfl)
theorem dX2_goesOn_33 : decode cX2_goesOn 33 = .ok (.getfield 156, 3) := dk_180 0 156 (dk_at dksX2_goesOn_1 11 rfl rfl)
theorem dX2_goesOn_36 : decode cX2_goesOn 36 = .ok (.iconst (-1), 1) := dk_2 (dk_at dksX2_goesOn_1 14 rfl rfl)
theorem dX2_goesOn_37 : decode cX2_goesOn 37 = .ok (.iastore, 1) := dk_79 (dk_at dksX2_goesOn_1 15 rfl rfl)
theorem dX2_goesOn_38 : decode cX2_goesOn 38 = .ok (.aload_n 0, 1) := dk_42 (dk_at dksX2_goesOn_1 16 rfl rfl)
theorem dX2_goesOn_39 : decode cX2_goesOn 39 = .ok (.aload_n 1, 1) := dk_43 (dk_at dksX2_goesOn_1 17 rfl rfl)
theorem dX2_goesOn_40 : decode cX2_goesOn 40 = .ok (.invokevirtual 159, 3) := dk_182 0 159 (dk_at dksX2_goesOn_1 18 rfl rfl)
theorem dX2_goesOn_43 : decode cX2_goesOn 43 = .ok (.goto 38, 3) := dk_167 0 38 (dk_at dksX2_goesOn_1 21 rfl rfl)
theorem dX2_goesOn_46 : decode cX2_goesOn 46 = .ok (.aload_n 0, 1) := dk_42 (dk_at dksX2_goesOn_2 0 rfl rfl)
theorem dX2_goesOn_47 : decode cX2_goesOn 47 = .ok (.getfield 27, 3) := dk_180 0 27 (dk_at dksX2_goesOn_2 1 rfl rfl)
theorem dX2_goesOn_50 : decode cX2_goesOn 50 = .ok (.iload_n 2, 1) := dk_28 (dk_at dksX2_goesOn_2 4 rfl rfl)
theorem dX2_goesOn_51 : decode cX2_goesOn 51 = .ok (.iaload, 1) := dk_46 (dk_at dksX2_goesOn_2 5 rfl rfl)
theorem dX2_goesOn_52 : decode cX2_goesOn 52 = .ok (.iconst (-1), 1) := dk_2 (dk_at dksX2_goesOn_2 6 rfl rfl)
theorem dX2_goesOn_53 : decode cX2_goesOn 53 = .ok (.if_icmp .ne 28, 3) := dk_160 0 28 (dk_at dksX2_goesOn_2 7 rfl rfl)
theorem dX2_goesOn_56 : decode cX2_goesOn 56 = .ok (.aload_n 0, 1) := dk_42 (dk_at dksX2_goesOn_2 10 rfl rfl)
theorem dX2_goesOn_57 : decode cX2_goesOn 57 = .ok (.getfield 27, 3) := dk_180 0 27 (dk_at dksX2_goesOn_2 11 rfl rfl)
theorem dX2_goesOn_60 : decode cX2_goesOn 60 = .ok (.aload_n 1, 1) := dk_43 (dk_at dksX2_goesOn_2 14 rfl rfl)
theorem dX2_goesOn_61 : decode cX2_goesOn 61 = .ok (.getfield 156, 3) := dk_180 0 156 (dk_at dksX2_goesOn_2 15 rfl rfl)
theorem dX2_goesOn_64 : decode cX2_goesOn 64 = .ok (.iconst (-1), 1) := dk_2 (dk_at dksX2_goesOn_2 18 rfl rfl)
theorem dX2_goesOn_65 : decode cX2_goesOn 65 = .ok (.iastore, 1) := dk_79 (dk_at dksX2_goesOn_2 19 rfl rfl)
theorem dX2_goesOn_66 : decode cX2_goesOn 66 = .ok (.aload_n 0, 1) := dk_42 (dk_at dksX2_goesOn_2 20 rfl rfl)
theorem dX2_goesOn_67 : decode cX2_goesOn 67 = .ok (.getfield 27, 3) := dk_180 0 27 (dk_at dksX2_goesOn_2 21 rfl rfl)
theorem dX2_goesOn_70 : decode cX2_goesOn 70 = .ok (.iload_n 2, 1) := dk_28 (dk_at dksX2_goesOn_3 0 rfl rfl)
theorem dX2_goesOn_71 : decode cX2_goesOn 71 = .ok (.aload_n 1, 1) := dk_43 (dk_at dksX2_goesOn_3 1 rfl rfl)
theorem dX2_goesOn_72 : decode cX2_goesOn 72 = .ok (.getfield 162, 3) := dk_180 0 162 (dk_at dksX2_goesOn_3 2 rfl rfl)
theorem dX2_goesOn_75 : decode cX2_goesOn 75 = .ok (.iastore, 1) := dk_79 (dk_at dksX2_goesOn_3 5 rfl rfl)
theorem dX2_goesOn_76 : decode cX2_goesOn 76 = .ok (.aload_n 1, 1) := dk_43 (dk_at dksX2_goesOn_3 6 rfl rfl)
theorem dX2_goesOn_77 : decode cX2_goesOn 77 = .ok (.iload_n 2, 1) := dk_28 (dk_at dksX2_goesOn_3 7 rfl rfl)
theorem dX2_goesOn_78 : decode cX2_goesOn 78 = .ok (.putfield 156, 3) := dk_181 0 156 (dk_at dksX2_goesOn_3 8 rfl rfl)
theorem dX2_goesOn_81 : decode cX2_goesOn 81 = .ok (.return_, 1) := dk_177 (dk_at dksX2_goesOn_3 11 rfl rfl)
abbrev cX2_goesOff : ByteArray := prog_10_method_16_code
def yX2_goesOff : MethodName := ⟨RX2, "goesOff", "(LCartBridge$Cart;)V"⟩
def dkwX2_goesOff_3 : List UInt8 := [181, 0, 168, 42, 180, 0, 24, 43, 180, 0, 162, 184, 0, 61, 182, 0, 65, 87, 177]
abbrev dktX2_goesOff_3 : List UInt8 := dkwX2_goesOff_3 ++ []
def dkwX2_goesOff_2 : List UInt8 := [180, 0, 165, 182, 0, 108, 3, 43, 180, 0, 162, 184, 0, 61, 182, 0, 174, 167, 0, 23, 43, 5]
abbrev dktX2_goesOff_2 : List UInt8 := dkwX2_goesOff_2 ++ dktX2_goesOff_3
def dkwX2_goesOff_1 : List UInt8 := [181, 0, 119, 28, 153, 0, 38, 43, 3, 181, 0, 168, 43, 42, 180, 0, 92, 181, 0, 171, 42, 43]
abbrev dktX2_goesOff_1 : List UInt8 := dkwX2_goesOff_1 ++ dktX2_goesOff_2
def dkwX2_goesOff_0 : List UInt8 := [43, 180, 0, 119, 43, 180, 0, 165, 160, 0, 7, 4, 167, 0, 4, 3, 61, 43, 2, 181, 0, 156, 43, 2]
abbrev dktX2_goesOff_0 : List UInt8 := dkwX2_goesOff_0 ++ dktX2_goesOff_1
theorem dksX2_goesOff_0 : cX2_goesOff.data.toList.drop 0 = dktX2_goesOff_0 := by decide +kernel
theorem dksX2_goesOff_1 : cX2_goesOff.data.toList.drop 24 = dktX2_goesOff_1 := dk_seg dksX2_goesOff_0 24 rfl rfl
theorem dksX2_goesOff_2 : cX2_goesOff.data.toList.drop 46 = dktX2_goesOff_2 := dk_seg dksX2_goesOff_1 22 rfl rfl
theorem dksX2_goesOff_3 : cX2_goesOff.data.toList.drop 68 = dktX2_goesOff_3 := dk_seg dksX2_goesOff_2 22 rfl rfl
theorem dX2_goesOff_0 : decode cX2_goesOff 0 = .ok (.aload_n 1, 1) := dk_43 (dk_at dksX2_goesOff_0 0 rfl rfl)
theorem dX2_goesOff_1 : decode cX2_goesOff 1 = .ok (.getfield 119, 3) := dk_180 0 119 (dk_at dksX2_goesOff_0 1 rfl rfl)
theorem dX2_goesOff_4 : decode cX2_goesOff 4 = .ok (.aload_n 1, 1) := dk_43 (dk_at dksX2_goesOff_0 4 rfl rfl)
theorem dX2_goesOff_5 : decode cX2_goesOff 5 = .ok (.getfield 165, 3) := dk_180 0 165 (dk_at dksX2_goesOff_0 5 rfl rfl)
theorem dX2_goesOff_8 : decode cX2_goesOff 8 = .ok (.if_icmp .ne 7, 3) := dk_160 0 7 (dk_at dksX2_goesOff_0 8 rfl rfl)
theorem dX2_goesOff_11 : decode cX2_goesOff 11 = .ok (.iconst 1, 1) := dk_4 (dk_at dksX2_goesOff_0 11 rfl rfl)
theorem dX2_goesOff_12 : decode cX2_goesOff 12 = .ok (.goto 4, 3) := dk_167 0 4 (dk_at dksX2_goesOff_0 12 rfl rfl)
theorem dX2_goesOff_15 : decode cX2_goesOff 15 = .ok (.iconst 0, 1) := dk_3 (dk_at dksX2_goesOff_0 15 rfl rfl)
theorem dX2_goesOff_16 : decode cX2_goesOff 16 = .ok (.istore_n 2, 1) := dk_61 (dk_at dksX2_goesOff_0 16 rfl rfl)
theorem dX2_goesOff_17 : decode cX2_goesOff 17 = .ok (.aload_n 1, 1) := dk_43 (dk_at dksX2_goesOff_0 17 rfl rfl)
theorem dX2_goesOff_18 : decode cX2_goesOff 18 = .ok (.iconst (-1), 1) := dk_2 (dk_at dksX2_goesOff_0 18 rfl rfl)
theorem dX2_goesOff_19 : decode cX2_goesOff 19 = .ok (.putfield 156, 3) := dk_181 0 156 (dk_at dksX2_goesOff_0 19 rfl rfl)
theorem dX2_goesOff_22 : decode cX2_goesOff 22 = .ok (.aload_n 1, 1) := dk_43 (dk_at dksX2_goesOff_0 22 rfl rfl)
theorem dX2_goesOff_23 : decode cX2_goesOff 23 = .ok (.iconst (-1), 1) := dk_2 (dk_at dksX2_goesOff_0 23 rfl rfl)
theorem dX2_goesOff_24 : decode cX2_goesOff 24 = .ok (.putfield 119, 3) := dk_181 0 119 (dk_at dksX2_goesOff_1 0 rfl rfl)
theorem dX2_goesOff_27 : decode cX2_goesOff 27 = .ok (.iload_n 2, 1) := dk_28 (dk_at dksX2_goesOff_1 3 rfl rfl)
theorem dX2_goesOff_28 : decode cX2_goesOff 28 = .ok (.ifCond .eq 38, 3) := dk_153 0 38 (dk_at dksX2_goesOff_1 4 rfl rfl)
theorem dX2_goesOff_31 : decode cX2_goesOff 31 = .ok (.aload_n 1, 1) := dk_43 (dk_at dksX2_goesOff_1 7 rfl rfl)
theorem dX2_goesOff_32 : decode cX2_goesOff 32 = .ok (.iconst 0, 1) := dk_3 (dk_at dksX2_goesOff_1 8 rfl rfl)
theorem dX2_goesOff_33 : decode cX2_goesOff 33 = .ok (.putfield 168, 3) := dk_181 0 168 (dk_at dksX2_goesOff_1 9 rfl rfl)
theorem dX2_goesOff_36 : decode cX2_goesOff 36 = .ok (.aload_n 1, 1) := dk_43 (dk_at dksX2_goesOff_1 12 rfl rfl)
theorem dX2_goesOff_37 : decode cX2_goesOff 37 = .ok (.aload_n 0, 1) := dk_42 (dk_at dksX2_goesOff_1 13 rfl rfl)
theorem dX2_goesOff_38 : decode cX2_goesOff 38 = .ok (.getfield 92, 3) := dk_180 0 92 (dk_at dksX2_goesOff_1 14 rfl rfl)
theorem dX2_goesOff_41 : decode cX2_goesOff 41 = .ok (.putfield 171, 3) := dk_181 0 171 (dk_at dksX2_goesOff_1 17 rfl rfl)
theorem dX2_goesOff_44 : decode cX2_goesOff 44 = .ok (.aload_n 0, 1) := dk_42 (dk_at dksX2_goesOff_1 20 rfl rfl)
theorem dX2_goesOff_45 : decode cX2_goesOff 45 = .ok (.aload_n 1, 1) := dk_43 (dk_at dksX2_goesOff_1 21 rfl rfl)
theorem dX2_goesOff_46 : decode cX2_goesOff 46 = .ok (.getfield 165, 3) := dk_180 0 165 (dk_at dksX2_goesOff_2 0 rfl rfl)
theorem dX2_goesOff_49 : decode cX2_goesOff 49 = .ok (.invokevirtual 108, 3) := dk_182 0 108 (dk_at dksX2_goesOff_2 3 rfl rfl)
theorem dX2_goesOff_52 : decode cX2_goesOff 52 = .ok (.iconst 0, 1) := dk_3 (dk_at dksX2_goesOff_2 6 rfl rfl)
theorem dX2_goesOff_53 : decode cX2_goesOff 53 = .ok (.aload_n 1, 1) := dk_43 (dk_at dksX2_goesOff_2 7 rfl rfl)
theorem dX2_goesOff_54 : decode cX2_goesOff 54 = .ok (.getfield 162, 3) := dk_180 0 162 (dk_at dksX2_goesOff_2 8 rfl rfl)
theorem dX2_goesOff_57 : decode cX2_goesOff 57 = .ok (.invokestatic 61, 3) := dk_184 0 61 (dk_at dksX2_goesOff_2 11 rfl rfl)
theorem dX2_goesOff_60 : decode cX2_goesOff 60 = .ok (.invokevirtual 174, 3) := dk_182 0 174 (dk_at dksX2_goesOff_2 14 rfl rfl)
theorem dX2_goesOff_63 : decode cX2_goesOff 63 = .ok (.goto 23, 3) := dk_167 0 23 (dk_at dksX2_goesOff_2 17 rfl rfl)
theorem dX2_goesOff_66 : decode cX2_goesOff 66 = .ok (.aload_n 1, 1) := dk_43 (dk_at dksX2_goesOff_2 20 rfl rfl)
theorem dX2_goesOff_67 : decode cX2_goesOff 67 = .ok (.iconst 2, 1) := dk_5 (dk_at dksX2_goesOff_2 21 rfl rfl)
theorem dX2_goesOff_68 : decode cX2_goesOff 68 = .ok (.putfield 168, 3) := dk_181 0 168 (dk_at dksX2_goesOff_3 0 rfl rfl)
theorem dX2_goesOff_71 : decode cX2_goesOff 71 = .ok (.aload_n 0, 1) := dk_42 (dk_at dksX2_goesOff_3 3 rfl rfl)
theorem dX2_goesOff_72 : decode cX2_goesOff 72 = .ok (.getfield 24, 3) := dk_180 0 24 (dk_at dksX2_goesOff_3 4 rfl rfl)
theorem dX2_goesOff_75 : decode cX2_goesOff 75 = .ok (.aload_n 1, 1) := dk_43 (dk_at dksX2_goesOff_3 7 rfl rfl)
theorem dX2_goesOff_76 : decode cX2_goesOff 76 = .ok (.getfield 162, 3) := dk_180 0 162 (dk_at dksX2_goesOff_3 8 rfl rfl)
theorem dX2_goesOff_79 : decode cX2_goesOff 79 = .ok (.invokestatic 61, 3) := dk_184 0 61 (dk_at dksX2_goesOff_3 11 rfl rfl)
theorem dX2_goesOff_82 : decode cX2_goesOff 82 = .ok (.invokevirtual 65, 3) := dk_182 0 65 (dk_at dksX2_goesOff_3 14 rfl rfl)
theorem dX2_goesOff_85 : decode cX2_goesOff 85 = .ok (.pop, 1) := dk_87 (dk_at dksX2_goesOff_3 17 rfl rfl)
theorem dX2_goesOff_86 : decode cX2_goesOff 86 = .ok (.return_, 1) := dk_177 (dk_at dksX2_goesOff_3 18 rfl rfl)
abbrev cX2_takeTurns : ByteArray := prog_10_method_17_code
def yX2_takeTurns : MethodName := ⟨RX2, "takeTurns", "()V"⟩
def dkwX2_takeTurns_3 : List UInt8 := [181, 0, 38, 42, 3, 181, 0, 89, 177]
abbrev dktX2_takeTurns_3 : List UInt8 := dkwX2_takeTurns_3 ++ []
def dkwX2_takeTurns_2 : List UInt8 := [180, 0, 38, 184, 0, 180, 182, 0, 108, 182, 0, 177, 154, 0, 19, 42, 42, 180, 0, 38, 184, 0, 180]
abbrev dktX2_takeTurns_2 : List UInt8 := dkwX2_takeTurns_2 ++ dktX2_takeTurns_3
def dkwX2_takeTurns_1 : List UInt8 := [161, 0, 7, 4, 167, 0, 4, 3, 60, 42, 182, 0, 126, 154, 0, 40, 27, 153, 0, 36, 42, 42]
abbrev dktX2_takeTurns_1 : List UInt8 := dkwX2_takeTurns_1 ++ dktX2_takeTurns_2
def dkwX2_takeTurns_0 : List UInt8 := [42, 42, 180, 0, 38, 182, 0, 108, 182, 0, 177, 154, 0, 14, 42, 180, 0, 89, 42, 180, 0, 35]
abbrev dktX2_takeTurns_0 : List UInt8 := dkwX2_takeTurns_0 ++ dktX2_takeTurns_1
theorem dksX2_takeTurns_0 : cX2_takeTurns.data.toList.drop 0 = dktX2_takeTurns_0 := by decide +kernel
theorem dksX2_takeTurns_1 : cX2_takeTurns.data.toList.drop 22 = dktX2_takeTurns_1 := dk_seg dksX2_takeTurns_0 22 rfl rfl
theorem dksX2_takeTurns_2 : cX2_takeTurns.data.toList.drop 44 = dktX2_takeTurns_2 := dk_seg dksX2_takeTurns_1 22 rfl rfl
theorem dksX2_takeTurns_3 : cX2_takeTurns.data.toList.drop 67 = dktX2_takeTurns_3 := dk_seg dksX2_takeTurns_2 23 rfl rfl
theorem dX2_takeTurns_0 : decode cX2_takeTurns 0 = .ok (.aload_n 0, 1) := dk_42 (dk_at dksX2_takeTurns_0 0 rfl rfl)
theorem dX2_takeTurns_1 : decode cX2_takeTurns 1 = .ok (.aload_n 0, 1) := dk_42 (dk_at dksX2_takeTurns_0 1 rfl rfl)
theorem dX2_takeTurns_2 : decode cX2_takeTurns 2 = .ok (.getfield 38, 3) := dk_180 0 38 (dk_at dksX2_takeTurns_0 2 rfl rfl)
theorem dX2_takeTurns_5 : decode cX2_takeTurns 5 = .ok (.invokevirtual 108, 3) := dk_182 0 108 (dk_at dksX2_takeTurns_0 5 rfl rfl)
theorem dX2_takeTurns_8 : decode cX2_takeTurns 8 = .ok (.invokevirtual 177, 3) := dk_182 0 177 (dk_at dksX2_takeTurns_0 8 rfl rfl)
theorem dX2_takeTurns_11 : decode cX2_takeTurns 11 = .ok (.ifCond .ne 14, 3) := dk_154 0 14 (dk_at dksX2_takeTurns_0 11 rfl rfl)
theorem dX2_takeTurns_14 : decode cX2_takeTurns 14 = .ok (.aload_n 0, 1) := dk_42 (dk_at dksX2_takeTurns_0 14 rfl rfl)
theorem dX2_takeTurns_15 : decode cX2_takeTurns 15 = .ok (.getfield 89, 3) := dk_180 0 89 (dk_at dksX2_takeTurns_0 15 rfl rfl)
theorem dX2_takeTurns_18 : decode cX2_takeTurns 18 = .ok (.aload_n 0, 1) := dk_42 (dk_at dksX2_takeTurns_0 18 rfl rfl)
theorem dX2_takeTurns_19 : decode cX2_takeTurns 19 = .ok (.getfield 35, 3) := dk_180 0 35 (dk_at dksX2_takeTurns_0 19 rfl rfl)
theorem dX2_takeTurns_22 : decode cX2_takeTurns 22 = .ok (.if_icmp .lt 7, 3) := dk_161 0 7 (dk_at dksX2_takeTurns_1 0 rfl rfl)
theorem dX2_takeTurns_25 : decode cX2_takeTurns 25 = .ok (.iconst 1, 1) := dk_4 (dk_at dksX2_takeTurns_1 3 rfl rfl)
theorem dX2_takeTurns_26 : decode cX2_takeTurns 26 = .ok (.goto 4, 3) := dk_167 0 4 (dk_at dksX2_takeTurns_1 4 rfl rfl)
theorem dX2_takeTurns_29 : decode cX2_takeTurns 29 = .ok (.iconst 0, 1) := dk_3 (dk_at dksX2_takeTurns_1 7 rfl rfl)
theorem dX2_takeTurns_30 : decode cX2_takeTurns 30 = .ok (.istore_n 1, 1) := dk_60 (dk_at dksX2_takeTurns_1 8 rfl rfl)
theorem dX2_takeTurns_31 : decode cX2_takeTurns 31 = .ok (.aload_n 0, 1) := dk_42 (dk_at dksX2_takeTurns_1 9 rfl rfl)
theorem dX2_takeTurns_32 : decode cX2_takeTurns 32 = .ok (.invokevirtual 126, 3) := dk_182 0 126 (dk_at dksX2_takeTurns_1 10 rfl rfl)
theorem dX2_takeTurns_35 : decode cX2_takeTurns 35 = .ok (.ifCond .ne 40, 3) := dk_154 0 40 (dk_at dksX2_takeTurns_1 13 rfl rfl)
theorem dX2_takeTurns_38 : decode cX2_takeTurns 38 = .ok (.iload_n 1, 1) := dk_27 (dk_at dksX2_takeTurns_1 16 rfl rfl)
theorem dX2_takeTurns_39 : decode cX2_takeTurns 39 = .ok (.ifCond .eq 36, 3) := dk_153 0 36 (dk_at dksX2_takeTurns_1 17 rfl rfl)
theorem dX2_takeTurns_42 : decode cX2_takeTurns 42 = .ok (.aload_n 0, 1) := dk_42 (dk_at dksX2_takeTurns_1 20 rfl rfl)
theorem dX2_takeTurns_43 : decode cX2_takeTurns 43 = .ok (.aload_n 0, 1) := dk_42 (dk_at dksX2_takeTurns_1 21 rfl rfl)
theorem dX2_takeTurns_44 : decode cX2_takeTurns 44 = .ok (.getfield 38, 3) := dk_180 0 38 (dk_at dksX2_takeTurns_2 0 rfl rfl)
theorem dX2_takeTurns_47 : decode cX2_takeTurns 47 = .ok (.invokestatic 180, 3) := dk_184 0 180 (dk_at dksX2_takeTurns_2 3 rfl rfl)
theorem dX2_takeTurns_50 : decode cX2_takeTurns 50 = .ok (.invokevirtual 108, 3) := dk_182 0 108 (dk_at dksX2_takeTurns_2 6 rfl rfl)
theorem dX2_takeTurns_53 : decode cX2_takeTurns 53 = .ok (.invokevirtual 177, 3) := dk_182 0 177 (dk_at dksX2_takeTurns_2 9 rfl rfl)
theorem dX2_takeTurns_56 : decode cX2_takeTurns 56 = .ok (.ifCond .ne 19, 3) := dk_154 0 19 (dk_at dksX2_takeTurns_2 12 rfl rfl)
theorem dX2_takeTurns_59 : decode cX2_takeTurns 59 = .ok (.aload_n 0, 1) := dk_42 (dk_at dksX2_takeTurns_2 15 rfl rfl)
theorem dX2_takeTurns_60 : decode cX2_takeTurns 60 = .ok (.aload_n 0, 1) := dk_42 (dk_at dksX2_takeTurns_2 16 rfl rfl)
theorem dX2_takeTurns_61 : decode cX2_takeTurns 61 = .ok (.getfield 38, 3) := dk_180 0 38 (dk_at dksX2_takeTurns_2 17 rfl rfl)
theorem dX2_takeTurns_64 : decode cX2_takeTurns 64 = .ok (.invokestatic 180, 3) := dk_184 0 180 (dk_at dksX2_takeTurns_2 20 rfl rfl)
theorem dX2_takeTurns_67 : decode cX2_takeTurns 67 = .ok (.putfield 38, 3) := dk_181 0 38 (dk_at dksX2_takeTurns_3 0 rfl rfl)
theorem dX2_takeTurns_70 : decode cX2_takeTurns 70 = .ok (.aload_n 0, 1) := dk_42 (dk_at dksX2_takeTurns_3 3 rfl rfl)
theorem dX2_takeTurns_71 : decode cX2_takeTurns 71 = .ok (.iconst 0, 1) := dk_3 (dk_at dksX2_takeTurns_3 4 rfl rfl)
theorem dX2_takeTurns_72 : decode cX2_takeTurns 72 = .ok (.putfield 89, 3) := dk_181 0 89 (dk_at dksX2_takeTurns_3 5 rfl rfl)
theorem dX2_takeTurns_75 : decode cX2_takeTurns 75 = .ok (.return_, 1) := dk_177 (dk_at dksX2_takeTurns_3 8 rfl rfl)
abbrev cX2_sends : ByteArray := prog_10_method_18_code
def yX2_sends : MethodName := ⟨RX2, "sends", "(I)V"⟩
def dkwX2_sends_5 : List UInt8 := [42, 180, 0, 38, 27, 160, 0, 7, 4, 167, 0, 4, 3, 96, 181, 0, 89, 177]
abbrev dktX2_sends_5 : List UInt8 := dkwX2_sends_5 ++ []
def dkwX2_sends_4 : List UInt8 := [44, 180, 0, 156, 44, 180, 0, 162, 79, 42, 89, 180, 0, 95, 4, 96, 181, 0, 95, 42, 89, 180, 0, 89]
abbrev dktX2_sends_4 : List UInt8 := dkwX2_sends_4 ++ dktX2_sends_5
def dkwX2_sends_3 : List UInt8 := [181, 0, 168, 44, 42, 27, 182, 0, 145, 181, 0, 156, 44, 27, 184, 0, 180, 181, 0, 119, 42, 180, 0, 27]
abbrev dktX2_sends_3 : List UInt8 := dkwX2_sends_3 ++ dktX2_sends_4
def dkwX2_sends_2 : List UInt8 := [192, 0, 55, 182, 0, 57, 182, 0, 112, 192, 0, 70, 77, 44, 42, 180, 0, 92, 182, 0, 196, 44, 4]
abbrev dktX2_sends_2 : List UInt8 := dkwX2_sends_2 ++ dktX2_sends_3
def dkwX2_sends_1 : List UInt8 := [185, 0, 189, 3, 0, 154, 0, 4, 177, 42, 180, 0, 12, 42, 27, 182, 0, 108, 3, 182, 0, 193]
abbrev dktX2_sends_1 : List UInt8 := dkwX2_sends_1 ++ dktX2_sends_2
def dkwX2_sends_0 : List UInt8 := [42, 180, 0, 27, 42, 27, 182, 0, 145, 46, 2, 160, 0, 20, 42, 180, 0, 86, 184, 0, 183, 42, 27]
abbrev dktX2_sends_0 : List UInt8 := dkwX2_sends_0 ++ dktX2_sends_1
theorem dksX2_sends_0 : cX2_sends.data.toList.drop 0 = dktX2_sends_0 := by decide +kernel
theorem dksX2_sends_1 : cX2_sends.data.toList.drop 23 = dktX2_sends_1 := dk_seg dksX2_sends_0 23 rfl rfl
theorem dksX2_sends_2 : cX2_sends.data.toList.drop 45 = dktX2_sends_2 := dk_seg dksX2_sends_1 22 rfl rfl
theorem dksX2_sends_3 : cX2_sends.data.toList.drop 68 = dktX2_sends_3 := dk_seg dksX2_sends_2 23 rfl rfl
theorem dksX2_sends_4 : cX2_sends.data.toList.drop 92 = dktX2_sends_4 := dk_seg dksX2_sends_3 24 rfl rfl
theorem dksX2_sends_5 : cX2_sends.data.toList.drop 116 = dktX2_sends_5 := dk_seg dksX2_sends_4 24 rfl rfl
theorem dX2_sends_0 : decode cX2_sends 0 = .ok (.aload_n 0, 1) := dk_42 (dk_at dksX2_sends_0 0 rfl rfl)
theorem dX2_sends_1 : decode cX2_sends 1 = .ok (.getfield 27, 3) := dk_180 0 27 (dk_at dksX2_sends_0 1 rfl rfl)
theorem dX2_sends_4 : decode cX2_sends 4 = .ok (.aload_n 0, 1) := dk_42 (dk_at dksX2_sends_0 4 rfl rfl)
theorem dX2_sends_5 : decode cX2_sends 5 = .ok (.iload_n 1, 1) := dk_27 (dk_at dksX2_sends_0 5 rfl rfl)
theorem dX2_sends_6 : decode cX2_sends 6 = .ok (.invokevirtual 145, 3) := dk_182 0 145 (dk_at dksX2_sends_0 6 rfl rfl)
theorem dX2_sends_9 : decode cX2_sends 9 = .ok (.iaload, 1) := dk_46 (dk_at dksX2_sends_0 9 rfl rfl)
theorem dX2_sends_10 : decode cX2_sends 10 = .ok (.iconst (-1), 1) := dk_2 (dk_at dksX2_sends_0 10 rfl rfl)
theorem dX2_sends_11 : decode cX2_sends 11 = .ok (.if_icmp .ne 20, 3) := dk_160 0 20 (dk_at dksX2_sends_0 11 rfl rfl)
theorem dX2_sends_14 : decode cX2_sends 14 = .ok (.aload_n 0, 1) := dk_42 (dk_at dksX2_sends_0 14 rfl rfl)
theorem dX2_sends_15 : decode cX2_sends 15 = .ok (.getfield 86, 3) := dk_180 0 86 (dk_at dksX2_sends_0 15 rfl rfl)
theorem dX2_sends_18 : decode cX2_sends 18 = .ok (.invokestatic 183, 3) := dk_184 0 183 (dk_at dksX2_sends_0 18 rfl rfl)
theorem dX2_sends_21 : decode cX2_sends 21 = .ok (.aload_n 0, 1) := dk_42 (dk_at dksX2_sends_0 21 rfl rfl)
theorem dX2_sends_22 : decode cX2_sends 22 = .ok (.iload_n 1, 1) := dk_27 (dk_at dksX2_sends_0 22 rfl rfl)
theorem dX2_sends_23 : decode cX2_sends 23 = .ok (.invokeinterface 189 3, 5) := by decide +kernel
theorem dX2_sends_28 : decode cX2_sends 28 = .ok (.ifCond .ne 4, 3) := dk_154 0 4 (dk_at dksX2_sends_1 5 rfl rfl)
theorem dX2_sends_31 : decode cX2_sends 31 = .ok (.return_, 1) := dk_177 (dk_at dksX2_sends_1 8 rfl rfl)
theorem dX2_sends_32 : decode cX2_sends 32 = .ok (.aload_n 0, 1) := dk_42 (dk_at dksX2_sends_1 9 rfl rfl)
theorem dX2_sends_33 : decode cX2_sends 33 = .ok (.getfield 12, 3) := dk_180 0 12 (dk_at dksX2_sends_1 10 rfl rfl)
theorem dX2_sends_36 : decode cX2_sends 36 = .ok (.aload_n 0, 1) := dk_42 (dk_at dksX2_sends_1 13 rfl rfl)
theorem dX2_sends_37 : decode cX2_sends 37 = .ok (.iload_n 1, 1) := dk_27 (dk_at dksX2_sends_1 14 rfl rfl)
theorem dX2_sends_38 : decode cX2_sends 38 = .ok (.invokevirtual 108, 3) := dk_182 0 108 (dk_at dksX2_sends_1 15 rfl rfl)
theorem dX2_sends_41 : decode cX2_sends 41 = .ok (.iconst 0, 1) := dk_3 (dk_at dksX2_sends_1 18 rfl rfl)
theorem dX2_sends_42 : decode cX2_sends 42 = .ok (.invokevirtual 193, 3) := dk_182 0 193 (dk_at dksX2_sends_1 19 rfl rfl)
theorem dX2_sends_45 : decode cX2_sends 45 = .ok (.checkcast 55, 3) := dk_192 0 55 (dk_at dksX2_sends_2 0 rfl rfl)
theorem dX2_sends_48 : decode cX2_sends 48 = .ok (.invokevirtual 57, 3) := dk_182 0 57 (dk_at dksX2_sends_2 3 rfl rfl)
theorem dX2_sends_51 : decode cX2_sends 51 = .ok (.invokevirtual 112, 3) := dk_182 0 112 (dk_at dksX2_sends_2 6 rfl rfl)
theorem dX2_sends_54 : decode cX2_sends 54 = .ok (.checkcast 70, 3) := dk_192 0 70 (dk_at dksX2_sends_2 9 rfl rfl)
theorem dX2_sends_57 : decode cX2_sends 57 = .ok (.astore_n 2, 1) := dk_77 (dk_at dksX2_sends_2 12 rfl rfl)
theorem dX2_sends_58 : decode cX2_sends 58 = .ok (.aload_n 2, 1) := dk_44 (dk_at dksX2_sends_2 13 rfl rfl)
theorem dX2_sends_59 : decode cX2_sends 59 = .ok (.aload_n 0, 1) := dk_42 (dk_at dksX2_sends_2 14 rfl rfl)
theorem dX2_sends_60 : decode cX2_sends 60 = .ok (.getfield 92, 3) := dk_180 0 92 (dk_at dksX2_sends_2 15 rfl rfl)
theorem dX2_sends_63 : decode cX2_sends 63 = .ok (.invokevirtual 196, 3) := dk_182 0 196 (dk_at dksX2_sends_2 18 rfl rfl)
theorem dX2_sends_66 : decode cX2_sends 66 = .ok (.aload_n 2, 1) := dk_44 (dk_at dksX2_sends_2 21 rfl rfl)
theorem dX2_sends_67 : decode cX2_sends 67 = .ok (.iconst 1, 1) := dk_4 (dk_at dksX2_sends_2 22 rfl rfl)
theorem dX2_sends_68 : decode cX2_sends 68 = .ok (.putfield 168, 3) := dk_181 0 168 (dk_at dksX2_sends_3 0 rfl rfl)
theorem dX2_sends_71 : decode cX2_sends 71 = .ok (.aload_n 2, 1) := dk_44 (dk_at dksX2_sends_3 3 rfl rfl)
theorem dX2_sends_72 : decode cX2_sends 72 = .ok (.aload_n 0, 1) := dk_42 (dk_at dksX2_sends_3 4 rfl rfl)
theorem dX2_sends_73 : decode cX2_sends 73 = .ok (.iload_n 1, 1) := dk_27 (dk_at dksX2_sends_3 5 rfl rfl)
theorem dX2_sends_74 : decode cX2_sends 74 = .ok (.invokevirtual 145, 3) := dk_182 0 145 (dk_at dksX2_sends_3 6 rfl rfl)
theorem dX2_sends_77 : decode cX2_sends 77 = .ok (.putfield 156, 3) := dk_181 0 156 (dk_at dksX2_sends_3 9 rfl rfl)
theorem dX2_sends_80 : decode cX2_sends 80 = .ok (.aload_n 2, 1) := dk_44 (dk_at dksX2_sends_3 12 rfl rfl)
theorem dX2_sends_81 : decode cX2_sends 81 = .ok (.iload_n 1, 1) := dk_27 (dk_at dksX2_sends_3 13 rfl rfl)
theorem dX2_sends_82 : decode cX2_sends 82 = .ok (.invokestatic 180, 3) := dk_184 0 180 (dk_at dksX2_sends_3 14 rfl rfl)
theorem dX2_sends_85 : decode cX2_sends 85 = .ok (.putfield 119, 3) := dk_181 0 119 (dk_at dksX2_sends_3 17 rfl rfl)
theorem dX2_sends_88 : decode cX2_sends 88 = .ok (.aload_n 0, 1) := dk_42 (dk_at dksX2_sends_3 20 rfl rfl)
theorem dX2_sends_89 : decode cX2_sends 89 = .ok (.getfield 27, 3) := dk_180 0 27 (dk_at dksX2_sends_3 21 rfl rfl)
theorem dX2_sends_92 : decode cX2_sends 92 = .ok (.aload_n 2, 1) := dk_44 (dk_at dksX2_sends_4 0 rfl rfl)
theorem dX2_sends_93 : decode cX2_sends 93 = .ok (.getfield 156, 3) := dk_180 0 156 (dk_at dksX2_sends_4 1 rfl rfl)
theorem dX2_sends_96 : decode cX2_sends 96 = .ok (.aload_n 2, 1) := dk_44 (dk_at dksX2_sends_4 4 rfl rfl)
theorem dX2_sends_97 : decode cX2_sends 97 = .ok (.getfield 162, 3) := dk_180 0 162 (dk_at dksX2_sends_4 5 rfl rfl)
theorem dX2_sends_100 : decode cX2_sends 100 = .ok (.iastore, 1) := dk_79 (dk_at dksX2_sends_4 8 rfl rfl)
theorem dX2_sends_101 : decode cX2_sends 101 = .ok (.aload_n 0, 1) := dk_42 (dk_at dksX2_sends_4 9 rfl rfl)
theorem dX2_sends_102 : decode cX2_sends 102 = .ok (.dup, 1) := dk_89 (dk_at dksX2_sends_4 10 rfl rfl)
theorem dX2_sends_103 : decode cX2_sends 103 = .ok (.getfield 95, 3) := dk_180 0 95 (dk_at dksX2_sends_4 11 rfl rfl)
theorem dX2_sends_106 : decode cX2_sends 106 = .ok (.iconst 1, 1) := dk_4 (dk_at dksX2_sends_4 14 rfl rfl)
theorem dX2_sends_107 : decode cX2_sends 107 = .ok (.iadd, 1) := dk_96 (dk_at dksX2_sends_4 15 rfl rfl)
theorem dX2_sends_108 : decode cX2_sends 108 = .ok (.putfield 95, 3) := dk_181 0 95 (dk_at dksX2_sends_4 16 rfl rfl)
theorem dX2_sends_111 : decode cX2_sends 111 = .ok (.aload_n 0, 1) := dk_42 (dk_at dksX2_sends_4 19 rfl rfl)
theorem dX2_sends_112 : decode cX2_sends 112 = .ok (.dup, 1) := dk_89 (dk_at dksX2_sends_4 20 rfl rfl)
theorem dX2_sends_113 : decode cX2_sends 113 = .ok (.getfield 89, 3) := dk_180 0 89 (dk_at dksX2_sends_4 21 rfl rfl)
theorem dX2_sends_116 : decode cX2_sends 116 = .ok (.aload_n 0, 1) := dk_42 (dk_at dksX2_sends_5 0 rfl rfl)
theorem dX2_sends_117 : decode cX2_sends 117 = .ok (.getfield 38, 3) := dk_180 0 38 (dk_at dksX2_sends_5 1 rfl rfl)
theorem dX2_sends_120 : decode cX2_sends 120 = .ok (.iload_n 1, 1) := dk_27 (dk_at dksX2_sends_5 4 rfl rfl)
theorem dX2_sends_121 : decode cX2_sends 121 = .ok (.if_icmp .ne 7, 3) := dk_160 0 7 (dk_at dksX2_sends_5 5 rfl rfl)
theorem dX2_sends_124 : decode cX2_sends 124 = .ok (.iconst 1, 1) := dk_4 (dk_at dksX2_sends_5 8 rfl rfl)
theorem dX2_sends_125 : decode cX2_sends 125 = .ok (.goto 4, 3) := dk_167 0 4 (dk_at dksX2_sends_5 9 rfl rfl)
theorem dX2_sends_128 : decode cX2_sends 128 = .ok (.iconst 0, 1) := dk_3 (dk_at dksX2_sends_5 12 rfl rfl)
theorem dX2_sends_129 : decode cX2_sends 129 = .ok (.iadd, 1) := dk_96 (dk_at dksX2_sends_5 13 rfl rfl)
theorem dX2_sends_130 : decode cX2_sends 130 = .ok (.putfield 89, 3) := dk_181 0 89 (dk_at dksX2_sends_5 14 rfl rfl)
theorem dX2_sends_133 : decode cX2_sends 133 = .ok (.return_, 1) := dk_177 (dk_at dksX2_sends_5 17 rfl rfl)
abbrev cX2_isOncoming : ByteArray := prog_10_method_9_code
def yX2_isOncoming : MethodName := ⟨RX2, "isOncoming", "(I)Z"⟩
def dkwX2_isOncoming_1 : List UInt8 := [167, 255, 234, 3, 172]
abbrev dktX2_isOncoming_1 : List UInt8 := dkwX2_isOncoming_1 ++ []
def dkwX2_isOncoming_0 : List UInt8 := [3, 61, 28, 42, 180, 0, 31, 162, 0, 20, 42, 28, 27, 182, 0, 122, 153, 0, 5, 4, 172, 132, 2, 1]
abbrev dktX2_isOncoming_0 : List UInt8 := dkwX2_isOncoming_0 ++ dktX2_isOncoming_1
theorem dksX2_isOncoming_0 : cX2_isOncoming.data.toList.drop 0 = dktX2_isOncoming_0 := by decide +kernel
theorem dksX2_isOncoming_1 : cX2_isOncoming.data.toList.drop 24 = dktX2_isOncoming_1 := dk_seg dksX2_isOncoming_0 24 rfl rfl
theorem dX2_isOncoming_0 : decode cX2_isOncoming 0 = .ok (.iconst 0, 1) := dk_3 (dk_at dksX2_isOncoming_0 0 rfl rfl)
theorem dX2_isOncoming_1 : decode cX2_isOncoming 1 = .ok (.istore_n 2, 1) := dk_61 (dk_at dksX2_isOncoming_0 1 rfl rfl)
theorem dX2_isOncoming_2 : decode cX2_isOncoming 2 = .ok (.iload_n 2, 1) := dk_28 (dk_at dksX2_isOncoming_0 2 rfl rfl)
theorem dX2_isOncoming_3 : decode cX2_isOncoming 3 = .ok (.aload_n 0, 1) := dk_42 (dk_at dksX2_isOncoming_0 3 rfl rfl)
theorem dX2_isOncoming_4 : decode cX2_isOncoming 4 = .ok (.getfield 31, 3) := dk_180 0 31 (dk_at dksX2_isOncoming_0 4 rfl rfl)
theorem dX2_isOncoming_7 : decode cX2_isOncoming 7 = .ok (.if_icmp .ge 20, 3) := dk_162 0 20 (dk_at dksX2_isOncoming_0 7 rfl rfl)
theorem dX2_isOncoming_10 : decode cX2_isOncoming 10 = .ok (.aload_n 0, 1) := dk_42 (dk_at dksX2_isOncoming_0 10 rfl rfl)
theorem dX2_isOncoming_11 : decode cX2_isOncoming 11 = .ok (.iload_n 2, 1) := dk_28 (dk_at dksX2_isOncoming_0 11 rfl rfl)
theorem dX2_isOncoming_12 : decode cX2_isOncoming 12 = .ok (.iload_n 1, 1) := dk_27 (dk_at dksX2_isOncoming_0 12 rfl rfl)
theorem dX2_isOncoming_13 : decode cX2_isOncoming 13 = .ok (.invokevirtual 122, 3) := dk_182 0 122 (dk_at dksX2_isOncoming_0 13 rfl rfl)
theorem dX2_isOncoming_16 : decode cX2_isOncoming 16 = .ok (.ifCond .eq 5, 3) := dk_153 0 5 (dk_at dksX2_isOncoming_0 16 rfl rfl)
theorem dX2_isOncoming_19 : decode cX2_isOncoming 19 = .ok (.iconst 1, 1) := dk_4 (dk_at dksX2_isOncoming_0 19 rfl rfl)
theorem dX2_isOncoming_20 : decode cX2_isOncoming 20 = .ok (.ireturn, 1) := dk_172 (dk_at dksX2_isOncoming_0 20 rfl rfl)
theorem dX2_isOncoming_21 : decode cX2_isOncoming 21 = .ok (.iinc 2 1, 3) := dk_132 2 1 (dk_at dksX2_isOncoming_0 21 rfl rfl)
theorem dX2_isOncoming_24 : decode cX2_isOncoming 24 = .ok (.goto (-22), 3) := dk_167 255 234 (dk_at dksX2_isOncoming_1 0 rfl rfl)
theorem dX2_isOncoming_27 : decode cX2_isOncoming 27 = .ok (.iconst 0, 1) := dk_3 (dk_at dksX2_isOncoming_1 3 rfl rfl)
theorem dX2_isOncoming_28 : decode cX2_isOncoming 28 = .ok (.ireturn, 1) := dk_172 (dk_at dksX2_isOncoming_1 4 rfl rfl)
abbrev cX2_rowLoad : ByteArray := prog_10_method_6_code
def yX2_rowLoad : MethodName := ⟨RX2, "rowLoad", "(I)I"⟩
def dkwX2_rowLoad_2 : List UInt8 := [192, 0, 70, 180, 0, 116, 96, 61, 167, 255, 215, 28, 172]
abbrev dktX2_rowLoad_2 : List UInt8 := dkwX2_rowLoad_2 ++ []
def dkwX2_rowLoad_1 : List UInt8 := [185, 0, 51, 1, 0, 192, 0, 55, 182, 0, 57, 54, 4, 28, 42, 180, 0, 12, 21, 4, 182, 0, 112]
abbrev dktX2_rowLoad_1 : List UInt8 := dkwX2_rowLoad_1 ++ dktX2_rowLoad_2
def dkwX2_rowLoad_0 : List UInt8 := [3, 61, 42, 27, 182, 0, 108, 182, 0, 41, 78, 45, 185, 0, 45, 1, 0, 153, 0, 38, 45]
abbrev dktX2_rowLoad_0 : List UInt8 := dkwX2_rowLoad_0 ++ dktX2_rowLoad_1
theorem dksX2_rowLoad_0 : cX2_rowLoad.data.toList.drop 0 = dktX2_rowLoad_0 := by decide +kernel
theorem dksX2_rowLoad_1 : cX2_rowLoad.data.toList.drop 21 = dktX2_rowLoad_1 := dk_seg dksX2_rowLoad_0 21 rfl rfl
theorem dksX2_rowLoad_2 : cX2_rowLoad.data.toList.drop 44 = dktX2_rowLoad_2 := dk_seg dksX2_rowLoad_1 23 rfl rfl
theorem dX2_rowLoad_0 : decode cX2_rowLoad 0 = .ok (.iconst 0, 1) := dk_3 (dk_at dksX2_rowLoad_0 0 rfl rfl)
theorem dX2_rowLoad_1 : decode cX2_rowLoad 1 = .ok (.istore_n 2, 1) := dk_61 (dk_at dksX2_rowLoad_0 1 rfl rfl)
theorem dX2_rowLoad_2 : decode cX2_rowLoad 2 = .ok (.aload_n 0, 1) := dk_42 (dk_at dksX2_rowLoad_0 2 rfl rfl)
theorem dX2_rowLoad_3 : decode cX2_rowLoad 3 = .ok (.iload_n 1, 1) := dk_27 (dk_at dksX2_rowLoad_0 3 rfl rfl)
theorem dX2_rowLoad_4 : decode cX2_rowLoad 4 = .ok (.invokevirtual 108, 3) := dk_182 0 108 (dk_at dksX2_rowLoad_0 4 rfl rfl)
theorem dX2_rowLoad_7 : decode cX2_rowLoad 7 = .ok (.invokevirtual 41, 3) := dk_182 0 41 (dk_at dksX2_rowLoad_0 7 rfl rfl)
theorem dX2_rowLoad_10 : decode cX2_rowLoad 10 = .ok (.astore_n 3, 1) := dk_78 (dk_at dksX2_rowLoad_0 10 rfl rfl)
theorem dX2_rowLoad_11 : decode cX2_rowLoad 11 = .ok (.aload_n 3, 1) := dk_45 (dk_at dksX2_rowLoad_0 11 rfl rfl)
theorem dX2_rowLoad_12 : decode cX2_rowLoad 12 = .ok (.invokeinterface 45 1, 5) := by decide +kernel
theorem dX2_rowLoad_17 : decode cX2_rowLoad 17 = .ok (.ifCond .eq 38, 3) := dk_153 0 38 (dk_at dksX2_rowLoad_0 17 rfl rfl)
theorem dX2_rowLoad_20 : decode cX2_rowLoad 20 = .ok (.aload_n 3, 1) := dk_45 (dk_at dksX2_rowLoad_0 20 rfl rfl)
theorem dX2_rowLoad_21 : decode cX2_rowLoad 21 = .ok (.invokeinterface 51 1, 5) := by decide +kernel
theorem dX2_rowLoad_26 : decode cX2_rowLoad 26 = .ok (.checkcast 55, 3) := dk_192 0 55 (dk_at dksX2_rowLoad_1 5 rfl rfl)
theorem dX2_rowLoad_29 : decode cX2_rowLoad 29 = .ok (.invokevirtual 57, 3) := dk_182 0 57 (dk_at dksX2_rowLoad_1 8 rfl rfl)
theorem dX2_rowLoad_32 : decode cX2_rowLoad 32 = .ok (.istore 4, 2) := dk_54 4 (dk_at dksX2_rowLoad_1 11 rfl rfl)
theorem dX2_rowLoad_34 : decode cX2_rowLoad 34 = .ok (.iload_n 2, 1) := dk_28 (dk_at dksX2_rowLoad_1 13 rfl rfl)
theorem dX2_rowLoad_35 : decode cX2_rowLoad 35 = .ok (.aload_n 0, 1) := dk_42 (dk_at dksX2_rowLoad_1 14 rfl rfl)
theorem dX2_rowLoad_36 : decode cX2_rowLoad 36 = .ok (.getfield 12, 3) := dk_180 0 12 (dk_at dksX2_rowLoad_1 15 rfl rfl)
theorem dX2_rowLoad_39 : decode cX2_rowLoad 39 = .ok (.iload 4, 2) := dk_21 4 (dk_at dksX2_rowLoad_1 18 rfl rfl)
theorem dX2_rowLoad_41 : decode cX2_rowLoad 41 = .ok (.invokevirtual 112, 3) := dk_182 0 112 (dk_at dksX2_rowLoad_1 20 rfl rfl)
theorem dX2_rowLoad_44 : decode cX2_rowLoad 44 = .ok (.checkcast 70, 3) := dk_192 0 70 (dk_at dksX2_rowLoad_2 0 rfl rfl)
theorem dX2_rowLoad_47 : decode cX2_rowLoad 47 = .ok (.getfield 116, 3) := dk_180 0 116 (dk_at dksX2_rowLoad_2 3 rfl rfl)
theorem dX2_rowLoad_50 : decode cX2_rowLoad 50 = .ok (.iadd, 1) := dk_96 (dk_at dksX2_rowLoad_2 6 rfl rfl)
theorem dX2_rowLoad_51 : decode cX2_rowLoad 51 = .ok (.istore_n 2, 1) := dk_61 (dk_at dksX2_rowLoad_2 7 rfl rfl)
theorem dX2_rowLoad_52 : decode cX2_rowLoad 52 = .ok (.goto (-41), 3) := dk_167 255 215 (dk_at dksX2_rowLoad_2 8 rfl rfl)
theorem dX2_rowLoad_55 : decode cX2_rowLoad 55 = .ok (.iload_n 2, 1) := dk_28 (dk_at dksX2_rowLoad_2 11 rfl rfl)
theorem dX2_rowLoad_56 : decode cX2_rowLoad 56 = .ok (.ireturn, 1) := dk_172 (dk_at dksX2_rowLoad_2 12 rfl rfl)
abbrev cX2_yieldNoses : ByteArray := prog_10_method_24_code
def yX2_yieldNoses : MethodName := ⟨RX2, "yieldNoses", "()V"⟩
def dkwX2_yieldNoses_4 : List UInt8 := [167, 0, 4, 45, 182, 0, 222, 87, 42, 182, 0, 216, 60, 167, 255, 154, 177]
abbrev dktX2_yieldNoses_4 : List UInt8 := dkwX2_yieldNoses_4 ++ []
def dkwX2_yieldNoses_3 : List UInt8 := [180, 0, 162, 45, 180, 0, 162, 164, 0, 7, 4, 167, 0, 4, 3, 54, 5, 42, 21, 5, 153, 0, 7, 44]
abbrev dktX2_yieldNoses_3 : List UInt8 := dkwX2_yieldNoses_3 ++ dktX2_yieldNoses_4
def dkwX2_yieldNoses_2 : List UInt8 := [44, 182, 0, 219, 42, 45, 182, 0, 219, 100, 54, 4, 21, 4, 155, 0, 19, 21, 4, 154, 0, 18, 44]
abbrev dktX2_yieldNoses_2 : List UInt8 := dkwX2_yieldNoses_2 ++ dktX2_yieldNoses_3
def dkwX2_yieldNoses_1 : List UInt8 := [192, 0, 70, 77, 42, 180, 0, 12, 42, 180, 0, 27, 27, 4, 96, 46, 182, 0, 112, 192, 0, 70, 78, 42]
abbrev dktX2_yieldNoses_1 : List UInt8 := dkwX2_yieldNoses_1 ++ dktX2_yieldNoses_2
def dkwX2_yieldNoses_0 : List UInt8 := [42, 182, 0, 216, 60, 27, 2, 159, 0, 103, 42, 180, 0, 12, 42, 180, 0, 27, 27, 46, 182, 0, 112]
abbrev dktX2_yieldNoses_0 : List UInt8 := dkwX2_yieldNoses_0 ++ dktX2_yieldNoses_1
theorem dksX2_yieldNoses_0 : cX2_yieldNoses.data.toList.drop 0 = dktX2_yieldNoses_0 := by decide +kernel
theorem dksX2_yieldNoses_1 : cX2_yieldNoses.data.toList.drop 23 = dktX2_yieldNoses_1 := dk_seg dksX2_yieldNoses_0 23 rfl rfl
theorem dksX2_yieldNoses_2 : cX2_yieldNoses.data.toList.drop 47 = dktX2_yieldNoses_2 := dk_seg dksX2_yieldNoses_1 24 rfl rfl
theorem dksX2_yieldNoses_3 : cX2_yieldNoses.data.toList.drop 70 = dktX2_yieldNoses_3 := dk_seg dksX2_yieldNoses_2 23 rfl rfl
theorem dksX2_yieldNoses_4 : cX2_yieldNoses.data.toList.drop 94 = dktX2_yieldNoses_4 := dk_seg dksX2_yieldNoses_3 24 rfl rfl
theorem dX2_yieldNoses_0 : decode cX2_yieldNoses 0 = .ok (.aload_n 0, 1) := dk_42 (dk_at dksX2_yieldNoses_0 0 rfl rfl)
theorem dX2_yieldNoses_1 : decode cX2_yieldNoses 1 = .ok (.invokevirtual 216, 3) := dk_182 0 216 (dk_at dksX2_yieldNoses_0 1 rfl rfl)
theorem dX2_yieldNoses_4 : decode cX2_yieldNoses 4 = .ok (.istore_n 1, 1) := dk_60 (dk_at dksX2_yieldNoses_0 4 rfl rfl)
theorem dX2_yieldNoses_5 : decode cX2_yieldNoses 5 = .ok (.iload_n 1, 1) := dk_27 (dk_at dksX2_yieldNoses_0 5 rfl rfl)
theorem dX2_yieldNoses_6 : decode cX2_yieldNoses 6 = .ok (.iconst (-1), 1) := dk_2 (dk_at dksX2_yieldNoses_0 6 rfl rfl)
theorem dX2_yieldNoses_7 : decode cX2_yieldNoses 7 = .ok (.if_icmp .eq 103, 3) := dk_159 0 103 (dk_at dksX2_yieldNoses_0 7 rfl rfl)
theorem dX2_yieldNoses_10 : decode cX2_yieldNoses 10 = .ok (.aload_n 0, 1) := dk_42 (dk_at dksX2_yieldNoses_0 10 rfl rfl)
theorem dX2_yieldNoses_11 : decode cX2_yieldNoses 11 = .ok (.getfield 12, 3) := dk_180 0 12 (dk_at dksX2_yieldNoses_0 11 rfl rfl)
theorem dX2_yieldNoses_14 : decode cX2_yieldNoses 14 = .ok (.aload_n 0, 1) := dk_42 (dk_at dksX2_yieldNoses_0 14 rfl rfl)
theorem dX2_yieldNoses_15 : decode cX2_yieldNoses 15 = .ok (.getfield 27, 3) := dk_180 0 27 (dk_at dksX2_yieldNoses_0 15 rfl rfl)
theorem dX2_yieldNoses_18 : decode cX2_yieldNoses 18 = .ok (.iload_n 1, 1) := dk_27 (dk_at dksX2_yieldNoses_0 18 rfl rfl)
theorem dX2_yieldNoses_19 : decode cX2_yieldNoses 19 = .ok (.iaload, 1) := dk_46 (dk_at dksX2_yieldNoses_0 19 rfl rfl)
theorem dX2_yieldNoses_20 : decode cX2_yieldNoses 20 = .ok (.invokevirtual 112, 3) := dk_182 0 112 (dk_at dksX2_yieldNoses_0 20 rfl rfl)
theorem dX2_yieldNoses_23 : decode cX2_yieldNoses 23 = .ok (.checkcast 70, 3) := dk_192 0 70 (dk_at dksX2_yieldNoses_1 0 rfl rfl)
theorem dX2_yieldNoses_26 : decode cX2_yieldNoses 26 = .ok (.astore_n 2, 1) := dk_77 (dk_at dksX2_yieldNoses_1 3 rfl rfl)
theorem dX2_yieldNoses_27 : decode cX2_yieldNoses 27 = .ok (.aload_n 0, 1) := dk_42 (dk_at dksX2_yieldNoses_1 4 rfl rfl)
theorem dX2_yieldNoses_28 : decode cX2_yieldNoses 28 = .ok (.getfield 12, 3) := dk_180 0 12 (dk_at dksX2_yieldNoses_1 5 rfl rfl)
theorem dX2_yieldNoses_31 : decode cX2_yieldNoses 31 = .ok (.aload_n 0, 1) := dk_42 (dk_at dksX2_yieldNoses_1 8 rfl rfl)
theorem dX2_yieldNoses_32 : decode cX2_yieldNoses 32 = .ok (.getfield 27, 3) := dk_180 0 27 (dk_at dksX2_yieldNoses_1 9 rfl rfl)
theorem dX2_yieldNoses_35 : decode cX2_yieldNoses 35 = .ok (.iload_n 1, 1) := dk_27 (dk_at dksX2_yieldNoses_1 12 rfl rfl)
theorem dX2_yieldNoses_36 : decode cX2_yieldNoses 36 = .ok (.iconst 1, 1) := dk_4 (dk_at dksX2_yieldNoses_1 13 rfl rfl)
theorem dX2_yieldNoses_37 : decode cX2_yieldNoses 37 = .ok (.iadd, 1) := dk_96 (dk_at dksX2_yieldNoses_1 14 rfl rfl)
theorem dX2_yieldNoses_38 : decode cX2_yieldNoses 38 = .ok (.iaload, 1) := dk_46 (dk_at dksX2_yieldNoses_1 15 rfl rfl)
theorem dX2_yieldNoses_39 : decode cX2_yieldNoses 39 = .ok (.invokevirtual 112, 3) := dk_182 0 112 (dk_at dksX2_yieldNoses_1 16 rfl rfl)
theorem dX2_yieldNoses_42 : decode cX2_yieldNoses 42 = .ok (.checkcast 70, 3) := dk_192 0 70 (dk_at dksX2_yieldNoses_1 19 rfl rfl)
theorem dX2_yieldNoses_45 : decode cX2_yieldNoses 45 = .ok (.astore_n 3, 1) := dk_78 (dk_at dksX2_yieldNoses_1 22 rfl rfl)
theorem dX2_yieldNoses_46 : decode cX2_yieldNoses 46 = .ok (.aload_n 0, 1) := dk_42 (dk_at dksX2_yieldNoses_1 23 rfl rfl)
theorem dX2_yieldNoses_47 : decode cX2_yieldNoses 47 = .ok (.aload_n 2, 1) := dk_44 (dk_at dksX2_yieldNoses_2 0 rfl rfl)
theorem dX2_yieldNoses_48 : decode cX2_yieldNoses 48 = .ok (.invokevirtual 219, 3) := dk_182 0 219 (dk_at dksX2_yieldNoses_2 1 rfl rfl)
theorem dX2_yieldNoses_51 : decode cX2_yieldNoses 51 = .ok (.aload_n 0, 1) := dk_42 (dk_at dksX2_yieldNoses_2 4 rfl rfl)
theorem dX2_yieldNoses_52 : decode cX2_yieldNoses 52 = .ok (.aload_n 3, 1) := dk_45 (dk_at dksX2_yieldNoses_2 5 rfl rfl)
theorem dX2_yieldNoses_53 : decode cX2_yieldNoses 53 = .ok (.invokevirtual 219, 3) := dk_182 0 219 (dk_at dksX2_yieldNoses_2 6 rfl rfl)
theorem dX2_yieldNoses_56 : decode cX2_yieldNoses 56 = .ok (.isub, 1) := dk_100 (dk_at dksX2_yieldNoses_2 9 rfl rfl)
theorem dX2_yieldNoses_57 : decode cX2_yieldNoses 57 = .ok (.istore 4, 2) := dk_54 4 (dk_at dksX2_yieldNoses_2 10 rfl rfl)
theorem dX2_yieldNoses_59 : decode cX2_yieldNoses 59 = .ok (.iload 4, 2) := dk_21 4 (dk_at dksX2_yieldNoses_2 12 rfl rfl)
theorem dX2_yieldNoses_61 : decode cX2_yieldNoses 61 = .ok (.ifCond .lt 19, 3) := dk_155 0 19 (dk_at dksX2_yieldNoses_2 14 rfl rfl)
theorem dX2_yieldNoses_64 : decode cX2_yieldNoses 64 = .ok (.iload 4, 2) := dk_21 4 (dk_at dksX2_yieldNoses_2 17 rfl rfl)
theorem dX2_yieldNoses_66 : decode cX2_yieldNoses 66 = .ok (.ifCond .ne 18, 3) := dk_154 0 18 (dk_at dksX2_yieldNoses_2 19 rfl rfl)
theorem dX2_yieldNoses_69 : decode cX2_yieldNoses 69 = .ok (.aload_n 2, 1) := dk_44 (dk_at dksX2_yieldNoses_2 22 rfl rfl)
theorem dX2_yieldNoses_70 : decode cX2_yieldNoses 70 = .ok (.getfield 162, 3) := dk_180 0 162 (dk_at dksX2_yieldNoses_3 0 rfl rfl)
theorem dX2_yieldNoses_73 : decode cX2_yieldNoses 73 = .ok (.aload_n 3, 1) := dk_45 (dk_at dksX2_yieldNoses_3 3 rfl rfl)
theorem dX2_yieldNoses_74 : decode cX2_yieldNoses 74 = .ok (.getfield 162, 3) := dk_180 0 162 (dk_at dksX2_yieldNoses_3 4 rfl rfl)
theorem dX2_yieldNoses_77 : decode cX2_yieldNoses 77 = .ok (.if_icmp .le 7, 3) := dk_164 0 7 (dk_at dksX2_yieldNoses_3 7 rfl rfl)
theorem dX2_yieldNoses_80 : decode cX2_yieldNoses 80 = .ok (.iconst 1, 1) := dk_4 (dk_at dksX2_yieldNoses_3 10 rfl rfl)
theorem dX2_yieldNoses_81 : decode cX2_yieldNoses 81 = .ok (.goto 4, 3) := dk_167 0 4 (dk_at dksX2_yieldNoses_3 11 rfl rfl)
theorem dX2_yieldNoses_84 : decode cX2_yieldNoses 84 = .ok (.iconst 0, 1) := dk_3 (dk_at dksX2_yieldNoses_3 14 rfl rfl)
theorem dX2_yieldNoses_85 : decode cX2_yieldNoses 85 = .ok (.istore 5, 2) := dk_54 5 (dk_at dksX2_yieldNoses_3 15 rfl rfl)
theorem dX2_yieldNoses_87 : decode cX2_yieldNoses 87 = .ok (.aload_n 0, 1) := dk_42 (dk_at dksX2_yieldNoses_3 17 rfl rfl)
theorem dX2_yieldNoses_88 : decode cX2_yieldNoses 88 = .ok (.iload 5, 2) := dk_21 5 (dk_at dksX2_yieldNoses_3 18 rfl rfl)
theorem dX2_yieldNoses_90 : decode cX2_yieldNoses 90 = .ok (.ifCond .eq 7, 3) := dk_153 0 7 (dk_at dksX2_yieldNoses_3 20 rfl rfl)
theorem dX2_yieldNoses_93 : decode cX2_yieldNoses 93 = .ok (.aload_n 2, 1) := dk_44 (dk_at dksX2_yieldNoses_3 23 rfl rfl)
theorem dX2_yieldNoses_94 : decode cX2_yieldNoses 94 = .ok (.goto 4, 3) := dk_167 0 4 (dk_at dksX2_yieldNoses_4 0 rfl rfl)
theorem dX2_yieldNoses_97 : decode cX2_yieldNoses 97 = .ok (.aload_n 3, 1) := dk_45 (dk_at dksX2_yieldNoses_4 3 rfl rfl)
theorem dX2_yieldNoses_98 : decode cX2_yieldNoses 98 = .ok (.invokevirtual 222, 3) := dk_182 0 222 (dk_at dksX2_yieldNoses_4 4 rfl rfl)
theorem dX2_yieldNoses_101 : decode cX2_yieldNoses 101 = .ok (.pop, 1) := dk_87 (dk_at dksX2_yieldNoses_4 7 rfl rfl)
theorem dX2_yieldNoses_102 : decode cX2_yieldNoses 102 = .ok (.aload_n 0, 1) := dk_42 (dk_at dksX2_yieldNoses_4 8 rfl rfl)
theorem dX2_yieldNoses_103 : decode cX2_yieldNoses 103 = .ok (.invokevirtual 216, 3) := dk_182 0 216 (dk_at dksX2_yieldNoses_4 9 rfl rfl)
theorem dX2_yieldNoses_106 : decode cX2_yieldNoses 106 = .ok (.istore_n 1, 1) := dk_60 (dk_at dksX2_yieldNoses_4 12 rfl rfl)
theorem dX2_yieldNoses_107 : decode cX2_yieldNoses 107 = .ok (.goto (-102), 3) := dk_167 255 154 (dk_at dksX2_yieldNoses_4 13 rfl rfl)
theorem dX2_yieldNoses_110 : decode cX2_yieldNoses 110 = .ok (.return_, 1) := dk_177 (dk_at dksX2_yieldNoses_4 16 rfl rfl)
abbrev cX2_yields : ByteArray := prog_10_method_23_code
def yX2_yields : MethodName := ⟨RX2, "yields", "(LCartBridge$Cart;)I"⟩
def dkwX2_yields_4 : List UInt8 := [21, 4, 29, 100, 4, 96, 172]
abbrev dktX2_yields_4 : List UInt8 := dkwX2_yields_4 ++ []
def dkwX2_yields_3 : List UInt8 := [180, 0, 215, 4, 96, 181, 0, 215, 42, 89, 180, 0, 98, 4, 96, 181, 0, 98, 132, 5, 1, 167, 255, 193]
abbrev dktX2_yields_3 : List UInt8 := dkwX2_yields_3 ++ dktX2_yields_4
def dkwX2_yields_2 : List UInt8 := [182, 0, 112, 192, 0, 70, 58, 6, 25, 6, 25, 6, 180, 0, 119, 184, 0, 180, 181, 0, 119, 25, 6, 89]
abbrev dktX2_yields_2 : List UInt8 := dkwX2_yields_2 ++ dktX2_yields_3
def dkwX2_yields_1 : List UInt8 := [54, 4, 29, 54, 5, 21, 5, 21, 4, 163, 0, 62, 42, 180, 0, 12, 42, 180, 0, 27, 21, 5, 46]
abbrev dktX2_yields_1 : List UInt8 := dkwX2_yields_1 ++ dktX2_yields_2
def dkwX2_yields_0 : List UInt8 := [42, 43, 182, 0, 202, 61, 28, 43, 180, 0, 156, 184, 0, 206, 62, 28, 43, 180, 0, 156, 184, 0, 212]
abbrev dktX2_yields_0 : List UInt8 := dkwX2_yields_0 ++ dktX2_yields_1
theorem dksX2_yields_0 : cX2_yields.data.toList.drop 0 = dktX2_yields_0 := by decide +kernel
theorem dksX2_yields_1 : cX2_yields.data.toList.drop 23 = dktX2_yields_1 := dk_seg dksX2_yields_0 23 rfl rfl
theorem dksX2_yields_2 : cX2_yields.data.toList.drop 46 = dktX2_yields_2 := dk_seg dksX2_yields_1 23 rfl rfl
theorem dksX2_yields_3 : cX2_yields.data.toList.drop 70 = dktX2_yields_3 := dk_seg dksX2_yields_2 24 rfl rfl
theorem dksX2_yields_4 : cX2_yields.data.toList.drop 94 = dktX2_yields_4 := dk_seg dksX2_yields_3 24 rfl rfl
theorem dX2_yields_0 : decode cX2_yields 0 = .ok (.aload_n 0, 1) := dk_42 (dk_at dksX2_yields_0 0 rfl rfl)
theorem dX2_yields_1 : decode cX2_yields 1 = .ok (.aload_n 1, 1) := dk_43 (dk_at dksX2_yields_0 1 rfl rfl)
theorem dX2_yields_2 : decode cX2_yields 2 = .ok (.invokevirtual 202, 3) := dk_182 0 202 (dk_at dksX2_yields_0 2 rfl rfl)
theorem dX2_yields_5 : decode cX2_yields 5 = .ok (.istore_n 2, 1) := dk_61 (dk_at dksX2_yields_0 5 rfl rfl)
theorem dX2_yields_6 : decode cX2_yields 6 = .ok (.iload_n 2, 1) := dk_28 (dk_at dksX2_yields_0 6 rfl rfl)
theorem dX2_yields_7 : decode cX2_yields 7 = .ok (.aload_n 1, 1) := dk_43 (dk_at dksX2_yields_0 7 rfl rfl)
theorem dX2_yields_8 : decode cX2_yields 8 = .ok (.getfield 156, 3) := dk_180 0 156 (dk_at dksX2_yields_0 8 rfl rfl)
theorem dX2_yields_11 : decode cX2_yields 11 = .ok (.invokestatic 206, 3) := dk_184 0 206 (dk_at dksX2_yields_0 11 rfl rfl)
theorem dX2_yields_14 : decode cX2_yields 14 = .ok (.istore_n 3, 1) := dk_62 (dk_at dksX2_yields_0 14 rfl rfl)
theorem dX2_yields_15 : decode cX2_yields 15 = .ok (.iload_n 2, 1) := dk_28 (dk_at dksX2_yields_0 15 rfl rfl)
theorem dX2_yields_16 : decode cX2_yields 16 = .ok (.aload_n 1, 1) := dk_43 (dk_at dksX2_yields_0 16 rfl rfl)
theorem dX2_yields_17 : decode cX2_yields 17 = .ok (.getfield 156, 3) := dk_180 0 156 (dk_at dksX2_yields_0 17 rfl rfl)
theorem dX2_yields_20 : decode cX2_yields 20 = .ok (.invokestatic 212, 3) := dk_184 0 212 (dk_at dksX2_yields_0 20 rfl rfl)
theorem dX2_yields_23 : decode cX2_yields 23 = .ok (.istore 4, 2) := dk_54 4 (dk_at dksX2_yields_1 0 rfl rfl)
theorem dX2_yields_25 : decode cX2_yields 25 = .ok (.iload_n 3, 1) := dk_29 (dk_at dksX2_yields_1 2 rfl rfl)
theorem dX2_yields_26 : decode cX2_yields 26 = .ok (.istore 5, 2) := dk_54 5 (dk_at dksX2_yields_1 3 rfl rfl)
theorem dX2_yields_28 : decode cX2_yields 28 = .ok (.iload 5, 2) := dk_21 5 (dk_at dksX2_yields_1 5 rfl rfl)
theorem dX2_yields_30 : decode cX2_yields 30 = .ok (.iload 4, 2) := dk_21 4 (dk_at dksX2_yields_1 7 rfl rfl)
theorem dX2_yields_32 : decode cX2_yields 32 = .ok (.if_icmp .gt 62, 3) := dk_163 0 62 (dk_at dksX2_yields_1 9 rfl rfl)
theorem dX2_yields_35 : decode cX2_yields 35 = .ok (.aload_n 0, 1) := dk_42 (dk_at dksX2_yields_1 12 rfl rfl)
theorem dX2_yields_36 : decode cX2_yields 36 = .ok (.getfield 12, 3) := dk_180 0 12 (dk_at dksX2_yields_1 13 rfl rfl)
theorem dX2_yields_39 : decode cX2_yields 39 = .ok (.aload_n 0, 1) := dk_42 (dk_at dksX2_yields_1 16 rfl rfl)
theorem dX2_yields_40 : decode cX2_yields 40 = .ok (.getfield 27, 3) := dk_180 0 27 (dk_at dksX2_yields_1 17 rfl rfl)
theorem dX2_yields_43 : decode cX2_yields 43 = .ok (.iload 5, 2) := dk_21 5 (dk_at dksX2_yields_1 20 rfl rfl)
theorem dX2_yields_45 : decode cX2_yields 45 = .ok (.iaload, 1) := dk_46 (dk_at dksX2_yields_1 22 rfl rfl)
theorem dX2_yields_46 : decode cX2_yields 46 = .ok (.invokevirtual 112, 3) := dk_182 0 112 (dk_at dksX2_yields_2 0 rfl rfl)
theorem dX2_yields_49 : decode cX2_yields 49 = .ok (.checkcast 70, 3) := dk_192 0 70 (dk_at dksX2_yields_2 3 rfl rfl)
theorem dX2_yields_52 : decode cX2_yields 52 = .ok (.astore 6, 2) := dk_58 6 (dk_at dksX2_yields_2 6 rfl rfl)
theorem dX2_yields_54 : decode cX2_yields 54 = .ok (.aload 6, 2) := dk_25 6 (dk_at dksX2_yields_2 8 rfl rfl)
theorem dX2_yields_56 : decode cX2_yields 56 = .ok (.aload 6, 2) := dk_25 6 (dk_at dksX2_yields_2 10 rfl rfl)
theorem dX2_yields_58 : decode cX2_yields 58 = .ok (.getfield 119, 3) := dk_180 0 119 (dk_at dksX2_yields_2 12 rfl rfl)
theorem dX2_yields_61 : decode cX2_yields 61 = .ok (.invokestatic 180, 3) := dk_184 0 180 (dk_at dksX2_yields_2 15 rfl rfl)
theorem dX2_yields_64 : decode cX2_yields 64 = .ok (.putfield 119, 3) := dk_181 0 119 (dk_at dksX2_yields_2 18 rfl rfl)
theorem dX2_yields_67 : decode cX2_yields 67 = .ok (.aload 6, 2) := dk_25 6 (dk_at dksX2_yields_2 21 rfl rfl)
theorem dX2_yields_69 : decode cX2_yields 69 = .ok (.dup, 1) := dk_89 (dk_at dksX2_yields_2 23 rfl rfl)
theorem dX2_yields_70 : decode cX2_yields 70 = .ok (.getfield 215, 3) := dk_180 0 215 (dk_at dksX2_yields_3 0 rfl rfl)
theorem dX2_yields_73 : decode cX2_yields 73 = .ok (.iconst 1, 1) := dk_4 (dk_at dksX2_yields_3 3 rfl rfl)
theorem dX2_yields_74 : decode cX2_yields 74 = .ok (.iadd, 1) := dk_96 (dk_at dksX2_yields_3 4 rfl rfl)
theorem dX2_yields_75 : decode cX2_yields 75 = .ok (.putfield 215, 3) := dk_181 0 215 (dk_at dksX2_yields_3 5 rfl rfl)
theorem dX2_yields_78 : decode cX2_yields 78 = .ok (.aload_n 0, 1) := dk_42 (dk_at dksX2_yields_3 8 rfl rfl)
theorem dX2_yields_79 : decode cX2_yields 79 = .ok (.dup, 1) := dk_89 (dk_at dksX2_yields_3 9 rfl rfl)
theorem dX2_yields_80 : decode cX2_yields 80 = .ok (.getfield 98, 3) := dk_180 0 98 (dk_at dksX2_yields_3 10 rfl rfl)
theorem dX2_yields_83 : decode cX2_yields 83 = .ok (.iconst 1, 1) := dk_4 (dk_at dksX2_yields_3 13 rfl rfl)
theorem dX2_yields_84 : decode cX2_yields 84 = .ok (.iadd, 1) := dk_96 (dk_at dksX2_yields_3 14 rfl rfl)
theorem dX2_yields_85 : decode cX2_yields 85 = .ok (.putfield 98, 3) := dk_181 0 98 (dk_at dksX2_yields_3 15 rfl rfl)
theorem dX2_yields_88 : decode cX2_yields 88 = .ok (.iinc 5 1, 3) := dk_132 5 1 (dk_at dksX2_yields_3 18 rfl rfl)
theorem dX2_yields_91 : decode cX2_yields 91 = .ok (.goto (-63), 3) := dk_167 255 193 (dk_at dksX2_yields_3 21 rfl rfl)
theorem dX2_yields_94 : decode cX2_yields 94 = .ok (.iload 4, 2) := dk_21 4 (dk_at dksX2_yields_4 0 rfl rfl)
theorem dX2_yields_96 : decode cX2_yields 96 = .ok (.iload_n 3, 1) := dk_29 (dk_at dksX2_yields_4 2 rfl rfl)
theorem dX2_yields_97 : decode cX2_yields 97 = .ok (.isub, 1) := dk_100 (dk_at dksX2_yields_4 3 rfl rfl)
theorem dX2_yields_98 : decode cX2_yields 98 = .ok (.iconst 1, 1) := dk_4 (dk_at dksX2_yields_4 4 rfl rfl)
theorem dX2_yields_99 : decode cX2_yields 99 = .ok (.iadd, 1) := dk_96 (dk_at dksX2_yields_4 5 rfl rfl)
theorem dX2_yields_100 : decode cX2_yields 100 = .ok (.ireturn, 1) := dk_172 (dk_at dksX2_yields_4 6 rfl rfl)
abbrev cX2_waits : ByteArray := prog_10_method_19_code
def yX2_waits : MethodName := ⟨RX2, "waits", "(I)V"⟩
def dkwX2_waits_2 : List UInt8 := [181, 0, 199, 167, 255, 214, 177]
abbrev dktX2_waits_2 : List UInt8 := dkwX2_waits_2 ++ []
def dkwX2_waits_1 : List UInt8 := [192, 0, 55, 182, 0, 57, 62, 42, 180, 0, 12, 29, 182, 0, 112, 192, 0, 70, 89, 180, 0, 199, 4, 96]
abbrev dktX2_waits_1 : List UInt8 := dkwX2_waits_1 ++ dktX2_waits_2
def dkwX2_waits_0 : List UInt8 := [42, 27, 182, 0, 108, 182, 0, 41, 77, 44, 185, 0, 45, 1, 0, 153, 0, 39, 44, 185, 0, 51, 1, 0]
abbrev dktX2_waits_0 : List UInt8 := dkwX2_waits_0 ++ dktX2_waits_1
theorem dksX2_waits_0 : cX2_waits.data.toList.drop 0 = dktX2_waits_0 := by decide +kernel
theorem dksX2_waits_1 : cX2_waits.data.toList.drop 24 = dktX2_waits_1 := dk_seg dksX2_waits_0 24 rfl rfl
theorem dksX2_waits_2 : cX2_waits.data.toList.drop 48 = dktX2_waits_2 := dk_seg dksX2_waits_1 24 rfl rfl
theorem dX2_waits_0 : decode cX2_waits 0 = .ok (.aload_n 0, 1) := dk_42 (dk_at dksX2_waits_0 0 rfl rfl)
theorem dX2_waits_1 : decode cX2_waits 1 = .ok (.iload_n 1, 1) := dk_27 (dk_at dksX2_waits_0 1 rfl rfl)
theorem dX2_waits_2 : decode cX2_waits 2 = .ok (.invokevirtual 108, 3) := dk_182 0 108 (dk_at dksX2_waits_0 2 rfl rfl)
theorem dX2_waits_5 : decode cX2_waits 5 = .ok (.invokevirtual 41, 3) := dk_182 0 41 (dk_at dksX2_waits_0 5 rfl rfl)
theorem dX2_waits_8 : decode cX2_waits 8 = .ok (.astore_n 2, 1) := dk_77 (dk_at dksX2_waits_0 8 rfl rfl)
theorem dX2_waits_9 : decode cX2_waits 9 = .ok (.aload_n 2, 1) := dk_44 (dk_at dksX2_waits_0 9 rfl rfl)
theorem dX2_waits_10 : decode cX2_waits 10 = .ok (.invokeinterface 45 1, 5) := by decide +kernel
theorem dX2_waits_15 : decode cX2_waits 15 = .ok (.ifCond .eq 39, 3) := dk_153 0 39 (dk_at dksX2_waits_0 15 rfl rfl)
theorem dX2_waits_18 : decode cX2_waits 18 = .ok (.aload_n 2, 1) := dk_44 (dk_at dksX2_waits_0 18 rfl rfl)
theorem dX2_waits_19 : decode cX2_waits 19 = .ok (.invokeinterface 51 1, 5) := by decide +kernel
theorem dX2_waits_24 : decode cX2_waits 24 = .ok (.checkcast 55, 3) := dk_192 0 55 (dk_at dksX2_waits_1 0 rfl rfl)
theorem dX2_waits_27 : decode cX2_waits 27 = .ok (.invokevirtual 57, 3) := dk_182 0 57 (dk_at dksX2_waits_1 3 rfl rfl)
theorem dX2_waits_30 : decode cX2_waits 30 = .ok (.istore_n 3, 1) := dk_62 (dk_at dksX2_waits_1 6 rfl rfl)
theorem dX2_waits_31 : decode cX2_waits 31 = .ok (.aload_n 0, 1) := dk_42 (dk_at dksX2_waits_1 7 rfl rfl)
theorem dX2_waits_32 : decode cX2_waits 32 = .ok (.getfield 12, 3) := dk_180 0 12 (dk_at dksX2_waits_1 8 rfl rfl)
theorem dX2_waits_35 : decode cX2_waits 35 = .ok (.iload_n 3, 1) := dk_29 (dk_at dksX2_waits_1 11 rfl rfl)
theorem dX2_waits_36 : decode cX2_waits 36 = .ok (.invokevirtual 112, 3) := dk_182 0 112 (dk_at dksX2_waits_1 12 rfl rfl)
theorem dX2_waits_39 : decode cX2_waits 39 = .ok (.checkcast 70, 3) := dk_192 0 70 (dk_at dksX2_waits_1 15 rfl rfl)
theorem dX2_waits_42 : decode cX2_waits 42 = .ok (.dup, 1) := dk_89 (dk_at dksX2_waits_1 18 rfl rfl)
theorem dX2_waits_43 : decode cX2_waits 43 = .ok (.getfield 199, 3) := dk_180 0 199 (dk_at dksX2_waits_1 19 rfl rfl)
theorem dX2_waits_46 : decode cX2_waits 46 = .ok (.iconst 1, 1) := dk_4 (dk_at dksX2_waits_1 22 rfl rfl)
theorem dX2_waits_47 : decode cX2_waits 47 = .ok (.iadd, 1) := dk_96 (dk_at dksX2_waits_1 23 rfl rfl)
theorem dX2_waits_48 : decode cX2_waits 48 = .ok (.putfield 199, 3) := dk_181 0 199 (dk_at dksX2_waits_2 0 rfl rfl)
theorem dX2_waits_51 : decode cX2_waits 51 = .ok (.goto (-42), 3) := dk_167 255 214 (dk_at dksX2_waits_2 3 rfl rfl)
theorem dX2_waits_54 : decode cX2_waits 54 = .ok (.return_, 1) := dk_177 (dk_at dksX2_waits_2 6 rfl rfl)
abbrev cX2_isCart : ByteArray := prog_10_method_5_code
def yX2_isCart : MethodName := ⟨RX2, "isCart", "(I)Z"⟩
def dkwX2_isCart_0 : List UInt8 := [27, 3, 42, 180, 0, 12, 182, 0, 101, 4, 100, 184, 0, 104, 172]
abbrev dktX2_isCart_0 : List UInt8 := dkwX2_isCart_0 ++ []
theorem dksX2_isCart_0 : cX2_isCart.data.toList.drop 0 = dktX2_isCart_0 := by decide +kernel
theorem dX2_isCart_0 : decode cX2_isCart 0 = .ok (.iload_n 1, 1) := dk_27 (dk_at dksX2_isCart_0 0 rfl rfl)
theorem dX2_isCart_1 : decode cX2_isCart 1 = .ok (.iconst 0, 1) := dk_3 (dk_at dksX2_isCart_0 1 rfl rfl)
theorem dX2_isCart_2 : decode cX2_isCart 2 = .ok (.aload_n 0, 1) := dk_42 (dk_at dksX2_isCart_0 2 rfl rfl)
theorem dX2_isCart_3 : decode cX2_isCart 3 = .ok (.getfield 12, 3) := dk_180 0 12 (dk_at dksX2_isCart_0 3 rfl rfl)
theorem dX2_isCart_6 : decode cX2_isCart 6 = .ok (.invokevirtual 101, 3) := dk_182 0 101 (dk_at dksX2_isCart_0 6 rfl rfl)
theorem dX2_isCart_9 : decode cX2_isCart 9 = .ok (.iconst 1, 1) := dk_4 (dk_at dksX2_isCart_0 9 rfl rfl)
theorem dX2_isCart_10 : decode cX2_isCart 10 = .ok (.isub, 1) := dk_100 (dk_at dksX2_isCart_0 10 rfl rfl)
theorem dX2_isCart_11 : decode cX2_isCart 11 = .ok (.invokestatic 104, 3) := dk_184 0 104 (dk_at dksX2_isCart_0 11 rfl rfl)
theorem dX2_isCart_14 : decode cX2_isCart 14 = .ok (.ireturn, 1) := dk_172 (dk_at dksX2_isCart_0 14 rfl rfl)
abbrev cX2_there : ByteArray := prog_10_method_12_code
def yX2_there : MethodName := ⟨RX2, "there", "()I"⟩
def dkwX2_there_0 : List UInt8 := [42, 180, 0, 18, 182, 0, 101, 42, 180, 0, 21, 182, 0, 101, 96, 42, 182, 0, 126, 96, 172]
abbrev dktX2_there_0 : List UInt8 := dkwX2_there_0 ++ []
theorem dksX2_there_0 : cX2_there.data.toList.drop 0 = dktX2_there_0 := by decide +kernel
theorem dX2_there_0 : decode cX2_there 0 = .ok (.aload_n 0, 1) := dk_42 (dk_at dksX2_there_0 0 rfl rfl)
theorem dX2_there_1 : decode cX2_there 1 = .ok (.getfield 18, 3) := dk_180 0 18 (dk_at dksX2_there_0 1 rfl rfl)
theorem dX2_there_4 : decode cX2_there 4 = .ok (.invokevirtual 101, 3) := dk_182 0 101 (dk_at dksX2_there_0 4 rfl rfl)
theorem dX2_there_7 : decode cX2_there 7 = .ok (.aload_n 0, 1) := dk_42 (dk_at dksX2_there_0 7 rfl rfl)
theorem dX2_there_8 : decode cX2_there 8 = .ok (.getfield 21, 3) := dk_180 0 21 (dk_at dksX2_there_0 8 rfl rfl)
theorem dX2_there_11 : decode cX2_there 11 = .ok (.invokevirtual 101, 3) := dk_182 0 101 (dk_at dksX2_there_0 11 rfl rfl)
theorem dX2_there_14 : decode cX2_there 14 = .ok (.iadd, 1) := dk_96 (dk_at dksX2_there_0 14 rfl rfl)
theorem dX2_there_15 : decode cX2_there 15 = .ok (.aload_n 0, 1) := dk_42 (dk_at dksX2_there_0 15 rfl rfl)
theorem dX2_there_16 : decode cX2_there 16 = .ok (.invokevirtual 126, 3) := dk_182 0 126 (dk_at dksX2_there_0 16 rfl rfl)
theorem dX2_there_19 : decode cX2_there 19 = .ok (.iadd, 1) := dk_96 (dk_at dksX2_there_0 19 rfl rfl)
theorem dX2_there_20 : decode cX2_there 20 = .ok (.ireturn, 1) := dk_172 (dk_at dksX2_there_0 20 rfl rfl)
abbrev MX2_init : zM := (yX2_init, cX2_init, 2, (Option.none : Option Jvm.ClassFile.FieldType), [])
theorem kX2_init : zMk MX2_init := ⟨zt (lw_at lw_m1 56 rfl), zt (lw_at lw_m1 2 rfl), by decide +kernel, by decide, by decide +kernel⟩
abbrev MX2_heads : zM := (yX2_heads, cX2_heads, 3, (Option.some Jvm.ClassFile.FieldType.boolean), [])
theorem kX2_heads : zMk MX2_heads := ⟨zt (lw_at lw_m1 231 rfl), zt (lw_at lw_m1 2 rfl), by decide +kernel, by decide, by decide +kernel⟩
abbrev MX2_runLoad : zM := (yX2_runLoad, cX2_runLoad, 5, (Option.some Jvm.ClassFile.FieldType.int), [])
theorem kX2_runLoad : zMk MX2_runLoad := ⟨zt (lw_at lw_m2 158 rfl), zt (lw_at lw_m1 2 rfl), by decide +kernel, by decide, by decide +kernel⟩
abbrev MX2_step : zM := (yX2_step, cX2_step, 1, (Option.some Jvm.ClassFile.FieldType.int), [])
theorem kX2_step : zMk MX2_step := ⟨zt (lw_at lw_m2 164 rfl), zt (lw_at lw_m1 2 rfl), by decide +kernel, by decide, by decide +kernel⟩
abbrev MX2_runEnd : zM := (yX2_runEnd, cX2_runEnd, 4, (Option.some Jvm.ClassFile.FieldType.int), [])
theorem kX2_runEnd : zMk MX2_runEnd := ⟨zt (lw_at lw_m2 173 rfl), zt (lw_at lw_m1 2 rfl), by decide +kernel, by decide, by decide +kernel⟩
abbrev MX2_nose : zM := (yX2_nose, cX2_nose, 2, (Option.some Jvm.ClassFile.FieldType.int), [])
theorem kX2_nose : zMk MX2_nose := ⟨zt (lw_at lw_m2 187 rfl), zt (lw_at lw_m1 2 rfl), by decide +kernel, by decide, by decide +kernel⟩
abbrev MX2_onBridge : zM := (yX2_onBridge, cX2_onBridge, 3, (Option.some Jvm.ClassFile.FieldType.int), [])
theorem kX2_onBridge : zMk MX2_onBridge := ⟨zt (lw_at lw_m5 139 rfl), zt (lw_at lw_m1 2 rfl), by decide +kernel, by decide, by decide +kernel⟩
abbrev MX2_copy : zM := (yX2_copy, cX2_copy, 4, (Option.some (Jvm.ClassFile.FieldType.object "CartBridge$State")), [])
theorem kX2_copy : zMk MX2_copy := ⟨zt (lw_at lw_m5 147 rfl), zt (lw_at lw_m1 2 rfl), by decide +kernel, by decide, by decide +kernel⟩
abbrev MX2_adds : zM := (yX2_adds, cX2_adds, 4, (Option.none : Option Jvm.ClassFile.FieldType), [])
theorem kX2_adds : zMk MX2_adds := ⟨zt (lw_at lw_m6 8 rfl), zt (lw_at lw_m1 2 rfl), by decide +kernel, by decide, by decide +kernel⟩
abbrev MX2_row : zM := (yX2_row, cX2_row, 2, (Option.some (Jvm.ClassFile.FieldType.object "java/util/ArrayList")), [])
theorem kX2_row : zMk MX2_row := ⟨zt (lw_at lw_m6 147 rfl), zt (lw_at lw_m1 2 rfl), by decide +kernel, by decide, by decide +kernel⟩
abbrev MX2_tick : zM := (yX2_tick, cX2_tick, 2, (Option.some Jvm.ClassFile.FieldType.int), [])
theorem kX2_tick : zMk MX2_tick := ⟨zt (lw_at lw_m6 159 rfl), zt (lw_at lw_m1 2 rfl), by decide +kernel, by decide, by decide +kernel⟩
abbrev MX2_goOn : zM := (yX2_goOn, cX2_goOn, 4, (Option.none : Option Jvm.ClassFile.FieldType), [])
theorem kX2_goOn : zMk MX2_goOn := ⟨zt (lw_at lw_m6 164 rfl), zt (lw_at lw_m1 2 rfl), by decide +kernel, by decide, by decide +kernel⟩
abbrev MX2_end : zM := (yX2_end, cX2_end, 2, (Option.some Jvm.ClassFile.FieldType.int), [])
theorem kX2_end : zMk MX2_end := ⟨zt (lw_at lw_m6 168 rfl), zt (lw_at lw_m1 2 rfl), by decide +kernel, by decide, by decide +kernel⟩
abbrev MX2_goesOn : zM := (yX2_goesOn, cX2_goesOn, 3, (Option.none : Option Jvm.ClassFile.FieldType), [])
theorem kX2_goesOn : zMk MX2_goesOn := ⟨zt (lw_at lw_m6 172 rfl), zt (lw_at lw_m1 2 rfl), by decide +kernel, by decide, by decide +kernel⟩
abbrev MX2_goesOff : zM := (yX2_goesOff, cX2_goesOff, 3, (Option.none : Option Jvm.ClassFile.FieldType), [])
theorem kX2_goesOff : zMk MX2_goesOff := ⟨zt (lw_at lw_m6 176 rfl), zt (lw_at lw_m1 2 rfl), by decide +kernel, by decide, by decide +kernel⟩
abbrev MX2_takeTurns : zM := (yX2_takeTurns, cX2_takeTurns, 2, (Option.none : Option Jvm.ClassFile.FieldType), [])
theorem kX2_takeTurns : zMk MX2_takeTurns := ⟨zt (lw_at lw_m6 213 rfl), zt (lw_at lw_m1 2 rfl), by decide +kernel, by decide, by decide +kernel⟩
abbrev MX2_sends : zM := (yX2_sends, cX2_sends, 3, (Option.none : Option Jvm.ClassFile.FieldType), [])
theorem kX2_sends : zMk MX2_sends := ⟨zt (lw_at lw_m6 222 rfl), zt (lw_at lw_m1 2 rfl), by decide +kernel, by decide, by decide +kernel⟩
abbrev MX2_isOncoming : zM := (yX2_isOncoming, cX2_isOncoming, 3, (Option.some Jvm.ClassFile.FieldType.boolean), [])
theorem kX2_isOncoming : zMk MX2_isOncoming := ⟨zt (lw_at lw_m7 12 rfl), zt (lw_at lw_m1 2 rfl), by decide +kernel, by decide, by decide +kernel⟩
abbrev MX2_rowLoad : zM := (yX2_rowLoad, cX2_rowLoad, 5, (Option.some Jvm.ClassFile.FieldType.int), [])
theorem kX2_rowLoad : zMk MX2_rowLoad := ⟨zt (lw_at lw_m7 36 rfl), zt (lw_at lw_m1 2 rfl), by decide +kernel, by decide, by decide +kernel⟩
abbrev MX2_yieldNoses : zM := (yX2_yieldNoses, cX2_yieldNoses, 6, (Option.none : Option Jvm.ClassFile.FieldType), [])
theorem kX2_yieldNoses : zMk MX2_yieldNoses := ⟨zt (lw_at lw_m7 72 rfl), zt (lw_at lw_m1 2 rfl), by decide +kernel, by decide, by decide +kernel⟩
abbrev MX2_yields : zM := (yX2_yields, cX2_yields, 7, (Option.some Jvm.ClassFile.FieldType.int), [])
theorem kX2_yields : zMk MX2_yields := ⟨zt (lw_at lw_m7 78 rfl), zt (lw_at lw_m1 2 rfl), by decide +kernel, by decide, by decide +kernel⟩
abbrev MX2_waits : zM := (yX2_waits, cX2_waits, 4, (Option.none : Option Jvm.ClassFile.FieldType), [])
theorem kX2_waits : zMk MX2_waits := ⟨zt (lw_at lw_m7 85 rfl), zt (lw_at lw_m1 2 rfl), by decide +kernel, by decide, by decide +kernel⟩
abbrev MX2_isCart : zM := (yX2_isCart, cX2_isCart, 2, (Option.some Jvm.ClassFile.FieldType.boolean), [])
theorem kX2_isCart : zMk MX2_isCart := ⟨zt (lw_at lw_m7 125 rfl), zt (lw_at lw_m1 2 rfl), by decide +kernel, by decide, by decide +kernel⟩
abbrev MX2_there : zM := (yX2_there, cX2_there, 1, (Option.some Jvm.ClassFile.FieldType.int), [])
theorem kX2_there : zMk MX2_there := ⟨zt (lw_at lw_m8 122 rfl), zt (lw_at lw_m1 2 rfl), by decide +kernel, by decide, by decide +kernel⟩
/-! CartBridge$Reason -/
set_option maxRecDepth 100000
abbrev cX4_init : ByteArray := prog_9_method_1_code
def yX4_init : MethodName := ⟨RX4, "<init>", "(IILCartBridge$Reason;)V"⟩
def dkwX4_init_0 : List UInt8 := [42, 183, 0, 1, 42, 27, 181, 0, 7, 42, 28, 181, 0, 13, 42, 45, 181, 0, 16, 177]
abbrev dktX4_init_0 : List UInt8 := dkwX4_init_0 ++ []
theorem dksX4_init_0 : cX4_init.data.toList.drop 0 = dktX4_init_0 := by decide +kernel
theorem dX4_init_0 : decode cX4_init 0 = .ok (.aload_n 0, 1) := dk_42 (dk_at dksX4_init_0 0 rfl rfl)
theorem dX4_init_1 : decode cX4_init 1 = .ok (.invokespecial 1, 3) := dk_183 0 1 (dk_at dksX4_init_0 1 rfl rfl)
theorem dX4_init_4 : decode cX4_init 4 = .ok (.aload_n 0, 1) := dk_42 (dk_at dksX4_init_0 4 rfl rfl)
theorem dX4_init_5 : decode cX4_init 5 = .ok (.iload_n 1, 1) := dk_27 (dk_at dksX4_init_0 5 rfl rfl)
theorem dX4_init_6 : decode cX4_init 6 = .ok (.putfield 7, 3) := dk_181 0 7 (dk_at dksX4_init_0 6 rfl rfl)
theorem dX4_init_9 : decode cX4_init 9 = .ok (.aload_n 0, 1) := dk_42 (dk_at dksX4_init_0 9 rfl rfl)
theorem dX4_init_10 : decode cX4_init 10 = .ok (.iload_n 2, 1) := dk_28 (dk_at dksX4_init_0 10 rfl rfl)
theorem dX4_init_11 : decode cX4_init 11 = .ok (.putfield 13, 3) := dk_181 0 13 (dk_at dksX4_init_0 11 rfl rfl)
theorem dX4_init_14 : decode cX4_init 14 = .ok (.aload_n 0, 1) := dk_42 (dk_at dksX4_init_0 14 rfl rfl)
theorem dX4_init_15 : decode cX4_init 15 = .ok (.aload_n 3, 1) := dk_45 (dk_at dksX4_init_0 15 rfl rfl)
theorem dX4_init_16 : decode cX4_init 16 = .ok (.putfield 16, 3) := dk_181 0 16 (dk_at dksX4_init_0 16 rfl rfl)
theorem dX4_init_19 : decode cX4_init 19 = .ok (.return_, 1) := dk_177 (dk_at dksX4_init_0 19 rfl rfl)
abbrev MX4_init : zM := (yX4_init, cX4_init, 4, (Option.none : Option Jvm.ClassFile.FieldType), [])
theorem kX4_init : zMk MX4_init := ⟨zt (lw_at lw_m6 53 rfl), zt (lw_at lw_m1 12 rfl), by decide +kernel, by decide, by decide +kernel⟩
/-! CartBridge$Cart -/
set_option maxRecDepth 100000
abbrev cX5_waitedByTicks : ByteArray := prog_2_method_5_code
def yX5_waitedByTicks : MethodName := ⟨RX5, "waitedByTicks", "(I)I"⟩
def dkwX5_waitedByTicks_1 : List UInt8 := [180, 0, 45, 172]
abbrev dktX5_waitedByTicks_1 : List UInt8 := dkwX5_waitedByTicks_1 ++ []
def dkwX5_waitedByTicks_0 : List UInt8 := [42, 180, 0, 9, 154, 0, 17, 42, 180, 0, 45, 27, 96, 42, 180, 0, 33, 100, 167, 0, 7, 42]
abbrev dktX5_waitedByTicks_0 : List UInt8 := dkwX5_waitedByTicks_0 ++ dktX5_waitedByTicks_1
theorem dksX5_waitedByTicks_0 : cX5_waitedByTicks.data.toList.drop 0 = dktX5_waitedByTicks_0 := by decide +kernel
theorem dksX5_waitedByTicks_1 : cX5_waitedByTicks.data.toList.drop 22 = dktX5_waitedByTicks_1 := dk_seg dksX5_waitedByTicks_0 22 rfl rfl
theorem dX5_waitedByTicks_0 : decode cX5_waitedByTicks 0 = .ok (.aload_n 0, 1) := dk_42 (dk_at dksX5_waitedByTicks_0 0 rfl rfl)
theorem dX5_waitedByTicks_1 : decode cX5_waitedByTicks 1 = .ok (.getfield 9, 3) := dk_180 0 9 (dk_at dksX5_waitedByTicks_0 1 rfl rfl)
theorem dX5_waitedByTicks_4 : decode cX5_waitedByTicks 4 = .ok (.ifCond .ne 17, 3) := dk_154 0 17 (dk_at dksX5_waitedByTicks_0 4 rfl rfl)
theorem dX5_waitedByTicks_7 : decode cX5_waitedByTicks 7 = .ok (.aload_n 0, 1) := dk_42 (dk_at dksX5_waitedByTicks_0 7 rfl rfl)
theorem dX5_waitedByTicks_8 : decode cX5_waitedByTicks 8 = .ok (.getfield 45, 3) := dk_180 0 45 (dk_at dksX5_waitedByTicks_0 8 rfl rfl)
theorem dX5_waitedByTicks_11 : decode cX5_waitedByTicks 11 = .ok (.iload_n 1, 1) := dk_27 (dk_at dksX5_waitedByTicks_0 11 rfl rfl)
theorem dX5_waitedByTicks_12 : decode cX5_waitedByTicks 12 = .ok (.iadd, 1) := dk_96 (dk_at dksX5_waitedByTicks_0 12 rfl rfl)
theorem dX5_waitedByTicks_13 : decode cX5_waitedByTicks 13 = .ok (.aload_n 0, 1) := dk_42 (dk_at dksX5_waitedByTicks_0 13 rfl rfl)
theorem dX5_waitedByTicks_14 : decode cX5_waitedByTicks 14 = .ok (.getfield 33, 3) := dk_180 0 33 (dk_at dksX5_waitedByTicks_0 14 rfl rfl)
theorem dX5_waitedByTicks_17 : decode cX5_waitedByTicks 17 = .ok (.isub, 1) := dk_100 (dk_at dksX5_waitedByTicks_0 17 rfl rfl)
theorem dX5_waitedByTicks_18 : decode cX5_waitedByTicks 18 = .ok (.goto 7, 3) := dk_167 0 7 (dk_at dksX5_waitedByTicks_0 18 rfl rfl)
theorem dX5_waitedByTicks_21 : decode cX5_waitedByTicks 21 = .ok (.aload_n 0, 1) := dk_42 (dk_at dksX5_waitedByTicks_0 21 rfl rfl)
theorem dX5_waitedByTicks_22 : decode cX5_waitedByTicks 22 = .ok (.getfield 45, 3) := dk_180 0 45 (dk_at dksX5_waitedByTicks_1 0 rfl rfl)
theorem dX5_waitedByTicks_25 : decode cX5_waitedByTicks 25 = .ok (.ireturn, 1) := dk_172 (dk_at dksX5_waitedByTicks_1 3 rfl rfl)
abbrev cX5_copy : ByteArray := prog_2_method_2_code
def yX5_copy : MethodName := ⟨RX5, "copy", "()LCartBridge$Cart;"⟩
def dkwX5_copy_3 : List UInt8 := [43, 42, 180, 0, 45, 181, 0, 45, 43, 176]
abbrev dktX5_copy_3 : List UInt8 := dkwX5_copy_3 ++ []
def dkwX5_copy_2 : List UInt8 := [43, 42, 180, 0, 39, 181, 0, 39, 43, 42, 180, 0, 42, 181, 0, 42, 43, 42, 180, 0, 33, 181, 0, 33]
abbrev dktX5_copy_2 : List UInt8 := dkwX5_copy_2 ++ dktX5_copy_3
def dkwX5_copy_1 : List UInt8 := [43, 42, 180, 0, 9, 181, 0, 9, 43, 42, 180, 0, 15, 181, 0, 15, 43, 42, 180, 0, 18, 181, 0, 18]
abbrev dktX5_copy_1 : List UInt8 := dkwX5_copy_1 ++ dktX5_copy_2
def dkwX5_copy_0 : List UInt8 := [187, 0, 10, 89, 42, 180, 0, 21, 42, 180, 0, 24, 42, 180, 0, 27, 42, 180, 0, 30, 183, 0, 36, 76]
abbrev dktX5_copy_0 : List UInt8 := dkwX5_copy_0 ++ dktX5_copy_1
theorem dksX5_copy_0 : cX5_copy.data.toList.drop 0 = dktX5_copy_0 := by decide +kernel
theorem dksX5_copy_1 : cX5_copy.data.toList.drop 24 = dktX5_copy_1 := dk_seg dksX5_copy_0 24 rfl rfl
theorem dksX5_copy_2 : cX5_copy.data.toList.drop 48 = dktX5_copy_2 := dk_seg dksX5_copy_1 24 rfl rfl
theorem dksX5_copy_3 : cX5_copy.data.toList.drop 72 = dktX5_copy_3 := dk_seg dksX5_copy_2 24 rfl rfl
theorem dX5_copy_0 : decode cX5_copy 0 = .ok (.new 10, 3) := dk_187 0 10 (dk_at dksX5_copy_0 0 rfl rfl)
theorem dX5_copy_3 : decode cX5_copy 3 = .ok (.dup, 1) := dk_89 (dk_at dksX5_copy_0 3 rfl rfl)
theorem dX5_copy_4 : decode cX5_copy 4 = .ok (.aload_n 0, 1) := dk_42 (dk_at dksX5_copy_0 4 rfl rfl)
theorem dX5_copy_5 : decode cX5_copy 5 = .ok (.getfield 21, 3) := dk_180 0 21 (dk_at dksX5_copy_0 5 rfl rfl)
theorem dX5_copy_8 : decode cX5_copy 8 = .ok (.aload_n 0, 1) := dk_42 (dk_at dksX5_copy_0 8 rfl rfl)
theorem dX5_copy_9 : decode cX5_copy 9 = .ok (.getfield 24, 3) := dk_180 0 24 (dk_at dksX5_copy_0 9 rfl rfl)
theorem dX5_copy_12 : decode cX5_copy 12 = .ok (.aload_n 0, 1) := dk_42 (dk_at dksX5_copy_0 12 rfl rfl)
theorem dX5_copy_13 : decode cX5_copy 13 = .ok (.getfield 27, 3) := dk_180 0 27 (dk_at dksX5_copy_0 13 rfl rfl)
theorem dX5_copy_16 : decode cX5_copy 16 = .ok (.aload_n 0, 1) := dk_42 (dk_at dksX5_copy_0 16 rfl rfl)
theorem dX5_copy_17 : decode cX5_copy 17 = .ok (.getfield 30, 3) := dk_180 0 30 (dk_at dksX5_copy_0 17 rfl rfl)
theorem dX5_copy_20 : decode cX5_copy 20 = .ok (.invokespecial 36, 3) := dk_183 0 36 (dk_at dksX5_copy_0 20 rfl rfl)
theorem dX5_copy_23 : decode cX5_copy 23 = .ok (.astore_n 1, 1) := dk_76 (dk_at dksX5_copy_0 23 rfl rfl)
theorem dX5_copy_24 : decode cX5_copy 24 = .ok (.aload_n 1, 1) := dk_43 (dk_at dksX5_copy_1 0 rfl rfl)
theorem dX5_copy_25 : decode cX5_copy 25 = .ok (.aload_n 0, 1) := dk_42 (dk_at dksX5_copy_1 1 rfl rfl)
theorem dX5_copy_26 : decode cX5_copy 26 = .ok (.getfield 9, 3) := dk_180 0 9 (dk_at dksX5_copy_1 2 rfl rfl)
theorem dX5_copy_29 : decode cX5_copy 29 = .ok (.putfield 9, 3) := dk_181 0 9 (dk_at dksX5_copy_1 5 rfl rfl)
theorem dX5_copy_32 : decode cX5_copy 32 = .ok (.aload_n 1, 1) := dk_43 (dk_at dksX5_copy_1 8 rfl rfl)
theorem dX5_copy_33 : decode cX5_copy 33 = .ok (.aload_n 0, 1) := dk_42 (dk_at dksX5_copy_1 9 rfl rfl)
theorem dX5_copy_34 : decode cX5_copy 34 = .ok (.getfield 15, 3) := dk_180 0 15 (dk_at dksX5_copy_1 10 rfl rfl)
theorem dX5_copy_37 : decode cX5_copy 37 = .ok (.putfield 15, 3) := dk_181 0 15 (dk_at dksX5_copy_1 13 rfl rfl)
theorem dX5_copy_40 : decode cX5_copy 40 = .ok (.aload_n 1, 1) := dk_43 (dk_at dksX5_copy_1 16 rfl rfl)
theorem dX5_copy_41 : decode cX5_copy 41 = .ok (.aload_n 0, 1) := dk_42 (dk_at dksX5_copy_1 17 rfl rfl)
theorem dX5_copy_42 : decode cX5_copy 42 = .ok (.getfield 18, 3) := dk_180 0 18 (dk_at dksX5_copy_1 18 rfl rfl)
theorem dX5_copy_45 : decode cX5_copy 45 = .ok (.putfield 18, 3) := dk_181 0 18 (dk_at dksX5_copy_1 21 rfl rfl)
theorem dX5_copy_48 : decode cX5_copy 48 = .ok (.aload_n 1, 1) := dk_43 (dk_at dksX5_copy_2 0 rfl rfl)
theorem dX5_copy_49 : decode cX5_copy 49 = .ok (.aload_n 0, 1) := dk_42 (dk_at dksX5_copy_2 1 rfl rfl)
theorem dX5_copy_50 : decode cX5_copy 50 = .ok (.getfield 39, 3) := dk_180 0 39 (dk_at dksX5_copy_2 2 rfl rfl)
theorem dX5_copy_53 : decode cX5_copy 53 = .ok (.putfield 39, 3) := dk_181 0 39 (dk_at dksX5_copy_2 5 rfl rfl)
theorem dX5_copy_56 : decode cX5_copy 56 = .ok (.aload_n 1, 1) := dk_43 (dk_at dksX5_copy_2 8 rfl rfl)
theorem dX5_copy_57 : decode cX5_copy 57 = .ok (.aload_n 0, 1) := dk_42 (dk_at dksX5_copy_2 9 rfl rfl)
theorem dX5_copy_58 : decode cX5_copy 58 = .ok (.getfield 42, 3) := dk_180 0 42 (dk_at dksX5_copy_2 10 rfl rfl)
theorem dX5_copy_61 : decode cX5_copy 61 = .ok (.putfield 42, 3) := dk_181 0 42 (dk_at dksX5_copy_2 13 rfl rfl)
theorem dX5_copy_64 : decode cX5_copy 64 = .ok (.aload_n 1, 1) := dk_43 (dk_at dksX5_copy_2 16 rfl rfl)
theorem dX5_copy_65 : decode cX5_copy 65 = .ok (.aload_n 0, 1) := dk_42 (dk_at dksX5_copy_2 17 rfl rfl)
theorem dX5_copy_66 : decode cX5_copy 66 = .ok (.getfield 33, 3) := dk_180 0 33 (dk_at dksX5_copy_2 18 rfl rfl)
theorem dX5_copy_69 : decode cX5_copy 69 = .ok (.putfield 33, 3) := dk_181 0 33 (dk_at dksX5_copy_2 21 rfl rfl)
theorem dX5_copy_72 : decode cX5_copy 72 = .ok (.aload_n 1, 1) := dk_43 (dk_at dksX5_copy_3 0 rfl rfl)
theorem dX5_copy_73 : decode cX5_copy 73 = .ok (.aload_n 0, 1) := dk_42 (dk_at dksX5_copy_3 1 rfl rfl)
theorem dX5_copy_74 : decode cX5_copy 74 = .ok (.getfield 45, 3) := dk_180 0 45 (dk_at dksX5_copy_3 2 rfl rfl)
theorem dX5_copy_77 : decode cX5_copy 77 = .ok (.putfield 45, 3) := dk_181 0 45 (dk_at dksX5_copy_3 5 rfl rfl)
theorem dX5_copy_80 : decode cX5_copy 80 = .ok (.aload_n 1, 1) := dk_43 (dk_at dksX5_copy_3 8 rfl rfl)
theorem dX5_copy_81 : decode cX5_copy 81 = .ok (.areturn, 1) := dk_176 (dk_at dksX5_copy_3 9 rfl rfl)
abbrev cX5_init : ByteArray := prog_2_method_1_code
def yX5_init : MethodName := ⟨RX5, "<init>", "(IIII)V"⟩
def dkwX5_init_1 : List UInt8 := [42, 28, 181, 0, 24, 42, 29, 181, 0, 27, 42, 21, 4, 181, 0, 30, 42, 21, 4, 181, 0, 33, 177]
abbrev dktX5_init_1 : List UInt8 := dkwX5_init_1 ++ []
def dkwX5_init_0 : List UInt8 := [42, 183, 0, 3, 42, 3, 181, 0, 9, 42, 2, 181, 0, 15, 42, 2, 181, 0, 18, 42, 27, 181, 0, 21]
abbrev dktX5_init_0 : List UInt8 := dkwX5_init_0 ++ dktX5_init_1
theorem dksX5_init_0 : cX5_init.data.toList.drop 0 = dktX5_init_0 := by decide +kernel
theorem dksX5_init_1 : cX5_init.data.toList.drop 24 = dktX5_init_1 := dk_seg dksX5_init_0 24 rfl rfl
theorem dX5_init_0 : decode cX5_init 0 = .ok (.aload_n 0, 1) := dk_42 (dk_at dksX5_init_0 0 rfl rfl)
theorem dX5_init_1 : decode cX5_init 1 = .ok (.invokespecial 3, 3) := dk_183 0 3 (dk_at dksX5_init_0 1 rfl rfl)
theorem dX5_init_4 : decode cX5_init 4 = .ok (.aload_n 0, 1) := dk_42 (dk_at dksX5_init_0 4 rfl rfl)
theorem dX5_init_5 : decode cX5_init 5 = .ok (.iconst 0, 1) := dk_3 (dk_at dksX5_init_0 5 rfl rfl)
theorem dX5_init_6 : decode cX5_init 6 = .ok (.putfield 9, 3) := dk_181 0 9 (dk_at dksX5_init_0 6 rfl rfl)
theorem dX5_init_9 : decode cX5_init 9 = .ok (.aload_n 0, 1) := dk_42 (dk_at dksX5_init_0 9 rfl rfl)
theorem dX5_init_10 : decode cX5_init 10 = .ok (.iconst (-1), 1) := dk_2 (dk_at dksX5_init_0 10 rfl rfl)
theorem dX5_init_11 : decode cX5_init 11 = .ok (.putfield 15, 3) := dk_181 0 15 (dk_at dksX5_init_0 11 rfl rfl)
theorem dX5_init_14 : decode cX5_init 14 = .ok (.aload_n 0, 1) := dk_42 (dk_at dksX5_init_0 14 rfl rfl)
theorem dX5_init_15 : decode cX5_init 15 = .ok (.iconst (-1), 1) := dk_2 (dk_at dksX5_init_0 15 rfl rfl)
theorem dX5_init_16 : decode cX5_init 16 = .ok (.putfield 18, 3) := dk_181 0 18 (dk_at dksX5_init_0 16 rfl rfl)
theorem dX5_init_19 : decode cX5_init 19 = .ok (.aload_n 0, 1) := dk_42 (dk_at dksX5_init_0 19 rfl rfl)
theorem dX5_init_20 : decode cX5_init 20 = .ok (.iload_n 1, 1) := dk_27 (dk_at dksX5_init_0 20 rfl rfl)
theorem dX5_init_21 : decode cX5_init 21 = .ok (.putfield 21, 3) := dk_181 0 21 (dk_at dksX5_init_0 21 rfl rfl)
theorem dX5_init_24 : decode cX5_init 24 = .ok (.aload_n 0, 1) := dk_42 (dk_at dksX5_init_1 0 rfl rfl)
theorem dX5_init_25 : decode cX5_init 25 = .ok (.iload_n 2, 1) := dk_28 (dk_at dksX5_init_1 1 rfl rfl)
theorem dX5_init_26 : decode cX5_init 26 = .ok (.putfield 24, 3) := dk_181 0 24 (dk_at dksX5_init_1 2 rfl rfl)
theorem dX5_init_29 : decode cX5_init 29 = .ok (.aload_n 0, 1) := dk_42 (dk_at dksX5_init_1 5 rfl rfl)
theorem dX5_init_30 : decode cX5_init 30 = .ok (.iload_n 3, 1) := dk_29 (dk_at dksX5_init_1 6 rfl rfl)
theorem dX5_init_31 : decode cX5_init 31 = .ok (.putfield 27, 3) := dk_181 0 27 (dk_at dksX5_init_1 7 rfl rfl)
theorem dX5_init_34 : decode cX5_init 34 = .ok (.aload_n 0, 1) := dk_42 (dk_at dksX5_init_1 10 rfl rfl)
theorem dX5_init_35 : decode cX5_init 35 = .ok (.iload 4, 2) := dk_21 4 (dk_at dksX5_init_1 11 rfl rfl)
theorem dX5_init_37 : decode cX5_init 37 = .ok (.putfield 30, 3) := dk_181 0 30 (dk_at dksX5_init_1 13 rfl rfl)
theorem dX5_init_40 : decode cX5_init 40 = .ok (.aload_n 0, 1) := dk_42 (dk_at dksX5_init_1 16 rfl rfl)
theorem dX5_init_41 : decode cX5_init 41 = .ok (.iload 4, 2) := dk_21 4 (dk_at dksX5_init_1 17 rfl rfl)
theorem dX5_init_43 : decode cX5_init 43 = .ok (.putfield 33, 3) := dk_181 0 33 (dk_at dksX5_init_1 19 rfl rfl)
theorem dX5_init_46 : decode cX5_init 46 = .ok (.return_, 1) := dk_177 (dk_at dksX5_init_1 22 rfl rfl)
abbrev cX5_goes : ByteArray := prog_2_method_4_code
def yX5_goes : MethodName := ⟨RX5, "goes", "(I)V"⟩
def dkwX5_goes_0 : List UInt8 := [42, 89, 180, 0, 45, 27, 42, 180, 0, 33, 100, 96, 181, 0, 45, 177]
abbrev dktX5_goes_0 : List UInt8 := dkwX5_goes_0 ++ []
theorem dksX5_goes_0 : cX5_goes.data.toList.drop 0 = dktX5_goes_0 := by decide +kernel
theorem dX5_goes_0 : decode cX5_goes 0 = .ok (.aload_n 0, 1) := dk_42 (dk_at dksX5_goes_0 0 rfl rfl)
theorem dX5_goes_1 : decode cX5_goes 1 = .ok (.dup, 1) := dk_89 (dk_at dksX5_goes_0 1 rfl rfl)
theorem dX5_goes_2 : decode cX5_goes 2 = .ok (.getfield 45, 3) := dk_180 0 45 (dk_at dksX5_goes_0 2 rfl rfl)
theorem dX5_goes_5 : decode cX5_goes 5 = .ok (.iload_n 1, 1) := dk_27 (dk_at dksX5_goes_0 5 rfl rfl)
theorem dX5_goes_6 : decode cX5_goes 6 = .ok (.aload_n 0, 1) := dk_42 (dk_at dksX5_goes_0 6 rfl rfl)
theorem dX5_goes_7 : decode cX5_goes 7 = .ok (.getfield 33, 3) := dk_180 0 33 (dk_at dksX5_goes_0 7 rfl rfl)
theorem dX5_goes_10 : decode cX5_goes 10 = .ok (.isub, 1) := dk_100 (dk_at dksX5_goes_0 10 rfl rfl)
theorem dX5_goes_11 : decode cX5_goes 11 = .ok (.iadd, 1) := dk_96 (dk_at dksX5_goes_0 11 rfl rfl)
theorem dX5_goes_12 : decode cX5_goes 12 = .ok (.putfield 45, 3) := dk_181 0 45 (dk_at dksX5_goes_0 12 rfl rfl)
theorem dX5_goes_15 : decode cX5_goes 15 = .ok (.return_, 1) := dk_177 (dk_at dksX5_goes_0 15 rfl rfl)
abbrev cX5_isThere : ByteArray := prog_2_method_3_code
def yX5_isThere : MethodName := ⟨RX5, "isThere", "()Z"⟩
def dkwX5_isThere_0 : List UInt8 := [42, 180, 0, 9, 153, 0, 11, 42, 180, 0, 9, 4, 160, 0, 7, 4, 167, 0, 4, 3, 172]
abbrev dktX5_isThere_0 : List UInt8 := dkwX5_isThere_0 ++ []
theorem dksX5_isThere_0 : cX5_isThere.data.toList.drop 0 = dktX5_isThere_0 := by decide +kernel
theorem dX5_isThere_0 : decode cX5_isThere 0 = .ok (.aload_n 0, 1) := dk_42 (dk_at dksX5_isThere_0 0 rfl rfl)
theorem dX5_isThere_1 : decode cX5_isThere 1 = .ok (.getfield 9, 3) := dk_180 0 9 (dk_at dksX5_isThere_0 1 rfl rfl)
theorem dX5_isThere_4 : decode cX5_isThere 4 = .ok (.ifCond .eq 11, 3) := dk_153 0 11 (dk_at dksX5_isThere_0 4 rfl rfl)
theorem dX5_isThere_7 : decode cX5_isThere 7 = .ok (.aload_n 0, 1) := dk_42 (dk_at dksX5_isThere_0 7 rfl rfl)
theorem dX5_isThere_8 : decode cX5_isThere 8 = .ok (.getfield 9, 3) := dk_180 0 9 (dk_at dksX5_isThere_0 8 rfl rfl)
theorem dX5_isThere_11 : decode cX5_isThere 11 = .ok (.iconst 1, 1) := dk_4 (dk_at dksX5_isThere_0 11 rfl rfl)
theorem dX5_isThere_12 : decode cX5_isThere 12 = .ok (.if_icmp .ne 7, 3) := dk_160 0 7 (dk_at dksX5_isThere_0 12 rfl rfl)
theorem dX5_isThere_15 : decode cX5_isThere 15 = .ok (.iconst 1, 1) := dk_4 (dk_at dksX5_isThere_0 15 rfl rfl)
theorem dX5_isThere_16 : decode cX5_isThere 16 = .ok (.goto 4, 3) := dk_167 0 4 (dk_at dksX5_isThere_0 16 rfl rfl)
theorem dX5_isThere_19 : decode cX5_isThere 19 = .ok (.iconst 0, 1) := dk_3 (dk_at dksX5_isThere_0 19 rfl rfl)
theorem dX5_isThere_20 : decode cX5_isThere 20 = .ok (.ireturn, 1) := dk_172 (dk_at dksX5_isThere_0 20 rfl rfl)
abbrev cX5_word : ByteArray := prog_2_method_6_code
def yX5_word : MethodName := ⟨RX5, "word", "()Ljava/lang/String;"⟩
def dkwX5_word_3 : List UInt8 := [18, 54, 167, 0, 5, 18, 56, 176]
abbrev dktX5_word_3 : List UInt8 := dkwX5_word_3 ++ []
def dkwX5_word_2 : List UInt8 := [18, 48, 167, 0, 28, 42, 180, 0, 18, 4, 160, 0, 8, 18, 50, 167, 0, 15, 18, 52, 167, 0, 10]
abbrev dktX5_word_2 : List UInt8 := dkwX5_word_2 ++ dktX5_word_3
def dkwX5_word_1 : List UInt8 := [170, 0, 0, 0, 0, 0, 0, 56, 0, 0, 0, 0, 0, 0, 0, 2, 0, 0, 0, 28, 0, 0, 0, 33, 0, 0, 0, 51]
abbrev dktX5_word_1 : List UInt8 := dkwX5_word_1 ++ dktX5_word_2
def dkwX5_word_0 : List UInt8 := [42, 180, 0, 9]
abbrev dktX5_word_0 : List UInt8 := dkwX5_word_0 ++ dktX5_word_1
theorem dksX5_word_0 : cX5_word.data.toList.drop 0 = dktX5_word_0 := by decide +kernel
theorem dksX5_word_1 : cX5_word.data.toList.drop 4 = dktX5_word_1 := dk_seg dksX5_word_0 4 rfl rfl
theorem dksX5_word_2 : cX5_word.data.toList.drop 32 = dktX5_word_2 := dk_seg dksX5_word_1 28 rfl rfl
theorem dksX5_word_3 : cX5_word.data.toList.drop 55 = dktX5_word_3 := dk_seg dksX5_word_2 23 rfl rfl
theorem dX5_word_0 : decode cX5_word 0 = .ok (.aload_n 0, 1) := dk_42 (dk_at dksX5_word_0 0 rfl rfl)
theorem dX5_word_1 : decode cX5_word 1 = .ok (.getfield 9, 3) := dk_180 0 9 (dk_at dksX5_word_0 1 rfl rfl)
theorem dX5_word_4 : decode cX5_word 4 = .ok (.tableswitch 56 0 2 #[28, 33, 51], 28) := by decide +kernel
theorem dX5_word_32 : decode cX5_word 32 = .ok (.ldc 48, 2) := dk_18 48 (dk_at dksX5_word_2 0 rfl rfl)
theorem dX5_word_34 : decode cX5_word 34 = .ok (.goto 28, 3) := dk_167 0 28 (dk_at dksX5_word_2 2 rfl rfl)
theorem dX5_word_37 : decode cX5_word 37 = .ok (.aload_n 0, 1) := dk_42 (dk_at dksX5_word_2 5 rfl rfl)
theorem dX5_word_38 : decode cX5_word 38 = .ok (.getfield 18, 3) := dk_180 0 18 (dk_at dksX5_word_2 6 rfl rfl)
theorem dX5_word_41 : decode cX5_word 41 = .ok (.iconst 1, 1) := dk_4 (dk_at dksX5_word_2 9 rfl rfl)
theorem dX5_word_42 : decode cX5_word 42 = .ok (.if_icmp .ne 8, 3) := dk_160 0 8 (dk_at dksX5_word_2 10 rfl rfl)
theorem dX5_word_45 : decode cX5_word 45 = .ok (.ldc 50, 2) := dk_18 50 (dk_at dksX5_word_2 13 rfl rfl)
theorem dX5_word_47 : decode cX5_word 47 = .ok (.goto 15, 3) := dk_167 0 15 (dk_at dksX5_word_2 15 rfl rfl)
theorem dX5_word_50 : decode cX5_word 50 = .ok (.ldc 52, 2) := dk_18 52 (dk_at dksX5_word_2 18 rfl rfl)
theorem dX5_word_52 : decode cX5_word 52 = .ok (.goto 10, 3) := dk_167 0 10 (dk_at dksX5_word_2 20 rfl rfl)
theorem dX5_word_55 : decode cX5_word 55 = .ok (.ldc 54, 2) := dk_18 54 (dk_at dksX5_word_3 0 rfl rfl)
theorem dX5_word_57 : decode cX5_word 57 = .ok (.goto 5, 3) := dk_167 0 5 (dk_at dksX5_word_3 2 rfl rfl)
theorem dX5_word_60 : decode cX5_word 60 = .ok (.ldc 56, 2) := dk_18 56 (dk_at dksX5_word_3 5 rfl rfl)
theorem dX5_word_62 : decode cX5_word 62 = .ok (.areturn, 1) := dk_176 (dk_at dksX5_word_3 7 rfl rfl)
abbrev MX5_waitedByTicks : zM := (yX5_waitedByTicks, cX5_waitedByTicks, 2, (Option.some Jvm.ClassFile.FieldType.int), [])
theorem kX5_waitedByTicks : zMk MX5_waitedByTicks := ⟨zt (lw_at lw_m2 137 rfl), zt (lw_at lw_m1 19 rfl), by decide +kernel, by decide, by decide +kernel⟩
abbrev MX5_copy : zM := (yX5_copy, cX5_copy, 2, (Option.some (Jvm.ClassFile.FieldType.object "CartBridge$Cart")), [])
theorem kX5_copy : zMk MX5_copy := ⟨zt (lw_at lw_m5 158 rfl), zt (lw_at lw_m1 19 rfl), by decide +kernel, by decide, by decide +kernel⟩
abbrev MX5_init : zM := (yX5_init, cX5_init, 5, (Option.none : Option Jvm.ClassFile.FieldType), [])
theorem kX5_init : zMk MX5_init := ⟨zt (lw_at lw_m5 163 rfl), zt (lw_at lw_m1 19 rfl), by decide +kernel, by decide, by decide +kernel⟩
abbrev MX5_goes : zM := (yX5_goes, cX5_goes, 2, (Option.none : Option Jvm.ClassFile.FieldType), [])
theorem kX5_goes : zMk MX5_goes := ⟨zt (lw_at lw_m7 68 rfl), zt (lw_at lw_m1 19 rfl), by decide +kernel, by decide, by decide +kernel⟩
abbrev MX5_isThere : zM := (yX5_isThere, cX5_isThere, 1, (Option.some Jvm.ClassFile.FieldType.boolean), [])
theorem kX5_isThere : zMk MX5_isThere := ⟨zt (lw_at lw_m7 129 rfl), zt (lw_at lw_m1 19 rfl), by decide +kernel, by decide, by decide +kernel⟩
abbrev MX5_word : zM := (yX5_word, cX5_word, 1, (Option.some (Jvm.ClassFile.FieldType.object "java/lang/String")), [])
theorem kX5_word : zMk MX5_word := ⟨zt (lw_at lw_m9 154 rfl), zt (lw_at lw_m1 19 rfl), by decide +kernel, by decide, by decide +kernel⟩
/-! CartBridge$Law -/
set_option maxRecDepth 100000
abbrev cX6_of : ByteArray := prog_5_method_6_code
def yX6_of : MethodName := ⟨RX6, "of", "(I)LCartBridge$Law;"⟩
def dkwX6_of_3 : List UInt8 := [183, 0, 43, 167, 0, 10, 187, 0, 44, 89, 183, 0, 46, 176]
abbrev dktX6_of_3 : List UInt8 := dkwX6_of_3 ++ []
def dkwX6_of_2 : List UInt8 := [187, 0, 32, 89, 183, 0, 34, 167, 0, 30, 187, 0, 38, 89, 183, 0, 40, 167, 0, 20, 187, 0, 41, 89]
abbrev dktX6_of_2 : List UInt8 := dkwX6_of_2 ++ dktX6_of_3
def dkwX6_of_1 : List UInt8 := [170, 0, 0, 0, 0, 0, 57, 0, 0, 0, 0, 0, 0, 0, 2, 0, 0, 0, 27, 0, 0, 0, 37, 0, 0, 0, 47]
abbrev dktX6_of_1 : List UInt8 := dkwX6_of_1 ++ dktX6_of_2
def dkwX6_of_0 : List UInt8 := [26]
abbrev dktX6_of_0 : List UInt8 := dkwX6_of_0 ++ dktX6_of_1
theorem dksX6_of_0 : cX6_of.data.toList.drop 0 = dktX6_of_0 := by decide +kernel
theorem dksX6_of_1 : cX6_of.data.toList.drop 1 = dktX6_of_1 := dk_seg dksX6_of_0 1 rfl rfl
theorem dksX6_of_2 : cX6_of.data.toList.drop 28 = dktX6_of_2 := dk_seg dksX6_of_1 27 rfl rfl
theorem dksX6_of_3 : cX6_of.data.toList.drop 52 = dktX6_of_3 := dk_seg dksX6_of_2 24 rfl rfl
theorem dX6_of_0 : decode cX6_of 0 = .ok (.iload_n 0, 1) := dk_26 (dk_at dksX6_of_0 0 rfl rfl)
theorem dX6_of_1 : decode cX6_of 1 = .ok (.tableswitch 57 0 2 #[27, 37, 47], 27) := by decide +kernel
theorem dX6_of_28 : decode cX6_of 28 = .ok (.new 32, 3) := dk_187 0 32 (dk_at dksX6_of_2 0 rfl rfl)
theorem dX6_of_31 : decode cX6_of 31 = .ok (.dup, 1) := dk_89 (dk_at dksX6_of_2 3 rfl rfl)
theorem dX6_of_32 : decode cX6_of 32 = .ok (.invokespecial 34, 3) := dk_183 0 34 (dk_at dksX6_of_2 4 rfl rfl)
theorem dX6_of_35 : decode cX6_of 35 = .ok (.goto 30, 3) := dk_167 0 30 (dk_at dksX6_of_2 7 rfl rfl)
theorem dX6_of_38 : decode cX6_of 38 = .ok (.new 38, 3) := dk_187 0 38 (dk_at dksX6_of_2 10 rfl rfl)
theorem dX6_of_41 : decode cX6_of 41 = .ok (.dup, 1) := dk_89 (dk_at dksX6_of_2 13 rfl rfl)
theorem dX6_of_42 : decode cX6_of 42 = .ok (.invokespecial 40, 3) := dk_183 0 40 (dk_at dksX6_of_2 14 rfl rfl)
theorem dX6_of_45 : decode cX6_of 45 = .ok (.goto 20, 3) := dk_167 0 20 (dk_at dksX6_of_2 17 rfl rfl)
theorem dX6_of_48 : decode cX6_of 48 = .ok (.new 41, 3) := dk_187 0 41 (dk_at dksX6_of_2 20 rfl rfl)
theorem dX6_of_51 : decode cX6_of 51 = .ok (.dup, 1) := dk_89 (dk_at dksX6_of_2 23 rfl rfl)
theorem dX6_of_52 : decode cX6_of 52 = .ok (.invokespecial 43, 3) := dk_183 0 43 (dk_at dksX6_of_3 0 rfl rfl)
theorem dX6_of_55 : decode cX6_of 55 = .ok (.goto 10, 3) := dk_167 0 10 (dk_at dksX6_of_3 3 rfl rfl)
theorem dX6_of_58 : decode cX6_of 58 = .ok (.new 44, 3) := dk_187 0 44 (dk_at dksX6_of_3 6 rfl rfl)
theorem dX6_of_61 : decode cX6_of 61 = .ok (.dup, 1) := dk_89 (dk_at dksX6_of_3 9 rfl rfl)
theorem dX6_of_62 : decode cX6_of 62 = .ok (.invokespecial 46, 3) := dk_183 0 46 (dk_at dksX6_of_3 10 rfl rfl)
theorem dX6_of_65 : decode cX6_of 65 = .ok (.areturn, 1) := dk_176 (dk_at dksX6_of_3 13 rfl rfl)
abbrev cX6_described : ByteArray := prog_5_method_5_code
def yX6_described : MethodName := ⟨RX6, "described", "(LCartBridge$State;)Ljava/lang/String;"⟩
theorem dX6_described_0 : decode cX6_described 0 = .ok (.aload_n 0, 1) := by decide +kernel
theorem dX6_described_1 : decode cX6_described 1 = .ok (.invokeinterface 28 1, 5) := by decide +kernel
theorem dX6_described_6 : decode cX6_described 6 = .ok (.areturn, 1) := by decide +kernel
abbrev cX6_may : ByteArray := prog_5_method_4_code
def yX6_may : MethodName := ⟨RX6, "may", "(LCartBridge$State;I)Z"⟩
def dkwX6_may_1 : List UInt8 := [182, 0, 20, 154, 0, 18, 42, 43, 28, 185, 0, 24, 3, 0, 153, 0, 7, 4, 167, 0, 4, 3, 172]
abbrev dktX6_may_1 : List UInt8 := dkwX6_may_1 ++ []
def dkwX6_may_0 : List UInt8 := [43, 28, 182, 0, 3, 182, 0, 9, 154, 0, 35, 42, 185, 0, 15, 1, 0, 154, 0, 11, 43, 28]
abbrev dktX6_may_0 : List UInt8 := dkwX6_may_0 ++ dktX6_may_1
theorem dksX6_may_0 : cX6_may.data.toList.drop 0 = dktX6_may_0 := by decide +kernel
theorem dksX6_may_1 : cX6_may.data.toList.drop 22 = dktX6_may_1 := dk_seg dksX6_may_0 22 rfl rfl
theorem dX6_may_0 : decode cX6_may 0 = .ok (.aload_n 1, 1) := dk_43 (dk_at dksX6_may_0 0 rfl rfl)
theorem dX6_may_1 : decode cX6_may 1 = .ok (.iload_n 2, 1) := dk_28 (dk_at dksX6_may_0 1 rfl rfl)
theorem dX6_may_2 : decode cX6_may 2 = .ok (.invokevirtual 3, 3) := dk_182 0 3 (dk_at dksX6_may_0 2 rfl rfl)
theorem dX6_may_5 : decode cX6_may 5 = .ok (.invokevirtual 9, 3) := dk_182 0 9 (dk_at dksX6_may_0 5 rfl rfl)
theorem dX6_may_8 : decode cX6_may 8 = .ok (.ifCond .ne 35, 3) := dk_154 0 35 (dk_at dksX6_may_0 8 rfl rfl)
theorem dX6_may_11 : decode cX6_may 11 = .ok (.aload_n 0, 1) := dk_42 (dk_at dksX6_may_0 11 rfl rfl)
theorem dX6_may_12 : decode cX6_may 12 = .ok (.invokeinterface 15 1, 5) := by decide +kernel
theorem dX6_may_17 : decode cX6_may 17 = .ok (.ifCond .ne 11, 3) := dk_154 0 11 (dk_at dksX6_may_0 17 rfl rfl)
theorem dX6_may_20 : decode cX6_may 20 = .ok (.aload_n 1, 1) := dk_43 (dk_at dksX6_may_0 20 rfl rfl)
theorem dX6_may_21 : decode cX6_may 21 = .ok (.iload_n 2, 1) := dk_28 (dk_at dksX6_may_0 21 rfl rfl)
theorem dX6_may_22 : decode cX6_may 22 = .ok (.invokevirtual 20, 3) := dk_182 0 20 (dk_at dksX6_may_1 0 rfl rfl)
theorem dX6_may_25 : decode cX6_may 25 = .ok (.ifCond .ne 18, 3) := dk_154 0 18 (dk_at dksX6_may_1 3 rfl rfl)
theorem dX6_may_28 : decode cX6_may 28 = .ok (.aload_n 0, 1) := dk_42 (dk_at dksX6_may_1 6 rfl rfl)
theorem dX6_may_29 : decode cX6_may 29 = .ok (.aload_n 1, 1) := dk_43 (dk_at dksX6_may_1 7 rfl rfl)
theorem dX6_may_30 : decode cX6_may 30 = .ok (.iload_n 2, 1) := dk_28 (dk_at dksX6_may_1 8 rfl rfl)
theorem dX6_may_31 : decode cX6_may 31 = .ok (.invokeinterface 24 3, 5) := by decide +kernel
theorem dX6_may_36 : decode cX6_may 36 = .ok (.ifCond .eq 7, 3) := dk_153 0 7 (dk_at dksX6_may_1 14 rfl rfl)
theorem dX6_may_39 : decode cX6_may 39 = .ok (.iconst 1, 1) := dk_4 (dk_at dksX6_may_1 17 rfl rfl)
theorem dX6_may_40 : decode cX6_may 40 = .ok (.goto 4, 3) := dk_167 0 4 (dk_at dksX6_may_1 18 rfl rfl)
theorem dX6_may_43 : decode cX6_may 43 = .ok (.iconst 0, 1) := dk_3 (dk_at dksX6_may_1 21 rfl rfl)
theorem dX6_may_44 : decode cX6_may 44 = .ok (.ireturn, 1) := dk_172 (dk_at dksX6_may_1 22 rfl rfl)
abbrev cX6_isFree : ByteArray := prog_5_method_3_code
def yX6_isFree : MethodName := ⟨RX6, "isFree", "()Z"⟩
theorem dX6_isFree_0 : decode cX6_isFree 0 = .ok (.iconst 0, 1) := by decide +kernel
theorem dX6_isFree_1 : decode cX6_isFree 1 = .ok (.ireturn, 1) := by decide +kernel
abbrev cX6_beginningWith : ByteArray := prog_5_method_8_code
def yX6_beginningWith : MethodName := ⟨RX6, "beginningWith", "(C)Ljava/lang/String;"⟩
def dkwX6_beginningWith_2 : List UInt8 := [18, 58, 167, 0, 20, 18, 64, 167, 0, 15, 18, 66, 167, 0, 10, 18, 68, 167, 0, 5, 18, 70, 176]
abbrev dktX6_beginningWith_2 : List UInt8 := dkwX6_beginningWith_2 ++ []
def dkwX6_beginningWith_1 : List UInt8 := [171, 0, 0, 0, 0, 0, 63, 0, 0, 0, 4, 0, 0, 0, 102, 0, 0, 0, 43, 0, 0, 0, 108, 0, 0, 0, 53, 0, 0, 0, 116, 0, 0, 0, 48, 0, 0, 0, 119, 0, 0, 0, 58]
abbrev dktX6_beginningWith_1 : List UInt8 := dkwX6_beginningWith_1 ++ dktX6_beginningWith_2
def dkwX6_beginningWith_0 : List UInt8 := [26]
abbrev dktX6_beginningWith_0 : List UInt8 := dkwX6_beginningWith_0 ++ dktX6_beginningWith_1
theorem dksX6_beginningWith_0 : cX6_beginningWith.data.toList.drop 0 = dktX6_beginningWith_0 := by decide +kernel
theorem dksX6_beginningWith_1 : cX6_beginningWith.data.toList.drop 1 = dktX6_beginningWith_1 := dk_seg dksX6_beginningWith_0 1 rfl rfl
theorem dksX6_beginningWith_2 : cX6_beginningWith.data.toList.drop 44 = dktX6_beginningWith_2 := dk_seg dksX6_beginningWith_1 43 rfl rfl
theorem dX6_beginningWith_0 : decode cX6_beginningWith 0 = .ok (.iload_n 0, 1) := dk_26 (dk_at dksX6_beginningWith_0 0 rfl rfl)
theorem dX6_beginningWith_1 : decode cX6_beginningWith 1 = .ok (.lookupswitch 63 #[(102, 43), (108, 53), (116, 48), (119, 58)], 43) := by decide +kernel
theorem dX6_beginningWith_44 : decode cX6_beginningWith 44 = .ok (.ldc 58, 2) := dk_18 58 (dk_at dksX6_beginningWith_2 0 rfl rfl)
theorem dX6_beginningWith_46 : decode cX6_beginningWith 46 = .ok (.goto 20, 3) := dk_167 0 20 (dk_at dksX6_beginningWith_2 2 rfl rfl)
theorem dX6_beginningWith_49 : decode cX6_beginningWith 49 = .ok (.ldc 64, 2) := dk_18 64 (dk_at dksX6_beginningWith_2 5 rfl rfl)
theorem dX6_beginningWith_51 : decode cX6_beginningWith 51 = .ok (.goto 15, 3) := dk_167 0 15 (dk_at dksX6_beginningWith_2 7 rfl rfl)
theorem dX6_beginningWith_54 : decode cX6_beginningWith 54 = .ok (.ldc 66, 2) := dk_18 66 (dk_at dksX6_beginningWith_2 10 rfl rfl)
theorem dX6_beginningWith_56 : decode cX6_beginningWith 56 = .ok (.goto 10, 3) := dk_167 0 10 (dk_at dksX6_beginningWith_2 12 rfl rfl)
theorem dX6_beginningWith_59 : decode cX6_beginningWith 59 = .ok (.ldc 68, 2) := dk_18 68 (dk_at dksX6_beginningWith_2 15 rfl rfl)
theorem dX6_beginningWith_61 : decode cX6_beginningWith 61 = .ok (.goto 5, 3) := dk_167 0 5 (dk_at dksX6_beginningWith_2 17 rfl rfl)
theorem dX6_beginningWith_64 : decode cX6_beginningWith 64 = .ok (.ldc 70, 2) := dk_18 70 (dk_at dksX6_beginningWith_2 20 rfl rfl)
theorem dX6_beginningWith_66 : decode cX6_beginningWith 66 = .ok (.areturn, 1) := dk_176 (dk_at dksX6_beginningWith_2 22 rfl rfl)
abbrev cX6_named : ByteArray := prog_5_method_7_code
def yX6_named : MethodName := ⟨RX6, "named", "(Ljava/lang/CharSequence;)I"⟩
def dkwX6_named_6 : List UInt8 := [3, 167, 0, 16, 4, 167, 0, 12, 5, 167, 0, 8, 6, 167, 0, 4, 2, 172]
abbrev dktX6_named_6 : List UInt8 := dkwX6_named_6 ++ []
def dkwX6_named_5 : List UInt8 := [170, 0, 0, 0, 0, 46, 0, 0, 0, 0, 0, 0, 0, 3, 0, 0, 0, 30, 0, 0, 0, 34, 0, 0, 0, 38, 0, 0, 0, 42]
abbrev dktX6_named_5 : List UInt8 := dkwX6_named_5 ++ dktX6_named_6
def dkwX6_named_4 : List UInt8 := [153, 0, 5, 6, 61, 28]
abbrev dktX6_named_4 : List UInt8 := dkwX6_named_4 ++ dktX6_named_5
def dkwX6_named_3 : List UInt8 := [61, 167, 0, 28, 43, 18, 66, 182, 0, 60, 153, 0, 19, 5, 61, 167, 0, 14, 43, 18, 68, 182, 0, 60]
abbrev dktX6_named_3 : List UInt8 := dkwX6_named_3 ++ dktX6_named_4
def dkwX6_named_2 : List UInt8 := [43, 18, 58, 182, 0, 60, 153, 0, 47, 3, 61, 167, 0, 42, 43, 18, 64, 182, 0, 60, 153, 0, 33, 4]
abbrev dktX6_named_2 : List UInt8 := dkwX6_named_2 ++ dktX6_named_3
def dkwX6_named_1 : List UInt8 := [171, 0, 0, 0, 0, 0, 96, 0, 0, 0, 4, 0, 48, 22, 108, 0, 0, 0, 43, 0, 50, 196, 230, 0, 0, 0, 71, 0, 55, 145, 117, 0, 0, 0, 85, 6, 153, 143, 150, 0, 0, 0, 57]
abbrev dktX6_named_1 : List UInt8 := dkwX6_named_1 ++ dktX6_named_2
def dkwX6_named_0 : List UInt8 := [42, 185, 0, 47, 1, 0, 76, 2, 61, 43, 182, 0, 52]
abbrev dktX6_named_0 : List UInt8 := dkwX6_named_0 ++ dktX6_named_1
theorem dksX6_named_0 : cX6_named.data.toList.drop 0 = dktX6_named_0 := by decide +kernel
theorem dksX6_named_1 : cX6_named.data.toList.drop 13 = dktX6_named_1 := dk_seg dksX6_named_0 13 rfl rfl
theorem dksX6_named_2 : cX6_named.data.toList.drop 56 = dktX6_named_2 := dk_seg dksX6_named_1 43 rfl rfl
theorem dksX6_named_3 : cX6_named.data.toList.drop 80 = dktX6_named_3 := dk_seg dksX6_named_2 24 rfl rfl
theorem dksX6_named_4 : cX6_named.data.toList.drop 104 = dktX6_named_4 := dk_seg dksX6_named_3 24 rfl rfl
theorem dksX6_named_5 : cX6_named.data.toList.drop 110 = dktX6_named_5 := dk_seg dksX6_named_4 6 rfl rfl
theorem dksX6_named_6 : cX6_named.data.toList.drop 140 = dktX6_named_6 := dk_seg dksX6_named_5 30 rfl rfl
theorem dX6_named_0 : decode cX6_named 0 = .ok (.aload_n 0, 1) := dk_42 (dk_at dksX6_named_0 0 rfl rfl)
theorem dX6_named_1 : decode cX6_named 1 = .ok (.invokeinterface 47 1, 5) := by decide +kernel
theorem dX6_named_6 : decode cX6_named 6 = .ok (.astore_n 1, 1) := dk_76 (dk_at dksX6_named_0 6 rfl rfl)
theorem dX6_named_7 : decode cX6_named 7 = .ok (.iconst (-1), 1) := dk_2 (dk_at dksX6_named_0 7 rfl rfl)
theorem dX6_named_8 : decode cX6_named 8 = .ok (.istore_n 2, 1) := dk_61 (dk_at dksX6_named_0 8 rfl rfl)
theorem dX6_named_9 : decode cX6_named 9 = .ok (.aload_n 1, 1) := dk_43 (dk_at dksX6_named_0 9 rfl rfl)
theorem dX6_named_10 : decode cX6_named 10 = .ok (.invokevirtual 52, 3) := dk_182 0 52 (dk_at dksX6_named_0 10 rfl rfl)
theorem dX6_named_13 : decode cX6_named 13 = .ok (.lookupswitch 96 #[(3151468, 43), (3327206, 71), (3641717, 85), (110727062, 57)], 43) := by decide +kernel
theorem dX6_named_56 : decode cX6_named 56 = .ok (.aload_n 1, 1) := dk_43 (dk_at dksX6_named_2 0 rfl rfl)
theorem dX6_named_57 : decode cX6_named 57 = .ok (.ldc 58, 2) := dk_18 58 (dk_at dksX6_named_2 1 rfl rfl)
theorem dX6_named_59 : decode cX6_named 59 = .ok (.invokevirtual 60, 3) := dk_182 0 60 (dk_at dksX6_named_2 3 rfl rfl)
theorem dX6_named_62 : decode cX6_named 62 = .ok (.ifCond .eq 47, 3) := dk_153 0 47 (dk_at dksX6_named_2 6 rfl rfl)
theorem dX6_named_65 : decode cX6_named 65 = .ok (.iconst 0, 1) := dk_3 (dk_at dksX6_named_2 9 rfl rfl)
theorem dX6_named_66 : decode cX6_named 66 = .ok (.istore_n 2, 1) := dk_61 (dk_at dksX6_named_2 10 rfl rfl)
theorem dX6_named_67 : decode cX6_named 67 = .ok (.goto 42, 3) := dk_167 0 42 (dk_at dksX6_named_2 11 rfl rfl)
theorem dX6_named_70 : decode cX6_named 70 = .ok (.aload_n 1, 1) := dk_43 (dk_at dksX6_named_2 14 rfl rfl)
theorem dX6_named_71 : decode cX6_named 71 = .ok (.ldc 64, 2) := dk_18 64 (dk_at dksX6_named_2 15 rfl rfl)
theorem dX6_named_73 : decode cX6_named 73 = .ok (.invokevirtual 60, 3) := dk_182 0 60 (dk_at dksX6_named_2 17 rfl rfl)
theorem dX6_named_76 : decode cX6_named 76 = .ok (.ifCond .eq 33, 3) := dk_153 0 33 (dk_at dksX6_named_2 20 rfl rfl)
theorem dX6_named_79 : decode cX6_named 79 = .ok (.iconst 1, 1) := dk_4 (dk_at dksX6_named_2 23 rfl rfl)
theorem dX6_named_80 : decode cX6_named 80 = .ok (.istore_n 2, 1) := dk_61 (dk_at dksX6_named_3 0 rfl rfl)
theorem dX6_named_81 : decode cX6_named 81 = .ok (.goto 28, 3) := dk_167 0 28 (dk_at dksX6_named_3 1 rfl rfl)
theorem dX6_named_84 : decode cX6_named 84 = .ok (.aload_n 1, 1) := dk_43 (dk_at dksX6_named_3 4 rfl rfl)
theorem dX6_named_85 : decode cX6_named 85 = .ok (.ldc 66, 2) := dk_18 66 (dk_at dksX6_named_3 5 rfl rfl)
theorem dX6_named_87 : decode cX6_named 87 = .ok (.invokevirtual 60, 3) := dk_182 0 60 (dk_at dksX6_named_3 7 rfl rfl)
theorem dX6_named_90 : decode cX6_named 90 = .ok (.ifCond .eq 19, 3) := dk_153 0 19 (dk_at dksX6_named_3 10 rfl rfl)
theorem dX6_named_93 : decode cX6_named 93 = .ok (.iconst 2, 1) := dk_5 (dk_at dksX6_named_3 13 rfl rfl)
theorem dX6_named_94 : decode cX6_named 94 = .ok (.istore_n 2, 1) := dk_61 (dk_at dksX6_named_3 14 rfl rfl)
theorem dX6_named_95 : decode cX6_named 95 = .ok (.goto 14, 3) := dk_167 0 14 (dk_at dksX6_named_3 15 rfl rfl)
theorem dX6_named_98 : decode cX6_named 98 = .ok (.aload_n 1, 1) := dk_43 (dk_at dksX6_named_3 18 rfl rfl)
theorem dX6_named_99 : decode cX6_named 99 = .ok (.ldc 68, 2) := dk_18 68 (dk_at dksX6_named_3 19 rfl rfl)
theorem dX6_named_101 : decode cX6_named 101 = .ok (.invokevirtual 60, 3) := dk_182 0 60 (dk_at dksX6_named_3 21 rfl rfl)
theorem dX6_named_104 : decode cX6_named 104 = .ok (.ifCond .eq 5, 3) := dk_153 0 5 (dk_at dksX6_named_4 0 rfl rfl)
theorem dX6_named_107 : decode cX6_named 107 = .ok (.iconst 3, 1) := dk_6 (dk_at dksX6_named_4 3 rfl rfl)
theorem dX6_named_108 : decode cX6_named 108 = .ok (.istore_n 2, 1) := dk_61 (dk_at dksX6_named_4 4 rfl rfl)
theorem dX6_named_109 : decode cX6_named 109 = .ok (.iload_n 2, 1) := dk_28 (dk_at dksX6_named_4 5 rfl rfl)
theorem dX6_named_110 : decode cX6_named 110 = .ok (.tableswitch 46 0 3 #[30, 34, 38, 42], 30) := by decide +kernel
theorem dX6_named_140 : decode cX6_named 140 = .ok (.iconst 0, 1) := dk_3 (dk_at dksX6_named_6 0 rfl rfl)
theorem dX6_named_141 : decode cX6_named 141 = .ok (.goto 16, 3) := dk_167 0 16 (dk_at dksX6_named_6 1 rfl rfl)
theorem dX6_named_144 : decode cX6_named 144 = .ok (.iconst 1, 1) := dk_4 (dk_at dksX6_named_6 4 rfl rfl)
theorem dX6_named_145 : decode cX6_named 145 = .ok (.goto 12, 3) := dk_167 0 12 (dk_at dksX6_named_6 5 rfl rfl)
theorem dX6_named_148 : decode cX6_named 148 = .ok (.iconst 2, 1) := dk_5 (dk_at dksX6_named_6 8 rfl rfl)
theorem dX6_named_149 : decode cX6_named 149 = .ok (.goto 8, 3) := dk_167 0 8 (dk_at dksX6_named_6 9 rfl rfl)
theorem dX6_named_152 : decode cX6_named 152 = .ok (.iconst 3, 1) := dk_6 (dk_at dksX6_named_6 12 rfl rfl)
theorem dX6_named_153 : decode cX6_named 153 = .ok (.goto 4, 3) := dk_167 0 4 (dk_at dksX6_named_6 13 rfl rfl)
theorem dX6_named_156 : decode cX6_named 156 = .ok (.iconst (-1), 1) := dk_2 (dk_at dksX6_named_6 16 rfl rfl)
theorem dX6_named_157 : decode cX6_named 157 = .ok (.ireturn, 1) := dk_172 (dk_at dksX6_named_6 17 rfl rfl)
abbrev MX6_of : zM := (yX6_of, cX6_of, 1, (Option.some (Jvm.ClassFile.FieldType.object "CartBridge$Law")), [])
theorem kX6_of : zMk MX6_of := ⟨zt (lw_at lw_m5 40 rfl), zt (lw_at lw_m1 33 rfl), by decide +kernel, by decide, by decide +kernel⟩
abbrev MX6_described : zM := (yX6_described, cX6_described, 2, (Option.some (Jvm.ClassFile.FieldType.object "java/lang/String")), [])
theorem kX6_described : zMk MX6_described := ⟨zt (lw_at lw_m5 80 rfl), zt (lw_at lw_m1 33 rfl), by decide +kernel, by decide, by decide +kernel⟩
abbrev MX6_may : zM := (yX6_may, cX6_may, 3, (Option.some Jvm.ClassFile.FieldType.boolean), [])
theorem kX6_may : zMk MX6_may := ⟨zt (lw_at lw_m6 231 rfl), zt (lw_at lw_m1 33 rfl), by decide +kernel, by decide, by decide +kernel⟩
abbrev MX6_isFree : zM := (yX6_isFree, cX6_isFree, 1, (Option.some Jvm.ClassFile.FieldType.boolean), [])
theorem kX6_isFree : zMk MX6_isFree := ⟨zt (lw_at lw_m7 6 rfl), zt (lw_at lw_m1 33 rfl), by decide +kernel, by decide, by decide +kernel⟩
abbrev MX6_beginningWith : zM := (yX6_beginningWith, cX6_beginningWith, 1, (Option.some (Jvm.ClassFile.FieldType.object "java/lang/String")), [])
theorem kX6_beginningWith : zMk MX6_beginningWith := ⟨zt (lw_at lw_m9 88 rfl), zt (lw_at lw_m1 33 rfl), by decide +kernel, by decide, by decide +kernel⟩
abbrev MX6_named : zM := (yX6_named, cX6_named, 3, (Option.some Jvm.ClassFile.FieldType.int), [])
theorem kX6_named : zMk MX6_named := ⟨zt (lw_at lw_m9 96 rfl), zt (lw_at lw_m1 33 rfl), by decide +kernel, by decide, by decide +kernel⟩
/-! CartBridge$Free -/
set_option maxRecDepth 100000
abbrev cX7_init : ByteArray := prog_4_method_1_code
def yX7_init : MethodName := ⟨RX7, "<init>", "()V"⟩
theorem dX7_init_0 : decode cX7_init 0 = .ok (.aload_n 0, 1) := by decide +kernel
theorem dX7_init_1 : decode cX7_init 1 = .ok (.invokespecial 1, 3) := by decide +kernel
theorem dX7_init_4 : decode cX7_init 4 = .ok (.return_, 1) := by decide +kernel
abbrev cX7_word : ByteArray := prog_4_method_4_code
def yX7_word : MethodName := ⟨RX7, "word", "()Ljava/lang/String;"⟩
theorem dX7_word_0 : decode cX7_word 0 = .ok (.ldc 7, 2) := by decide +kernel
theorem dX7_word_2 : decode cX7_word 2 = .ok (.areturn, 1) := by decide +kernel
abbrev cX7_isFree : ByteArray := prog_4_method_3_code
def yX7_isFree : MethodName := ⟨RX7, "isFree", "()Z"⟩
theorem dX7_isFree_0 : decode cX7_isFree 0 = .ok (.iconst 1, 1) := by decide +kernel
theorem dX7_isFree_1 : decode cX7_isFree 1 = .ok (.ireturn, 1) := by decide +kernel
abbrev cX7_lets : ByteArray := prog_4_method_2_code
def yX7_lets : MethodName := ⟨RX7, "lets", "(LCartBridge$State;I)Z"⟩
theorem dX7_lets_0 : decode cX7_lets 0 = .ok (.iconst 1, 1) := by decide +kernel
theorem dX7_lets_1 : decode cX7_lets 1 = .ok (.ireturn, 1) := by decide +kernel
abbrev MX7_init : zM := (yX7_init, cX7_init, 1, (Option.none : Option Jvm.ClassFile.FieldType), [])
theorem kX7_init : zMk MX7_init := ⟨zt (lw_at lw_m5 45 rfl), zt (lw_at lw_m1 34 rfl), by decide +kernel, by decide, by decide +kernel⟩
abbrev MX7_word : zM := (yX7_word, cX7_word, 1, (Option.some (Jvm.ClassFile.FieldType.object "java/lang/String")), [])
theorem kX7_word : zMk MX7_word := ⟨zt (lw_at lw_m5 89 rfl), zt (lw_at lw_m1 34 rfl), by decide +kernel, by decide, by decide +kernel⟩
abbrev MX7_isFree : zM := (yX7_isFree, cX7_isFree, 1, (Option.some Jvm.ClassFile.FieldType.boolean), [])
theorem kX7_isFree : zMk MX7_isFree := ⟨zt (lw_at lw_m7 2 rfl), zt (lw_at lw_m1 34 rfl), by decide +kernel, by decide, by decide +kernel⟩
abbrev MX7_lets : zM := (yX7_lets, cX7_lets, 3, (Option.some Jvm.ClassFile.FieldType.boolean), [])
theorem kX7_lets : zMk MX7_lets := ⟨zt (lw_at lw_m7 21 rfl), zt (lw_at lw_m1 34 rfl), by decide +kernel, by decide, by decide +kernel⟩
/-! CartBridge$Turns -/
set_option maxRecDepth 100000
abbrev cX8_init : ByteArray := prog_11_method_1_code
def yX8_init : MethodName := ⟨RX8, "<init>", "()V"⟩
theorem dX8_init_0 : decode cX8_init 0 = .ok (.aload_n 0, 1) := by decide +kernel
theorem dX8_init_1 : decode cX8_init 1 = .ok (.invokespecial 1, 3) := by decide +kernel
theorem dX8_init_4 : decode cX8_init 4 = .ok (.return_, 1) := by decide +kernel
abbrev cX8_word : ByteArray := prog_11_method_3_code
def yX8_word : MethodName := ⟨RX8, "word", "()Ljava/lang/String;"⟩
theorem dX8_word_0 : decode cX8_word 0 = .ok (.ldc 19, 2) := by decide +kernel
theorem dX8_word_2 : decode cX8_word 2 = .ok (.areturn, 1) := by decide +kernel
abbrev cX8_described : ByteArray := prog_11_method_4_code
def yX8_described : MethodName := ⟨RX8, "described", "(LCartBridge$State;)Ljava/lang/String;"⟩
def dkwX8_described_2 : List UInt8 := [180, 0, 16, 182, 0, 42, 182, 0, 47, 176]
abbrev dktX8_described_2 : List UInt8 := dkwX8_described_2 ++ []
def dkwX8_described_1 : List UInt8 := [184, 0, 36, 182, 0, 30, 18, 34, 182, 0, 30, 43, 180, 0, 13, 182, 0, 42, 18, 45, 182, 0, 30, 43]
abbrev dktX8_described_1 : List UInt8 := dkwX8_described_1 ++ dktX8_described_2
def dkwX8_described_0 : List UInt8 := [187, 0, 21, 89, 183, 0, 23, 42, 182, 0, 24, 182, 0, 30, 18, 34, 182, 0, 30, 43, 180, 0, 7]
abbrev dktX8_described_0 : List UInt8 := dkwX8_described_0 ++ dktX8_described_1
theorem dksX8_described_0 : cX8_described.data.toList.drop 0 = dktX8_described_0 := by decide +kernel
theorem dksX8_described_1 : cX8_described.data.toList.drop 23 = dktX8_described_1 := dk_seg dksX8_described_0 23 rfl rfl
theorem dksX8_described_2 : cX8_described.data.toList.drop 47 = dktX8_described_2 := dk_seg dksX8_described_1 24 rfl rfl
theorem dX8_described_0 : decode cX8_described 0 = .ok (.new 21, 3) := dk_187 0 21 (dk_at dksX8_described_0 0 rfl rfl)
theorem dX8_described_3 : decode cX8_described 3 = .ok (.dup, 1) := dk_89 (dk_at dksX8_described_0 3 rfl rfl)
theorem dX8_described_4 : decode cX8_described 4 = .ok (.invokespecial 23, 3) := dk_183 0 23 (dk_at dksX8_described_0 4 rfl rfl)
theorem dX8_described_7 : decode cX8_described 7 = .ok (.aload_n 0, 1) := dk_42 (dk_at dksX8_described_0 7 rfl rfl)
theorem dX8_described_8 : decode cX8_described 8 = .ok (.invokevirtual 24, 3) := dk_182 0 24 (dk_at dksX8_described_0 8 rfl rfl)
theorem dX8_described_11 : decode cX8_described 11 = .ok (.invokevirtual 30, 3) := dk_182 0 30 (dk_at dksX8_described_0 11 rfl rfl)
theorem dX8_described_14 : decode cX8_described 14 = .ok (.ldc 34, 2) := dk_18 34 (dk_at dksX8_described_0 14 rfl rfl)
theorem dX8_described_16 : decode cX8_described 16 = .ok (.invokevirtual 30, 3) := dk_182 0 30 (dk_at dksX8_described_0 16 rfl rfl)
theorem dX8_described_19 : decode cX8_described 19 = .ok (.aload_n 1, 1) := dk_43 (dk_at dksX8_described_0 19 rfl rfl)
theorem dX8_described_20 : decode cX8_described 20 = .ok (.getfield 7, 3) := dk_180 0 7 (dk_at dksX8_described_0 20 rfl rfl)
theorem dX8_described_23 : decode cX8_described 23 = .ok (.invokestatic 36, 3) := dk_184 0 36 (dk_at dksX8_described_1 0 rfl rfl)
theorem dX8_described_26 : decode cX8_described 26 = .ok (.invokevirtual 30, 3) := dk_182 0 30 (dk_at dksX8_described_1 3 rfl rfl)
theorem dX8_described_29 : decode cX8_described 29 = .ok (.ldc 34, 2) := dk_18 34 (dk_at dksX8_described_1 6 rfl rfl)
theorem dX8_described_31 : decode cX8_described 31 = .ok (.invokevirtual 30, 3) := dk_182 0 30 (dk_at dksX8_described_1 8 rfl rfl)
theorem dX8_described_34 : decode cX8_described 34 = .ok (.aload_n 1, 1) := dk_43 (dk_at dksX8_described_1 11 rfl rfl)
theorem dX8_described_35 : decode cX8_described 35 = .ok (.getfield 13, 3) := dk_180 0 13 (dk_at dksX8_described_1 12 rfl rfl)
theorem dX8_described_38 : decode cX8_described 38 = .ok (.invokevirtual 42, 3) := dk_182 0 42 (dk_at dksX8_described_1 15 rfl rfl)
theorem dX8_described_41 : decode cX8_described 41 = .ok (.ldc 45, 2) := dk_18 45 (dk_at dksX8_described_1 18 rfl rfl)
theorem dX8_described_43 : decode cX8_described 43 = .ok (.invokevirtual 30, 3) := dk_182 0 30 (dk_at dksX8_described_1 20 rfl rfl)
theorem dX8_described_46 : decode cX8_described 46 = .ok (.aload_n 1, 1) := dk_43 (dk_at dksX8_described_1 23 rfl rfl)
theorem dX8_described_47 : decode cX8_described 47 = .ok (.getfield 16, 3) := dk_180 0 16 (dk_at dksX8_described_2 0 rfl rfl)
theorem dX8_described_50 : decode cX8_described 50 = .ok (.invokevirtual 42, 3) := dk_182 0 42 (dk_at dksX8_described_2 3 rfl rfl)
theorem dX8_described_53 : decode cX8_described 53 = .ok (.invokevirtual 47, 3) := dk_182 0 47 (dk_at dksX8_described_2 6 rfl rfl)
theorem dX8_described_56 : decode cX8_described 56 = .ok (.areturn, 1) := dk_176 (dk_at dksX8_described_2 9 rfl rfl)
abbrev cX8_lets : ByteArray := prog_11_method_2_code
def yX8_lets : MethodName := ⟨RX8, "lets", "(LCartBridge$State;I)Z"⟩
def dkwX8_lets_1 : List UInt8 := [172]
abbrev dktX8_lets_1 : List UInt8 := dkwX8_lets_1 ++ []
def dkwX8_lets_0 : List UInt8 := [43, 180, 0, 7, 28, 160, 0, 18, 43, 180, 0, 13, 43, 180, 0, 16, 162, 0, 7, 4, 167, 0, 4, 3]
abbrev dktX8_lets_0 : List UInt8 := dkwX8_lets_0 ++ dktX8_lets_1
theorem dksX8_lets_0 : cX8_lets.data.toList.drop 0 = dktX8_lets_0 := by decide +kernel
theorem dksX8_lets_1 : cX8_lets.data.toList.drop 24 = dktX8_lets_1 := dk_seg dksX8_lets_0 24 rfl rfl
theorem dX8_lets_0 : decode cX8_lets 0 = .ok (.aload_n 1, 1) := dk_43 (dk_at dksX8_lets_0 0 rfl rfl)
theorem dX8_lets_1 : decode cX8_lets 1 = .ok (.getfield 7, 3) := dk_180 0 7 (dk_at dksX8_lets_0 1 rfl rfl)
theorem dX8_lets_4 : decode cX8_lets 4 = .ok (.iload_n 2, 1) := dk_28 (dk_at dksX8_lets_0 4 rfl rfl)
theorem dX8_lets_5 : decode cX8_lets 5 = .ok (.if_icmp .ne 18, 3) := dk_160 0 18 (dk_at dksX8_lets_0 5 rfl rfl)
theorem dX8_lets_8 : decode cX8_lets 8 = .ok (.aload_n 1, 1) := dk_43 (dk_at dksX8_lets_0 8 rfl rfl)
theorem dX8_lets_9 : decode cX8_lets 9 = .ok (.getfield 13, 3) := dk_180 0 13 (dk_at dksX8_lets_0 9 rfl rfl)
theorem dX8_lets_12 : decode cX8_lets 12 = .ok (.aload_n 1, 1) := dk_43 (dk_at dksX8_lets_0 12 rfl rfl)
theorem dX8_lets_13 : decode cX8_lets 13 = .ok (.getfield 16, 3) := dk_180 0 16 (dk_at dksX8_lets_0 13 rfl rfl)
theorem dX8_lets_16 : decode cX8_lets 16 = .ok (.if_icmp .ge 7, 3) := dk_162 0 7 (dk_at dksX8_lets_0 16 rfl rfl)
theorem dX8_lets_19 : decode cX8_lets 19 = .ok (.iconst 1, 1) := dk_4 (dk_at dksX8_lets_0 19 rfl rfl)
theorem dX8_lets_20 : decode cX8_lets 20 = .ok (.goto 4, 3) := dk_167 0 4 (dk_at dksX8_lets_0 20 rfl rfl)
theorem dX8_lets_23 : decode cX8_lets 23 = .ok (.iconst 0, 1) := dk_3 (dk_at dksX8_lets_0 23 rfl rfl)
theorem dX8_lets_24 : decode cX8_lets 24 = .ok (.ireturn, 1) := dk_172 (dk_at dksX8_lets_1 0 rfl rfl)
abbrev MX8_init : zM := (yX8_init, cX8_init, 1, (Option.none : Option Jvm.ClassFile.FieldType), [])
theorem kX8_init : zMk MX8_init := ⟨zt (lw_at lw_m5 52 rfl), zt (lw_at lw_m1 35 rfl), by decide +kernel, by decide, by decide +kernel⟩
abbrev MX8_word : zM := (yX8_word, cX8_word, 1, (Option.some (Jvm.ClassFile.FieldType.object "java/lang/String")), [])
theorem kX8_word : zMk MX8_word := ⟨zt (lw_at lw_m5 103 rfl), zt (lw_at lw_m1 35 rfl), by decide +kernel, by decide, by decide +kernel⟩
abbrev MX8_described : zM := (yX8_described, cX8_described, 2, (Option.some (Jvm.ClassFile.FieldType.object "java/lang/String")), [])
theorem kX8_described : zMk MX8_described := ⟨zt (lw_at lw_m5 117 rfl), zt (lw_at lw_m1 35 rfl), by decide +kernel, by decide, by decide +kernel⟩
abbrev MX8_lets : zM := (yX8_lets, cX8_lets, 3, (Option.some Jvm.ClassFile.FieldType.boolean), [])
theorem kX8_lets : zMk MX8_lets := ⟨zt (lw_at lw_m7 51 rfl), zt (lw_at lw_m1 35 rfl), by decide +kernel, by decide, by decide +kernel⟩
/-! CartBridge$Measured -/
set_option maxRecDepth 100000
abbrev cX9_init : ByteArray := prog_7_method_1_code
def yX9_init : MethodName := ⟨RX9, "<init>", "()V"⟩
theorem dX9_init_0 : decode cX9_init 0 = .ok (.aload_n 0, 1) := by decide +kernel
theorem dX9_init_1 : decode cX9_init 1 = .ok (.invokespecial 3, 3) := by decide +kernel
theorem dX9_init_4 : decode cX9_init 4 = .ok (.return_, 1) := by decide +kernel
abbrev cX9_lets : ByteArray := prog_7_method_3_code
def yX9_lets : MethodName := ⟨RX9, "lets", "(LCartBridge$State;I)Z"⟩
def dkwX9_lets_1 : List UInt8 := [154, 0, 11, 28, 154, 0, 7, 4, 167, 0, 4, 3, 172]
abbrev dktX9_lets_1 : List UInt8 := dkwX9_lets_1 ++ []
def dkwX9_lets_0 : List UInt8 := [42, 43, 28, 182, 0, 9, 42, 43, 28, 184, 0, 15, 182, 0, 9, 100, 62, 29, 157, 0, 11, 29]
abbrev dktX9_lets_0 : List UInt8 := dkwX9_lets_0 ++ dktX9_lets_1
theorem dksX9_lets_0 : cX9_lets.data.toList.drop 0 = dktX9_lets_0 := by decide +kernel
theorem dksX9_lets_1 : cX9_lets.data.toList.drop 22 = dktX9_lets_1 := dk_seg dksX9_lets_0 22 rfl rfl
theorem dX9_lets_0 : decode cX9_lets 0 = .ok (.aload_n 0, 1) := dk_42 (dk_at dksX9_lets_0 0 rfl rfl)
theorem dX9_lets_1 : decode cX9_lets 1 = .ok (.aload_n 1, 1) := dk_43 (dk_at dksX9_lets_0 1 rfl rfl)
theorem dX9_lets_2 : decode cX9_lets 2 = .ok (.iload_n 2, 1) := dk_28 (dk_at dksX9_lets_0 2 rfl rfl)
theorem dX9_lets_3 : decode cX9_lets 3 = .ok (.invokevirtual 9, 3) := dk_182 0 9 (dk_at dksX9_lets_0 3 rfl rfl)
theorem dX9_lets_6 : decode cX9_lets 6 = .ok (.aload_n 0, 1) := dk_42 (dk_at dksX9_lets_0 6 rfl rfl)
theorem dX9_lets_7 : decode cX9_lets 7 = .ok (.aload_n 1, 1) := dk_43 (dk_at dksX9_lets_0 7 rfl rfl)
theorem dX9_lets_8 : decode cX9_lets 8 = .ok (.iload_n 2, 1) := dk_28 (dk_at dksX9_lets_0 8 rfl rfl)
theorem dX9_lets_9 : decode cX9_lets 9 = .ok (.invokestatic 15, 3) := dk_184 0 15 (dk_at dksX9_lets_0 9 rfl rfl)
theorem dX9_lets_12 : decode cX9_lets 12 = .ok (.invokevirtual 9, 3) := dk_182 0 9 (dk_at dksX9_lets_0 12 rfl rfl)
theorem dX9_lets_15 : decode cX9_lets 15 = .ok (.isub, 1) := dk_100 (dk_at dksX9_lets_0 15 rfl rfl)
theorem dX9_lets_16 : decode cX9_lets 16 = .ok (.istore_n 3, 1) := dk_62 (dk_at dksX9_lets_0 16 rfl rfl)
theorem dX9_lets_17 : decode cX9_lets 17 = .ok (.iload_n 3, 1) := dk_29 (dk_at dksX9_lets_0 17 rfl rfl)
theorem dX9_lets_18 : decode cX9_lets 18 = .ok (.ifCond .gt 11, 3) := dk_157 0 11 (dk_at dksX9_lets_0 18 rfl rfl)
theorem dX9_lets_21 : decode cX9_lets 21 = .ok (.iload_n 3, 1) := dk_29 (dk_at dksX9_lets_0 21 rfl rfl)
theorem dX9_lets_22 : decode cX9_lets 22 = .ok (.ifCond .ne 11, 3) := dk_154 0 11 (dk_at dksX9_lets_1 0 rfl rfl)
theorem dX9_lets_25 : decode cX9_lets 25 = .ok (.iload_n 2, 1) := dk_28 (dk_at dksX9_lets_1 3 rfl rfl)
theorem dX9_lets_26 : decode cX9_lets 26 = .ok (.ifCond .ne 7, 3) := dk_154 0 7 (dk_at dksX9_lets_1 4 rfl rfl)
theorem dX9_lets_29 : decode cX9_lets 29 = .ok (.iconst 1, 1) := dk_4 (dk_at dksX9_lets_1 7 rfl rfl)
theorem dX9_lets_30 : decode cX9_lets 30 = .ok (.goto 4, 3) := dk_167 0 4 (dk_at dksX9_lets_1 8 rfl rfl)
theorem dX9_lets_33 : decode cX9_lets 33 = .ok (.iconst 0, 1) := dk_3 (dk_at dksX9_lets_1 11 rfl rfl)
theorem dX9_lets_34 : decode cX9_lets 34 = .ok (.ireturn, 1) := dk_172 (dk_at dksX9_lets_1 12 rfl rfl)
abbrev MX9_init : zM := (yX9_init, cX9_init, 1, (Option.none : Option Jvm.ClassFile.FieldType), [])
theorem kX9_init : zMk MX9_init := ⟨zt (lw_at lw_m5 62 rfl), zt (lw_at lw_m1 36 rfl), by decide +kernel, by decide, by decide +kernel⟩
abbrev MX9_lets : zM := (yX9_lets, cX9_lets, 4, (Option.some Jvm.ClassFile.FieldType.boolean), [])
theorem kX9_lets : zMk MX9_lets := ⟨zt (lw_at lw_m7 26 rfl), zt (lw_at lw_m1 36 rfl), by decide +kernel, by decide, by decide +kernel⟩
/-! CartBridge$Load -/
set_option maxRecDepth 100000
abbrev cX10_init : ByteArray := prog_6_method_1_code
def yX10_init : MethodName := ⟨RX10, "<init>", "()V"⟩
theorem dX10_init_0 : decode cX10_init 0 = .ok (.aload_n 0, 1) := by decide +kernel
theorem dX10_init_1 : decode cX10_init 1 = .ok (.invokespecial 1, 3) := by decide +kernel
theorem dX10_init_4 : decode cX10_init 4 = .ok (.return_, 1) := by decide +kernel
abbrev cX10_word : ByteArray := prog_6_method_3_code
def yX10_word : MethodName := ⟨RX10, "word", "()Ljava/lang/String;"⟩
theorem dX10_word_0 : decode cX10_word 0 = .ok (.ldc 13, 2) := by decide +kernel
theorem dX10_word_2 : decode cX10_word 2 = .ok (.areturn, 1) := by decide +kernel
abbrev cX10_measure : ByteArray := prog_6_method_2_code
def yX10_measure : MethodName := ⟨RX10, "measure", "(LCartBridge$State;I)I"⟩
def dkwX10_measure_0 : List UInt8 := [43, 28, 182, 0, 7, 172]
abbrev dktX10_measure_0 : List UInt8 := dkwX10_measure_0 ++ []
theorem dksX10_measure_0 : cX10_measure.data.toList.drop 0 = dktX10_measure_0 := by decide +kernel
theorem dX10_measure_0 : decode cX10_measure 0 = .ok (.aload_n 1, 1) := dk_43 (dk_at dksX10_measure_0 0 rfl rfl)
theorem dX10_measure_1 : decode cX10_measure 1 = .ok (.iload_n 2, 1) := dk_28 (dk_at dksX10_measure_0 1 rfl rfl)
theorem dX10_measure_2 : decode cX10_measure 2 = .ok (.invokevirtual 7, 3) := dk_182 0 7 (dk_at dksX10_measure_0 2 rfl rfl)
theorem dX10_measure_5 : decode cX10_measure 5 = .ok (.ireturn, 1) := dk_172 (dk_at dksX10_measure_0 5 rfl rfl)
abbrev MX10_init : zM := (yX10_init, cX10_init, 1, (Option.none : Option Jvm.ClassFile.FieldType), [])
theorem kX10_init : zMk MX10_init := ⟨zt (lw_at lw_m5 59 rfl), zt (lw_at lw_m1 37 rfl), by decide +kernel, by decide, by decide +kernel⟩
abbrev MX10_word : zM := (yX10_word, cX10_word, 1, (Option.some (Jvm.ClassFile.FieldType.object "java/lang/String")), [])
theorem kX10_word : zMk MX10_word := ⟨zt (lw_at lw_m5 96 rfl), zt (lw_at lw_m1 37 rfl), by decide +kernel, by decide, by decide +kernel⟩
abbrev MX10_measure : zM := (yX10_measure, cX10_measure, 3, (Option.some Jvm.ClassFile.FieldType.int), [])
theorem kX10_measure : zMk MX10_measure := ⟨zt (lw_at lw_m7 32 rfl), zt (lw_at lw_m1 37 rfl), by decide +kernel, by decide, by decide +kernel⟩
/-! CartBridge$Wait -/
set_option maxRecDepth 100000
abbrev cX11_init : ByteArray := prog_12_method_1_code
def yX11_init : MethodName := ⟨RX11, "<init>", "()V"⟩
theorem dX11_init_0 : decode cX11_init 0 = .ok (.aload_n 0, 1) := by decide +kernel
theorem dX11_init_1 : decode cX11_init 1 = .ok (.invokespecial 3, 3) := by decide +kernel
theorem dX11_init_4 : decode cX11_init 4 = .ok (.return_, 1) := by decide +kernel
abbrev cX11_word : ByteArray := prog_12_method_3_code
def yX11_word : MethodName := ⟨RX11, "word", "()Ljava/lang/String;"⟩
theorem dX11_word_0 : decode cX11_word 0 = .ok (.ldc 41, 2) := by decide +kernel
theorem dX11_word_2 : decode cX11_word 2 = .ok (.areturn, 1) := by decide +kernel
abbrev cX11_measure : ByteArray := prog_12_method_2_code
def yX11_measure : MethodName := ⟨RX11, "measure", "(LCartBridge$State;I)I"⟩
def dkwX11_measure_1 : List UInt8 := [3, 182, 0, 25, 192, 0, 29, 182, 0, 31, 182, 0, 25, 192, 0, 35, 180, 0, 37, 172]
abbrev dktX11_measure_1 : List UInt8 := dkwX11_measure_1 ++ []
def dkwX11_measure_0 : List UInt8 := [43, 28, 182, 0, 9, 182, 0, 15, 153, 0, 7, 2, 167, 0, 31, 43, 180, 0, 21, 43, 28, 182, 0, 9]
abbrev dktX11_measure_0 : List UInt8 := dkwX11_measure_0 ++ dktX11_measure_1
theorem dksX11_measure_0 : cX11_measure.data.toList.drop 0 = dktX11_measure_0 := by decide +kernel
theorem dksX11_measure_1 : cX11_measure.data.toList.drop 24 = dktX11_measure_1 := dk_seg dksX11_measure_0 24 rfl rfl
theorem dX11_measure_0 : decode cX11_measure 0 = .ok (.aload_n 1, 1) := dk_43 (dk_at dksX11_measure_0 0 rfl rfl)
theorem dX11_measure_1 : decode cX11_measure 1 = .ok (.iload_n 2, 1) := dk_28 (dk_at dksX11_measure_0 1 rfl rfl)
theorem dX11_measure_2 : decode cX11_measure 2 = .ok (.invokevirtual 9, 3) := dk_182 0 9 (dk_at dksX11_measure_0 2 rfl rfl)
theorem dX11_measure_5 : decode cX11_measure 5 = .ok (.invokevirtual 15, 3) := dk_182 0 15 (dk_at dksX11_measure_0 5 rfl rfl)
theorem dX11_measure_8 : decode cX11_measure 8 = .ok (.ifCond .eq 7, 3) := dk_153 0 7 (dk_at dksX11_measure_0 8 rfl rfl)
theorem dX11_measure_11 : decode cX11_measure 11 = .ok (.iconst (-1), 1) := dk_2 (dk_at dksX11_measure_0 11 rfl rfl)
theorem dX11_measure_12 : decode cX11_measure 12 = .ok (.goto 31, 3) := dk_167 0 31 (dk_at dksX11_measure_0 12 rfl rfl)
theorem dX11_measure_15 : decode cX11_measure 15 = .ok (.aload_n 1, 1) := dk_43 (dk_at dksX11_measure_0 15 rfl rfl)
theorem dX11_measure_16 : decode cX11_measure 16 = .ok (.getfield 21, 3) := dk_180 0 21 (dk_at dksX11_measure_0 16 rfl rfl)
theorem dX11_measure_19 : decode cX11_measure 19 = .ok (.aload_n 1, 1) := dk_43 (dk_at dksX11_measure_0 19 rfl rfl)
theorem dX11_measure_20 : decode cX11_measure 20 = .ok (.iload_n 2, 1) := dk_28 (dk_at dksX11_measure_0 20 rfl rfl)
theorem dX11_measure_21 : decode cX11_measure 21 = .ok (.invokevirtual 9, 3) := dk_182 0 9 (dk_at dksX11_measure_0 21 rfl rfl)
theorem dX11_measure_24 : decode cX11_measure 24 = .ok (.iconst 0, 1) := dk_3 (dk_at dksX11_measure_1 0 rfl rfl)
theorem dX11_measure_25 : decode cX11_measure 25 = .ok (.invokevirtual 25, 3) := dk_182 0 25 (dk_at dksX11_measure_1 1 rfl rfl)
theorem dX11_measure_28 : decode cX11_measure 28 = .ok (.checkcast 29, 3) := dk_192 0 29 (dk_at dksX11_measure_1 4 rfl rfl)
theorem dX11_measure_31 : decode cX11_measure 31 = .ok (.invokevirtual 31, 3) := dk_182 0 31 (dk_at dksX11_measure_1 7 rfl rfl)
theorem dX11_measure_34 : decode cX11_measure 34 = .ok (.invokevirtual 25, 3) := dk_182 0 25 (dk_at dksX11_measure_1 10 rfl rfl)
theorem dX11_measure_37 : decode cX11_measure 37 = .ok (.checkcast 35, 3) := dk_192 0 35 (dk_at dksX11_measure_1 13 rfl rfl)
theorem dX11_measure_40 : decode cX11_measure 40 = .ok (.getfield 37, 3) := dk_180 0 37 (dk_at dksX11_measure_1 16 rfl rfl)
theorem dX11_measure_43 : decode cX11_measure 43 = .ok (.ireturn, 1) := dk_172 (dk_at dksX11_measure_1 19 rfl rfl)
abbrev MX11_init : zM := (yX11_init, cX11_init, 1, (Option.none : Option Jvm.ClassFile.FieldType), [])
theorem kX11_init : zMk MX11_init := ⟨zt (lw_at lw_m5 69 rfl), zt (lw_at lw_m1 38 rfl), by decide +kernel, by decide, by decide +kernel⟩
abbrev MX11_word : zM := (yX11_word, cX11_word, 1, (Option.some (Jvm.ClassFile.FieldType.object "java/lang/String")), [])
theorem kX11_word : zMk MX11_word := ⟨zt (lw_at lw_m5 110 rfl), zt (lw_at lw_m1 38 rfl), by decide +kernel, by decide, by decide +kernel⟩
abbrev MX11_measure : zM := (yX11_measure, cX11_measure, 3, (Option.some Jvm.ClassFile.FieldType.int), [])
theorem kX11_measure : zMk MX11_measure := ⟨zt (lw_at lw_m7 39 rfl), zt (lw_at lw_m1 38 rfl), by decide +kernel, by decide, by decide +kernel⟩
/-! CartBridge$Reader -/
set_option maxRecDepth 100000
abbrev cX12_init : ByteArray := prog_8_method_1_code
def yX12_init : MethodName := ⟨RX12, "<init>", "(Ljava/lang/CharSequence;)V"⟩
def dkwX12_init_0 : List UInt8 := [42, 183, 0, 3, 42, 187, 0, 9, 89, 183, 0, 11, 181, 0, 12, 42, 43, 181, 0, 18, 177]
abbrev dktX12_init_0 : List UInt8 := dkwX12_init_0 ++ []
theorem dksX12_init_0 : cX12_init.data.toList.drop 0 = dktX12_init_0 := by decide +kernel
theorem dX12_init_0 : decode cX12_init 0 = .ok (.aload_n 0, 1) := dk_42 (dk_at dksX12_init_0 0 rfl rfl)
theorem dX12_init_1 : decode cX12_init 1 = .ok (.invokespecial 3, 3) := dk_183 0 3 (dk_at dksX12_init_0 1 rfl rfl)
theorem dX12_init_4 : decode cX12_init 4 = .ok (.aload_n 0, 1) := dk_42 (dk_at dksX12_init_0 4 rfl rfl)
theorem dX12_init_5 : decode cX12_init 5 = .ok (.new 9, 3) := dk_187 0 9 (dk_at dksX12_init_0 5 rfl rfl)
theorem dX12_init_8 : decode cX12_init 8 = .ok (.dup, 1) := dk_89 (dk_at dksX12_init_0 8 rfl rfl)
theorem dX12_init_9 : decode cX12_init 9 = .ok (.invokespecial 11, 3) := dk_183 0 11 (dk_at dksX12_init_0 9 rfl rfl)
theorem dX12_init_12 : decode cX12_init 12 = .ok (.putfield 12, 3) := dk_181 0 12 (dk_at dksX12_init_0 12 rfl rfl)
theorem dX12_init_15 : decode cX12_init 15 = .ok (.aload_n 0, 1) := dk_42 (dk_at dksX12_init_0 15 rfl rfl)
theorem dX12_init_16 : decode cX12_init 16 = .ok (.aload_n 1, 1) := dk_43 (dk_at dksX12_init_0 16 rfl rfl)
theorem dX12_init_17 : decode cX12_init 17 = .ok (.putfield 18, 3) := dk_181 0 18 (dk_at dksX12_init_0 17 rfl rfl)
theorem dX12_init_20 : decode cX12_init 20 = .ok (.return_, 1) := dk_177 (dk_at dksX12_init_0 20 rfl rfl)
abbrev cX12_fault : ByteArray := prog_8_method_11_code
def yX12_fault : MethodName := ⟨RX12, "fault", "()I"⟩
def dkwX12_fault_2 : List UInt8 := [153, 0, 10, 42, 180, 0, 22, 167, 0, 4, 2, 172]
abbrev dktX12_fault_2 : List UInt8 := dkwX12_fault_2 ++ []
def dkwX12_fault_1 : List UInt8 := [180, 0, 18, 185, 0, 26, 1, 0, 162, 0, 7, 4, 167, 0, 4, 3, 128, 181, 0, 36, 42, 180, 0, 36]
abbrev dktX12_fault_1 : List UInt8 := dkwX12_fault_1 ++ dktX12_fault_2
def dkwX12_fault_0 : List UInt8 := [42, 182, 0, 129, 42, 16, 59, 182, 0, 44, 154, 255, 246, 42, 89, 180, 0, 36, 42, 180, 0, 22, 42]
abbrev dktX12_fault_0 : List UInt8 := dkwX12_fault_0 ++ dktX12_fault_1
theorem dksX12_fault_0 : cX12_fault.data.toList.drop 0 = dktX12_fault_0 := by decide +kernel
theorem dksX12_fault_1 : cX12_fault.data.toList.drop 23 = dktX12_fault_1 := dk_seg dksX12_fault_0 23 rfl rfl
theorem dksX12_fault_2 : cX12_fault.data.toList.drop 47 = dktX12_fault_2 := dk_seg dksX12_fault_1 24 rfl rfl
theorem dX12_fault_0 : decode cX12_fault 0 = .ok (.aload_n 0, 1) := dk_42 (dk_at dksX12_fault_0 0 rfl rfl)
theorem dX12_fault_1 : decode cX12_fault 1 = .ok (.invokevirtual 129, 3) := dk_182 0 129 (dk_at dksX12_fault_0 1 rfl rfl)
theorem dX12_fault_4 : decode cX12_fault 4 = .ok (.aload_n 0, 1) := dk_42 (dk_at dksX12_fault_0 4 rfl rfl)
theorem dX12_fault_5 : decode cX12_fault 5 = .ok (.bipush 59, 2) := dk_16 59 (dk_at dksX12_fault_0 5 rfl rfl)
theorem dX12_fault_7 : decode cX12_fault 7 = .ok (.invokevirtual 44, 3) := dk_182 0 44 (dk_at dksX12_fault_0 7 rfl rfl)
theorem dX12_fault_10 : decode cX12_fault 10 = .ok (.ifCond .ne (-10), 3) := dk_154 255 246 (dk_at dksX12_fault_0 10 rfl rfl)
theorem dX12_fault_13 : decode cX12_fault 13 = .ok (.aload_n 0, 1) := dk_42 (dk_at dksX12_fault_0 13 rfl rfl)
theorem dX12_fault_14 : decode cX12_fault 14 = .ok (.dup, 1) := dk_89 (dk_at dksX12_fault_0 14 rfl rfl)
theorem dX12_fault_15 : decode cX12_fault 15 = .ok (.getfield 36, 3) := dk_180 0 36 (dk_at dksX12_fault_0 15 rfl rfl)
theorem dX12_fault_18 : decode cX12_fault 18 = .ok (.aload_n 0, 1) := dk_42 (dk_at dksX12_fault_0 18 rfl rfl)
theorem dX12_fault_19 : decode cX12_fault 19 = .ok (.getfield 22, 3) := dk_180 0 22 (dk_at dksX12_fault_0 19 rfl rfl)
theorem dX12_fault_22 : decode cX12_fault 22 = .ok (.aload_n 0, 1) := dk_42 (dk_at dksX12_fault_0 22 rfl rfl)
theorem dX12_fault_23 : decode cX12_fault 23 = .ok (.getfield 18, 3) := dk_180 0 18 (dk_at dksX12_fault_1 0 rfl rfl)
theorem dX12_fault_26 : decode cX12_fault 26 = .ok (.invokeinterface 26 1, 5) := by decide +kernel
theorem dX12_fault_31 : decode cX12_fault 31 = .ok (.if_icmp .ge 7, 3) := dk_162 0 7 (dk_at dksX12_fault_1 8 rfl rfl)
theorem dX12_fault_34 : decode cX12_fault 34 = .ok (.iconst 1, 1) := dk_4 (dk_at dksX12_fault_1 11 rfl rfl)
theorem dX12_fault_35 : decode cX12_fault 35 = .ok (.goto 4, 3) := dk_167 0 4 (dk_at dksX12_fault_1 12 rfl rfl)
theorem dX12_fault_38 : decode cX12_fault 38 = .ok (.iconst 0, 1) := dk_3 (dk_at dksX12_fault_1 15 rfl rfl)
theorem dX12_fault_39 : decode cX12_fault 39 = .ok (.ior, 1) := dk_128 (dk_at dksX12_fault_1 16 rfl rfl)
theorem dX12_fault_40 : decode cX12_fault 40 = .ok (.putfield 36, 3) := dk_181 0 36 (dk_at dksX12_fault_1 17 rfl rfl)
theorem dX12_fault_43 : decode cX12_fault 43 = .ok (.aload_n 0, 1) := dk_42 (dk_at dksX12_fault_1 20 rfl rfl)
theorem dX12_fault_44 : decode cX12_fault 44 = .ok (.getfield 36, 3) := dk_180 0 36 (dk_at dksX12_fault_1 21 rfl rfl)
theorem dX12_fault_47 : decode cX12_fault 47 = .ok (.ifCond .eq 10, 3) := dk_153 0 10 (dk_at dksX12_fault_2 0 rfl rfl)
theorem dX12_fault_50 : decode cX12_fault 50 = .ok (.aload_n 0, 1) := dk_42 (dk_at dksX12_fault_2 3 rfl rfl)
theorem dX12_fault_51 : decode cX12_fault 51 = .ok (.getfield 22, 3) := dk_180 0 22 (dk_at dksX12_fault_2 4 rfl rfl)
theorem dX12_fault_54 : decode cX12_fault 54 = .ok (.goto 4, 3) := dk_167 0 4 (dk_at dksX12_fault_2 7 rfl rfl)
theorem dX12_fault_57 : decode cX12_fault 57 = .ok (.iconst (-1), 1) := dk_2 (dk_at dksX12_fault_2 10 rfl rfl)
theorem dX12_fault_58 : decode cX12_fault 58 = .ok (.ireturn, 1) := dk_172 (dk_at dksX12_fault_2 11 rfl rfl)
abbrev cX12_command : ByteArray := prog_8_method_10_code
def yX12_command : MethodName := ⟨RX12, "command", "()V"⟩
def dkwX12_command_12 : List UInt8 := [181, 0, 36, 42, 180, 0, 12, 43, 182, 0, 126, 87, 177]
abbrev dktX12_command_12 : List UInt8 := dkwX12_command_12 ++ []
def dkwX12_command_11 : List UInt8 := [182, 0, 116, 181, 0, 113, 167, 0, 20, 43, 42, 5, 182, 0, 116, 181, 0, 113, 167, 0, 8, 42, 4]
abbrev dktX12_command_11 : List UInt8 := dkwX12_command_11 ++ dktX12_command_12
def dkwX12_command_10 : List UInt8 := [182, 0, 110, 181, 0, 113, 167, 0, 43, 43, 42, 182, 0, 123, 181, 0, 113, 167, 0, 32, 43, 42, 4]
abbrev dktX12_command_10 : List UInt8 := dkwX12_command_10 ++ dktX12_command_11
def dkwX12_command_9 : List UInt8 := [43, 42, 182, 0, 110, 181, 0, 113, 43, 42, 4, 182, 0, 116, 181, 0, 120, 167, 0, 54, 43, 42]
abbrev dktX12_command_9 : List UInt8 := dkwX12_command_9 ++ dktX12_command_10
def dkwX12_command_8 : List UInt8 := [170, 0, 0, 0, 0, 0, 0, 114, 0, 0, 0, 0, 0, 0, 0, 7, 0, 0, 0, 48, 0, 0, 0, 68, 0, 0, 0, 79, 0, 0, 0, 90, 0, 0, 0, 90, 0, 0, 0, 102, 0, 0, 0, 102, 0, 0, 0, 102]
abbrev dktX12_command_8 : List UInt8 := dkwX12_command_8 ++ dktX12_command_9
def dkwX12_command_7 : List UInt8 := [62, 167, 0, 15, 44, 18, 89, 182, 0, 106, 153, 0, 6, 16, 7, 62, 29]
abbrev dktX12_command_7 : List UInt8 := dkwX12_command_7 ++ dktX12_command_8
def dkwX12_command_6 : List UInt8 := [18, 79, 182, 0, 106, 153, 0, 35, 8, 62, 167, 0, 30, 44, 18, 81, 182, 0, 106, 153, 0, 21, 16, 6]
abbrev dktX12_command_6 : List UInt8 := dkwX12_command_6 ++ dktX12_command_7
def dkwX12_command_5 : List UInt8 := [153, 0, 63, 6, 62, 167, 0, 58, 44, 18, 85, 182, 0, 106, 153, 0, 49, 7, 62, 167, 0, 44, 44]
abbrev dktX12_command_5 : List UInt8 := dkwX12_command_5 ++ dktX12_command_6
def dkwX12_command_4 : List UInt8 := [62, 167, 0, 86, 44, 18, 83, 182, 0, 106, 153, 0, 77, 5, 62, 167, 0, 72, 44, 18, 87, 182, 0, 106]
abbrev dktX12_command_4 : List UInt8 := dkwX12_command_4 ++ dktX12_command_5
def dkwX12_command_3 : List UInt8 := [44, 18, 75, 182, 0, 106, 153, 0, 105, 3, 62, 167, 0, 100, 44, 18, 77, 182, 0, 106, 153, 0, 91, 4]
abbrev dktX12_command_3 : List UInt8 := dkwX12_command_3 ++ dktX12_command_4
def dkwX12_command_2 : List UInt8 := [171, 0, 0, 0, 184, 0, 0, 0, 8, 0, 1, 161, 162, 0, 0, 0, 101, 0, 46, 123, 32, 0, 0, 0, 73, 0, 54, 81, 157, 0, 0, 0, 143, 0, 54, 128, 125, 0, 0, 0, 87, 6, 33, 78, 183, 0, 0, 0, 157, 6, 133, 79, 223, 0, 0, 0, 115, 6, 136, 242, 105, 0, 0, 0, 129, 6, 218, 95, 141, 0, 0, 0, 172]
abbrev dktX12_command_2 : List UInt8 := dkwX12_command_2 ++ dktX12_command_3
def dkwX12_command_1 : List UInt8 := [128, 181, 0, 36, 42, 43, 180, 0, 100, 182, 0, 50, 43, 180, 0, 100, 77, 2, 62, 44, 182, 0, 103]
abbrev dktX12_command_1 : List UInt8 := dkwX12_command_1 ++ dktX12_command_2
def dkwX12_command_0 : List UInt8 := [187, 0, 91, 89, 42, 182, 0, 93, 183, 0, 97, 76, 42, 89, 180, 0, 36, 43, 180, 0, 100, 182, 0, 66]
abbrev dktX12_command_0 : List UInt8 := dkwX12_command_0 ++ dktX12_command_1
theorem dksX12_command_0 : cX12_command.data.toList.drop 0 = dktX12_command_0 := by decide +kernel
theorem dksX12_command_1 : cX12_command.data.toList.drop 24 = dktX12_command_1 := dk_seg dksX12_command_0 24 rfl rfl
theorem dksX12_command_2 : cX12_command.data.toList.drop 47 = dktX12_command_2 := dk_seg dksX12_command_1 23 rfl rfl
theorem dksX12_command_3 : cX12_command.data.toList.drop 120 = dktX12_command_3 := dk_seg dksX12_command_2 73 rfl rfl
theorem dksX12_command_4 : cX12_command.data.toList.drop 144 = dktX12_command_4 := dk_seg dksX12_command_3 24 rfl rfl
theorem dksX12_command_5 : cX12_command.data.toList.drop 168 = dktX12_command_5 := dk_seg dksX12_command_4 24 rfl rfl
theorem dksX12_command_6 : cX12_command.data.toList.drop 191 = dktX12_command_6 := dk_seg dksX12_command_5 23 rfl rfl
theorem dksX12_command_7 : cX12_command.data.toList.drop 215 = dktX12_command_7 := dk_seg dksX12_command_6 24 rfl rfl
theorem dksX12_command_8 : cX12_command.data.toList.drop 232 = dktX12_command_8 := dk_seg dksX12_command_7 17 rfl rfl
theorem dksX12_command_9 : cX12_command.data.toList.drop 280 = dktX12_command_9 := dk_seg dksX12_command_8 48 rfl rfl
theorem dksX12_command_10 : cX12_command.data.toList.drop 302 = dktX12_command_10 := dk_seg dksX12_command_9 22 rfl rfl
theorem dksX12_command_11 : cX12_command.data.toList.drop 325 = dktX12_command_11 := dk_seg dksX12_command_10 23 rfl rfl
theorem dksX12_command_12 : cX12_command.data.toList.drop 348 = dktX12_command_12 := dk_seg dksX12_command_11 23 rfl rfl
theorem dX12_command_0 : decode cX12_command 0 = .ok (.new 91, 3) := dk_187 0 91 (dk_at dksX12_command_0 0 rfl rfl)
theorem dX12_command_3 : decode cX12_command 3 = .ok (.dup, 1) := dk_89 (dk_at dksX12_command_0 3 rfl rfl)
theorem dX12_command_4 : decode cX12_command 4 = .ok (.aload_n 0, 1) := dk_42 (dk_at dksX12_command_0 4 rfl rfl)
theorem dX12_command_5 : decode cX12_command 5 = .ok (.invokevirtual 93, 3) := dk_182 0 93 (dk_at dksX12_command_0 5 rfl rfl)
theorem dX12_command_8 : decode cX12_command 8 = .ok (.invokespecial 97, 3) := dk_183 0 97 (dk_at dksX12_command_0 8 rfl rfl)
theorem dX12_command_11 : decode cX12_command 11 = .ok (.astore_n 1, 1) := dk_76 (dk_at dksX12_command_0 11 rfl rfl)
theorem dX12_command_12 : decode cX12_command 12 = .ok (.aload_n 0, 1) := dk_42 (dk_at dksX12_command_0 12 rfl rfl)
theorem dX12_command_13 : decode cX12_command 13 = .ok (.dup, 1) := dk_89 (dk_at dksX12_command_0 13 rfl rfl)
theorem dX12_command_14 : decode cX12_command 14 = .ok (.getfield 36, 3) := dk_180 0 36 (dk_at dksX12_command_0 14 rfl rfl)
theorem dX12_command_17 : decode cX12_command 17 = .ok (.aload_n 1, 1) := dk_43 (dk_at dksX12_command_0 17 rfl rfl)
theorem dX12_command_18 : decode cX12_command 18 = .ok (.getfield 100, 3) := dk_180 0 100 (dk_at dksX12_command_0 18 rfl rfl)
theorem dX12_command_21 : decode cX12_command 21 = .ok (.invokevirtual 66, 3) := dk_182 0 66 (dk_at dksX12_command_0 21 rfl rfl)
theorem dX12_command_24 : decode cX12_command 24 = .ok (.ior, 1) := dk_128 (dk_at dksX12_command_1 0 rfl rfl)
theorem dX12_command_25 : decode cX12_command 25 = .ok (.putfield 36, 3) := dk_181 0 36 (dk_at dksX12_command_1 1 rfl rfl)
theorem dX12_command_28 : decode cX12_command 28 = .ok (.aload_n 0, 1) := dk_42 (dk_at dksX12_command_1 4 rfl rfl)
theorem dX12_command_29 : decode cX12_command 29 = .ok (.aload_n 1, 1) := dk_43 (dk_at dksX12_command_1 5 rfl rfl)
theorem dX12_command_30 : decode cX12_command 30 = .ok (.getfield 100, 3) := dk_180 0 100 (dk_at dksX12_command_1 6 rfl rfl)
theorem dX12_command_33 : decode cX12_command 33 = .ok (.invokevirtual 50, 3) := dk_182 0 50 (dk_at dksX12_command_1 9 rfl rfl)
theorem dX12_command_36 : decode cX12_command 36 = .ok (.aload_n 1, 1) := dk_43 (dk_at dksX12_command_1 12 rfl rfl)
theorem dX12_command_37 : decode cX12_command 37 = .ok (.getfield 100, 3) := dk_180 0 100 (dk_at dksX12_command_1 13 rfl rfl)
theorem dX12_command_40 : decode cX12_command 40 = .ok (.astore_n 2, 1) := dk_77 (dk_at dksX12_command_1 16 rfl rfl)
theorem dX12_command_41 : decode cX12_command 41 = .ok (.iconst (-1), 1) := dk_2 (dk_at dksX12_command_1 17 rfl rfl)
theorem dX12_command_42 : decode cX12_command 42 = .ok (.istore_n 3, 1) := dk_62 (dk_at dksX12_command_1 18 rfl rfl)
theorem dX12_command_43 : decode cX12_command 43 = .ok (.aload_n 2, 1) := dk_44 (dk_at dksX12_command_1 19 rfl rfl)
theorem dX12_command_44 : decode cX12_command 44 = .ok (.invokevirtual 103, 3) := dk_182 0 103 (dk_at dksX12_command_1 20 rfl rfl)
theorem dX12_command_47 : decode cX12_command 47 = .ok (.lookupswitch 184 #[(106914, 101), (3046176, 73), (3559837, 143), (3571837, 87), (102846135, 157), (109400031, 115), (109638249, 129), (114974605, 172)], 73) := by decide +kernel
theorem dX12_command_120 : decode cX12_command 120 = .ok (.aload_n 2, 1) := dk_44 (dk_at dksX12_command_3 0 rfl rfl)
theorem dX12_command_121 : decode cX12_command 121 = .ok (.ldc 75, 2) := dk_18 75 (dk_at dksX12_command_3 1 rfl rfl)
theorem dX12_command_123 : decode cX12_command 123 = .ok (.invokevirtual 106, 3) := dk_182 0 106 (dk_at dksX12_command_3 3 rfl rfl)
theorem dX12_command_126 : decode cX12_command 126 = .ok (.ifCond .eq 105, 3) := dk_153 0 105 (dk_at dksX12_command_3 6 rfl rfl)
theorem dX12_command_129 : decode cX12_command 129 = .ok (.iconst 0, 1) := dk_3 (dk_at dksX12_command_3 9 rfl rfl)
theorem dX12_command_130 : decode cX12_command 130 = .ok (.istore_n 3, 1) := dk_62 (dk_at dksX12_command_3 10 rfl rfl)
theorem dX12_command_131 : decode cX12_command 131 = .ok (.goto 100, 3) := dk_167 0 100 (dk_at dksX12_command_3 11 rfl rfl)
theorem dX12_command_134 : decode cX12_command 134 = .ok (.aload_n 2, 1) := dk_44 (dk_at dksX12_command_3 14 rfl rfl)
theorem dX12_command_135 : decode cX12_command 135 = .ok (.ldc 77, 2) := dk_18 77 (dk_at dksX12_command_3 15 rfl rfl)
theorem dX12_command_137 : decode cX12_command 137 = .ok (.invokevirtual 106, 3) := dk_182 0 106 (dk_at dksX12_command_3 17 rfl rfl)
theorem dX12_command_140 : decode cX12_command 140 = .ok (.ifCond .eq 91, 3) := dk_153 0 91 (dk_at dksX12_command_3 20 rfl rfl)
theorem dX12_command_143 : decode cX12_command 143 = .ok (.iconst 1, 1) := dk_4 (dk_at dksX12_command_3 23 rfl rfl)
theorem dX12_command_144 : decode cX12_command 144 = .ok (.istore_n 3, 1) := dk_62 (dk_at dksX12_command_4 0 rfl rfl)
theorem dX12_command_145 : decode cX12_command 145 = .ok (.goto 86, 3) := dk_167 0 86 (dk_at dksX12_command_4 1 rfl rfl)
theorem dX12_command_148 : decode cX12_command 148 = .ok (.aload_n 2, 1) := dk_44 (dk_at dksX12_command_4 4 rfl rfl)
theorem dX12_command_149 : decode cX12_command 149 = .ok (.ldc 83, 2) := dk_18 83 (dk_at dksX12_command_4 5 rfl rfl)
theorem dX12_command_151 : decode cX12_command 151 = .ok (.invokevirtual 106, 3) := dk_182 0 106 (dk_at dksX12_command_4 7 rfl rfl)
theorem dX12_command_154 : decode cX12_command 154 = .ok (.ifCond .eq 77, 3) := dk_153 0 77 (dk_at dksX12_command_4 10 rfl rfl)
theorem dX12_command_157 : decode cX12_command 157 = .ok (.iconst 2, 1) := dk_5 (dk_at dksX12_command_4 13 rfl rfl)
theorem dX12_command_158 : decode cX12_command 158 = .ok (.istore_n 3, 1) := dk_62 (dk_at dksX12_command_4 14 rfl rfl)
theorem dX12_command_159 : decode cX12_command 159 = .ok (.goto 72, 3) := dk_167 0 72 (dk_at dksX12_command_4 15 rfl rfl)
theorem dX12_command_162 : decode cX12_command 162 = .ok (.aload_n 2, 1) := dk_44 (dk_at dksX12_command_4 18 rfl rfl)
theorem dX12_command_163 : decode cX12_command 163 = .ok (.ldc 87, 2) := dk_18 87 (dk_at dksX12_command_4 19 rfl rfl)
theorem dX12_command_165 : decode cX12_command 165 = .ok (.invokevirtual 106, 3) := dk_182 0 106 (dk_at dksX12_command_4 21 rfl rfl)
theorem dX12_command_168 : decode cX12_command 168 = .ok (.ifCond .eq 63, 3) := dk_153 0 63 (dk_at dksX12_command_5 0 rfl rfl)
theorem dX12_command_171 : decode cX12_command 171 = .ok (.iconst 3, 1) := dk_6 (dk_at dksX12_command_5 3 rfl rfl)
theorem dX12_command_172 : decode cX12_command 172 = .ok (.istore_n 3, 1) := dk_62 (dk_at dksX12_command_5 4 rfl rfl)
theorem dX12_command_173 : decode cX12_command 173 = .ok (.goto 58, 3) := dk_167 0 58 (dk_at dksX12_command_5 5 rfl rfl)
theorem dX12_command_176 : decode cX12_command 176 = .ok (.aload_n 2, 1) := dk_44 (dk_at dksX12_command_5 8 rfl rfl)
theorem dX12_command_177 : decode cX12_command 177 = .ok (.ldc 85, 2) := dk_18 85 (dk_at dksX12_command_5 9 rfl rfl)
theorem dX12_command_179 : decode cX12_command 179 = .ok (.invokevirtual 106, 3) := dk_182 0 106 (dk_at dksX12_command_5 11 rfl rfl)
theorem dX12_command_182 : decode cX12_command 182 = .ok (.ifCond .eq 49, 3) := dk_153 0 49 (dk_at dksX12_command_5 14 rfl rfl)
theorem dX12_command_185 : decode cX12_command 185 = .ok (.iconst 4, 1) := dk_7 (dk_at dksX12_command_5 17 rfl rfl)
theorem dX12_command_186 : decode cX12_command 186 = .ok (.istore_n 3, 1) := dk_62 (dk_at dksX12_command_5 18 rfl rfl)
theorem dX12_command_187 : decode cX12_command 187 = .ok (.goto 44, 3) := dk_167 0 44 (dk_at dksX12_command_5 19 rfl rfl)
theorem dX12_command_190 : decode cX12_command 190 = .ok (.aload_n 2, 1) := dk_44 (dk_at dksX12_command_5 22 rfl rfl)
theorem dX12_command_191 : decode cX12_command 191 = .ok (.ldc 79, 2) := dk_18 79 (dk_at dksX12_command_6 0 rfl rfl)
theorem dX12_command_193 : decode cX12_command 193 = .ok (.invokevirtual 106, 3) := dk_182 0 106 (dk_at dksX12_command_6 2 rfl rfl)
theorem dX12_command_196 : decode cX12_command 196 = .ok (.ifCond .eq 35, 3) := dk_153 0 35 (dk_at dksX12_command_6 5 rfl rfl)
theorem dX12_command_199 : decode cX12_command 199 = .ok (.iconst 5, 1) := dk_8 (dk_at dksX12_command_6 8 rfl rfl)
theorem dX12_command_200 : decode cX12_command 200 = .ok (.istore_n 3, 1) := dk_62 (dk_at dksX12_command_6 9 rfl rfl)
theorem dX12_command_201 : decode cX12_command 201 = .ok (.goto 30, 3) := dk_167 0 30 (dk_at dksX12_command_6 10 rfl rfl)
theorem dX12_command_204 : decode cX12_command 204 = .ok (.aload_n 2, 1) := dk_44 (dk_at dksX12_command_6 13 rfl rfl)
theorem dX12_command_205 : decode cX12_command 205 = .ok (.ldc 81, 2) := dk_18 81 (dk_at dksX12_command_6 14 rfl rfl)
theorem dX12_command_207 : decode cX12_command 207 = .ok (.invokevirtual 106, 3) := dk_182 0 106 (dk_at dksX12_command_6 16 rfl rfl)
theorem dX12_command_210 : decode cX12_command 210 = .ok (.ifCond .eq 21, 3) := dk_153 0 21 (dk_at dksX12_command_6 19 rfl rfl)
theorem dX12_command_213 : decode cX12_command 213 = .ok (.bipush 6, 2) := dk_16 6 (dk_at dksX12_command_6 22 rfl rfl)
theorem dX12_command_215 : decode cX12_command 215 = .ok (.istore_n 3, 1) := dk_62 (dk_at dksX12_command_7 0 rfl rfl)
theorem dX12_command_216 : decode cX12_command 216 = .ok (.goto 15, 3) := dk_167 0 15 (dk_at dksX12_command_7 1 rfl rfl)
theorem dX12_command_219 : decode cX12_command 219 = .ok (.aload_n 2, 1) := dk_44 (dk_at dksX12_command_7 4 rfl rfl)
theorem dX12_command_220 : decode cX12_command 220 = .ok (.ldc 89, 2) := dk_18 89 (dk_at dksX12_command_7 5 rfl rfl)
theorem dX12_command_222 : decode cX12_command 222 = .ok (.invokevirtual 106, 3) := dk_182 0 106 (dk_at dksX12_command_7 7 rfl rfl)
theorem dX12_command_225 : decode cX12_command 225 = .ok (.ifCond .eq 6, 3) := dk_153 0 6 (dk_at dksX12_command_7 10 rfl rfl)
theorem dX12_command_228 : decode cX12_command 228 = .ok (.bipush 7, 2) := dk_16 7 (dk_at dksX12_command_7 13 rfl rfl)
theorem dX12_command_230 : decode cX12_command 230 = .ok (.istore_n 3, 1) := dk_62 (dk_at dksX12_command_7 15 rfl rfl)
theorem dX12_command_231 : decode cX12_command 231 = .ok (.iload_n 3, 1) := dk_29 (dk_at dksX12_command_7 16 rfl rfl)
theorem dX12_command_232 : decode cX12_command 232 = .ok (.tableswitch 114 0 7 #[48, 68, 79, 90, 90, 102, 102, 102], 48) := by decide +kernel
theorem dX12_command_280 : decode cX12_command 280 = .ok (.aload_n 1, 1) := dk_43 (dk_at dksX12_command_9 0 rfl rfl)
theorem dX12_command_281 : decode cX12_command 281 = .ok (.aload_n 0, 1) := dk_42 (dk_at dksX12_command_9 1 rfl rfl)
theorem dX12_command_282 : decode cX12_command 282 = .ok (.invokevirtual 110, 3) := dk_182 0 110 (dk_at dksX12_command_9 2 rfl rfl)
theorem dX12_command_285 : decode cX12_command 285 = .ok (.putfield 113, 3) := dk_181 0 113 (dk_at dksX12_command_9 5 rfl rfl)
theorem dX12_command_288 : decode cX12_command 288 = .ok (.aload_n 1, 1) := dk_43 (dk_at dksX12_command_9 8 rfl rfl)
theorem dX12_command_289 : decode cX12_command 289 = .ok (.aload_n 0, 1) := dk_42 (dk_at dksX12_command_9 9 rfl rfl)
theorem dX12_command_290 : decode cX12_command 290 = .ok (.iconst 1, 1) := dk_4 (dk_at dksX12_command_9 10 rfl rfl)
theorem dX12_command_291 : decode cX12_command 291 = .ok (.invokevirtual 116, 3) := dk_182 0 116 (dk_at dksX12_command_9 11 rfl rfl)
theorem dX12_command_294 : decode cX12_command 294 = .ok (.putfield 120, 3) := dk_181 0 120 (dk_at dksX12_command_9 14 rfl rfl)
theorem dX12_command_297 : decode cX12_command 297 = .ok (.goto 54, 3) := dk_167 0 54 (dk_at dksX12_command_9 17 rfl rfl)
theorem dX12_command_300 : decode cX12_command 300 = .ok (.aload_n 1, 1) := dk_43 (dk_at dksX12_command_9 20 rfl rfl)
theorem dX12_command_301 : decode cX12_command 301 = .ok (.aload_n 0, 1) := dk_42 (dk_at dksX12_command_9 21 rfl rfl)
theorem dX12_command_302 : decode cX12_command 302 = .ok (.invokevirtual 110, 3) := dk_182 0 110 (dk_at dksX12_command_10 0 rfl rfl)
theorem dX12_command_305 : decode cX12_command 305 = .ok (.putfield 113, 3) := dk_181 0 113 (dk_at dksX12_command_10 3 rfl rfl)
theorem dX12_command_308 : decode cX12_command 308 = .ok (.goto 43, 3) := dk_167 0 43 (dk_at dksX12_command_10 6 rfl rfl)
theorem dX12_command_311 : decode cX12_command 311 = .ok (.aload_n 1, 1) := dk_43 (dk_at dksX12_command_10 9 rfl rfl)
theorem dX12_command_312 : decode cX12_command 312 = .ok (.aload_n 0, 1) := dk_42 (dk_at dksX12_command_10 10 rfl rfl)
theorem dX12_command_313 : decode cX12_command 313 = .ok (.invokevirtual 123, 3) := dk_182 0 123 (dk_at dksX12_command_10 11 rfl rfl)
theorem dX12_command_316 : decode cX12_command 316 = .ok (.putfield 113, 3) := dk_181 0 113 (dk_at dksX12_command_10 14 rfl rfl)
theorem dX12_command_319 : decode cX12_command 319 = .ok (.goto 32, 3) := dk_167 0 32 (dk_at dksX12_command_10 17 rfl rfl)
theorem dX12_command_322 : decode cX12_command 322 = .ok (.aload_n 1, 1) := dk_43 (dk_at dksX12_command_10 20 rfl rfl)
theorem dX12_command_323 : decode cX12_command 323 = .ok (.aload_n 0, 1) := dk_42 (dk_at dksX12_command_10 21 rfl rfl)
theorem dX12_command_324 : decode cX12_command 324 = .ok (.iconst 1, 1) := dk_4 (dk_at dksX12_command_10 22 rfl rfl)
theorem dX12_command_325 : decode cX12_command 325 = .ok (.invokevirtual 116, 3) := dk_182 0 116 (dk_at dksX12_command_11 0 rfl rfl)
theorem dX12_command_328 : decode cX12_command 328 = .ok (.putfield 113, 3) := dk_181 0 113 (dk_at dksX12_command_11 3 rfl rfl)
theorem dX12_command_331 : decode cX12_command 331 = .ok (.goto 20, 3) := dk_167 0 20 (dk_at dksX12_command_11 6 rfl rfl)
theorem dX12_command_334 : decode cX12_command 334 = .ok (.aload_n 1, 1) := dk_43 (dk_at dksX12_command_11 9 rfl rfl)
theorem dX12_command_335 : decode cX12_command 335 = .ok (.aload_n 0, 1) := dk_42 (dk_at dksX12_command_11 10 rfl rfl)
theorem dX12_command_336 : decode cX12_command 336 = .ok (.iconst 2, 1) := dk_5 (dk_at dksX12_command_11 11 rfl rfl)
theorem dX12_command_337 : decode cX12_command 337 = .ok (.invokevirtual 116, 3) := dk_182 0 116 (dk_at dksX12_command_11 12 rfl rfl)
theorem dX12_command_340 : decode cX12_command 340 = .ok (.putfield 113, 3) := dk_181 0 113 (dk_at dksX12_command_11 15 rfl rfl)
theorem dX12_command_343 : decode cX12_command 343 = .ok (.goto 8, 3) := dk_167 0 8 (dk_at dksX12_command_11 18 rfl rfl)
theorem dX12_command_346 : decode cX12_command 346 = .ok (.aload_n 0, 1) := dk_42 (dk_at dksX12_command_11 21 rfl rfl)
theorem dX12_command_347 : decode cX12_command 347 = .ok (.iconst 1, 1) := dk_4 (dk_at dksX12_command_11 22 rfl rfl)
theorem dX12_command_348 : decode cX12_command 348 = .ok (.putfield 36, 3) := dk_181 0 36 (dk_at dksX12_command_12 0 rfl rfl)
theorem dX12_command_351 : decode cX12_command 351 = .ok (.aload_n 0, 1) := dk_42 (dk_at dksX12_command_12 3 rfl rfl)
theorem dX12_command_352 : decode cX12_command 352 = .ok (.getfield 12, 3) := dk_180 0 12 (dk_at dksX12_command_12 4 rfl rfl)
theorem dX12_command_355 : decode cX12_command 355 = .ok (.aload_n 1, 1) := dk_43 (dk_at dksX12_command_12 7 rfl rfl)
theorem dX12_command_356 : decode cX12_command 356 = .ok (.invokevirtual 126, 3) := dk_182 0 126 (dk_at dksX12_command_12 8 rfl rfl)
theorem dX12_command_359 : decode cX12_command 359 = .ok (.pop, 1) := dk_87 (dk_at dksX12_command_12 11 rfl rfl)
theorem dX12_command_360 : decode cX12_command 360 = .ok (.return_, 1) := dk_177 (dk_at dksX12_command_12 12 rfl rfl)
abbrev cX12_word : ByteArray := prog_8_method_9_code
def yX12_word : MethodName := ⟨RX12, "word", "()Ljava/lang/String;"⟩
def dkwX12_word_5 : List UInt8 := [18, 87, 167, 0, 10, 18, 89, 167, 0, 5, 18, 58, 176]
abbrev dktX12_word_5 : List UInt8 := dkwX12_word_5 ++ []
def dkwX12_word_4 : List UInt8 := [160, 0, 8, 18, 81, 167, 0, 31, 18, 83, 167, 0, 26, 27, 16, 112, 160, 0, 8, 18, 85, 167, 0, 15]
abbrev dktX12_word_4 : List UInt8 := dkwX12_word_4 ++ dktX12_word_5
def dkwX12_word_3 : List UInt8 := [18, 75, 167, 0, 58, 27, 16, 117, 160, 0, 8, 18, 77, 167, 0, 47, 18, 79, 167, 0, 42, 27, 16, 101]
abbrev dktX12_word_3 : List UInt8 := dkwX12_word_3 ++ dktX12_word_4
def dkwX12_word_2 : List UInt8 := [171, 0, 0, 0, 0, 108, 0, 0, 0, 5, 0, 0, 0, 99, 0, 0, 0, 50, 0, 0, 0, 108, 0, 0, 0, 71, 0, 0, 0, 115, 0, 0, 0, 87, 0, 0, 0, 116, 0, 0, 0, 55, 0, 0, 0, 121, 0, 0, 0, 103]
abbrev dktX12_word_2 : List UInt8 := dkwX12_word_2 ++ dktX12_word_3
def dkwX12_word_1 : List UInt8 := [180, 0, 22, 4, 96, 185, 0, 32, 2, 0, 167, 0, 4, 3, 60, 42, 182, 0, 40]
abbrev dktX12_word_1 : List UInt8 := dkwX12_word_1 ++ dktX12_word_2
def dkwX12_word_0 : List UInt8 := [42, 180, 0, 22, 4, 96, 42, 180, 0, 18, 185, 0, 26, 1, 0, 162, 0, 21, 42, 180, 0, 18, 42]
abbrev dktX12_word_0 : List UInt8 := dkwX12_word_0 ++ dktX12_word_1
theorem dksX12_word_0 : cX12_word.data.toList.drop 0 = dktX12_word_0 := by decide +kernel
theorem dksX12_word_1 : cX12_word.data.toList.drop 23 = dktX12_word_1 := dk_seg dksX12_word_0 23 rfl rfl
theorem dksX12_word_2 : cX12_word.data.toList.drop 42 = dktX12_word_2 := dk_seg dksX12_word_1 19 rfl rfl
theorem dksX12_word_3 : cX12_word.data.toList.drop 92 = dktX12_word_3 := dk_seg dksX12_word_2 50 rfl rfl
theorem dksX12_word_4 : cX12_word.data.toList.drop 116 = dktX12_word_4 := dk_seg dksX12_word_3 24 rfl rfl
theorem dksX12_word_5 : cX12_word.data.toList.drop 140 = dktX12_word_5 := dk_seg dksX12_word_4 24 rfl rfl
theorem dX12_word_0 : decode cX12_word 0 = .ok (.aload_n 0, 1) := dk_42 (dk_at dksX12_word_0 0 rfl rfl)
theorem dX12_word_1 : decode cX12_word 1 = .ok (.getfield 22, 3) := dk_180 0 22 (dk_at dksX12_word_0 1 rfl rfl)
theorem dX12_word_4 : decode cX12_word 4 = .ok (.iconst 1, 1) := dk_4 (dk_at dksX12_word_0 4 rfl rfl)
theorem dX12_word_5 : decode cX12_word 5 = .ok (.iadd, 1) := dk_96 (dk_at dksX12_word_0 5 rfl rfl)
theorem dX12_word_6 : decode cX12_word 6 = .ok (.aload_n 0, 1) := dk_42 (dk_at dksX12_word_0 6 rfl rfl)
theorem dX12_word_7 : decode cX12_word 7 = .ok (.getfield 18, 3) := dk_180 0 18 (dk_at dksX12_word_0 7 rfl rfl)
theorem dX12_word_10 : decode cX12_word 10 = .ok (.invokeinterface 26 1, 5) := by decide +kernel
theorem dX12_word_15 : decode cX12_word 15 = .ok (.if_icmp .ge 21, 3) := dk_162 0 21 (dk_at dksX12_word_0 15 rfl rfl)
theorem dX12_word_18 : decode cX12_word 18 = .ok (.aload_n 0, 1) := dk_42 (dk_at dksX12_word_0 18 rfl rfl)
theorem dX12_word_19 : decode cX12_word 19 = .ok (.getfield 18, 3) := dk_180 0 18 (dk_at dksX12_word_0 19 rfl rfl)
theorem dX12_word_22 : decode cX12_word 22 = .ok (.aload_n 0, 1) := dk_42 (dk_at dksX12_word_0 22 rfl rfl)
theorem dX12_word_23 : decode cX12_word 23 = .ok (.getfield 22, 3) := dk_180 0 22 (dk_at dksX12_word_1 0 rfl rfl)
theorem dX12_word_26 : decode cX12_word 26 = .ok (.iconst 1, 1) := dk_4 (dk_at dksX12_word_1 3 rfl rfl)
theorem dX12_word_27 : decode cX12_word 27 = .ok (.iadd, 1) := dk_96 (dk_at dksX12_word_1 4 rfl rfl)
theorem dX12_word_28 : decode cX12_word 28 = .ok (.invokeinterface 32 2, 5) := by decide +kernel
theorem dX12_word_33 : decode cX12_word 33 = .ok (.goto 4, 3) := dk_167 0 4 (dk_at dksX12_word_1 10 rfl rfl)
theorem dX12_word_36 : decode cX12_word 36 = .ok (.iconst 0, 1) := dk_3 (dk_at dksX12_word_1 13 rfl rfl)
theorem dX12_word_37 : decode cX12_word 37 = .ok (.istore_n 1, 1) := dk_60 (dk_at dksX12_word_1 14 rfl rfl)
theorem dX12_word_38 : decode cX12_word 38 = .ok (.aload_n 0, 1) := dk_42 (dk_at dksX12_word_1 15 rfl rfl)
theorem dX12_word_39 : decode cX12_word 39 = .ok (.invokevirtual 40, 3) := dk_182 0 40 (dk_at dksX12_word_1 16 rfl rfl)
theorem dX12_word_42 : decode cX12_word 42 = .ok (.lookupswitch 108 #[(99, 50), (108, 71), (115, 87), (116, 55), (121, 103)], 50) := by decide +kernel
theorem dX12_word_92 : decode cX12_word 92 = .ok (.ldc 75, 2) := dk_18 75 (dk_at dksX12_word_3 0 rfl rfl)
theorem dX12_word_94 : decode cX12_word 94 = .ok (.goto 58, 3) := dk_167 0 58 (dk_at dksX12_word_3 2 rfl rfl)
theorem dX12_word_97 : decode cX12_word 97 = .ok (.iload_n 1, 1) := dk_27 (dk_at dksX12_word_3 5 rfl rfl)
theorem dX12_word_98 : decode cX12_word 98 = .ok (.bipush 117, 2) := dk_16 117 (dk_at dksX12_word_3 6 rfl rfl)
theorem dX12_word_100 : decode cX12_word 100 = .ok (.if_icmp .ne 8, 3) := dk_160 0 8 (dk_at dksX12_word_3 8 rfl rfl)
theorem dX12_word_103 : decode cX12_word 103 = .ok (.ldc 77, 2) := dk_18 77 (dk_at dksX12_word_3 11 rfl rfl)
theorem dX12_word_105 : decode cX12_word 105 = .ok (.goto 47, 3) := dk_167 0 47 (dk_at dksX12_word_3 13 rfl rfl)
theorem dX12_word_108 : decode cX12_word 108 = .ok (.ldc 79, 2) := dk_18 79 (dk_at dksX12_word_3 16 rfl rfl)
theorem dX12_word_110 : decode cX12_word 110 = .ok (.goto 42, 3) := dk_167 0 42 (dk_at dksX12_word_3 18 rfl rfl)
theorem dX12_word_113 : decode cX12_word 113 = .ok (.iload_n 1, 1) := dk_27 (dk_at dksX12_word_3 21 rfl rfl)
theorem dX12_word_114 : decode cX12_word 114 = .ok (.bipush 101, 2) := dk_16 101 (dk_at dksX12_word_3 22 rfl rfl)
theorem dX12_word_116 : decode cX12_word 116 = .ok (.if_icmp .ne 8, 3) := dk_160 0 8 (dk_at dksX12_word_4 0 rfl rfl)
theorem dX12_word_119 : decode cX12_word 119 = .ok (.ldc 81, 2) := dk_18 81 (dk_at dksX12_word_4 3 rfl rfl)
theorem dX12_word_121 : decode cX12_word 121 = .ok (.goto 31, 3) := dk_167 0 31 (dk_at dksX12_word_4 5 rfl rfl)
theorem dX12_word_124 : decode cX12_word 124 = .ok (.ldc 83, 2) := dk_18 83 (dk_at dksX12_word_4 8 rfl rfl)
theorem dX12_word_126 : decode cX12_word 126 = .ok (.goto 26, 3) := dk_167 0 26 (dk_at dksX12_word_4 10 rfl rfl)
theorem dX12_word_129 : decode cX12_word 129 = .ok (.iload_n 1, 1) := dk_27 (dk_at dksX12_word_4 13 rfl rfl)
theorem dX12_word_130 : decode cX12_word 130 = .ok (.bipush 112, 2) := dk_16 112 (dk_at dksX12_word_4 14 rfl rfl)
theorem dX12_word_132 : decode cX12_word 132 = .ok (.if_icmp .ne 8, 3) := dk_160 0 8 (dk_at dksX12_word_4 16 rfl rfl)
theorem dX12_word_135 : decode cX12_word 135 = .ok (.ldc 85, 2) := dk_18 85 (dk_at dksX12_word_4 19 rfl rfl)
theorem dX12_word_137 : decode cX12_word 137 = .ok (.goto 15, 3) := dk_167 0 15 (dk_at dksX12_word_4 21 rfl rfl)
theorem dX12_word_140 : decode cX12_word 140 = .ok (.ldc 87, 2) := dk_18 87 (dk_at dksX12_word_5 0 rfl rfl)
theorem dX12_word_142 : decode cX12_word 142 = .ok (.goto 10, 3) := dk_167 0 10 (dk_at dksX12_word_5 2 rfl rfl)
theorem dX12_word_145 : decode cX12_word 145 = .ok (.ldc 89, 2) := dk_18 89 (dk_at dksX12_word_5 5 rfl rfl)
theorem dX12_word_147 : decode cX12_word 147 = .ok (.goto 5, 3) := dk_167 0 5 (dk_at dksX12_word_5 7 rfl rfl)
theorem dX12_word_150 : decode cX12_word 150 = .ok (.ldc 58, 2) := dk_18 58 (dk_at dksX12_word_5 10 rfl rfl)
theorem dX12_word_152 : decode cX12_word 152 = .ok (.areturn, 1) := dk_176 (dk_at dksX12_word_5 12 rfl rfl)
abbrev cX12_here : ByteArray := prog_8_method_2_code
def yX12_here : MethodName := ⟨RX12, "here", "()C"⟩
def dkwX12_here_1 : List UInt8 := [185, 0, 32, 2, 0, 167, 0, 4, 3, 172]
abbrev dktX12_here_1 : List UInt8 := dkwX12_here_1 ++ []
def dkwX12_here_0 : List UInt8 := [42, 180, 0, 22, 42, 180, 0, 18, 185, 0, 26, 1, 0, 162, 0, 19, 42, 180, 0, 18, 42, 180, 0, 22]
abbrev dktX12_here_0 : List UInt8 := dkwX12_here_0 ++ dktX12_here_1
theorem dksX12_here_0 : cX12_here.data.toList.drop 0 = dktX12_here_0 := by decide +kernel
theorem dksX12_here_1 : cX12_here.data.toList.drop 24 = dktX12_here_1 := dk_seg dksX12_here_0 24 rfl rfl
theorem dX12_here_0 : decode cX12_here 0 = .ok (.aload_n 0, 1) := dk_42 (dk_at dksX12_here_0 0 rfl rfl)
theorem dX12_here_1 : decode cX12_here 1 = .ok (.getfield 22, 3) := dk_180 0 22 (dk_at dksX12_here_0 1 rfl rfl)
theorem dX12_here_4 : decode cX12_here 4 = .ok (.aload_n 0, 1) := dk_42 (dk_at dksX12_here_0 4 rfl rfl)
theorem dX12_here_5 : decode cX12_here 5 = .ok (.getfield 18, 3) := dk_180 0 18 (dk_at dksX12_here_0 5 rfl rfl)
theorem dX12_here_8 : decode cX12_here 8 = .ok (.invokeinterface 26 1, 5) := by decide +kernel
theorem dX12_here_13 : decode cX12_here 13 = .ok (.if_icmp .ge 19, 3) := dk_162 0 19 (dk_at dksX12_here_0 13 rfl rfl)
theorem dX12_here_16 : decode cX12_here 16 = .ok (.aload_n 0, 1) := dk_42 (dk_at dksX12_here_0 16 rfl rfl)
theorem dX12_here_17 : decode cX12_here 17 = .ok (.getfield 18, 3) := dk_180 0 18 (dk_at dksX12_here_0 17 rfl rfl)
theorem dX12_here_20 : decode cX12_here 20 = .ok (.aload_n 0, 1) := dk_42 (dk_at dksX12_here_0 20 rfl rfl)
theorem dX12_here_21 : decode cX12_here 21 = .ok (.getfield 22, 3) := dk_180 0 22 (dk_at dksX12_here_0 21 rfl rfl)
theorem dX12_here_24 : decode cX12_here 24 = .ok (.invokeinterface 32 2, 5) := by decide +kernel
theorem dX12_here_29 : decode cX12_here 29 = .ok (.goto 4, 3) := dk_167 0 4 (dk_at dksX12_here_1 5 rfl rfl)
theorem dX12_here_32 : decode cX12_here 32 = .ok (.iconst 0, 1) := dk_3 (dk_at dksX12_here_1 8 rfl rfl)
theorem dX12_here_33 : decode cX12_here 33 = .ok (.ireturn, 1) := dk_172 (dk_at dksX12_here_1 9 rfl rfl)
abbrev cX12_wants : ByteArray := prog_8_method_4_code
def yX12_wants : MethodName := ⟨RX12, "wants", "(Ljava/lang/CharSequence;)V"⟩
def dkwX12_wants_2 : List UInt8 := [167, 255, 213, 177]
abbrev dktX12_wants_2 : List UInt8 := dkwX12_wants_2 ++ []
def dkwX12_wants_1 : List UInt8 := [185, 0, 32, 2, 0, 182, 0, 44, 154, 0, 7, 4, 167, 0, 4, 3, 181, 0, 36, 132, 2, 1]
abbrev dktX12_wants_1 : List UInt8 := dkwX12_wants_1 ++ dktX12_wants_2
def dkwX12_wants_0 : List UInt8 := [3, 61, 28, 43, 185, 0, 26, 1, 0, 162, 0, 39, 42, 180, 0, 36, 154, 0, 32, 42, 42, 43, 28]
abbrev dktX12_wants_0 : List UInt8 := dkwX12_wants_0 ++ dktX12_wants_1
theorem dksX12_wants_0 : cX12_wants.data.toList.drop 0 = dktX12_wants_0 := by decide +kernel
theorem dksX12_wants_1 : cX12_wants.data.toList.drop 23 = dktX12_wants_1 := dk_seg dksX12_wants_0 23 rfl rfl
theorem dksX12_wants_2 : cX12_wants.data.toList.drop 45 = dktX12_wants_2 := dk_seg dksX12_wants_1 22 rfl rfl
theorem dX12_wants_0 : decode cX12_wants 0 = .ok (.iconst 0, 1) := dk_3 (dk_at dksX12_wants_0 0 rfl rfl)
theorem dX12_wants_1 : decode cX12_wants 1 = .ok (.istore_n 2, 1) := dk_61 (dk_at dksX12_wants_0 1 rfl rfl)
theorem dX12_wants_2 : decode cX12_wants 2 = .ok (.iload_n 2, 1) := dk_28 (dk_at dksX12_wants_0 2 rfl rfl)
theorem dX12_wants_3 : decode cX12_wants 3 = .ok (.aload_n 1, 1) := dk_43 (dk_at dksX12_wants_0 3 rfl rfl)
theorem dX12_wants_4 : decode cX12_wants 4 = .ok (.invokeinterface 26 1, 5) := by decide +kernel
theorem dX12_wants_9 : decode cX12_wants 9 = .ok (.if_icmp .ge 39, 3) := dk_162 0 39 (dk_at dksX12_wants_0 9 rfl rfl)
theorem dX12_wants_12 : decode cX12_wants 12 = .ok (.aload_n 0, 1) := dk_42 (dk_at dksX12_wants_0 12 rfl rfl)
theorem dX12_wants_13 : decode cX12_wants 13 = .ok (.getfield 36, 3) := dk_180 0 36 (dk_at dksX12_wants_0 13 rfl rfl)
theorem dX12_wants_16 : decode cX12_wants 16 = .ok (.ifCond .ne 32, 3) := dk_154 0 32 (dk_at dksX12_wants_0 16 rfl rfl)
theorem dX12_wants_19 : decode cX12_wants 19 = .ok (.aload_n 0, 1) := dk_42 (dk_at dksX12_wants_0 19 rfl rfl)
theorem dX12_wants_20 : decode cX12_wants 20 = .ok (.aload_n 0, 1) := dk_42 (dk_at dksX12_wants_0 20 rfl rfl)
theorem dX12_wants_21 : decode cX12_wants 21 = .ok (.aload_n 1, 1) := dk_43 (dk_at dksX12_wants_0 21 rfl rfl)
theorem dX12_wants_22 : decode cX12_wants 22 = .ok (.iload_n 2, 1) := dk_28 (dk_at dksX12_wants_0 22 rfl rfl)
theorem dX12_wants_23 : decode cX12_wants 23 = .ok (.invokeinterface 32 2, 5) := by decide +kernel
theorem dX12_wants_28 : decode cX12_wants 28 = .ok (.invokevirtual 44, 3) := dk_182 0 44 (dk_at dksX12_wants_1 5 rfl rfl)
theorem dX12_wants_31 : decode cX12_wants 31 = .ok (.ifCond .ne 7, 3) := dk_154 0 7 (dk_at dksX12_wants_1 8 rfl rfl)
theorem dX12_wants_34 : decode cX12_wants 34 = .ok (.iconst 1, 1) := dk_4 (dk_at dksX12_wants_1 11 rfl rfl)
theorem dX12_wants_35 : decode cX12_wants 35 = .ok (.goto 4, 3) := dk_167 0 4 (dk_at dksX12_wants_1 12 rfl rfl)
theorem dX12_wants_38 : decode cX12_wants 38 = .ok (.iconst 0, 1) := dk_3 (dk_at dksX12_wants_1 15 rfl rfl)
theorem dX12_wants_39 : decode cX12_wants 39 = .ok (.putfield 36, 3) := dk_181 0 36 (dk_at dksX12_wants_1 16 rfl rfl)
theorem dX12_wants_42 : decode cX12_wants 42 = .ok (.iinc 2 1, 3) := dk_132 2 1 (dk_at dksX12_wants_1 19 rfl rfl)
theorem dX12_wants_45 : decode cX12_wants 45 = .ok (.goto (-43), 3) := dk_167 255 213 (dk_at dksX12_wants_2 0 rfl rfl)
theorem dX12_wants_48 : decode cX12_wants 48 = .ok (.return_, 1) := dk_177 (dk_at dksX12_wants_2 3 rfl rfl)
abbrev cX12_takes : ByteArray := prog_8_method_3_code
def yX12_takes : MethodName := ⟨RX12, "takes", "(C)Z"⟩
def dkwX12_takes_1 : List UInt8 := [181, 0, 22, 4, 172]
abbrev dktX12_takes_1 : List UInt8 := dkwX12_takes_1 ++ []
def dkwX12_takes_0 : List UInt8 := [42, 180, 0, 36, 154, 0, 11, 42, 182, 0, 40, 27, 159, 0, 5, 3, 172, 42, 89, 180, 0, 22, 4, 96]
abbrev dktX12_takes_0 : List UInt8 := dkwX12_takes_0 ++ dktX12_takes_1
theorem dksX12_takes_0 : cX12_takes.data.toList.drop 0 = dktX12_takes_0 := by decide +kernel
theorem dksX12_takes_1 : cX12_takes.data.toList.drop 24 = dktX12_takes_1 := dk_seg dksX12_takes_0 24 rfl rfl
theorem dX12_takes_0 : decode cX12_takes 0 = .ok (.aload_n 0, 1) := dk_42 (dk_at dksX12_takes_0 0 rfl rfl)
theorem dX12_takes_1 : decode cX12_takes 1 = .ok (.getfield 36, 3) := dk_180 0 36 (dk_at dksX12_takes_0 1 rfl rfl)
theorem dX12_takes_4 : decode cX12_takes 4 = .ok (.ifCond .ne 11, 3) := dk_154 0 11 (dk_at dksX12_takes_0 4 rfl rfl)
theorem dX12_takes_7 : decode cX12_takes 7 = .ok (.aload_n 0, 1) := dk_42 (dk_at dksX12_takes_0 7 rfl rfl)
theorem dX12_takes_8 : decode cX12_takes 8 = .ok (.invokevirtual 40, 3) := dk_182 0 40 (dk_at dksX12_takes_0 8 rfl rfl)
theorem dX12_takes_11 : decode cX12_takes 11 = .ok (.iload_n 1, 1) := dk_27 (dk_at dksX12_takes_0 11 rfl rfl)
theorem dX12_takes_12 : decode cX12_takes 12 = .ok (.if_icmp .eq 5, 3) := dk_159 0 5 (dk_at dksX12_takes_0 12 rfl rfl)
theorem dX12_takes_15 : decode cX12_takes 15 = .ok (.iconst 0, 1) := dk_3 (dk_at dksX12_takes_0 15 rfl rfl)
theorem dX12_takes_16 : decode cX12_takes 16 = .ok (.ireturn, 1) := dk_172 (dk_at dksX12_takes_0 16 rfl rfl)
theorem dX12_takes_17 : decode cX12_takes 17 = .ok (.aload_n 0, 1) := dk_42 (dk_at dksX12_takes_0 17 rfl rfl)
theorem dX12_takes_18 : decode cX12_takes 18 = .ok (.dup, 1) := dk_89 (dk_at dksX12_takes_0 18 rfl rfl)
theorem dX12_takes_19 : decode cX12_takes 19 = .ok (.getfield 22, 3) := dk_180 0 22 (dk_at dksX12_takes_0 19 rfl rfl)
theorem dX12_takes_22 : decode cX12_takes 22 = .ok (.iconst 1, 1) := dk_4 (dk_at dksX12_takes_0 22 rfl rfl)
theorem dX12_takes_23 : decode cX12_takes 23 = .ok (.iadd, 1) := dk_96 (dk_at dksX12_takes_0 23 rfl rfl)
theorem dX12_takes_24 : decode cX12_takes 24 = .ok (.putfield 22, 3) := dk_181 0 22 (dk_at dksX12_takes_1 0 rfl rfl)
theorem dX12_takes_27 : decode cX12_takes 27 = .ok (.iconst 1, 1) := dk_4 (dk_at dksX12_takes_1 3 rfl rfl)
theorem dX12_takes_28 : decode cX12_takes 28 = .ok (.ireturn, 1) := dk_172 (dk_at dksX12_takes_1 4 rfl rfl)
abbrev cX12_sideBehindBlank : ByteArray := prog_8_method_7_code
def yX12_sideBehindBlank : MethodName := ⟨RX12, "sideBehindBlank", "()I"⟩
def dkwX12_sideBehindBlank_1 : List UInt8 := [16, 101, 182, 0, 44, 154, 0, 7, 4, 167, 0, 4, 3, 128, 181, 0, 36, 4, 172]
abbrev dktX12_sideBehindBlank_1 : List UInt8 := dkwX12_sideBehindBlank_1 ++ []
def dkwX12_sideBehindBlank_0 : List UInt8 := [42, 18, 48, 182, 0, 50, 42, 16, 119, 182, 0, 44, 153, 0, 5, 3, 172, 42, 89, 180, 0, 36, 42]
abbrev dktX12_sideBehindBlank_0 : List UInt8 := dkwX12_sideBehindBlank_0 ++ dktX12_sideBehindBlank_1
theorem dksX12_sideBehindBlank_0 : cX12_sideBehindBlank.data.toList.drop 0 = dktX12_sideBehindBlank_0 := by decide +kernel
theorem dksX12_sideBehindBlank_1 : cX12_sideBehindBlank.data.toList.drop 23 = dktX12_sideBehindBlank_1 := dk_seg dksX12_sideBehindBlank_0 23 rfl rfl
theorem dX12_sideBehindBlank_0 : decode cX12_sideBehindBlank 0 = .ok (.aload_n 0, 1) := dk_42 (dk_at dksX12_sideBehindBlank_0 0 rfl rfl)
theorem dX12_sideBehindBlank_1 : decode cX12_sideBehindBlank 1 = .ok (.ldc 48, 2) := dk_18 48 (dk_at dksX12_sideBehindBlank_0 1 rfl rfl)
theorem dX12_sideBehindBlank_3 : decode cX12_sideBehindBlank 3 = .ok (.invokevirtual 50, 3) := dk_182 0 50 (dk_at dksX12_sideBehindBlank_0 3 rfl rfl)
theorem dX12_sideBehindBlank_6 : decode cX12_sideBehindBlank 6 = .ok (.aload_n 0, 1) := dk_42 (dk_at dksX12_sideBehindBlank_0 6 rfl rfl)
theorem dX12_sideBehindBlank_7 : decode cX12_sideBehindBlank 7 = .ok (.bipush 119, 2) := dk_16 119 (dk_at dksX12_sideBehindBlank_0 7 rfl rfl)
theorem dX12_sideBehindBlank_9 : decode cX12_sideBehindBlank 9 = .ok (.invokevirtual 44, 3) := dk_182 0 44 (dk_at dksX12_sideBehindBlank_0 9 rfl rfl)
theorem dX12_sideBehindBlank_12 : decode cX12_sideBehindBlank 12 = .ok (.ifCond .eq 5, 3) := dk_153 0 5 (dk_at dksX12_sideBehindBlank_0 12 rfl rfl)
theorem dX12_sideBehindBlank_15 : decode cX12_sideBehindBlank 15 = .ok (.iconst 0, 1) := dk_3 (dk_at dksX12_sideBehindBlank_0 15 rfl rfl)
theorem dX12_sideBehindBlank_16 : decode cX12_sideBehindBlank 16 = .ok (.ireturn, 1) := dk_172 (dk_at dksX12_sideBehindBlank_0 16 rfl rfl)
theorem dX12_sideBehindBlank_17 : decode cX12_sideBehindBlank 17 = .ok (.aload_n 0, 1) := dk_42 (dk_at dksX12_sideBehindBlank_0 17 rfl rfl)
theorem dX12_sideBehindBlank_18 : decode cX12_sideBehindBlank 18 = .ok (.dup, 1) := dk_89 (dk_at dksX12_sideBehindBlank_0 18 rfl rfl)
theorem dX12_sideBehindBlank_19 : decode cX12_sideBehindBlank 19 = .ok (.getfield 36, 3) := dk_180 0 36 (dk_at dksX12_sideBehindBlank_0 19 rfl rfl)
theorem dX12_sideBehindBlank_22 : decode cX12_sideBehindBlank 22 = .ok (.aload_n 0, 1) := dk_42 (dk_at dksX12_sideBehindBlank_0 22 rfl rfl)
theorem dX12_sideBehindBlank_23 : decode cX12_sideBehindBlank 23 = .ok (.bipush 101, 2) := dk_16 101 (dk_at dksX12_sideBehindBlank_1 0 rfl rfl)
theorem dX12_sideBehindBlank_25 : decode cX12_sideBehindBlank 25 = .ok (.invokevirtual 44, 3) := dk_182 0 44 (dk_at dksX12_sideBehindBlank_1 2 rfl rfl)
theorem dX12_sideBehindBlank_28 : decode cX12_sideBehindBlank 28 = .ok (.ifCond .ne 7, 3) := dk_154 0 7 (dk_at dksX12_sideBehindBlank_1 5 rfl rfl)
theorem dX12_sideBehindBlank_31 : decode cX12_sideBehindBlank 31 = .ok (.iconst 1, 1) := dk_4 (dk_at dksX12_sideBehindBlank_1 8 rfl rfl)
theorem dX12_sideBehindBlank_32 : decode cX12_sideBehindBlank 32 = .ok (.goto 4, 3) := dk_167 0 4 (dk_at dksX12_sideBehindBlank_1 9 rfl rfl)
theorem dX12_sideBehindBlank_35 : decode cX12_sideBehindBlank 35 = .ok (.iconst 0, 1) := dk_3 (dk_at dksX12_sideBehindBlank_1 12 rfl rfl)
theorem dX12_sideBehindBlank_36 : decode cX12_sideBehindBlank 36 = .ok (.ior, 1) := dk_128 (dk_at dksX12_sideBehindBlank_1 13 rfl rfl)
theorem dX12_sideBehindBlank_37 : decode cX12_sideBehindBlank 37 = .ok (.putfield 36, 3) := dk_181 0 36 (dk_at dksX12_sideBehindBlank_1 14 rfl rfl)
theorem dX12_sideBehindBlank_40 : decode cX12_sideBehindBlank 40 = .ok (.iconst 1, 1) := dk_4 (dk_at dksX12_sideBehindBlank_1 17 rfl rfl)
theorem dX12_sideBehindBlank_41 : decode cX12_sideBehindBlank 41 = .ok (.ireturn, 1) := dk_172 (dk_at dksX12_sideBehindBlank_1 18 rfl rfl)
abbrev cX12_behindBlank : ByteArray := prog_8_method_6_code
def yX12_behindBlank : MethodName := ⟨RX12, "behindBlank", "(I)I"⟩
def dkwX12_behindBlank_3 : List UInt8 := [181, 0, 22, 132, 3, 1, 167, 255, 211, 28, 172]
abbrev dktX12_behindBlank_3 : List UInt8 := dkwX12_behindBlank_3 ++ []
def dkwX12_behindBlank_2 : List UInt8 := [154, 0, 32, 16, 10, 28, 104, 42, 182, 0, 40, 96, 16, 48, 100, 61, 42, 89, 180, 0, 22, 4, 96]
abbrev dktX12_behindBlank_2 : List UInt8 := dkwX12_behindBlank_2 ++ dktX12_behindBlank_3
def dkwX12_behindBlank_1 : List UInt8 := [181, 0, 36, 3, 61, 3, 62, 29, 27, 162, 0, 46, 42, 182, 0, 54, 153, 0, 39, 42, 180, 0, 36]
abbrev dktX12_behindBlank_1 : List UInt8 := dkwX12_behindBlank_1 ++ dktX12_behindBlank_2
def dkwX12_behindBlank_0 : List UInt8 := [42, 18, 48, 182, 0, 50, 42, 89, 180, 0, 36, 42, 182, 0, 54, 154, 0, 7, 4, 167, 0, 4, 3, 128]
abbrev dktX12_behindBlank_0 : List UInt8 := dkwX12_behindBlank_0 ++ dktX12_behindBlank_1
theorem dksX12_behindBlank_0 : cX12_behindBlank.data.toList.drop 0 = dktX12_behindBlank_0 := by decide +kernel
theorem dksX12_behindBlank_1 : cX12_behindBlank.data.toList.drop 24 = dktX12_behindBlank_1 := dk_seg dksX12_behindBlank_0 24 rfl rfl
theorem dksX12_behindBlank_2 : cX12_behindBlank.data.toList.drop 47 = dktX12_behindBlank_2 := dk_seg dksX12_behindBlank_1 23 rfl rfl
theorem dksX12_behindBlank_3 : cX12_behindBlank.data.toList.drop 70 = dktX12_behindBlank_3 := dk_seg dksX12_behindBlank_2 23 rfl rfl
theorem dX12_behindBlank_0 : decode cX12_behindBlank 0 = .ok (.aload_n 0, 1) := dk_42 (dk_at dksX12_behindBlank_0 0 rfl rfl)
theorem dX12_behindBlank_1 : decode cX12_behindBlank 1 = .ok (.ldc 48, 2) := dk_18 48 (dk_at dksX12_behindBlank_0 1 rfl rfl)
theorem dX12_behindBlank_3 : decode cX12_behindBlank 3 = .ok (.invokevirtual 50, 3) := dk_182 0 50 (dk_at dksX12_behindBlank_0 3 rfl rfl)
theorem dX12_behindBlank_6 : decode cX12_behindBlank 6 = .ok (.aload_n 0, 1) := dk_42 (dk_at dksX12_behindBlank_0 6 rfl rfl)
theorem dX12_behindBlank_7 : decode cX12_behindBlank 7 = .ok (.dup, 1) := dk_89 (dk_at dksX12_behindBlank_0 7 rfl rfl)
theorem dX12_behindBlank_8 : decode cX12_behindBlank 8 = .ok (.getfield 36, 3) := dk_180 0 36 (dk_at dksX12_behindBlank_0 8 rfl rfl)
theorem dX12_behindBlank_11 : decode cX12_behindBlank 11 = .ok (.aload_n 0, 1) := dk_42 (dk_at dksX12_behindBlank_0 11 rfl rfl)
theorem dX12_behindBlank_12 : decode cX12_behindBlank 12 = .ok (.invokevirtual 54, 3) := dk_182 0 54 (dk_at dksX12_behindBlank_0 12 rfl rfl)
theorem dX12_behindBlank_15 : decode cX12_behindBlank 15 = .ok (.ifCond .ne 7, 3) := dk_154 0 7 (dk_at dksX12_behindBlank_0 15 rfl rfl)
theorem dX12_behindBlank_18 : decode cX12_behindBlank 18 = .ok (.iconst 1, 1) := dk_4 (dk_at dksX12_behindBlank_0 18 rfl rfl)
theorem dX12_behindBlank_19 : decode cX12_behindBlank 19 = .ok (.goto 4, 3) := dk_167 0 4 (dk_at dksX12_behindBlank_0 19 rfl rfl)
theorem dX12_behindBlank_22 : decode cX12_behindBlank 22 = .ok (.iconst 0, 1) := dk_3 (dk_at dksX12_behindBlank_0 22 rfl rfl)
theorem dX12_behindBlank_23 : decode cX12_behindBlank 23 = .ok (.ior, 1) := dk_128 (dk_at dksX12_behindBlank_0 23 rfl rfl)
theorem dX12_behindBlank_24 : decode cX12_behindBlank 24 = .ok (.putfield 36, 3) := dk_181 0 36 (dk_at dksX12_behindBlank_1 0 rfl rfl)
theorem dX12_behindBlank_27 : decode cX12_behindBlank 27 = .ok (.iconst 0, 1) := dk_3 (dk_at dksX12_behindBlank_1 3 rfl rfl)
theorem dX12_behindBlank_28 : decode cX12_behindBlank 28 = .ok (.istore_n 2, 1) := dk_61 (dk_at dksX12_behindBlank_1 4 rfl rfl)
theorem dX12_behindBlank_29 : decode cX12_behindBlank 29 = .ok (.iconst 0, 1) := dk_3 (dk_at dksX12_behindBlank_1 5 rfl rfl)
theorem dX12_behindBlank_30 : decode cX12_behindBlank 30 = .ok (.istore_n 3, 1) := dk_62 (dk_at dksX12_behindBlank_1 6 rfl rfl)
theorem dX12_behindBlank_31 : decode cX12_behindBlank 31 = .ok (.iload_n 3, 1) := dk_29 (dk_at dksX12_behindBlank_1 7 rfl rfl)
theorem dX12_behindBlank_32 : decode cX12_behindBlank 32 = .ok (.iload_n 1, 1) := dk_27 (dk_at dksX12_behindBlank_1 8 rfl rfl)
theorem dX12_behindBlank_33 : decode cX12_behindBlank 33 = .ok (.if_icmp .ge 46, 3) := dk_162 0 46 (dk_at dksX12_behindBlank_1 9 rfl rfl)
theorem dX12_behindBlank_36 : decode cX12_behindBlank 36 = .ok (.aload_n 0, 1) := dk_42 (dk_at dksX12_behindBlank_1 12 rfl rfl)
theorem dX12_behindBlank_37 : decode cX12_behindBlank 37 = .ok (.invokevirtual 54, 3) := dk_182 0 54 (dk_at dksX12_behindBlank_1 13 rfl rfl)
theorem dX12_behindBlank_40 : decode cX12_behindBlank 40 = .ok (.ifCond .eq 39, 3) := dk_153 0 39 (dk_at dksX12_behindBlank_1 16 rfl rfl)
theorem dX12_behindBlank_43 : decode cX12_behindBlank 43 = .ok (.aload_n 0, 1) := dk_42 (dk_at dksX12_behindBlank_1 19 rfl rfl)
theorem dX12_behindBlank_44 : decode cX12_behindBlank 44 = .ok (.getfield 36, 3) := dk_180 0 36 (dk_at dksX12_behindBlank_1 20 rfl rfl)
theorem dX12_behindBlank_47 : decode cX12_behindBlank 47 = .ok (.ifCond .ne 32, 3) := dk_154 0 32 (dk_at dksX12_behindBlank_2 0 rfl rfl)
theorem dX12_behindBlank_50 : decode cX12_behindBlank 50 = .ok (.bipush 10, 2) := dk_16 10 (dk_at dksX12_behindBlank_2 3 rfl rfl)
theorem dX12_behindBlank_52 : decode cX12_behindBlank 52 = .ok (.iload_n 2, 1) := dk_28 (dk_at dksX12_behindBlank_2 5 rfl rfl)
theorem dX12_behindBlank_53 : decode cX12_behindBlank 53 = .ok (.imul, 1) := dk_104 (dk_at dksX12_behindBlank_2 6 rfl rfl)
theorem dX12_behindBlank_54 : decode cX12_behindBlank 54 = .ok (.aload_n 0, 1) := dk_42 (dk_at dksX12_behindBlank_2 7 rfl rfl)
theorem dX12_behindBlank_55 : decode cX12_behindBlank 55 = .ok (.invokevirtual 40, 3) := dk_182 0 40 (dk_at dksX12_behindBlank_2 8 rfl rfl)
theorem dX12_behindBlank_58 : decode cX12_behindBlank 58 = .ok (.iadd, 1) := dk_96 (dk_at dksX12_behindBlank_2 11 rfl rfl)
theorem dX12_behindBlank_59 : decode cX12_behindBlank 59 = .ok (.bipush 48, 2) := dk_16 48 (dk_at dksX12_behindBlank_2 12 rfl rfl)
theorem dX12_behindBlank_61 : decode cX12_behindBlank 61 = .ok (.isub, 1) := dk_100 (dk_at dksX12_behindBlank_2 14 rfl rfl)
theorem dX12_behindBlank_62 : decode cX12_behindBlank 62 = .ok (.istore_n 2, 1) := dk_61 (dk_at dksX12_behindBlank_2 15 rfl rfl)
theorem dX12_behindBlank_63 : decode cX12_behindBlank 63 = .ok (.aload_n 0, 1) := dk_42 (dk_at dksX12_behindBlank_2 16 rfl rfl)
theorem dX12_behindBlank_64 : decode cX12_behindBlank 64 = .ok (.dup, 1) := dk_89 (dk_at dksX12_behindBlank_2 17 rfl rfl)
theorem dX12_behindBlank_65 : decode cX12_behindBlank 65 = .ok (.getfield 22, 3) := dk_180 0 22 (dk_at dksX12_behindBlank_2 18 rfl rfl)
theorem dX12_behindBlank_68 : decode cX12_behindBlank 68 = .ok (.iconst 1, 1) := dk_4 (dk_at dksX12_behindBlank_2 21 rfl rfl)
theorem dX12_behindBlank_69 : decode cX12_behindBlank 69 = .ok (.iadd, 1) := dk_96 (dk_at dksX12_behindBlank_2 22 rfl rfl)
theorem dX12_behindBlank_70 : decode cX12_behindBlank 70 = .ok (.putfield 22, 3) := dk_181 0 22 (dk_at dksX12_behindBlank_3 0 rfl rfl)
theorem dX12_behindBlank_73 : decode cX12_behindBlank 73 = .ok (.iinc 3 1, 3) := dk_132 3 1 (dk_at dksX12_behindBlank_3 3 rfl rfl)
theorem dX12_behindBlank_76 : decode cX12_behindBlank 76 = .ok (.goto (-45), 3) := dk_167 255 211 (dk_at dksX12_behindBlank_3 6 rfl rfl)
theorem dX12_behindBlank_79 : decode cX12_behindBlank 79 = .ok (.iload_n 2, 1) := dk_28 (dk_at dksX12_behindBlank_3 9 rfl rfl)
theorem dX12_behindBlank_80 : decode cX12_behindBlank 80 = .ok (.ireturn, 1) := dk_172 (dk_at dksX12_behindBlank_3 10 rfl rfl)
abbrev cX12_isDigit : ByteArray := prog_8_method_5_code
def yX12_isDigit : MethodName := ⟨RX12, "isDigit", "()Z"⟩
def dkwX12_isDigit_0 : List UInt8 := [42, 182, 0, 40, 16, 48, 161, 0, 16, 42, 182, 0, 40, 16, 57, 163, 0, 7, 4, 167, 0, 4, 3, 172]
abbrev dktX12_isDigit_0 : List UInt8 := dkwX12_isDigit_0 ++ []
theorem dksX12_isDigit_0 : cX12_isDigit.data.toList.drop 0 = dktX12_isDigit_0 := by decide +kernel
theorem dX12_isDigit_0 : decode cX12_isDigit 0 = .ok (.aload_n 0, 1) := dk_42 (dk_at dksX12_isDigit_0 0 rfl rfl)
theorem dX12_isDigit_1 : decode cX12_isDigit 1 = .ok (.invokevirtual 40, 3) := dk_182 0 40 (dk_at dksX12_isDigit_0 1 rfl rfl)
theorem dX12_isDigit_4 : decode cX12_isDigit 4 = .ok (.bipush 48, 2) := dk_16 48 (dk_at dksX12_isDigit_0 4 rfl rfl)
theorem dX12_isDigit_6 : decode cX12_isDigit 6 = .ok (.if_icmp .lt 16, 3) := dk_161 0 16 (dk_at dksX12_isDigit_0 6 rfl rfl)
theorem dX12_isDigit_9 : decode cX12_isDigit 9 = .ok (.aload_n 0, 1) := dk_42 (dk_at dksX12_isDigit_0 9 rfl rfl)
theorem dX12_isDigit_10 : decode cX12_isDigit 10 = .ok (.invokevirtual 40, 3) := dk_182 0 40 (dk_at dksX12_isDigit_0 10 rfl rfl)
theorem dX12_isDigit_13 : decode cX12_isDigit 13 = .ok (.bipush 57, 2) := dk_16 57 (dk_at dksX12_isDigit_0 13 rfl rfl)
theorem dX12_isDigit_15 : decode cX12_isDigit 15 = .ok (.if_icmp .gt 7, 3) := dk_163 0 7 (dk_at dksX12_isDigit_0 15 rfl rfl)
theorem dX12_isDigit_18 : decode cX12_isDigit 18 = .ok (.iconst 1, 1) := dk_4 (dk_at dksX12_isDigit_0 18 rfl rfl)
theorem dX12_isDigit_19 : decode cX12_isDigit 19 = .ok (.goto 4, 3) := dk_167 0 4 (dk_at dksX12_isDigit_0 19 rfl rfl)
theorem dX12_isDigit_22 : decode cX12_isDigit 22 = .ok (.iconst 0, 1) := dk_3 (dk_at dksX12_isDigit_0 22 rfl rfl)
theorem dX12_isDigit_23 : decode cX12_isDigit 23 = .ok (.ireturn, 1) := dk_172 (dk_at dksX12_isDigit_0 23 rfl rfl)
abbrev cX12_lawBehindBlank : ByteArray := prog_8_method_8_code
def yX12_lawBehindBlank : MethodName := ⟨RX12, "lawBehindBlank", "()I"⟩
def dkwX12_lawBehindBlank_2 : List UInt8 := [184, 0, 71, 172]
abbrev dktX12_lawBehindBlank_2 : List UInt8 := dkwX12_lawBehindBlank_2 ++ []
def dkwX12_lawBehindBlank_1 : List UInt8 := [184, 0, 60, 76, 42, 89, 180, 0, 36, 43, 182, 0, 66, 128, 181, 0, 36, 42, 43, 182, 0, 50, 43]
abbrev dktX12_lawBehindBlank_1 : List UInt8 := dkwX12_lawBehindBlank_1 ++ dktX12_lawBehindBlank_2
def dkwX12_lawBehindBlank_0 : List UInt8 := [42, 18, 48, 182, 0, 50, 42, 180, 0, 36, 153, 0, 8, 18, 58, 167, 0, 10, 42, 182, 0, 40]
abbrev dktX12_lawBehindBlank_0 : List UInt8 := dkwX12_lawBehindBlank_0 ++ dktX12_lawBehindBlank_1
theorem dksX12_lawBehindBlank_0 : cX12_lawBehindBlank.data.toList.drop 0 = dktX12_lawBehindBlank_0 := by decide +kernel
theorem dksX12_lawBehindBlank_1 : cX12_lawBehindBlank.data.toList.drop 22 = dktX12_lawBehindBlank_1 := dk_seg dksX12_lawBehindBlank_0 22 rfl rfl
theorem dksX12_lawBehindBlank_2 : cX12_lawBehindBlank.data.toList.drop 45 = dktX12_lawBehindBlank_2 := dk_seg dksX12_lawBehindBlank_1 23 rfl rfl
theorem dX12_lawBehindBlank_0 : decode cX12_lawBehindBlank 0 = .ok (.aload_n 0, 1) := dk_42 (dk_at dksX12_lawBehindBlank_0 0 rfl rfl)
theorem dX12_lawBehindBlank_1 : decode cX12_lawBehindBlank 1 = .ok (.ldc 48, 2) := dk_18 48 (dk_at dksX12_lawBehindBlank_0 1 rfl rfl)
theorem dX12_lawBehindBlank_3 : decode cX12_lawBehindBlank 3 = .ok (.invokevirtual 50, 3) := dk_182 0 50 (dk_at dksX12_lawBehindBlank_0 3 rfl rfl)
theorem dX12_lawBehindBlank_6 : decode cX12_lawBehindBlank 6 = .ok (.aload_n 0, 1) := dk_42 (dk_at dksX12_lawBehindBlank_0 6 rfl rfl)
theorem dX12_lawBehindBlank_7 : decode cX12_lawBehindBlank 7 = .ok (.getfield 36, 3) := dk_180 0 36 (dk_at dksX12_lawBehindBlank_0 7 rfl rfl)
theorem dX12_lawBehindBlank_10 : decode cX12_lawBehindBlank 10 = .ok (.ifCond .eq 8, 3) := dk_153 0 8 (dk_at dksX12_lawBehindBlank_0 10 rfl rfl)
theorem dX12_lawBehindBlank_13 : decode cX12_lawBehindBlank 13 = .ok (.ldc 58, 2) := dk_18 58 (dk_at dksX12_lawBehindBlank_0 13 rfl rfl)
theorem dX12_lawBehindBlank_15 : decode cX12_lawBehindBlank 15 = .ok (.goto 10, 3) := dk_167 0 10 (dk_at dksX12_lawBehindBlank_0 15 rfl rfl)
theorem dX12_lawBehindBlank_18 : decode cX12_lawBehindBlank 18 = .ok (.aload_n 0, 1) := dk_42 (dk_at dksX12_lawBehindBlank_0 18 rfl rfl)
theorem dX12_lawBehindBlank_19 : decode cX12_lawBehindBlank 19 = .ok (.invokevirtual 40, 3) := dk_182 0 40 (dk_at dksX12_lawBehindBlank_0 19 rfl rfl)
theorem dX12_lawBehindBlank_22 : decode cX12_lawBehindBlank 22 = .ok (.invokestatic 60, 3) := dk_184 0 60 (dk_at dksX12_lawBehindBlank_1 0 rfl rfl)
theorem dX12_lawBehindBlank_25 : decode cX12_lawBehindBlank 25 = .ok (.astore_n 1, 1) := dk_76 (dk_at dksX12_lawBehindBlank_1 3 rfl rfl)
theorem dX12_lawBehindBlank_26 : decode cX12_lawBehindBlank 26 = .ok (.aload_n 0, 1) := dk_42 (dk_at dksX12_lawBehindBlank_1 4 rfl rfl)
theorem dX12_lawBehindBlank_27 : decode cX12_lawBehindBlank 27 = .ok (.dup, 1) := dk_89 (dk_at dksX12_lawBehindBlank_1 5 rfl rfl)
theorem dX12_lawBehindBlank_28 : decode cX12_lawBehindBlank 28 = .ok (.getfield 36, 3) := dk_180 0 36 (dk_at dksX12_lawBehindBlank_1 6 rfl rfl)
theorem dX12_lawBehindBlank_31 : decode cX12_lawBehindBlank 31 = .ok (.aload_n 1, 1) := dk_43 (dk_at dksX12_lawBehindBlank_1 9 rfl rfl)
theorem dX12_lawBehindBlank_32 : decode cX12_lawBehindBlank 32 = .ok (.invokevirtual 66, 3) := dk_182 0 66 (dk_at dksX12_lawBehindBlank_1 10 rfl rfl)
theorem dX12_lawBehindBlank_35 : decode cX12_lawBehindBlank 35 = .ok (.ior, 1) := dk_128 (dk_at dksX12_lawBehindBlank_1 13 rfl rfl)
theorem dX12_lawBehindBlank_36 : decode cX12_lawBehindBlank 36 = .ok (.putfield 36, 3) := dk_181 0 36 (dk_at dksX12_lawBehindBlank_1 14 rfl rfl)
theorem dX12_lawBehindBlank_39 : decode cX12_lawBehindBlank 39 = .ok (.aload_n 0, 1) := dk_42 (dk_at dksX12_lawBehindBlank_1 17 rfl rfl)
theorem dX12_lawBehindBlank_40 : decode cX12_lawBehindBlank 40 = .ok (.aload_n 1, 1) := dk_43 (dk_at dksX12_lawBehindBlank_1 18 rfl rfl)
theorem dX12_lawBehindBlank_41 : decode cX12_lawBehindBlank 41 = .ok (.invokevirtual 50, 3) := dk_182 0 50 (dk_at dksX12_lawBehindBlank_1 19 rfl rfl)
theorem dX12_lawBehindBlank_44 : decode cX12_lawBehindBlank 44 = .ok (.aload_n 1, 1) := dk_43 (dk_at dksX12_lawBehindBlank_1 22 rfl rfl)
theorem dX12_lawBehindBlank_45 : decode cX12_lawBehindBlank 45 = .ok (.invokestatic 71, 3) := dk_184 0 71 (dk_at dksX12_lawBehindBlank_2 0 rfl rfl)
theorem dX12_lawBehindBlank_48 : decode cX12_lawBehindBlank 48 = .ok (.ireturn, 1) := dk_172 (dk_at dksX12_lawBehindBlank_2 3 rfl rfl)
abbrev MX12_init : zM := (yX12_init, cX12_init, 2, (Option.none : Option Jvm.ClassFile.FieldType), [])
theorem kX12_init : zMk MX12_init := ⟨zt (lw_at lw_m8 172 rfl), zt (lw_at lw_m1 40 rfl), by decide +kernel, by decide, by decide +kernel⟩
abbrev MX12_fault : zM := (yX12_fault, cX12_fault, 1, (Option.some Jvm.ClassFile.FieldType.int), [])
theorem kX12_fault : zMk MX12_fault := ⟨zt (lw_at lw_m8 193 rfl), zt (lw_at lw_m1 40 rfl), by decide +kernel, by decide, by decide +kernel⟩
abbrev MX12_command : zM := (yX12_command, cX12_command, 4, (Option.none : Option Jvm.ClassFile.FieldType), [])
theorem kX12_command : zMk MX12_command := ⟨zt (lw_at lw_m8 197 rfl), zt (lw_at lw_m1 40 rfl), by decide +kernel, by decide, by decide +kernel⟩
abbrev MX12_word : zM := (yX12_word, cX12_word, 2, (Option.some (Jvm.ClassFile.FieldType.object "java/lang/String")), [])
theorem kX12_word : zMk MX12_word := ⟨zt (lw_at lw_m8 203 rfl), zt (lw_at lw_m1 40 rfl), by decide +kernel, by decide, by decide +kernel⟩
abbrev MX12_here : zM := (yX12_here, cX12_here, 1, (Option.some Jvm.ClassFile.FieldType.char), [])
theorem kX12_here : zMk MX12_here := ⟨zt (lw_at lw_m8 211 rfl), zt (lw_at lw_m1 40 rfl), by decide +kernel, by decide, by decide +kernel⟩
abbrev MX12_wants : zM := (yX12_wants, cX12_wants, 3, (Option.none : Option Jvm.ClassFile.FieldType), [])
theorem kX12_wants : zMk MX12_wants := ⟨zt (lw_at lw_m9 6 rfl), zt (lw_at lw_m1 40 rfl), by decide +kernel, by decide, by decide +kernel⟩
abbrev MX12_takes : zM := (yX12_takes, cX12_takes, 2, (Option.some Jvm.ClassFile.FieldType.boolean), [])
theorem kX12_takes : zMk MX12_takes := ⟨zt (lw_at lw_m9 10 rfl), zt (lw_at lw_m1 40 rfl), by decide +kernel, by decide, by decide +kernel⟩
abbrev MX12_sideBehindBlank : zM := (yX12_sideBehindBlank, cX12_sideBehindBlank, 1, (Option.some Jvm.ClassFile.FieldType.int), [])
theorem kX12_sideBehindBlank : zMk MX12_sideBehindBlank := ⟨zt (lw_at lw_m9 72 rfl), zt (lw_at lw_m1 40 rfl), by decide +kernel, by decide, by decide +kernel⟩
abbrev MX12_behindBlank : zM := (yX12_behindBlank, cX12_behindBlank, 4, (Option.some Jvm.ClassFile.FieldType.int), [])
theorem kX12_behindBlank : zMk MX12_behindBlank := ⟨zt (lw_at lw_m9 77 rfl), zt (lw_at lw_m1 40 rfl), by decide +kernel, by decide, by decide +kernel⟩
abbrev MX12_isDigit : zM := (yX12_isDigit, cX12_isDigit, 1, (Option.some Jvm.ClassFile.FieldType.boolean), [])
theorem kX12_isDigit : zMk MX12_isDigit := ⟨zt (lw_at lw_m9 81 rfl), zt (lw_at lw_m1 40 rfl), by decide +kernel, by decide, by decide +kernel⟩
abbrev MX12_lawBehindBlank : zM := (yX12_lawBehindBlank, cX12_lawBehindBlank, 2, (Option.some Jvm.ClassFile.FieldType.int), [])
theorem kX12_lawBehindBlank : zMk MX12_lawBehindBlank := ⟨zt (lw_at lw_m9 85 rfl), zt (lw_at lw_m1 40 rfl), by decide +kernel, by decide, by decide +kernel⟩
/-! CartBridge$Command -/
set_option maxRecDepth 100000
abbrev cX13_init : ByteArray := prog_3_method_1_code
def yX13_init : MethodName := ⟨RX13, "<init>", "(Ljava/lang/String;)V"⟩
def dkwX13_init_0 : List UInt8 := [42, 183, 0, 1, 42, 43, 181, 0, 7, 177]
abbrev dktX13_init_0 : List UInt8 := dkwX13_init_0 ++ []
theorem dksX13_init_0 : cX13_init.data.toList.drop 0 = dktX13_init_0 := by decide +kernel
theorem dX13_init_0 : decode cX13_init 0 = .ok (.aload_n 0, 1) := dk_42 (dk_at dksX13_init_0 0 rfl rfl)
theorem dX13_init_1 : decode cX13_init 1 = .ok (.invokespecial 1, 3) := dk_183 0 1 (dk_at dksX13_init_0 1 rfl rfl)
theorem dX13_init_4 : decode cX13_init 4 = .ok (.aload_n 0, 1) := dk_42 (dk_at dksX13_init_0 4 rfl rfl)
theorem dX13_init_5 : decode cX13_init 5 = .ok (.aload_n 1, 1) := dk_43 (dk_at dksX13_init_0 5 rfl rfl)
theorem dX13_init_6 : decode cX13_init 6 = .ok (.putfield 7, 3) := dk_181 0 7 (dk_at dksX13_init_0 6 rfl rfl)
theorem dX13_init_9 : decode cX13_init 9 = .ok (.return_, 1) := dk_177 (dk_at dksX13_init_0 9 rfl rfl)
abbrev MX13_init : zM := (yX13_init, cX13_init, 2, (Option.none : Option Jvm.ClassFile.FieldType), [])
theorem kX13_init : zMk MX13_init := ⟨zt (lw_at lw_m8 223 rfl), zt (lw_at lw_m1 42 rfl), by decide +kernel, by decide, by decide +kernel⟩
set_option maxRecDepth 100000
abbrev cL_law : ByteArray := code
def dkwL_law_94 : List UInt8 := [4, 172]
abbrev dktL_law_94 : List UInt8 := dkwL_law_94 ++ []
def dkwL_law_93 : List UInt8 := [154, 0, 15, 45, 3, 47, 21, 7, 133, 148, 153, 0, 5, 3, 172, 167, 0, 3, 132, 5, 3, 167, 246, 249]
abbrev dktL_law_93 : List UInt8 := dkwL_law_93 ++ dktL_law_94
def dkwL_law_92 : List UInt8 := [184, 1, 29, 54, 6, 44, 182, 1, 31, 54, 7, 44, 182, 0, 144, 21, 6, 159, 0, 5, 3, 172, 21, 6]
abbrev dktL_law_92 : List UInt8 := dkwL_law_92 ++ dktL_law_93
def dkwL_law_91 : List UInt8 := [153, 0, 5, 3, 172, 167, 0, 60, 43, 182, 1, 25, 44, 182, 1, 28, 159, 0, 49, 3, 172, 43, 45]
abbrev dktL_law_91 : List UInt8 := dkwL_law_91 ++ dktL_law_92
def dkwL_law_90 : List UInt8 := [182, 0, 144, 21, 6, 159, 0, 5, 3, 172, 21, 6, 154, 0, 15, 45, 3, 47, 21, 7, 133, 148]
abbrev dktL_law_90 : List UInt8 := dkwL_law_90 ++ dktL_law_91
def dkwL_law_89 : List UInt8 := [154, 0, 5, 3, 172, 167, 0, 104, 43, 45, 184, 1, 22, 54, 6, 44, 182, 1, 24, 54, 7, 44]
abbrev dktL_law_89 : List UInt8 := dkwL_law_89 ++ dktL_law_90
def dkwL_law_88 : List UInt8 := [57, 8, 24, 6, 24, 8, 151, 153, 0, 21, 24, 6, 24, 6, 151, 153, 0, 11, 24, 8, 24, 8, 151]
abbrev dktL_law_88 : List UInt8 := dkwL_law_88 ++ dktL_law_89
def dkwL_law_87 : List UInt8 := [24, 7, 151, 154, 0, 5, 3, 172, 167, 0, 147, 43, 182, 1, 17, 141, 57, 6, 44, 182, 1, 21, 141]
abbrev dktL_law_87 : List UInt8 := dkwL_law_87 ++ dktL_law_88
def dkwL_law_86 : List UInt8 := [25, 4, 3, 49, 24, 7, 151, 153, 0, 25, 25, 4, 3, 49, 25, 4, 3, 49, 151, 153, 0, 11, 24, 7]
abbrev dktL_law_86 : List UInt8 := dkwL_law_86 ++ dktL_law_87
def dkwL_law_85 : List UInt8 := [54, 6, 44, 182, 1, 16, 57, 7, 44, 182, 0, 144, 21, 6, 159, 0, 5, 3, 172, 21, 6, 154, 0, 35]
abbrev dktL_law_85 : List UInt8 := dkwL_law_85 ++ dktL_law_86
def dkwL_law_84 : List UInt8 := [154, 0, 15, 45, 3, 47, 21, 7, 133, 148, 153, 0, 5, 3, 172, 167, 0, 212, 43, 25, 4, 184, 1, 13]
abbrev dktL_law_84 : List UInt8 := dkwL_law_84 ++ dktL_law_85
def dkwL_law_83 : List UInt8 := [21, 5, 4, 96, 46, 182, 1, 12, 54, 7, 44, 182, 0, 144, 21, 6, 159, 0, 5, 3, 172, 21, 6]
abbrev dktL_law_83 : List UInt8 := dkwL_law_83 ++ dktL_law_84
def dkwL_law_82 : List UInt8 := [153, 0, 5, 3, 172, 167, 1, 12, 43, 42, 21, 5, 4, 96, 46, 45, 184, 1, 10, 54, 6, 44, 42]
abbrev dktL_law_82 : List UInt8 := dkwL_law_82 ++ dktL_law_83
def dkwL_law_81 : List UInt8 := [182, 0, 144, 21, 6, 159, 0, 5, 3, 172, 21, 6, 154, 0, 15, 45, 3, 47, 21, 7, 133, 148]
abbrev dktL_law_81 : List UInt8 := dkwL_law_81 ++ dktL_law_82
def dkwL_law_80 : List UInt8 := [21, 5, 4, 96, 46, 45, 184, 1, 7, 54, 6, 44, 42, 21, 5, 4, 96, 46, 182, 1, 9, 54, 7, 44]
abbrev dktL_law_80 : List UInt8 := dkwL_law_80 ++ dktL_law_81
def dkwL_law_79 : List UInt8 := [172, 21, 6, 154, 0, 15, 45, 3, 47, 21, 7, 133, 148, 153, 0, 5, 3, 172, 167, 1, 68, 43, 42]
abbrev dktL_law_79 : List UInt8 := dkwL_law_79 ++ dktL_law_80
def dkwL_law_78 : List UInt8 := [54, 6, 44, 42, 21, 5, 4, 96, 46, 182, 1, 6, 54, 7, 44, 182, 0, 144, 21, 6, 159, 0, 5, 3]
abbrev dktL_law_78 : List UInt8 := dkwL_law_78 ++ dktL_law_79
def dkwL_law_77 : List UInt8 := [182, 1, 0, 44, 182, 1, 3, 159, 1, 126, 3, 172, 43, 42, 21, 5, 4, 96, 46, 45, 184, 1, 4]
abbrev dktL_law_77 : List UInt8 := dkwL_law_77 ++ dktL_law_78
def dkwL_law_76 : List UInt8 := [153, 0, 5, 3, 172, 167, 1, 150, 43, 182, 0, 252, 44, 182, 0, 255, 159, 1, 139, 3, 172, 43]
abbrev dktL_law_76 : List UInt8 := dkwL_law_76 ++ dktL_law_77
def dkwL_law_75 : List UInt8 := [182, 0, 144, 21, 6, 159, 0, 5, 3, 172, 21, 6, 154, 0, 15, 45, 3, 47, 21, 7, 133, 148]
abbrev dktL_law_75 : List UInt8 := dkwL_law_75 ++ dktL_law_76
def dkwL_law_74 : List UInt8 := [96, 46, 42, 21, 5, 5, 96, 46, 153, 0, 7, 4, 167, 0, 4, 3, 182, 0, 251, 54, 7, 44]
abbrev dktL_law_74 : List UInt8 := dkwL_law_74 ++ dktL_law_75
def dkwL_law_73 : List UInt8 := [21, 5, 5, 96, 46, 153, 0, 7, 4, 167, 0, 4, 3, 45, 184, 0, 248, 54, 6, 44, 42, 21, 5, 4]
abbrev dktL_law_73 : List UInt8 := dkwL_law_73 ++ dktL_law_74
def dkwL_law_72 : List UInt8 := [167, 1, 247, 43, 182, 0, 244, 44, 182, 0, 247, 159, 1, 236, 3, 172, 43, 42, 21, 5, 4, 96, 46, 42]
abbrev dktL_law_72 : List UInt8 := dkwL_law_72 ++ dktL_law_73
def dkwL_law_71 : List UInt8 := [159, 0, 5, 3, 172, 21, 6, 154, 0, 15, 45, 3, 47, 21, 7, 133, 148, 153, 0, 5, 3, 172]
abbrev dktL_law_71 : List UInt8 := dkwL_law_71 ++ dktL_law_72
def dkwL_law_70 : List UInt8 := [167, 2, 35, 43, 45, 184, 0, 241, 54, 6, 44, 182, 0, 243, 54, 7, 44, 182, 0, 144, 21, 6]
abbrev dktL_law_70 : List UInt8 := dkwL_law_70 ++ dktL_law_71
def dkwL_law_69 : List UInt8 := [21, 6, 159, 0, 5, 3, 172, 21, 6, 154, 0, 15, 45, 3, 47, 21, 7, 133, 148, 153, 0, 5, 3, 172]
abbrev dktL_law_69 : List UInt8 := dkwL_law_69 ++ dktL_law_70
def dkwL_law_68 : List UInt8 := [45, 184, 0, 237, 54, 6, 44, 42, 21, 5, 4, 96, 46, 146, 182, 0, 240, 54, 7, 44, 182, 0, 144]
abbrev dktL_law_68 : List UInt8 := dkwL_law_68 ++ dktL_law_69
def dkwL_law_67 : List UInt8 := [167, 2, 106, 43, 182, 0, 232, 44, 182, 0, 236, 159, 2, 95, 3, 172, 43, 42, 21, 5, 4, 96, 46, 146]
abbrev dktL_law_67 : List UInt8 := dkwL_law_67 ++ dktL_law_68
def dkwL_law_66 : List UInt8 := [159, 0, 5, 3, 172, 21, 6, 154, 0, 15, 45, 3, 47, 21, 7, 133, 148, 153, 0, 5, 3, 172]
abbrev dktL_law_66 : List UInt8 := dkwL_law_66 ++ dktL_law_67
def dkwL_law_65 : List UInt8 := [167, 2, 150, 43, 45, 184, 0, 229, 54, 6, 44, 182, 0, 231, 54, 7, 44, 182, 0, 144, 21, 6]
abbrev dktL_law_65 : List UInt8 := dkwL_law_65 ++ dktL_law_66
def dkwL_law_64 : List UInt8 := [159, 0, 5, 3, 172, 21, 6, 154, 0, 15, 45, 3, 47, 21, 7, 133, 148, 153, 0, 5, 3, 172]
abbrev dktL_law_64 : List UInt8 := dkwL_law_64 ++ dktL_law_65
def dkwL_law_63 : List UInt8 := [167, 2, 194, 43, 45, 184, 0, 226, 54, 6, 44, 182, 0, 228, 54, 7, 44, 182, 0, 144, 21, 6]
abbrev dktL_law_63 : List UInt8 := dkwL_law_63 ++ dktL_law_64
def dkwL_law_62 : List UInt8 := [159, 0, 5, 3, 172, 21, 6, 154, 0, 15, 45, 3, 47, 21, 7, 133, 148, 153, 0, 5, 3, 172]
abbrev dktL_law_62 : List UInt8 := dkwL_law_62 ++ dktL_law_63
def dkwL_law_61 : List UInt8 := [184, 0, 223, 54, 6, 44, 42, 21, 5, 4, 96, 46, 182, 0, 225, 54, 7, 44, 182, 0, 144, 21, 6]
abbrev dktL_law_61 : List UInt8 := dkwL_law_61 ++ dktL_law_62
def dkwL_law_60 : List UInt8 := [45, 3, 47, 21, 7, 133, 148, 153, 0, 5, 3, 172, 167, 2, 250, 43, 42, 21, 5, 4, 96, 46, 45]
abbrev dktL_law_60 : List UInt8 := dkwL_law_60 ++ dktL_law_61
def dkwL_law_59 : List UInt8 := [54, 6, 44, 182, 0, 222, 54, 7, 44, 182, 0, 144, 21, 6, 159, 0, 5, 3, 172, 21, 6, 154, 0, 15]
abbrev dktL_law_59 : List UInt8 := dkwL_law_59 ++ dktL_law_60
def dkwL_law_58 : List UInt8 := [154, 0, 15, 45, 3, 47, 21, 7, 133, 148, 153, 0, 5, 3, 172, 167, 3, 38, 43, 45, 184, 0, 219]
abbrev dktL_law_58 : List UInt8 := dkwL_law_58 ++ dktL_law_59
def dkwL_law_57 : List UInt8 := [21, 5, 4, 96, 46, 182, 0, 218, 54, 7, 44, 182, 0, 144, 21, 6, 159, 0, 5, 3, 172, 21, 6]
abbrev dktL_law_57 : List UInt8 := dkwL_law_57 ++ dktL_law_58
def dkwL_law_56 : List UInt8 := [153, 0, 5, 3, 172, 167, 3, 94, 43, 42, 21, 5, 4, 96, 46, 45, 184, 0, 216, 54, 6, 44, 42]
abbrev dktL_law_56 : List UInt8 := dkwL_law_56 ++ dktL_law_57
def dkwL_law_55 : List UInt8 := [182, 0, 144, 21, 6, 159, 0, 5, 3, 172, 21, 6, 154, 0, 15, 45, 3, 47, 21, 7, 133, 148]
abbrev dktL_law_55 : List UInt8 := dkwL_law_55 ++ dktL_law_56
def dkwL_law_54 : List UInt8 := [21, 5, 4, 96, 46, 45, 184, 0, 213, 54, 6, 44, 42, 21, 5, 4, 96, 46, 182, 0, 215, 54, 7, 44]
abbrev dktL_law_54 : List UInt8 := dkwL_law_54 ++ dktL_law_55
def dkwL_law_53 : List UInt8 := [182, 0, 208, 159, 3, 165, 3, 172, 43, 182, 0, 209, 44, 182, 0, 212, 159, 3, 152, 3, 172, 43, 42]
abbrev dktL_law_53 : List UInt8 := dkwL_law_53 ++ dktL_law_54
def dkwL_law_52 : List UInt8 := [21, 7, 153, 0, 7, 10, 167, 0, 4, 9, 148, 153, 0, 5, 3, 172, 167, 3, 176, 43, 182, 0, 205, 44]
abbrev dktL_law_52 : List UInt8 := dkwL_law_52 ++ dktL_law_53
def dkwL_law_51 : List UInt8 := [182, 0, 204, 54, 7, 44, 182, 0, 144, 21, 6, 159, 0, 5, 3, 172, 21, 6, 154, 0, 22, 45, 3, 47]
abbrev dktL_law_51 : List UInt8 := dkwL_law_51 ++ dktL_law_52
def dkwL_law_50 : List UInt8 := [167, 3, 239, 43, 42, 21, 5, 4, 96, 46, 45, 184, 0, 202, 54, 6, 44, 42, 21, 5, 4, 96, 46]
abbrev dktL_law_50 : List UInt8 := dkwL_law_50 ++ dktL_law_51
def dkwL_law_49 : List UInt8 := [21, 6, 159, 0, 5, 3, 172, 21, 6, 154, 0, 15, 45, 3, 47, 21, 7, 133, 148, 153, 0, 5, 3, 172]
abbrev dktL_law_49 : List UInt8 := dkwL_law_49 ++ dktL_law_50
def dkwL_law_48 : List UInt8 := [46, 45, 184, 0, 199, 54, 6, 44, 42, 21, 5, 4, 96, 46, 182, 0, 201, 54, 7, 44, 182, 0, 144]
abbrev dktL_law_48 : List UInt8 := dkwL_law_48 ++ dktL_law_49
def dkwL_law_47 : List UInt8 := [154, 0, 15, 45, 3, 47, 21, 7, 133, 148, 153, 0, 5, 3, 172, 167, 4, 39, 43, 42, 21, 5, 4, 96]
abbrev dktL_law_47 : List UInt8 := dkwL_law_47 ++ dktL_law_48
def dkwL_law_46 : List UInt8 := [21, 5, 4, 96, 46, 182, 0, 198, 54, 7, 44, 182, 0, 144, 21, 6, 159, 0, 5, 3, 172, 21, 6]
abbrev dktL_law_46 : List UInt8 := dkwL_law_46 ++ dktL_law_47
def dkwL_law_45 : List UInt8 := [153, 0, 5, 3, 172, 167, 4, 95, 43, 42, 21, 5, 4, 96, 46, 45, 184, 0, 196, 54, 6, 44, 42]
abbrev dktL_law_45 : List UInt8 := dkwL_law_45 ++ dktL_law_46
def dkwL_law_44 : List UInt8 := [182, 0, 144, 21, 6, 159, 0, 5, 3, 172, 21, 6, 154, 0, 15, 45, 3, 47, 21, 7, 133, 148]
abbrev dktL_law_44 : List UInt8 := dkwL_law_44 ++ dktL_law_45
def dkwL_law_43 : List UInt8 := [21, 5, 4, 96, 46, 45, 184, 0, 193, 54, 6, 44, 42, 21, 5, 4, 96, 46, 182, 0, 195, 54, 7, 44]
abbrev dktL_law_43 : List UInt8 := dkwL_law_43 ++ dktL_law_44
def dkwL_law_42 : List UInt8 := [172, 21, 6, 154, 0, 15, 45, 3, 47, 21, 7, 133, 148, 153, 0, 5, 3, 172, 167, 4, 151, 43, 42]
abbrev dktL_law_42 : List UInt8 := dkwL_law_42 ++ dktL_law_43
def dkwL_law_41 : List UInt8 := [54, 6, 44, 42, 21, 5, 4, 96, 46, 182, 0, 192, 54, 7, 44, 182, 0, 144, 21, 6, 159, 0, 5, 3]
abbrev dktL_law_41 : List UInt8 := dkwL_law_41 ++ dktL_law_42
def dkwL_law_40 : List UInt8 := [21, 7, 133, 148, 153, 0, 5, 3, 172, 167, 4, 207, 43, 42, 21, 5, 4, 96, 46, 45, 184, 0, 190]
abbrev dktL_law_40 : List UInt8 := dkwL_law_40 ++ dktL_law_41
def dkwL_law_39 : List UInt8 := [182, 0, 189, 54, 7, 44, 182, 0, 144, 21, 6, 159, 0, 5, 3, 172, 21, 6, 154, 0, 15, 45, 3, 47]
abbrev dktL_law_39 : List UInt8 := dkwL_law_39 ++ dktL_law_40
def dkwL_law_38 : List UInt8 := [167, 5, 7, 43, 42, 21, 5, 4, 96, 46, 45, 184, 0, 187, 54, 6, 44, 42, 21, 5, 4, 96, 46]
abbrev dktL_law_38 : List UInt8 := dkwL_law_38 ++ dktL_law_39
def dkwL_law_37 : List UInt8 := [21, 6, 159, 0, 5, 3, 172, 21, 6, 154, 0, 15, 45, 3, 47, 21, 7, 133, 148, 153, 0, 5, 3, 172]
abbrev dktL_law_37 : List UInt8 := dkwL_law_37 ++ dktL_law_38
def dkwL_law_36 : List UInt8 := [46, 45, 184, 0, 184, 54, 6, 44, 42, 21, 5, 4, 96, 46, 182, 0, 186, 54, 7, 44, 182, 0, 144]
abbrev dktL_law_36 : List UInt8 := dkwL_law_36 ++ dktL_law_37
def dkwL_law_35 : List UInt8 := [154, 0, 15, 45, 3, 47, 21, 7, 133, 148, 153, 0, 5, 3, 172, 167, 5, 63, 43, 42, 21, 5, 4, 96]
abbrev dktL_law_35 : List UInt8 := dkwL_law_35 ++ dktL_law_36
def dkwL_law_34 : List UInt8 := [21, 5, 4, 96, 46, 182, 0, 183, 54, 7, 44, 182, 0, 144, 21, 6, 159, 0, 5, 3, 172, 21, 6]
abbrev dktL_law_34 : List UInt8 := dkwL_law_34 ++ dktL_law_35
def dkwL_law_33 : List UInt8 := [148, 153, 0, 5, 3, 172, 167, 5, 119, 43, 42, 21, 5, 4, 96, 46, 45, 184, 0, 181, 54, 6, 44, 42]
abbrev dktL_law_33 : List UInt8 := dkwL_law_33 ++ dktL_law_34
def dkwL_law_32 : List UInt8 := [54, 7, 44, 182, 0, 144, 21, 6, 159, 0, 5, 3, 172, 21, 6, 154, 0, 15, 45, 3, 47, 21, 7, 133]
abbrev dktL_law_32 : List UInt8 := dkwL_law_32 ++ dktL_law_33
def dkwL_law_31 : List UInt8 := [46, 45, 184, 0, 178, 54, 6, 44, 42, 21, 5, 4, 96, 46, 42, 21, 5, 5, 96, 46, 182, 0, 180]
abbrev dktL_law_31 : List UInt8 := dkwL_law_31 ++ dktL_law_32
def dkwL_law_30 : List UInt8 := [21, 7, 133, 148, 153, 0, 5, 3, 172, 167, 5, 187, 43, 42, 21, 5, 4, 96, 46, 42, 21, 5, 5, 96]
abbrev dktL_law_30 : List UInt8 := dkwL_law_30 ++ dktL_law_31
def dkwL_law_29 : List UInt8 := [182, 0, 177, 54, 7, 44, 182, 0, 144, 21, 6, 159, 0, 5, 3, 172, 21, 6, 154, 0, 15, 45, 3, 47]
abbrev dktL_law_29 : List UInt8 := dkwL_law_29 ++ dktL_law_30
def dkwL_law_28 : List UInt8 := [167, 5, 243, 43, 42, 21, 5, 4, 96, 46, 45, 184, 0, 175, 54, 6, 44, 42, 21, 5, 4, 96, 46]
abbrev dktL_law_28 : List UInt8 := dkwL_law_28 ++ dktL_law_29
def dkwL_law_27 : List UInt8 := [159, 0, 5, 3, 172, 21, 6, 154, 0, 15, 45, 3, 47, 21, 7, 133, 148, 153, 0, 5, 3, 172]
abbrev dktL_law_27 : List UInt8 := dkwL_law_27 ++ dktL_law_28
def dkwL_law_26 : List UInt8 := [184, 0, 172, 54, 6, 44, 42, 21, 5, 4, 96, 46, 182, 0, 174, 54, 7, 44, 182, 0, 144, 21, 6]
abbrev dktL_law_26 : List UInt8 := dkwL_law_26 ++ dktL_law_27
def dkwL_law_25 : List UInt8 := [3, 47, 21, 7, 133, 148, 153, 0, 5, 3, 172, 167, 6, 43, 43, 42, 21, 5, 4, 96, 46, 45]
abbrev dktL_law_25 : List UInt8 := dkwL_law_25 ++ dktL_law_26
def dkwL_law_24 : List UInt8 := [96, 46, 182, 0, 171, 54, 7, 44, 182, 0, 144, 21, 6, 159, 0, 5, 3, 172, 21, 6, 154, 0, 15, 45]
abbrev dktL_law_24 : List UInt8 := dkwL_law_24 ++ dktL_law_25
def dkwL_law_23 : List UInt8 := [46, 42, 21, 5, 5, 96, 46, 45, 184, 0, 169, 54, 6, 44, 42, 21, 5, 4, 96, 46, 42, 21, 5, 5]
abbrev dktL_law_23 : List UInt8 := dkwL_law_23 ++ dktL_law_24
def dkwL_law_22 : List UInt8 := [154, 0, 15, 45, 3, 47, 21, 7, 133, 148, 153, 0, 5, 3, 172, 167, 6, 111, 43, 42, 21, 5, 4, 96]
abbrev dktL_law_22 : List UInt8 := dkwL_law_22 ++ dktL_law_23
def dkwL_law_21 : List UInt8 := [21, 5, 4, 96, 46, 182, 0, 168, 54, 7, 44, 182, 0, 144, 21, 6, 159, 0, 5, 3, 172, 21, 6]
abbrev dktL_law_21 : List UInt8 := dkwL_law_21 ++ dktL_law_22
def dkwL_law_20 : List UInt8 := [153, 0, 5, 3, 172, 167, 6, 167, 43, 42, 21, 5, 4, 96, 46, 45, 184, 0, 166, 54, 6, 44, 42]
abbrev dktL_law_20 : List UInt8 := dkwL_law_20 ++ dktL_law_21
def dkwL_law_19 : List UInt8 := [182, 0, 144, 21, 6, 159, 0, 5, 3, 172, 21, 6, 154, 0, 15, 45, 3, 47, 21, 7, 133, 148]
abbrev dktL_law_19 : List UInt8 := dkwL_law_19 ++ dktL_law_20
def dkwL_law_18 : List UInt8 := [21, 5, 4, 96, 46, 45, 184, 0, 163, 54, 6, 44, 42, 21, 5, 4, 96, 46, 182, 0, 165, 54, 7, 44]
abbrev dktL_law_18 : List UInt8 := dkwL_law_18 ++ dktL_law_19
def dkwL_law_17 : List UInt8 := [172, 21, 6, 154, 0, 15, 45, 3, 47, 21, 7, 133, 148, 153, 0, 5, 3, 172, 167, 6, 223, 43, 42]
abbrev dktL_law_17 : List UInt8 := dkwL_law_17 ++ dktL_law_18
def dkwL_law_16 : List UInt8 := [54, 6, 44, 42, 21, 5, 4, 96, 46, 182, 0, 162, 54, 7, 44, 182, 0, 144, 21, 6, 159, 0, 5, 3]
abbrev dktL_law_16 : List UInt8 := dkwL_law_16 ++ dktL_law_17
def dkwL_law_15 : List UInt8 := [21, 7, 133, 148, 153, 0, 5, 3, 172, 167, 7, 23, 43, 42, 21, 5, 4, 96, 46, 45, 184, 0, 160]
abbrev dktL_law_15 : List UInt8 := dkwL_law_15 ++ dktL_law_16
def dkwL_law_14 : List UInt8 := [182, 0, 159, 54, 7, 44, 182, 0, 144, 21, 6, 159, 0, 5, 3, 172, 21, 6, 154, 0, 15, 45, 3, 47]
abbrev dktL_law_14 : List UInt8 := dkwL_law_14 ++ dktL_law_15
def dkwL_law_13 : List UInt8 := [167, 7, 79, 43, 42, 21, 5, 4, 96, 46, 45, 184, 0, 157, 54, 6, 44, 42, 21, 5, 4, 96, 46]
abbrev dktL_law_13 : List UInt8 := dkwL_law_13 ++ dktL_law_14
def dkwL_law_12 : List UInt8 := [21, 6, 159, 0, 5, 3, 172, 21, 6, 154, 0, 15, 45, 3, 47, 21, 7, 133, 148, 153, 0, 5, 3, 172]
abbrev dktL_law_12 : List UInt8 := dkwL_law_12 ++ dktL_law_13
def dkwL_law_11 : List UInt8 := [46, 45, 184, 0, 154, 54, 6, 44, 42, 21, 5, 4, 96, 46, 182, 0, 156, 54, 7, 44, 182, 0, 144]
abbrev dktL_law_11 : List UInt8 := dkwL_law_11 ++ dktL_law_12
def dkwL_law_10 : List UInt8 := [154, 0, 15, 45, 3, 47, 21, 7, 133, 148, 153, 0, 5, 3, 172, 167, 7, 135, 43, 42, 21, 5, 4, 96]
abbrev dktL_law_10 : List UInt8 := dkwL_law_10 ++ dktL_law_11
def dkwL_law_9 : List UInt8 := [21, 5, 4, 96, 46, 182, 0, 153, 54, 7, 44, 182, 0, 144, 21, 6, 159, 0, 5, 3, 172, 21, 6]
abbrev dktL_law_9 : List UInt8 := dkwL_law_9 ++ dktL_law_10
def dkwL_law_8 : List UInt8 := [153, 0, 5, 3, 172, 167, 7, 191, 43, 42, 21, 5, 4, 96, 46, 45, 184, 0, 151, 54, 6, 44, 42]
abbrev dktL_law_8 : List UInt8 := dkwL_law_8 ++ dktL_law_9
def dkwL_law_7 : List UInt8 := [182, 0, 144, 21, 6, 159, 0, 5, 3, 172, 21, 6, 154, 0, 15, 45, 3, 47, 21, 7, 133, 148]
abbrev dktL_law_7 : List UInt8 := dkwL_law_7 ++ dktL_law_8
def dkwL_law_6 : List UInt8 := [4, 96, 46, 45, 184, 0, 147, 54, 6, 44, 42, 21, 5, 4, 96, 46, 182, 0, 150, 54, 7, 44]
abbrev dktL_law_6 : List UInt8 := dkwL_law_6 ++ dktL_law_7
def dkwL_law_5 : List UInt8 := [21, 6, 154, 0, 15, 45, 3, 47, 21, 7, 133, 148, 153, 0, 5, 3, 172, 167, 7, 247, 43, 42, 21, 5]
abbrev dktL_law_5 : List UInt8 := dkwL_law_5 ++ dktL_law_6
def dkwL_law_4 : List UInt8 := [96, 46, 42, 21, 5, 5, 96, 46, 182, 0, 143, 54, 7, 44, 182, 0, 144, 21, 6, 159, 0, 5, 3, 172]
abbrev dktL_law_4 : List UInt8 := dkwL_law_4 ++ dktL_law_5
def dkwL_law_3 : List UInt8 := [43, 42, 21, 5, 4, 96, 46, 42, 21, 5, 5, 96, 46, 45, 184, 0, 138, 54, 6, 44, 42, 21, 5, 4]
abbrev dktL_law_3 : List UInt8 := dkwL_law_3 ++ dktL_law_4
def dkwL_law_2 : List UInt8 := [170, 0, 0, 0, 0, 0, 8, 244, 0, 0, 0, 0, 0, 0, 0, 42, 0, 0, 0, 188, 0, 0, 1, 0, 0, 0, 1, 56, 0, 0, 1, 112, 0, 0, 1, 168, 0, 0, 1, 224, 0, 0, 2, 24, 0, 0, 2, 80, 0, 0, 2, 136, 0, 0, 2, 204, 0, 0, 3, 4, 0, 0, 3, 60, 0, 0, 3, 128, 0, 0, 3, 184, 0, 0, 3, 240, 0, 0, 4, 40, 0, 0, 4, 96, 0, 0, 4, 152, 0, 0, 4, 208, 0, 0, 5, 8, 0, 0, 5, 71, 0, 0, 5, 84, 0, 0, 5, 97, 0, 0, 5, 153, 0, 0, 5, 209, 0, 0, 5, 253, 0, 0, 6, 53, 0, 0, 6, 97, 0, 0, 6, 141, 0, 0, 6, 154, 0, 0, 6, 212, 0, 0, 7, 0, 0, 0, 7, 13, 0, 0, 7, 97, 0, 0, 7, 110, 0, 0, 7, 123, 0, 0, 7, 179, 0, 0, 7, 235, 0, 0, 8, 35, 0, 0, 8, 100, 0, 0, 8, 143, 0, 0, 8, 187, 0, 0, 8, 200]
abbrev dktL_law_2 : List UInt8 := dkwL_law_2 ++ dktL_law_3
def dkwL_law_1 : List UInt8 := [58, 4, 3, 54, 5, 21, 5, 42, 190, 6, 100, 163, 9, 4, 42, 21, 5, 46, 16, 63, 126]
abbrev dktL_law_1 : List UInt8 := dkwL_law_1 ++ dktL_law_2
def dkwL_law_0 : List UInt8 := [187, 0, 8, 89, 183, 0, 134, 76, 187, 0, 135, 89, 183, 0, 137, 77, 4, 188, 11, 78, 4, 188, 7]
abbrev dktL_law_0 : List UInt8 := dkwL_law_0 ++ dktL_law_1
theorem dksL_law_0 : cL_law.data.toList.drop 0 = dktL_law_0 := by decide +kernel
theorem dksL_law_1 : cL_law.data.toList.drop 23 = dktL_law_1 := dk_seg dksL_law_0 23 rfl rfl
theorem dksL_law_2 : cL_law.data.toList.drop 44 = dktL_law_2 := dk_seg dksL_law_1 21 rfl rfl
theorem dksL_law_3 : cL_law.data.toList.drop 232 = dktL_law_3 := dk_seg dksL_law_2 188 rfl rfl
theorem dksL_law_4 : cL_law.data.toList.drop 256 = dktL_law_4 := dk_seg dksL_law_3 24 rfl rfl
theorem dksL_law_5 : cL_law.data.toList.drop 280 = dktL_law_5 := dk_seg dksL_law_4 24 rfl rfl
theorem dksL_law_6 : cL_law.data.toList.drop 304 = dktL_law_6 := dk_seg dksL_law_5 24 rfl rfl
theorem dksL_law_7 : cL_law.data.toList.drop 326 = dktL_law_7 := dk_seg dksL_law_6 22 rfl rfl
theorem dksL_law_8 : cL_law.data.toList.drop 348 = dktL_law_8 := dk_seg dksL_law_7 22 rfl rfl
theorem dksL_law_9 : cL_law.data.toList.drop 371 = dktL_law_9 := dk_seg dksL_law_8 23 rfl rfl
theorem dksL_law_10 : cL_law.data.toList.drop 394 = dktL_law_10 := dk_seg dksL_law_9 23 rfl rfl
theorem dksL_law_11 : cL_law.data.toList.drop 418 = dktL_law_11 := dk_seg dksL_law_10 24 rfl rfl
theorem dksL_law_12 : cL_law.data.toList.drop 441 = dktL_law_12 := dk_seg dksL_law_11 23 rfl rfl
theorem dksL_law_13 : cL_law.data.toList.drop 465 = dktL_law_13 := dk_seg dksL_law_12 24 rfl rfl
theorem dksL_law_14 : cL_law.data.toList.drop 488 = dktL_law_14 := dk_seg dksL_law_13 23 rfl rfl
theorem dksL_law_15 : cL_law.data.toList.drop 512 = dktL_law_15 := dk_seg dksL_law_14 24 rfl rfl
theorem dksL_law_16 : cL_law.data.toList.drop 535 = dktL_law_16 := dk_seg dksL_law_15 23 rfl rfl
theorem dksL_law_17 : cL_law.data.toList.drop 559 = dktL_law_17 := dk_seg dksL_law_16 24 rfl rfl
theorem dksL_law_18 : cL_law.data.toList.drop 582 = dktL_law_18 := dk_seg dksL_law_17 23 rfl rfl
theorem dksL_law_19 : cL_law.data.toList.drop 606 = dktL_law_19 := dk_seg dksL_law_18 24 rfl rfl
theorem dksL_law_20 : cL_law.data.toList.drop 628 = dktL_law_20 := dk_seg dksL_law_19 22 rfl rfl
theorem dksL_law_21 : cL_law.data.toList.drop 651 = dktL_law_21 := dk_seg dksL_law_20 23 rfl rfl
theorem dksL_law_22 : cL_law.data.toList.drop 674 = dktL_law_22 := dk_seg dksL_law_21 23 rfl rfl
theorem dksL_law_23 : cL_law.data.toList.drop 698 = dktL_law_23 := dk_seg dksL_law_22 24 rfl rfl
theorem dksL_law_24 : cL_law.data.toList.drop 722 = dktL_law_24 := dk_seg dksL_law_23 24 rfl rfl
theorem dksL_law_25 : cL_law.data.toList.drop 746 = dktL_law_25 := dk_seg dksL_law_24 24 rfl rfl
theorem dksL_law_26 : cL_law.data.toList.drop 768 = dktL_law_26 := dk_seg dksL_law_25 22 rfl rfl
theorem dksL_law_27 : cL_law.data.toList.drop 791 = dktL_law_27 := dk_seg dksL_law_26 23 rfl rfl
theorem dksL_law_28 : cL_law.data.toList.drop 813 = dktL_law_28 := dk_seg dksL_law_27 22 rfl rfl
theorem dksL_law_29 : cL_law.data.toList.drop 836 = dktL_law_29 := dk_seg dksL_law_28 23 rfl rfl
theorem dksL_law_30 : cL_law.data.toList.drop 860 = dktL_law_30 := dk_seg dksL_law_29 24 rfl rfl
theorem dksL_law_31 : cL_law.data.toList.drop 884 = dktL_law_31 := dk_seg dksL_law_30 24 rfl rfl
theorem dksL_law_32 : cL_law.data.toList.drop 907 = dktL_law_32 := dk_seg dksL_law_31 23 rfl rfl
theorem dksL_law_33 : cL_law.data.toList.drop 931 = dktL_law_33 := dk_seg dksL_law_32 24 rfl rfl
theorem dksL_law_34 : cL_law.data.toList.drop 955 = dktL_law_34 := dk_seg dksL_law_33 24 rfl rfl
theorem dksL_law_35 : cL_law.data.toList.drop 978 = dktL_law_35 := dk_seg dksL_law_34 23 rfl rfl
theorem dksL_law_36 : cL_law.data.toList.drop 1002 = dktL_law_36 := dk_seg dksL_law_35 24 rfl rfl
theorem dksL_law_37 : cL_law.data.toList.drop 1025 = dktL_law_37 := dk_seg dksL_law_36 23 rfl rfl
theorem dksL_law_38 : cL_law.data.toList.drop 1049 = dktL_law_38 := dk_seg dksL_law_37 24 rfl rfl
theorem dksL_law_39 : cL_law.data.toList.drop 1072 = dktL_law_39 := dk_seg dksL_law_38 23 rfl rfl
theorem dksL_law_40 : cL_law.data.toList.drop 1096 = dktL_law_40 := dk_seg dksL_law_39 24 rfl rfl
theorem dksL_law_41 : cL_law.data.toList.drop 1119 = dktL_law_41 := dk_seg dksL_law_40 23 rfl rfl
theorem dksL_law_42 : cL_law.data.toList.drop 1143 = dktL_law_42 := dk_seg dksL_law_41 24 rfl rfl
theorem dksL_law_43 : cL_law.data.toList.drop 1166 = dktL_law_43 := dk_seg dksL_law_42 23 rfl rfl
theorem dksL_law_44 : cL_law.data.toList.drop 1190 = dktL_law_44 := dk_seg dksL_law_43 24 rfl rfl
theorem dksL_law_45 : cL_law.data.toList.drop 1212 = dktL_law_45 := dk_seg dksL_law_44 22 rfl rfl
theorem dksL_law_46 : cL_law.data.toList.drop 1235 = dktL_law_46 := dk_seg dksL_law_45 23 rfl rfl
theorem dksL_law_47 : cL_law.data.toList.drop 1258 = dktL_law_47 := dk_seg dksL_law_46 23 rfl rfl
theorem dksL_law_48 : cL_law.data.toList.drop 1282 = dktL_law_48 := dk_seg dksL_law_47 24 rfl rfl
theorem dksL_law_49 : cL_law.data.toList.drop 1305 = dktL_law_49 := dk_seg dksL_law_48 23 rfl rfl
theorem dksL_law_50 : cL_law.data.toList.drop 1329 = dktL_law_50 := dk_seg dksL_law_49 24 rfl rfl
theorem dksL_law_51 : cL_law.data.toList.drop 1352 = dktL_law_51 := dk_seg dksL_law_50 23 rfl rfl
theorem dksL_law_52 : cL_law.data.toList.drop 1376 = dktL_law_52 := dk_seg dksL_law_51 24 rfl rfl
theorem dksL_law_53 : cL_law.data.toList.drop 1400 = dktL_law_53 := dk_seg dksL_law_52 24 rfl rfl
theorem dksL_law_54 : cL_law.data.toList.drop 1423 = dktL_law_54 := dk_seg dksL_law_53 23 rfl rfl
theorem dksL_law_55 : cL_law.data.toList.drop 1447 = dktL_law_55 := dk_seg dksL_law_54 24 rfl rfl
theorem dksL_law_56 : cL_law.data.toList.drop 1469 = dktL_law_56 := dk_seg dksL_law_55 22 rfl rfl
theorem dksL_law_57 : cL_law.data.toList.drop 1492 = dktL_law_57 := dk_seg dksL_law_56 23 rfl rfl
theorem dksL_law_58 : cL_law.data.toList.drop 1515 = dktL_law_58 := dk_seg dksL_law_57 23 rfl rfl
theorem dksL_law_59 : cL_law.data.toList.drop 1538 = dktL_law_59 := dk_seg dksL_law_58 23 rfl rfl
theorem dksL_law_60 : cL_law.data.toList.drop 1562 = dktL_law_60 := dk_seg dksL_law_59 24 rfl rfl
theorem dksL_law_61 : cL_law.data.toList.drop 1585 = dktL_law_61 := dk_seg dksL_law_60 23 rfl rfl
theorem dksL_law_62 : cL_law.data.toList.drop 1608 = dktL_law_62 := dk_seg dksL_law_61 23 rfl rfl
theorem dksL_law_63 : cL_law.data.toList.drop 1630 = dktL_law_63 := dk_seg dksL_law_62 22 rfl rfl
theorem dksL_law_64 : cL_law.data.toList.drop 1652 = dktL_law_64 := dk_seg dksL_law_63 22 rfl rfl
theorem dksL_law_65 : cL_law.data.toList.drop 1674 = dktL_law_65 := dk_seg dksL_law_64 22 rfl rfl
theorem dksL_law_66 : cL_law.data.toList.drop 1696 = dktL_law_66 := dk_seg dksL_law_65 22 rfl rfl
theorem dksL_law_67 : cL_law.data.toList.drop 1718 = dktL_law_67 := dk_seg dksL_law_66 22 rfl rfl
theorem dksL_law_68 : cL_law.data.toList.drop 1742 = dktL_law_68 := dk_seg dksL_law_67 24 rfl rfl
theorem dksL_law_69 : cL_law.data.toList.drop 1765 = dktL_law_69 := dk_seg dksL_law_68 23 rfl rfl
theorem dksL_law_70 : cL_law.data.toList.drop 1789 = dktL_law_70 := dk_seg dksL_law_69 24 rfl rfl
theorem dksL_law_71 : cL_law.data.toList.drop 1811 = dktL_law_71 := dk_seg dksL_law_70 22 rfl rfl
theorem dksL_law_72 : cL_law.data.toList.drop 1833 = dktL_law_72 := dk_seg dksL_law_71 22 rfl rfl
theorem dksL_law_73 : cL_law.data.toList.drop 1857 = dktL_law_73 := dk_seg dksL_law_72 24 rfl rfl
theorem dksL_law_74 : cL_law.data.toList.drop 1881 = dktL_law_74 := dk_seg dksL_law_73 24 rfl rfl
theorem dksL_law_75 : cL_law.data.toList.drop 1903 = dktL_law_75 := dk_seg dksL_law_74 22 rfl rfl
theorem dksL_law_76 : cL_law.data.toList.drop 1925 = dktL_law_76 := dk_seg dksL_law_75 22 rfl rfl
theorem dksL_law_77 : cL_law.data.toList.drop 1947 = dktL_law_77 := dk_seg dksL_law_76 22 rfl rfl
theorem dksL_law_78 : cL_law.data.toList.drop 1970 = dktL_law_78 := dk_seg dksL_law_77 23 rfl rfl
theorem dksL_law_79 : cL_law.data.toList.drop 1994 = dktL_law_79 := dk_seg dksL_law_78 24 rfl rfl
theorem dksL_law_80 : cL_law.data.toList.drop 2017 = dktL_law_80 := dk_seg dksL_law_79 23 rfl rfl
theorem dksL_law_81 : cL_law.data.toList.drop 2041 = dktL_law_81 := dk_seg dksL_law_80 24 rfl rfl
theorem dksL_law_82 : cL_law.data.toList.drop 2063 = dktL_law_82 := dk_seg dksL_law_81 22 rfl rfl
theorem dksL_law_83 : cL_law.data.toList.drop 2086 = dktL_law_83 := dk_seg dksL_law_82 23 rfl rfl
theorem dksL_law_84 : cL_law.data.toList.drop 2109 = dktL_law_84 := dk_seg dksL_law_83 23 rfl rfl
theorem dksL_law_85 : cL_law.data.toList.drop 2133 = dktL_law_85 := dk_seg dksL_law_84 24 rfl rfl
theorem dksL_law_86 : cL_law.data.toList.drop 2157 = dktL_law_86 := dk_seg dksL_law_85 24 rfl rfl
theorem dksL_law_87 : cL_law.data.toList.drop 2181 = dktL_law_87 := dk_seg dksL_law_86 24 rfl rfl
theorem dksL_law_88 : cL_law.data.toList.drop 2204 = dktL_law_88 := dk_seg dksL_law_87 23 rfl rfl
theorem dksL_law_89 : cL_law.data.toList.drop 2227 = dktL_law_89 := dk_seg dksL_law_88 23 rfl rfl
theorem dksL_law_90 : cL_law.data.toList.drop 2249 = dktL_law_90 := dk_seg dksL_law_89 22 rfl rfl
theorem dksL_law_91 : cL_law.data.toList.drop 2271 = dktL_law_91 := dk_seg dksL_law_90 22 rfl rfl
theorem dksL_law_92 : cL_law.data.toList.drop 2294 = dktL_law_92 := dk_seg dksL_law_91 23 rfl rfl
theorem dksL_law_93 : cL_law.data.toList.drop 2318 = dktL_law_93 := dk_seg dksL_law_92 24 rfl rfl
theorem dksL_law_94 : cL_law.data.toList.drop 2342 = dktL_law_94 := dk_seg dksL_law_93 24 rfl rfl
theorem dL_law_0 : decode cL_law 0 = .ok (.new 8, 3) := dk_187 0 8 (dk_at dksL_law_0 0 rfl rfl)
theorem dL_law_3 : decode cL_law 3 = .ok (.dup, 1) := dk_89 (dk_at dksL_law_0 3 rfl rfl)
theorem dL_law_4 : decode cL_law 4 = .ok (.invokespecial 134, 3) := dk_183 0 134 (dk_at dksL_law_0 4 rfl rfl)
theorem dL_law_7 : decode cL_law 7 = .ok (.astore_n 1, 1) := dk_76 (dk_at dksL_law_0 7 rfl rfl)
theorem dL_law_8 : decode cL_law 8 = .ok (.new 135, 3) := dk_187 0 135 (dk_at dksL_law_0 8 rfl rfl)
theorem dL_law_11 : decode cL_law 11 = .ok (.dup, 1) := dk_89 (dk_at dksL_law_0 11 rfl rfl)
theorem dL_law_12 : decode cL_law 12 = .ok (.invokespecial 137, 3) := dk_183 0 137 (dk_at dksL_law_0 12 rfl rfl)
theorem dL_law_15 : decode cL_law 15 = .ok (.astore_n 2, 1) := dk_77 (dk_at dksL_law_0 15 rfl rfl)
theorem dL_law_16 : decode cL_law 16 = .ok (.iconst 1, 1) := dk_4 (dk_at dksL_law_0 16 rfl rfl)
theorem dL_law_17 : decode cL_law 17 = .ok (.newarray .long, 2) := dk_188_11 (dk_at dksL_law_0 17 rfl rfl)
theorem dL_law_19 : decode cL_law 19 = .ok (.astore_n 3, 1) := dk_78 (dk_at dksL_law_0 19 rfl rfl)
theorem dL_law_20 : decode cL_law 20 = .ok (.iconst 1, 1) := dk_4 (dk_at dksL_law_0 20 rfl rfl)
theorem dL_law_21 : decode cL_law 21 = .ok (.newarray .double, 2) := dk_188_7 (dk_at dksL_law_0 21 rfl rfl)
theorem dL_law_23 : decode cL_law 23 = .ok (.astore 4, 2) := dk_58 4 (dk_at dksL_law_1 0 rfl rfl)
theorem dL_law_25 : decode cL_law 25 = .ok (.iconst 0, 1) := dk_3 (dk_at dksL_law_1 2 rfl rfl)
theorem dL_law_26 : decode cL_law 26 = .ok (.istore 5, 2) := dk_54 5 (dk_at dksL_law_1 3 rfl rfl)
theorem dL_law_28 : decode cL_law 28 = .ok (.iload 5, 2) := dk_21 5 (dk_at dksL_law_1 5 rfl rfl)
theorem dL_law_30 : decode cL_law 30 = .ok (.aload_n 0, 1) := dk_42 (dk_at dksL_law_1 7 rfl rfl)
theorem dL_law_31 : decode cL_law 31 = .ok (.arraylength, 1) := dk_190 (dk_at dksL_law_1 8 rfl rfl)
theorem dL_law_32 : decode cL_law 32 = .ok (.iconst 3, 1) := dk_6 (dk_at dksL_law_1 9 rfl rfl)
theorem dL_law_33 : decode cL_law 33 = .ok (.isub, 1) := dk_100 (dk_at dksL_law_1 10 rfl rfl)
theorem dL_law_34 : decode cL_law 34 = .ok (.if_icmp .gt 2308, 3) := dk_163 9 4 (dk_at dksL_law_1 11 rfl rfl)
theorem dL_law_37 : decode cL_law 37 = .ok (.aload_n 0, 1) := dk_42 (dk_at dksL_law_1 14 rfl rfl)
theorem dL_law_38 : decode cL_law 38 = .ok (.iload 5, 2) := dk_21 5 (dk_at dksL_law_1 15 rfl rfl)
theorem dL_law_40 : decode cL_law 40 = .ok (.iaload, 1) := dk_46 (dk_at dksL_law_1 17 rfl rfl)
theorem dL_law_41 : decode cL_law 41 = .ok (.bipush 63, 2) := dk_16 63 (dk_at dksL_law_1 18 rfl rfl)
theorem dL_law_43 : decode cL_law 43 = .ok (.iand, 1) := dk_126 (dk_at dksL_law_1 20 rfl rfl)
theorem dL_law_44 : decode cL_law 44 = .ok (.tableswitch 2292 0 42 #[188, 256, 312, 368, 424, 480, 536, 592, 648, 716, 772, 828, 896, 952, 1008, 1064, 1120, 1176, 1232, 1288, 1351, 1364, 1377, 1433, 1489, 1533, 1589, 1633, 1677, 1690, 1748, 1792, 1805, 1889, 1902, 1915, 1971, 2027, 2083, 2148, 2191, 2235, 2248], 188) := by decide +kernel
theorem dL_law_232 : decode cL_law 232 = .ok (.aload_n 1, 1) := dk_43 (dk_at dksL_law_3 0 rfl rfl)
theorem dL_law_233 : decode cL_law 233 = .ok (.aload_n 0, 1) := dk_42 (dk_at dksL_law_3 1 rfl rfl)
theorem dL_law_234 : decode cL_law 234 = .ok (.iload 5, 2) := dk_21 5 (dk_at dksL_law_3 2 rfl rfl)
theorem dL_law_236 : decode cL_law 236 = .ok (.iconst 1, 1) := dk_4 (dk_at dksL_law_3 4 rfl rfl)
theorem dL_law_237 : decode cL_law 237 = .ok (.iadd, 1) := dk_96 (dk_at dksL_law_3 5 rfl rfl)
theorem dL_law_238 : decode cL_law 238 = .ok (.iaload, 1) := dk_46 (dk_at dksL_law_3 6 rfl rfl)
theorem dL_law_239 : decode cL_law 239 = .ok (.aload_n 0, 1) := dk_42 (dk_at dksL_law_3 7 rfl rfl)
theorem dL_law_240 : decode cL_law 240 = .ok (.iload 5, 2) := dk_21 5 (dk_at dksL_law_3 8 rfl rfl)
theorem dL_law_242 : decode cL_law 242 = .ok (.iconst 2, 1) := dk_5 (dk_at dksL_law_3 10 rfl rfl)
theorem dL_law_243 : decode cL_law 243 = .ok (.iadd, 1) := dk_96 (dk_at dksL_law_3 11 rfl rfl)
theorem dL_law_244 : decode cL_law 244 = .ok (.iaload, 1) := dk_46 (dk_at dksL_law_3 12 rfl rfl)
theorem dL_law_245 : decode cL_law 245 = .ok (.aload_n 3, 1) := dk_45 (dk_at dksL_law_3 13 rfl rfl)
theorem dL_law_246 : decode cL_law 246 = .ok (.invokestatic 138, 3) := dk_184 0 138 (dk_at dksL_law_3 14 rfl rfl)
theorem dL_law_249 : decode cL_law 249 = .ok (.istore 6, 2) := dk_54 6 (dk_at dksL_law_3 17 rfl rfl)
theorem dL_law_251 : decode cL_law 251 = .ok (.aload_n 2, 1) := dk_44 (dk_at dksL_law_3 19 rfl rfl)
theorem dL_law_252 : decode cL_law 252 = .ok (.aload_n 0, 1) := dk_42 (dk_at dksL_law_3 20 rfl rfl)
theorem dL_law_253 : decode cL_law 253 = .ok (.iload 5, 2) := dk_21 5 (dk_at dksL_law_3 21 rfl rfl)
theorem dL_law_255 : decode cL_law 255 = .ok (.iconst 1, 1) := dk_4 (dk_at dksL_law_3 23 rfl rfl)
theorem dL_law_256 : decode cL_law 256 = .ok (.iadd, 1) := dk_96 (dk_at dksL_law_4 0 rfl rfl)
theorem dL_law_257 : decode cL_law 257 = .ok (.iaload, 1) := dk_46 (dk_at dksL_law_4 1 rfl rfl)
theorem dL_law_258 : decode cL_law 258 = .ok (.aload_n 0, 1) := dk_42 (dk_at dksL_law_4 2 rfl rfl)
theorem dL_law_259 : decode cL_law 259 = .ok (.iload 5, 2) := dk_21 5 (dk_at dksL_law_4 3 rfl rfl)
theorem dL_law_261 : decode cL_law 261 = .ok (.iconst 2, 1) := dk_5 (dk_at dksL_law_4 5 rfl rfl)
theorem dL_law_262 : decode cL_law 262 = .ok (.iadd, 1) := dk_96 (dk_at dksL_law_4 6 rfl rfl)
theorem dL_law_263 : decode cL_law 263 = .ok (.iaload, 1) := dk_46 (dk_at dksL_law_4 7 rfl rfl)
theorem dL_law_264 : decode cL_law 264 = .ok (.invokevirtual 143, 3) := dk_182 0 143 (dk_at dksL_law_4 8 rfl rfl)
theorem dL_law_267 : decode cL_law 267 = .ok (.istore 7, 2) := dk_54 7 (dk_at dksL_law_4 11 rfl rfl)
theorem dL_law_269 : decode cL_law 269 = .ok (.aload_n 2, 1) := dk_44 (dk_at dksL_law_4 13 rfl rfl)
theorem dL_law_270 : decode cL_law 270 = .ok (.invokevirtual 144, 3) := dk_182 0 144 (dk_at dksL_law_4 14 rfl rfl)
theorem dL_law_273 : decode cL_law 273 = .ok (.iload 6, 2) := dk_21 6 (dk_at dksL_law_4 17 rfl rfl)
theorem dL_law_275 : decode cL_law 275 = .ok (.if_icmp .eq 5, 3) := dk_159 0 5 (dk_at dksL_law_4 19 rfl rfl)
theorem dL_law_278 : decode cL_law 278 = .ok (.iconst 0, 1) := dk_3 (dk_at dksL_law_4 22 rfl rfl)
theorem dL_law_279 : decode cL_law 279 = .ok (.ireturn, 1) := dk_172 (dk_at dksL_law_4 23 rfl rfl)
theorem dL_law_280 : decode cL_law 280 = .ok (.iload 6, 2) := dk_21 6 (dk_at dksL_law_5 0 rfl rfl)
theorem dL_law_282 : decode cL_law 282 = .ok (.ifCond .ne 15, 3) := dk_154 0 15 (dk_at dksL_law_5 2 rfl rfl)
theorem dL_law_285 : decode cL_law 285 = .ok (.aload_n 3, 1) := dk_45 (dk_at dksL_law_5 5 rfl rfl)
theorem dL_law_286 : decode cL_law 286 = .ok (.iconst 0, 1) := dk_3 (dk_at dksL_law_5 6 rfl rfl)
theorem dL_law_287 : decode cL_law 287 = .ok (.laload, 1) := dk_47 (dk_at dksL_law_5 7 rfl rfl)
theorem dL_law_288 : decode cL_law 288 = .ok (.iload 7, 2) := dk_21 7 (dk_at dksL_law_5 8 rfl rfl)
theorem dL_law_290 : decode cL_law 290 = .ok (.i2l, 1) := dk_133 (dk_at dksL_law_5 10 rfl rfl)
theorem dL_law_291 : decode cL_law 291 = .ok (.lcmp, 1) := dk_148 (dk_at dksL_law_5 11 rfl rfl)
theorem dL_law_292 : decode cL_law 292 = .ok (.ifCond .eq 5, 3) := dk_153 0 5 (dk_at dksL_law_5 12 rfl rfl)
theorem dL_law_295 : decode cL_law 295 = .ok (.iconst 0, 1) := dk_3 (dk_at dksL_law_5 15 rfl rfl)
theorem dL_law_296 : decode cL_law 296 = .ok (.ireturn, 1) := dk_172 (dk_at dksL_law_5 16 rfl rfl)
theorem dL_law_297 : decode cL_law 297 = .ok (.goto 2039, 3) := dk_167 7 247 (dk_at dksL_law_5 17 rfl rfl)
theorem dL_law_300 : decode cL_law 300 = .ok (.aload_n 1, 1) := dk_43 (dk_at dksL_law_5 20 rfl rfl)
theorem dL_law_301 : decode cL_law 301 = .ok (.aload_n 0, 1) := dk_42 (dk_at dksL_law_5 21 rfl rfl)
theorem dL_law_302 : decode cL_law 302 = .ok (.iload 5, 2) := dk_21 5 (dk_at dksL_law_5 22 rfl rfl)
theorem dL_law_304 : decode cL_law 304 = .ok (.iconst 1, 1) := dk_4 (dk_at dksL_law_6 0 rfl rfl)
theorem dL_law_305 : decode cL_law 305 = .ok (.iadd, 1) := dk_96 (dk_at dksL_law_6 1 rfl rfl)
theorem dL_law_306 : decode cL_law 306 = .ok (.iaload, 1) := dk_46 (dk_at dksL_law_6 2 rfl rfl)
theorem dL_law_307 : decode cL_law 307 = .ok (.aload_n 3, 1) := dk_45 (dk_at dksL_law_6 3 rfl rfl)
theorem dL_law_308 : decode cL_law 308 = .ok (.invokestatic 147, 3) := dk_184 0 147 (dk_at dksL_law_6 4 rfl rfl)
theorem dL_law_311 : decode cL_law 311 = .ok (.istore 6, 2) := dk_54 6 (dk_at dksL_law_6 7 rfl rfl)
theorem dL_law_313 : decode cL_law 313 = .ok (.aload_n 2, 1) := dk_44 (dk_at dksL_law_6 9 rfl rfl)
theorem dL_law_314 : decode cL_law 314 = .ok (.aload_n 0, 1) := dk_42 (dk_at dksL_law_6 10 rfl rfl)
theorem dL_law_315 : decode cL_law 315 = .ok (.iload 5, 2) := dk_21 5 (dk_at dksL_law_6 11 rfl rfl)
theorem dL_law_317 : decode cL_law 317 = .ok (.iconst 1, 1) := dk_4 (dk_at dksL_law_6 13 rfl rfl)
theorem dL_law_318 : decode cL_law 318 = .ok (.iadd, 1) := dk_96 (dk_at dksL_law_6 14 rfl rfl)
theorem dL_law_319 : decode cL_law 319 = .ok (.iaload, 1) := dk_46 (dk_at dksL_law_6 15 rfl rfl)
theorem dL_law_320 : decode cL_law 320 = .ok (.invokevirtual 150, 3) := dk_182 0 150 (dk_at dksL_law_6 16 rfl rfl)
theorem dL_law_323 : decode cL_law 323 = .ok (.istore 7, 2) := dk_54 7 (dk_at dksL_law_6 19 rfl rfl)
theorem dL_law_325 : decode cL_law 325 = .ok (.aload_n 2, 1) := dk_44 (dk_at dksL_law_6 21 rfl rfl)
theorem dL_law_326 : decode cL_law 326 = .ok (.invokevirtual 144, 3) := dk_182 0 144 (dk_at dksL_law_7 0 rfl rfl)
theorem dL_law_329 : decode cL_law 329 = .ok (.iload 6, 2) := dk_21 6 (dk_at dksL_law_7 3 rfl rfl)
theorem dL_law_331 : decode cL_law 331 = .ok (.if_icmp .eq 5, 3) := dk_159 0 5 (dk_at dksL_law_7 5 rfl rfl)
theorem dL_law_334 : decode cL_law 334 = .ok (.iconst 0, 1) := dk_3 (dk_at dksL_law_7 8 rfl rfl)
theorem dL_law_335 : decode cL_law 335 = .ok (.ireturn, 1) := dk_172 (dk_at dksL_law_7 9 rfl rfl)
theorem dL_law_336 : decode cL_law 336 = .ok (.iload 6, 2) := dk_21 6 (dk_at dksL_law_7 10 rfl rfl)
theorem dL_law_338 : decode cL_law 338 = .ok (.ifCond .ne 15, 3) := dk_154 0 15 (dk_at dksL_law_7 12 rfl rfl)
theorem dL_law_341 : decode cL_law 341 = .ok (.aload_n 3, 1) := dk_45 (dk_at dksL_law_7 15 rfl rfl)
theorem dL_law_342 : decode cL_law 342 = .ok (.iconst 0, 1) := dk_3 (dk_at dksL_law_7 16 rfl rfl)
theorem dL_law_343 : decode cL_law 343 = .ok (.laload, 1) := dk_47 (dk_at dksL_law_7 17 rfl rfl)
theorem dL_law_344 : decode cL_law 344 = .ok (.iload 7, 2) := dk_21 7 (dk_at dksL_law_7 18 rfl rfl)
theorem dL_law_346 : decode cL_law 346 = .ok (.i2l, 1) := dk_133 (dk_at dksL_law_7 20 rfl rfl)
theorem dL_law_347 : decode cL_law 347 = .ok (.lcmp, 1) := dk_148 (dk_at dksL_law_7 21 rfl rfl)
theorem dL_law_348 : decode cL_law 348 = .ok (.ifCond .eq 5, 3) := dk_153 0 5 (dk_at dksL_law_8 0 rfl rfl)
theorem dL_law_351 : decode cL_law 351 = .ok (.iconst 0, 1) := dk_3 (dk_at dksL_law_8 3 rfl rfl)
theorem dL_law_352 : decode cL_law 352 = .ok (.ireturn, 1) := dk_172 (dk_at dksL_law_8 4 rfl rfl)
theorem dL_law_353 : decode cL_law 353 = .ok (.goto 1983, 3) := dk_167 7 191 (dk_at dksL_law_8 5 rfl rfl)
theorem dL_law_356 : decode cL_law 356 = .ok (.aload_n 1, 1) := dk_43 (dk_at dksL_law_8 8 rfl rfl)
theorem dL_law_357 : decode cL_law 357 = .ok (.aload_n 0, 1) := dk_42 (dk_at dksL_law_8 9 rfl rfl)
theorem dL_law_358 : decode cL_law 358 = .ok (.iload 5, 2) := dk_21 5 (dk_at dksL_law_8 10 rfl rfl)
theorem dL_law_360 : decode cL_law 360 = .ok (.iconst 1, 1) := dk_4 (dk_at dksL_law_8 12 rfl rfl)
theorem dL_law_361 : decode cL_law 361 = .ok (.iadd, 1) := dk_96 (dk_at dksL_law_8 13 rfl rfl)
theorem dL_law_362 : decode cL_law 362 = .ok (.iaload, 1) := dk_46 (dk_at dksL_law_8 14 rfl rfl)
theorem dL_law_363 : decode cL_law 363 = .ok (.aload_n 3, 1) := dk_45 (dk_at dksL_law_8 15 rfl rfl)
theorem dL_law_364 : decode cL_law 364 = .ok (.invokestatic 151, 3) := dk_184 0 151 (dk_at dksL_law_8 16 rfl rfl)
theorem dL_law_367 : decode cL_law 367 = .ok (.istore 6, 2) := dk_54 6 (dk_at dksL_law_8 19 rfl rfl)
theorem dL_law_369 : decode cL_law 369 = .ok (.aload_n 2, 1) := dk_44 (dk_at dksL_law_8 21 rfl rfl)
theorem dL_law_370 : decode cL_law 370 = .ok (.aload_n 0, 1) := dk_42 (dk_at dksL_law_8 22 rfl rfl)
theorem dL_law_371 : decode cL_law 371 = .ok (.iload 5, 2) := dk_21 5 (dk_at dksL_law_9 0 rfl rfl)
theorem dL_law_373 : decode cL_law 373 = .ok (.iconst 1, 1) := dk_4 (dk_at dksL_law_9 2 rfl rfl)
theorem dL_law_374 : decode cL_law 374 = .ok (.iadd, 1) := dk_96 (dk_at dksL_law_9 3 rfl rfl)
theorem dL_law_375 : decode cL_law 375 = .ok (.iaload, 1) := dk_46 (dk_at dksL_law_9 4 rfl rfl)
theorem dL_law_376 : decode cL_law 376 = .ok (.invokevirtual 153, 3) := dk_182 0 153 (dk_at dksL_law_9 5 rfl rfl)
theorem dL_law_379 : decode cL_law 379 = .ok (.istore 7, 2) := dk_54 7 (dk_at dksL_law_9 8 rfl rfl)
theorem dL_law_381 : decode cL_law 381 = .ok (.aload_n 2, 1) := dk_44 (dk_at dksL_law_9 10 rfl rfl)
theorem dL_law_382 : decode cL_law 382 = .ok (.invokevirtual 144, 3) := dk_182 0 144 (dk_at dksL_law_9 11 rfl rfl)
theorem dL_law_385 : decode cL_law 385 = .ok (.iload 6, 2) := dk_21 6 (dk_at dksL_law_9 14 rfl rfl)
theorem dL_law_387 : decode cL_law 387 = .ok (.if_icmp .eq 5, 3) := dk_159 0 5 (dk_at dksL_law_9 16 rfl rfl)
theorem dL_law_390 : decode cL_law 390 = .ok (.iconst 0, 1) := dk_3 (dk_at dksL_law_9 19 rfl rfl)
theorem dL_law_391 : decode cL_law 391 = .ok (.ireturn, 1) := dk_172 (dk_at dksL_law_9 20 rfl rfl)
theorem dL_law_392 : decode cL_law 392 = .ok (.iload 6, 2) := dk_21 6 (dk_at dksL_law_9 21 rfl rfl)
theorem dL_law_394 : decode cL_law 394 = .ok (.ifCond .ne 15, 3) := dk_154 0 15 (dk_at dksL_law_10 0 rfl rfl)
theorem dL_law_397 : decode cL_law 397 = .ok (.aload_n 3, 1) := dk_45 (dk_at dksL_law_10 3 rfl rfl)
theorem dL_law_398 : decode cL_law 398 = .ok (.iconst 0, 1) := dk_3 (dk_at dksL_law_10 4 rfl rfl)
theorem dL_law_399 : decode cL_law 399 = .ok (.laload, 1) := dk_47 (dk_at dksL_law_10 5 rfl rfl)
theorem dL_law_400 : decode cL_law 400 = .ok (.iload 7, 2) := dk_21 7 (dk_at dksL_law_10 6 rfl rfl)
theorem dL_law_402 : decode cL_law 402 = .ok (.i2l, 1) := dk_133 (dk_at dksL_law_10 8 rfl rfl)
theorem dL_law_403 : decode cL_law 403 = .ok (.lcmp, 1) := dk_148 (dk_at dksL_law_10 9 rfl rfl)
theorem dL_law_404 : decode cL_law 404 = .ok (.ifCond .eq 5, 3) := dk_153 0 5 (dk_at dksL_law_10 10 rfl rfl)
theorem dL_law_407 : decode cL_law 407 = .ok (.iconst 0, 1) := dk_3 (dk_at dksL_law_10 13 rfl rfl)
theorem dL_law_408 : decode cL_law 408 = .ok (.ireturn, 1) := dk_172 (dk_at dksL_law_10 14 rfl rfl)
theorem dL_law_409 : decode cL_law 409 = .ok (.goto 1927, 3) := dk_167 7 135 (dk_at dksL_law_10 15 rfl rfl)
theorem dL_law_412 : decode cL_law 412 = .ok (.aload_n 1, 1) := dk_43 (dk_at dksL_law_10 18 rfl rfl)
theorem dL_law_413 : decode cL_law 413 = .ok (.aload_n 0, 1) := dk_42 (dk_at dksL_law_10 19 rfl rfl)
theorem dL_law_414 : decode cL_law 414 = .ok (.iload 5, 2) := dk_21 5 (dk_at dksL_law_10 20 rfl rfl)
theorem dL_law_416 : decode cL_law 416 = .ok (.iconst 1, 1) := dk_4 (dk_at dksL_law_10 22 rfl rfl)
theorem dL_law_417 : decode cL_law 417 = .ok (.iadd, 1) := dk_96 (dk_at dksL_law_10 23 rfl rfl)
theorem dL_law_418 : decode cL_law 418 = .ok (.iaload, 1) := dk_46 (dk_at dksL_law_11 0 rfl rfl)
theorem dL_law_419 : decode cL_law 419 = .ok (.aload_n 3, 1) := dk_45 (dk_at dksL_law_11 1 rfl rfl)
theorem dL_law_420 : decode cL_law 420 = .ok (.invokestatic 154, 3) := dk_184 0 154 (dk_at dksL_law_11 2 rfl rfl)
theorem dL_law_423 : decode cL_law 423 = .ok (.istore 6, 2) := dk_54 6 (dk_at dksL_law_11 5 rfl rfl)
theorem dL_law_425 : decode cL_law 425 = .ok (.aload_n 2, 1) := dk_44 (dk_at dksL_law_11 7 rfl rfl)
theorem dL_law_426 : decode cL_law 426 = .ok (.aload_n 0, 1) := dk_42 (dk_at dksL_law_11 8 rfl rfl)
theorem dL_law_427 : decode cL_law 427 = .ok (.iload 5, 2) := dk_21 5 (dk_at dksL_law_11 9 rfl rfl)
theorem dL_law_429 : decode cL_law 429 = .ok (.iconst 1, 1) := dk_4 (dk_at dksL_law_11 11 rfl rfl)
theorem dL_law_430 : decode cL_law 430 = .ok (.iadd, 1) := dk_96 (dk_at dksL_law_11 12 rfl rfl)
theorem dL_law_431 : decode cL_law 431 = .ok (.iaload, 1) := dk_46 (dk_at dksL_law_11 13 rfl rfl)
theorem dL_law_432 : decode cL_law 432 = .ok (.invokevirtual 156, 3) := dk_182 0 156 (dk_at dksL_law_11 14 rfl rfl)
theorem dL_law_435 : decode cL_law 435 = .ok (.istore 7, 2) := dk_54 7 (dk_at dksL_law_11 17 rfl rfl)
theorem dL_law_437 : decode cL_law 437 = .ok (.aload_n 2, 1) := dk_44 (dk_at dksL_law_11 19 rfl rfl)
theorem dL_law_438 : decode cL_law 438 = .ok (.invokevirtual 144, 3) := dk_182 0 144 (dk_at dksL_law_11 20 rfl rfl)
theorem dL_law_441 : decode cL_law 441 = .ok (.iload 6, 2) := dk_21 6 (dk_at dksL_law_12 0 rfl rfl)
theorem dL_law_443 : decode cL_law 443 = .ok (.if_icmp .eq 5, 3) := dk_159 0 5 (dk_at dksL_law_12 2 rfl rfl)
theorem dL_law_446 : decode cL_law 446 = .ok (.iconst 0, 1) := dk_3 (dk_at dksL_law_12 5 rfl rfl)
theorem dL_law_447 : decode cL_law 447 = .ok (.ireturn, 1) := dk_172 (dk_at dksL_law_12 6 rfl rfl)
theorem dL_law_448 : decode cL_law 448 = .ok (.iload 6, 2) := dk_21 6 (dk_at dksL_law_12 7 rfl rfl)
theorem dL_law_450 : decode cL_law 450 = .ok (.ifCond .ne 15, 3) := dk_154 0 15 (dk_at dksL_law_12 9 rfl rfl)
theorem dL_law_453 : decode cL_law 453 = .ok (.aload_n 3, 1) := dk_45 (dk_at dksL_law_12 12 rfl rfl)
theorem dL_law_454 : decode cL_law 454 = .ok (.iconst 0, 1) := dk_3 (dk_at dksL_law_12 13 rfl rfl)
theorem dL_law_455 : decode cL_law 455 = .ok (.laload, 1) := dk_47 (dk_at dksL_law_12 14 rfl rfl)
theorem dL_law_456 : decode cL_law 456 = .ok (.iload 7, 2) := dk_21 7 (dk_at dksL_law_12 15 rfl rfl)
theorem dL_law_458 : decode cL_law 458 = .ok (.i2l, 1) := dk_133 (dk_at dksL_law_12 17 rfl rfl)
theorem dL_law_459 : decode cL_law 459 = .ok (.lcmp, 1) := dk_148 (dk_at dksL_law_12 18 rfl rfl)
theorem dL_law_460 : decode cL_law 460 = .ok (.ifCond .eq 5, 3) := dk_153 0 5 (dk_at dksL_law_12 19 rfl rfl)
theorem dL_law_463 : decode cL_law 463 = .ok (.iconst 0, 1) := dk_3 (dk_at dksL_law_12 22 rfl rfl)
theorem dL_law_464 : decode cL_law 464 = .ok (.ireturn, 1) := dk_172 (dk_at dksL_law_12 23 rfl rfl)
theorem dL_law_465 : decode cL_law 465 = .ok (.goto 1871, 3) := dk_167 7 79 (dk_at dksL_law_13 0 rfl rfl)
theorem dL_law_468 : decode cL_law 468 = .ok (.aload_n 1, 1) := dk_43 (dk_at dksL_law_13 3 rfl rfl)
theorem dL_law_469 : decode cL_law 469 = .ok (.aload_n 0, 1) := dk_42 (dk_at dksL_law_13 4 rfl rfl)
theorem dL_law_470 : decode cL_law 470 = .ok (.iload 5, 2) := dk_21 5 (dk_at dksL_law_13 5 rfl rfl)
theorem dL_law_472 : decode cL_law 472 = .ok (.iconst 1, 1) := dk_4 (dk_at dksL_law_13 7 rfl rfl)
theorem dL_law_473 : decode cL_law 473 = .ok (.iadd, 1) := dk_96 (dk_at dksL_law_13 8 rfl rfl)
theorem dL_law_474 : decode cL_law 474 = .ok (.iaload, 1) := dk_46 (dk_at dksL_law_13 9 rfl rfl)
theorem dL_law_475 : decode cL_law 475 = .ok (.aload_n 3, 1) := dk_45 (dk_at dksL_law_13 10 rfl rfl)
theorem dL_law_476 : decode cL_law 476 = .ok (.invokestatic 157, 3) := dk_184 0 157 (dk_at dksL_law_13 11 rfl rfl)
theorem dL_law_479 : decode cL_law 479 = .ok (.istore 6, 2) := dk_54 6 (dk_at dksL_law_13 14 rfl rfl)
theorem dL_law_481 : decode cL_law 481 = .ok (.aload_n 2, 1) := dk_44 (dk_at dksL_law_13 16 rfl rfl)
theorem dL_law_482 : decode cL_law 482 = .ok (.aload_n 0, 1) := dk_42 (dk_at dksL_law_13 17 rfl rfl)
theorem dL_law_483 : decode cL_law 483 = .ok (.iload 5, 2) := dk_21 5 (dk_at dksL_law_13 18 rfl rfl)
theorem dL_law_485 : decode cL_law 485 = .ok (.iconst 1, 1) := dk_4 (dk_at dksL_law_13 20 rfl rfl)
theorem dL_law_486 : decode cL_law 486 = .ok (.iadd, 1) := dk_96 (dk_at dksL_law_13 21 rfl rfl)
theorem dL_law_487 : decode cL_law 487 = .ok (.iaload, 1) := dk_46 (dk_at dksL_law_13 22 rfl rfl)
theorem dL_law_488 : decode cL_law 488 = .ok (.invokevirtual 159, 3) := dk_182 0 159 (dk_at dksL_law_14 0 rfl rfl)
theorem dL_law_491 : decode cL_law 491 = .ok (.istore 7, 2) := dk_54 7 (dk_at dksL_law_14 3 rfl rfl)
theorem dL_law_493 : decode cL_law 493 = .ok (.aload_n 2, 1) := dk_44 (dk_at dksL_law_14 5 rfl rfl)
theorem dL_law_494 : decode cL_law 494 = .ok (.invokevirtual 144, 3) := dk_182 0 144 (dk_at dksL_law_14 6 rfl rfl)
theorem dL_law_497 : decode cL_law 497 = .ok (.iload 6, 2) := dk_21 6 (dk_at dksL_law_14 9 rfl rfl)
theorem dL_law_499 : decode cL_law 499 = .ok (.if_icmp .eq 5, 3) := dk_159 0 5 (dk_at dksL_law_14 11 rfl rfl)
theorem dL_law_502 : decode cL_law 502 = .ok (.iconst 0, 1) := dk_3 (dk_at dksL_law_14 14 rfl rfl)
theorem dL_law_503 : decode cL_law 503 = .ok (.ireturn, 1) := dk_172 (dk_at dksL_law_14 15 rfl rfl)
theorem dL_law_504 : decode cL_law 504 = .ok (.iload 6, 2) := dk_21 6 (dk_at dksL_law_14 16 rfl rfl)
theorem dL_law_506 : decode cL_law 506 = .ok (.ifCond .ne 15, 3) := dk_154 0 15 (dk_at dksL_law_14 18 rfl rfl)
theorem dL_law_509 : decode cL_law 509 = .ok (.aload_n 3, 1) := dk_45 (dk_at dksL_law_14 21 rfl rfl)
theorem dL_law_510 : decode cL_law 510 = .ok (.iconst 0, 1) := dk_3 (dk_at dksL_law_14 22 rfl rfl)
theorem dL_law_511 : decode cL_law 511 = .ok (.laload, 1) := dk_47 (dk_at dksL_law_14 23 rfl rfl)
theorem dL_law_512 : decode cL_law 512 = .ok (.iload 7, 2) := dk_21 7 (dk_at dksL_law_15 0 rfl rfl)
theorem dL_law_514 : decode cL_law 514 = .ok (.i2l, 1) := dk_133 (dk_at dksL_law_15 2 rfl rfl)
theorem dL_law_515 : decode cL_law 515 = .ok (.lcmp, 1) := dk_148 (dk_at dksL_law_15 3 rfl rfl)
theorem dL_law_516 : decode cL_law 516 = .ok (.ifCond .eq 5, 3) := dk_153 0 5 (dk_at dksL_law_15 4 rfl rfl)
theorem dL_law_519 : decode cL_law 519 = .ok (.iconst 0, 1) := dk_3 (dk_at dksL_law_15 7 rfl rfl)
theorem dL_law_520 : decode cL_law 520 = .ok (.ireturn, 1) := dk_172 (dk_at dksL_law_15 8 rfl rfl)
theorem dL_law_521 : decode cL_law 521 = .ok (.goto 1815, 3) := dk_167 7 23 (dk_at dksL_law_15 9 rfl rfl)
theorem dL_law_524 : decode cL_law 524 = .ok (.aload_n 1, 1) := dk_43 (dk_at dksL_law_15 12 rfl rfl)
theorem dL_law_525 : decode cL_law 525 = .ok (.aload_n 0, 1) := dk_42 (dk_at dksL_law_15 13 rfl rfl)
theorem dL_law_526 : decode cL_law 526 = .ok (.iload 5, 2) := dk_21 5 (dk_at dksL_law_15 14 rfl rfl)
theorem dL_law_528 : decode cL_law 528 = .ok (.iconst 1, 1) := dk_4 (dk_at dksL_law_15 16 rfl rfl)
theorem dL_law_529 : decode cL_law 529 = .ok (.iadd, 1) := dk_96 (dk_at dksL_law_15 17 rfl rfl)
theorem dL_law_530 : decode cL_law 530 = .ok (.iaload, 1) := dk_46 (dk_at dksL_law_15 18 rfl rfl)
theorem dL_law_531 : decode cL_law 531 = .ok (.aload_n 3, 1) := dk_45 (dk_at dksL_law_15 19 rfl rfl)
theorem dL_law_532 : decode cL_law 532 = .ok (.invokestatic 160, 3) := dk_184 0 160 (dk_at dksL_law_15 20 rfl rfl)
theorem dL_law_535 : decode cL_law 535 = .ok (.istore 6, 2) := dk_54 6 (dk_at dksL_law_16 0 rfl rfl)
theorem dL_law_537 : decode cL_law 537 = .ok (.aload_n 2, 1) := dk_44 (dk_at dksL_law_16 2 rfl rfl)
theorem dL_law_538 : decode cL_law 538 = .ok (.aload_n 0, 1) := dk_42 (dk_at dksL_law_16 3 rfl rfl)
theorem dL_law_539 : decode cL_law 539 = .ok (.iload 5, 2) := dk_21 5 (dk_at dksL_law_16 4 rfl rfl)
theorem dL_law_541 : decode cL_law 541 = .ok (.iconst 1, 1) := dk_4 (dk_at dksL_law_16 6 rfl rfl)
theorem dL_law_542 : decode cL_law 542 = .ok (.iadd, 1) := dk_96 (dk_at dksL_law_16 7 rfl rfl)
theorem dL_law_543 : decode cL_law 543 = .ok (.iaload, 1) := dk_46 (dk_at dksL_law_16 8 rfl rfl)
theorem dL_law_544 : decode cL_law 544 = .ok (.invokevirtual 162, 3) := dk_182 0 162 (dk_at dksL_law_16 9 rfl rfl)
theorem dL_law_547 : decode cL_law 547 = .ok (.istore 7, 2) := dk_54 7 (dk_at dksL_law_16 12 rfl rfl)
theorem dL_law_549 : decode cL_law 549 = .ok (.aload_n 2, 1) := dk_44 (dk_at dksL_law_16 14 rfl rfl)
theorem dL_law_550 : decode cL_law 550 = .ok (.invokevirtual 144, 3) := dk_182 0 144 (dk_at dksL_law_16 15 rfl rfl)
theorem dL_law_553 : decode cL_law 553 = .ok (.iload 6, 2) := dk_21 6 (dk_at dksL_law_16 18 rfl rfl)
theorem dL_law_555 : decode cL_law 555 = .ok (.if_icmp .eq 5, 3) := dk_159 0 5 (dk_at dksL_law_16 20 rfl rfl)
theorem dL_law_558 : decode cL_law 558 = .ok (.iconst 0, 1) := dk_3 (dk_at dksL_law_16 23 rfl rfl)
theorem dL_law_559 : decode cL_law 559 = .ok (.ireturn, 1) := dk_172 (dk_at dksL_law_17 0 rfl rfl)
theorem dL_law_560 : decode cL_law 560 = .ok (.iload 6, 2) := dk_21 6 (dk_at dksL_law_17 1 rfl rfl)
theorem dL_law_562 : decode cL_law 562 = .ok (.ifCond .ne 15, 3) := dk_154 0 15 (dk_at dksL_law_17 3 rfl rfl)
theorem dL_law_565 : decode cL_law 565 = .ok (.aload_n 3, 1) := dk_45 (dk_at dksL_law_17 6 rfl rfl)
theorem dL_law_566 : decode cL_law 566 = .ok (.iconst 0, 1) := dk_3 (dk_at dksL_law_17 7 rfl rfl)
theorem dL_law_567 : decode cL_law 567 = .ok (.laload, 1) := dk_47 (dk_at dksL_law_17 8 rfl rfl)
theorem dL_law_568 : decode cL_law 568 = .ok (.iload 7, 2) := dk_21 7 (dk_at dksL_law_17 9 rfl rfl)
theorem dL_law_570 : decode cL_law 570 = .ok (.i2l, 1) := dk_133 (dk_at dksL_law_17 11 rfl rfl)
theorem dL_law_571 : decode cL_law 571 = .ok (.lcmp, 1) := dk_148 (dk_at dksL_law_17 12 rfl rfl)
theorem dL_law_572 : decode cL_law 572 = .ok (.ifCond .eq 5, 3) := dk_153 0 5 (dk_at dksL_law_17 13 rfl rfl)
theorem dL_law_575 : decode cL_law 575 = .ok (.iconst 0, 1) := dk_3 (dk_at dksL_law_17 16 rfl rfl)
theorem dL_law_576 : decode cL_law 576 = .ok (.ireturn, 1) := dk_172 (dk_at dksL_law_17 17 rfl rfl)
theorem dL_law_577 : decode cL_law 577 = .ok (.goto 1759, 3) := dk_167 6 223 (dk_at dksL_law_17 18 rfl rfl)
theorem dL_law_580 : decode cL_law 580 = .ok (.aload_n 1, 1) := dk_43 (dk_at dksL_law_17 21 rfl rfl)
theorem dL_law_581 : decode cL_law 581 = .ok (.aload_n 0, 1) := dk_42 (dk_at dksL_law_17 22 rfl rfl)
theorem dL_law_582 : decode cL_law 582 = .ok (.iload 5, 2) := dk_21 5 (dk_at dksL_law_18 0 rfl rfl)
theorem dL_law_584 : decode cL_law 584 = .ok (.iconst 1, 1) := dk_4 (dk_at dksL_law_18 2 rfl rfl)
theorem dL_law_585 : decode cL_law 585 = .ok (.iadd, 1) := dk_96 (dk_at dksL_law_18 3 rfl rfl)
theorem dL_law_586 : decode cL_law 586 = .ok (.iaload, 1) := dk_46 (dk_at dksL_law_18 4 rfl rfl)
theorem dL_law_587 : decode cL_law 587 = .ok (.aload_n 3, 1) := dk_45 (dk_at dksL_law_18 5 rfl rfl)
theorem dL_law_588 : decode cL_law 588 = .ok (.invokestatic 163, 3) := dk_184 0 163 (dk_at dksL_law_18 6 rfl rfl)
theorem dL_law_591 : decode cL_law 591 = .ok (.istore 6, 2) := dk_54 6 (dk_at dksL_law_18 9 rfl rfl)
theorem dL_law_593 : decode cL_law 593 = .ok (.aload_n 2, 1) := dk_44 (dk_at dksL_law_18 11 rfl rfl)
theorem dL_law_594 : decode cL_law 594 = .ok (.aload_n 0, 1) := dk_42 (dk_at dksL_law_18 12 rfl rfl)
theorem dL_law_595 : decode cL_law 595 = .ok (.iload 5, 2) := dk_21 5 (dk_at dksL_law_18 13 rfl rfl)
theorem dL_law_597 : decode cL_law 597 = .ok (.iconst 1, 1) := dk_4 (dk_at dksL_law_18 15 rfl rfl)
theorem dL_law_598 : decode cL_law 598 = .ok (.iadd, 1) := dk_96 (dk_at dksL_law_18 16 rfl rfl)
theorem dL_law_599 : decode cL_law 599 = .ok (.iaload, 1) := dk_46 (dk_at dksL_law_18 17 rfl rfl)
theorem dL_law_600 : decode cL_law 600 = .ok (.invokevirtual 165, 3) := dk_182 0 165 (dk_at dksL_law_18 18 rfl rfl)
theorem dL_law_603 : decode cL_law 603 = .ok (.istore 7, 2) := dk_54 7 (dk_at dksL_law_18 21 rfl rfl)
theorem dL_law_605 : decode cL_law 605 = .ok (.aload_n 2, 1) := dk_44 (dk_at dksL_law_18 23 rfl rfl)
theorem dL_law_606 : decode cL_law 606 = .ok (.invokevirtual 144, 3) := dk_182 0 144 (dk_at dksL_law_19 0 rfl rfl)
theorem dL_law_609 : decode cL_law 609 = .ok (.iload 6, 2) := dk_21 6 (dk_at dksL_law_19 3 rfl rfl)
theorem dL_law_611 : decode cL_law 611 = .ok (.if_icmp .eq 5, 3) := dk_159 0 5 (dk_at dksL_law_19 5 rfl rfl)
theorem dL_law_614 : decode cL_law 614 = .ok (.iconst 0, 1) := dk_3 (dk_at dksL_law_19 8 rfl rfl)
theorem dL_law_615 : decode cL_law 615 = .ok (.ireturn, 1) := dk_172 (dk_at dksL_law_19 9 rfl rfl)
theorem dL_law_616 : decode cL_law 616 = .ok (.iload 6, 2) := dk_21 6 (dk_at dksL_law_19 10 rfl rfl)
theorem dL_law_618 : decode cL_law 618 = .ok (.ifCond .ne 15, 3) := dk_154 0 15 (dk_at dksL_law_19 12 rfl rfl)
theorem dL_law_621 : decode cL_law 621 = .ok (.aload_n 3, 1) := dk_45 (dk_at dksL_law_19 15 rfl rfl)
theorem dL_law_622 : decode cL_law 622 = .ok (.iconst 0, 1) := dk_3 (dk_at dksL_law_19 16 rfl rfl)
theorem dL_law_623 : decode cL_law 623 = .ok (.laload, 1) := dk_47 (dk_at dksL_law_19 17 rfl rfl)
theorem dL_law_624 : decode cL_law 624 = .ok (.iload 7, 2) := dk_21 7 (dk_at dksL_law_19 18 rfl rfl)
theorem dL_law_626 : decode cL_law 626 = .ok (.i2l, 1) := dk_133 (dk_at dksL_law_19 20 rfl rfl)
theorem dL_law_627 : decode cL_law 627 = .ok (.lcmp, 1) := dk_148 (dk_at dksL_law_19 21 rfl rfl)
theorem dL_law_628 : decode cL_law 628 = .ok (.ifCond .eq 5, 3) := dk_153 0 5 (dk_at dksL_law_20 0 rfl rfl)
theorem dL_law_631 : decode cL_law 631 = .ok (.iconst 0, 1) := dk_3 (dk_at dksL_law_20 3 rfl rfl)
theorem dL_law_632 : decode cL_law 632 = .ok (.ireturn, 1) := dk_172 (dk_at dksL_law_20 4 rfl rfl)
theorem dL_law_633 : decode cL_law 633 = .ok (.goto 1703, 3) := dk_167 6 167 (dk_at dksL_law_20 5 rfl rfl)
theorem dL_law_636 : decode cL_law 636 = .ok (.aload_n 1, 1) := dk_43 (dk_at dksL_law_20 8 rfl rfl)
theorem dL_law_637 : decode cL_law 637 = .ok (.aload_n 0, 1) := dk_42 (dk_at dksL_law_20 9 rfl rfl)
theorem dL_law_638 : decode cL_law 638 = .ok (.iload 5, 2) := dk_21 5 (dk_at dksL_law_20 10 rfl rfl)
theorem dL_law_640 : decode cL_law 640 = .ok (.iconst 1, 1) := dk_4 (dk_at dksL_law_20 12 rfl rfl)
theorem dL_law_641 : decode cL_law 641 = .ok (.iadd, 1) := dk_96 (dk_at dksL_law_20 13 rfl rfl)
theorem dL_law_642 : decode cL_law 642 = .ok (.iaload, 1) := dk_46 (dk_at dksL_law_20 14 rfl rfl)
theorem dL_law_643 : decode cL_law 643 = .ok (.aload_n 3, 1) := dk_45 (dk_at dksL_law_20 15 rfl rfl)
theorem dL_law_644 : decode cL_law 644 = .ok (.invokestatic 166, 3) := dk_184 0 166 (dk_at dksL_law_20 16 rfl rfl)
theorem dL_law_647 : decode cL_law 647 = .ok (.istore 6, 2) := dk_54 6 (dk_at dksL_law_20 19 rfl rfl)
theorem dL_law_649 : decode cL_law 649 = .ok (.aload_n 2, 1) := dk_44 (dk_at dksL_law_20 21 rfl rfl)
theorem dL_law_650 : decode cL_law 650 = .ok (.aload_n 0, 1) := dk_42 (dk_at dksL_law_20 22 rfl rfl)
theorem dL_law_651 : decode cL_law 651 = .ok (.iload 5, 2) := dk_21 5 (dk_at dksL_law_21 0 rfl rfl)
theorem dL_law_653 : decode cL_law 653 = .ok (.iconst 1, 1) := dk_4 (dk_at dksL_law_21 2 rfl rfl)
theorem dL_law_654 : decode cL_law 654 = .ok (.iadd, 1) := dk_96 (dk_at dksL_law_21 3 rfl rfl)
theorem dL_law_655 : decode cL_law 655 = .ok (.iaload, 1) := dk_46 (dk_at dksL_law_21 4 rfl rfl)
theorem dL_law_656 : decode cL_law 656 = .ok (.invokevirtual 168, 3) := dk_182 0 168 (dk_at dksL_law_21 5 rfl rfl)
theorem dL_law_659 : decode cL_law 659 = .ok (.istore 7, 2) := dk_54 7 (dk_at dksL_law_21 8 rfl rfl)
theorem dL_law_661 : decode cL_law 661 = .ok (.aload_n 2, 1) := dk_44 (dk_at dksL_law_21 10 rfl rfl)
theorem dL_law_662 : decode cL_law 662 = .ok (.invokevirtual 144, 3) := dk_182 0 144 (dk_at dksL_law_21 11 rfl rfl)
theorem dL_law_665 : decode cL_law 665 = .ok (.iload 6, 2) := dk_21 6 (dk_at dksL_law_21 14 rfl rfl)
theorem dL_law_667 : decode cL_law 667 = .ok (.if_icmp .eq 5, 3) := dk_159 0 5 (dk_at dksL_law_21 16 rfl rfl)
theorem dL_law_670 : decode cL_law 670 = .ok (.iconst 0, 1) := dk_3 (dk_at dksL_law_21 19 rfl rfl)
theorem dL_law_671 : decode cL_law 671 = .ok (.ireturn, 1) := dk_172 (dk_at dksL_law_21 20 rfl rfl)
theorem dL_law_672 : decode cL_law 672 = .ok (.iload 6, 2) := dk_21 6 (dk_at dksL_law_21 21 rfl rfl)
theorem dL_law_674 : decode cL_law 674 = .ok (.ifCond .ne 15, 3) := dk_154 0 15 (dk_at dksL_law_22 0 rfl rfl)
theorem dL_law_677 : decode cL_law 677 = .ok (.aload_n 3, 1) := dk_45 (dk_at dksL_law_22 3 rfl rfl)
theorem dL_law_678 : decode cL_law 678 = .ok (.iconst 0, 1) := dk_3 (dk_at dksL_law_22 4 rfl rfl)
theorem dL_law_679 : decode cL_law 679 = .ok (.laload, 1) := dk_47 (dk_at dksL_law_22 5 rfl rfl)
theorem dL_law_680 : decode cL_law 680 = .ok (.iload 7, 2) := dk_21 7 (dk_at dksL_law_22 6 rfl rfl)
theorem dL_law_682 : decode cL_law 682 = .ok (.i2l, 1) := dk_133 (dk_at dksL_law_22 8 rfl rfl)
theorem dL_law_683 : decode cL_law 683 = .ok (.lcmp, 1) := dk_148 (dk_at dksL_law_22 9 rfl rfl)
theorem dL_law_684 : decode cL_law 684 = .ok (.ifCond .eq 5, 3) := dk_153 0 5 (dk_at dksL_law_22 10 rfl rfl)
theorem dL_law_687 : decode cL_law 687 = .ok (.iconst 0, 1) := dk_3 (dk_at dksL_law_22 13 rfl rfl)
theorem dL_law_688 : decode cL_law 688 = .ok (.ireturn, 1) := dk_172 (dk_at dksL_law_22 14 rfl rfl)
theorem dL_law_689 : decode cL_law 689 = .ok (.goto 1647, 3) := dk_167 6 111 (dk_at dksL_law_22 15 rfl rfl)
theorem dL_law_692 : decode cL_law 692 = .ok (.aload_n 1, 1) := dk_43 (dk_at dksL_law_22 18 rfl rfl)
theorem dL_law_693 : decode cL_law 693 = .ok (.aload_n 0, 1) := dk_42 (dk_at dksL_law_22 19 rfl rfl)
theorem dL_law_694 : decode cL_law 694 = .ok (.iload 5, 2) := dk_21 5 (dk_at dksL_law_22 20 rfl rfl)
theorem dL_law_696 : decode cL_law 696 = .ok (.iconst 1, 1) := dk_4 (dk_at dksL_law_22 22 rfl rfl)
theorem dL_law_697 : decode cL_law 697 = .ok (.iadd, 1) := dk_96 (dk_at dksL_law_22 23 rfl rfl)
theorem dL_law_698 : decode cL_law 698 = .ok (.iaload, 1) := dk_46 (dk_at dksL_law_23 0 rfl rfl)
theorem dL_law_699 : decode cL_law 699 = .ok (.aload_n 0, 1) := dk_42 (dk_at dksL_law_23 1 rfl rfl)
theorem dL_law_700 : decode cL_law 700 = .ok (.iload 5, 2) := dk_21 5 (dk_at dksL_law_23 2 rfl rfl)
theorem dL_law_702 : decode cL_law 702 = .ok (.iconst 2, 1) := dk_5 (dk_at dksL_law_23 4 rfl rfl)
theorem dL_law_703 : decode cL_law 703 = .ok (.iadd, 1) := dk_96 (dk_at dksL_law_23 5 rfl rfl)
theorem dL_law_704 : decode cL_law 704 = .ok (.iaload, 1) := dk_46 (dk_at dksL_law_23 6 rfl rfl)
theorem dL_law_705 : decode cL_law 705 = .ok (.aload_n 3, 1) := dk_45 (dk_at dksL_law_23 7 rfl rfl)
theorem dL_law_706 : decode cL_law 706 = .ok (.invokestatic 169, 3) := dk_184 0 169 (dk_at dksL_law_23 8 rfl rfl)
theorem dL_law_709 : decode cL_law 709 = .ok (.istore 6, 2) := dk_54 6 (dk_at dksL_law_23 11 rfl rfl)
theorem dL_law_711 : decode cL_law 711 = .ok (.aload_n 2, 1) := dk_44 (dk_at dksL_law_23 13 rfl rfl)
theorem dL_law_712 : decode cL_law 712 = .ok (.aload_n 0, 1) := dk_42 (dk_at dksL_law_23 14 rfl rfl)
theorem dL_law_713 : decode cL_law 713 = .ok (.iload 5, 2) := dk_21 5 (dk_at dksL_law_23 15 rfl rfl)
theorem dL_law_715 : decode cL_law 715 = .ok (.iconst 1, 1) := dk_4 (dk_at dksL_law_23 17 rfl rfl)
theorem dL_law_716 : decode cL_law 716 = .ok (.iadd, 1) := dk_96 (dk_at dksL_law_23 18 rfl rfl)
theorem dL_law_717 : decode cL_law 717 = .ok (.iaload, 1) := dk_46 (dk_at dksL_law_23 19 rfl rfl)
theorem dL_law_718 : decode cL_law 718 = .ok (.aload_n 0, 1) := dk_42 (dk_at dksL_law_23 20 rfl rfl)
theorem dL_law_719 : decode cL_law 719 = .ok (.iload 5, 2) := dk_21 5 (dk_at dksL_law_23 21 rfl rfl)
theorem dL_law_721 : decode cL_law 721 = .ok (.iconst 2, 1) := dk_5 (dk_at dksL_law_23 23 rfl rfl)
theorem dL_law_722 : decode cL_law 722 = .ok (.iadd, 1) := dk_96 (dk_at dksL_law_24 0 rfl rfl)
theorem dL_law_723 : decode cL_law 723 = .ok (.iaload, 1) := dk_46 (dk_at dksL_law_24 1 rfl rfl)
theorem dL_law_724 : decode cL_law 724 = .ok (.invokevirtual 171, 3) := dk_182 0 171 (dk_at dksL_law_24 2 rfl rfl)
theorem dL_law_727 : decode cL_law 727 = .ok (.istore 7, 2) := dk_54 7 (dk_at dksL_law_24 5 rfl rfl)
theorem dL_law_729 : decode cL_law 729 = .ok (.aload_n 2, 1) := dk_44 (dk_at dksL_law_24 7 rfl rfl)
theorem dL_law_730 : decode cL_law 730 = .ok (.invokevirtual 144, 3) := dk_182 0 144 (dk_at dksL_law_24 8 rfl rfl)
theorem dL_law_733 : decode cL_law 733 = .ok (.iload 6, 2) := dk_21 6 (dk_at dksL_law_24 11 rfl rfl)
theorem dL_law_735 : decode cL_law 735 = .ok (.if_icmp .eq 5, 3) := dk_159 0 5 (dk_at dksL_law_24 13 rfl rfl)
theorem dL_law_738 : decode cL_law 738 = .ok (.iconst 0, 1) := dk_3 (dk_at dksL_law_24 16 rfl rfl)
theorem dL_law_739 : decode cL_law 739 = .ok (.ireturn, 1) := dk_172 (dk_at dksL_law_24 17 rfl rfl)
theorem dL_law_740 : decode cL_law 740 = .ok (.iload 6, 2) := dk_21 6 (dk_at dksL_law_24 18 rfl rfl)
theorem dL_law_742 : decode cL_law 742 = .ok (.ifCond .ne 15, 3) := dk_154 0 15 (dk_at dksL_law_24 20 rfl rfl)
theorem dL_law_745 : decode cL_law 745 = .ok (.aload_n 3, 1) := dk_45 (dk_at dksL_law_24 23 rfl rfl)
theorem dL_law_746 : decode cL_law 746 = .ok (.iconst 0, 1) := dk_3 (dk_at dksL_law_25 0 rfl rfl)
theorem dL_law_747 : decode cL_law 747 = .ok (.laload, 1) := dk_47 (dk_at dksL_law_25 1 rfl rfl)
theorem dL_law_748 : decode cL_law 748 = .ok (.iload 7, 2) := dk_21 7 (dk_at dksL_law_25 2 rfl rfl)
theorem dL_law_750 : decode cL_law 750 = .ok (.i2l, 1) := dk_133 (dk_at dksL_law_25 4 rfl rfl)
theorem dL_law_751 : decode cL_law 751 = .ok (.lcmp, 1) := dk_148 (dk_at dksL_law_25 5 rfl rfl)
theorem dL_law_752 : decode cL_law 752 = .ok (.ifCond .eq 5, 3) := dk_153 0 5 (dk_at dksL_law_25 6 rfl rfl)
theorem dL_law_755 : decode cL_law 755 = .ok (.iconst 0, 1) := dk_3 (dk_at dksL_law_25 9 rfl rfl)
theorem dL_law_756 : decode cL_law 756 = .ok (.ireturn, 1) := dk_172 (dk_at dksL_law_25 10 rfl rfl)
theorem dL_law_757 : decode cL_law 757 = .ok (.goto 1579, 3) := dk_167 6 43 (dk_at dksL_law_25 11 rfl rfl)
theorem dL_law_760 : decode cL_law 760 = .ok (.aload_n 1, 1) := dk_43 (dk_at dksL_law_25 14 rfl rfl)
theorem dL_law_761 : decode cL_law 761 = .ok (.aload_n 0, 1) := dk_42 (dk_at dksL_law_25 15 rfl rfl)
theorem dL_law_762 : decode cL_law 762 = .ok (.iload 5, 2) := dk_21 5 (dk_at dksL_law_25 16 rfl rfl)
theorem dL_law_764 : decode cL_law 764 = .ok (.iconst 1, 1) := dk_4 (dk_at dksL_law_25 18 rfl rfl)
theorem dL_law_765 : decode cL_law 765 = .ok (.iadd, 1) := dk_96 (dk_at dksL_law_25 19 rfl rfl)
theorem dL_law_766 : decode cL_law 766 = .ok (.iaload, 1) := dk_46 (dk_at dksL_law_25 20 rfl rfl)
theorem dL_law_767 : decode cL_law 767 = .ok (.aload_n 3, 1) := dk_45 (dk_at dksL_law_25 21 rfl rfl)
theorem dL_law_768 : decode cL_law 768 = .ok (.invokestatic 172, 3) := dk_184 0 172 (dk_at dksL_law_26 0 rfl rfl)
theorem dL_law_771 : decode cL_law 771 = .ok (.istore 6, 2) := dk_54 6 (dk_at dksL_law_26 3 rfl rfl)
theorem dL_law_773 : decode cL_law 773 = .ok (.aload_n 2, 1) := dk_44 (dk_at dksL_law_26 5 rfl rfl)
theorem dL_law_774 : decode cL_law 774 = .ok (.aload_n 0, 1) := dk_42 (dk_at dksL_law_26 6 rfl rfl)
theorem dL_law_775 : decode cL_law 775 = .ok (.iload 5, 2) := dk_21 5 (dk_at dksL_law_26 7 rfl rfl)
theorem dL_law_777 : decode cL_law 777 = .ok (.iconst 1, 1) := dk_4 (dk_at dksL_law_26 9 rfl rfl)
theorem dL_law_778 : decode cL_law 778 = .ok (.iadd, 1) := dk_96 (dk_at dksL_law_26 10 rfl rfl)
theorem dL_law_779 : decode cL_law 779 = .ok (.iaload, 1) := dk_46 (dk_at dksL_law_26 11 rfl rfl)
theorem dL_law_780 : decode cL_law 780 = .ok (.invokevirtual 174, 3) := dk_182 0 174 (dk_at dksL_law_26 12 rfl rfl)
theorem dL_law_783 : decode cL_law 783 = .ok (.istore 7, 2) := dk_54 7 (dk_at dksL_law_26 15 rfl rfl)
theorem dL_law_785 : decode cL_law 785 = .ok (.aload_n 2, 1) := dk_44 (dk_at dksL_law_26 17 rfl rfl)
theorem dL_law_786 : decode cL_law 786 = .ok (.invokevirtual 144, 3) := dk_182 0 144 (dk_at dksL_law_26 18 rfl rfl)
theorem dL_law_789 : decode cL_law 789 = .ok (.iload 6, 2) := dk_21 6 (dk_at dksL_law_26 21 rfl rfl)
theorem dL_law_791 : decode cL_law 791 = .ok (.if_icmp .eq 5, 3) := dk_159 0 5 (dk_at dksL_law_27 0 rfl rfl)
theorem dL_law_794 : decode cL_law 794 = .ok (.iconst 0, 1) := dk_3 (dk_at dksL_law_27 3 rfl rfl)
theorem dL_law_795 : decode cL_law 795 = .ok (.ireturn, 1) := dk_172 (dk_at dksL_law_27 4 rfl rfl)
theorem dL_law_796 : decode cL_law 796 = .ok (.iload 6, 2) := dk_21 6 (dk_at dksL_law_27 5 rfl rfl)
theorem dL_law_798 : decode cL_law 798 = .ok (.ifCond .ne 15, 3) := dk_154 0 15 (dk_at dksL_law_27 7 rfl rfl)
theorem dL_law_801 : decode cL_law 801 = .ok (.aload_n 3, 1) := dk_45 (dk_at dksL_law_27 10 rfl rfl)
theorem dL_law_802 : decode cL_law 802 = .ok (.iconst 0, 1) := dk_3 (dk_at dksL_law_27 11 rfl rfl)
theorem dL_law_803 : decode cL_law 803 = .ok (.laload, 1) := dk_47 (dk_at dksL_law_27 12 rfl rfl)
theorem dL_law_804 : decode cL_law 804 = .ok (.iload 7, 2) := dk_21 7 (dk_at dksL_law_27 13 rfl rfl)
theorem dL_law_806 : decode cL_law 806 = .ok (.i2l, 1) := dk_133 (dk_at dksL_law_27 15 rfl rfl)
theorem dL_law_807 : decode cL_law 807 = .ok (.lcmp, 1) := dk_148 (dk_at dksL_law_27 16 rfl rfl)
theorem dL_law_808 : decode cL_law 808 = .ok (.ifCond .eq 5, 3) := dk_153 0 5 (dk_at dksL_law_27 17 rfl rfl)
theorem dL_law_811 : decode cL_law 811 = .ok (.iconst 0, 1) := dk_3 (dk_at dksL_law_27 20 rfl rfl)
theorem dL_law_812 : decode cL_law 812 = .ok (.ireturn, 1) := dk_172 (dk_at dksL_law_27 21 rfl rfl)
theorem dL_law_813 : decode cL_law 813 = .ok (.goto 1523, 3) := dk_167 5 243 (dk_at dksL_law_28 0 rfl rfl)
theorem dL_law_816 : decode cL_law 816 = .ok (.aload_n 1, 1) := dk_43 (dk_at dksL_law_28 3 rfl rfl)
theorem dL_law_817 : decode cL_law 817 = .ok (.aload_n 0, 1) := dk_42 (dk_at dksL_law_28 4 rfl rfl)
theorem dL_law_818 : decode cL_law 818 = .ok (.iload 5, 2) := dk_21 5 (dk_at dksL_law_28 5 rfl rfl)
theorem dL_law_820 : decode cL_law 820 = .ok (.iconst 1, 1) := dk_4 (dk_at dksL_law_28 7 rfl rfl)
theorem dL_law_821 : decode cL_law 821 = .ok (.iadd, 1) := dk_96 (dk_at dksL_law_28 8 rfl rfl)
theorem dL_law_822 : decode cL_law 822 = .ok (.iaload, 1) := dk_46 (dk_at dksL_law_28 9 rfl rfl)
theorem dL_law_823 : decode cL_law 823 = .ok (.aload_n 3, 1) := dk_45 (dk_at dksL_law_28 10 rfl rfl)
theorem dL_law_824 : decode cL_law 824 = .ok (.invokestatic 175, 3) := dk_184 0 175 (dk_at dksL_law_28 11 rfl rfl)
theorem dL_law_827 : decode cL_law 827 = .ok (.istore 6, 2) := dk_54 6 (dk_at dksL_law_28 14 rfl rfl)
theorem dL_law_829 : decode cL_law 829 = .ok (.aload_n 2, 1) := dk_44 (dk_at dksL_law_28 16 rfl rfl)
theorem dL_law_830 : decode cL_law 830 = .ok (.aload_n 0, 1) := dk_42 (dk_at dksL_law_28 17 rfl rfl)
theorem dL_law_831 : decode cL_law 831 = .ok (.iload 5, 2) := dk_21 5 (dk_at dksL_law_28 18 rfl rfl)
theorem dL_law_833 : decode cL_law 833 = .ok (.iconst 1, 1) := dk_4 (dk_at dksL_law_28 20 rfl rfl)
theorem dL_law_834 : decode cL_law 834 = .ok (.iadd, 1) := dk_96 (dk_at dksL_law_28 21 rfl rfl)
theorem dL_law_835 : decode cL_law 835 = .ok (.iaload, 1) := dk_46 (dk_at dksL_law_28 22 rfl rfl)
theorem dL_law_836 : decode cL_law 836 = .ok (.invokevirtual 177, 3) := dk_182 0 177 (dk_at dksL_law_29 0 rfl rfl)
theorem dL_law_839 : decode cL_law 839 = .ok (.istore 7, 2) := dk_54 7 (dk_at dksL_law_29 3 rfl rfl)
theorem dL_law_841 : decode cL_law 841 = .ok (.aload_n 2, 1) := dk_44 (dk_at dksL_law_29 5 rfl rfl)
theorem dL_law_842 : decode cL_law 842 = .ok (.invokevirtual 144, 3) := dk_182 0 144 (dk_at dksL_law_29 6 rfl rfl)
theorem dL_law_845 : decode cL_law 845 = .ok (.iload 6, 2) := dk_21 6 (dk_at dksL_law_29 9 rfl rfl)
theorem dL_law_847 : decode cL_law 847 = .ok (.if_icmp .eq 5, 3) := dk_159 0 5 (dk_at dksL_law_29 11 rfl rfl)
theorem dL_law_850 : decode cL_law 850 = .ok (.iconst 0, 1) := dk_3 (dk_at dksL_law_29 14 rfl rfl)
theorem dL_law_851 : decode cL_law 851 = .ok (.ireturn, 1) := dk_172 (dk_at dksL_law_29 15 rfl rfl)
theorem dL_law_852 : decode cL_law 852 = .ok (.iload 6, 2) := dk_21 6 (dk_at dksL_law_29 16 rfl rfl)
theorem dL_law_854 : decode cL_law 854 = .ok (.ifCond .ne 15, 3) := dk_154 0 15 (dk_at dksL_law_29 18 rfl rfl)
theorem dL_law_857 : decode cL_law 857 = .ok (.aload_n 3, 1) := dk_45 (dk_at dksL_law_29 21 rfl rfl)
theorem dL_law_858 : decode cL_law 858 = .ok (.iconst 0, 1) := dk_3 (dk_at dksL_law_29 22 rfl rfl)
theorem dL_law_859 : decode cL_law 859 = .ok (.laload, 1) := dk_47 (dk_at dksL_law_29 23 rfl rfl)
theorem dL_law_860 : decode cL_law 860 = .ok (.iload 7, 2) := dk_21 7 (dk_at dksL_law_30 0 rfl rfl)
theorem dL_law_862 : decode cL_law 862 = .ok (.i2l, 1) := dk_133 (dk_at dksL_law_30 2 rfl rfl)
theorem dL_law_863 : decode cL_law 863 = .ok (.lcmp, 1) := dk_148 (dk_at dksL_law_30 3 rfl rfl)
theorem dL_law_864 : decode cL_law 864 = .ok (.ifCond .eq 5, 3) := dk_153 0 5 (dk_at dksL_law_30 4 rfl rfl)
theorem dL_law_867 : decode cL_law 867 = .ok (.iconst 0, 1) := dk_3 (dk_at dksL_law_30 7 rfl rfl)
theorem dL_law_868 : decode cL_law 868 = .ok (.ireturn, 1) := dk_172 (dk_at dksL_law_30 8 rfl rfl)
theorem dL_law_869 : decode cL_law 869 = .ok (.goto 1467, 3) := dk_167 5 187 (dk_at dksL_law_30 9 rfl rfl)
theorem dL_law_872 : decode cL_law 872 = .ok (.aload_n 1, 1) := dk_43 (dk_at dksL_law_30 12 rfl rfl)
theorem dL_law_873 : decode cL_law 873 = .ok (.aload_n 0, 1) := dk_42 (dk_at dksL_law_30 13 rfl rfl)
theorem dL_law_874 : decode cL_law 874 = .ok (.iload 5, 2) := dk_21 5 (dk_at dksL_law_30 14 rfl rfl)
theorem dL_law_876 : decode cL_law 876 = .ok (.iconst 1, 1) := dk_4 (dk_at dksL_law_30 16 rfl rfl)
theorem dL_law_877 : decode cL_law 877 = .ok (.iadd, 1) := dk_96 (dk_at dksL_law_30 17 rfl rfl)
theorem dL_law_878 : decode cL_law 878 = .ok (.iaload, 1) := dk_46 (dk_at dksL_law_30 18 rfl rfl)
theorem dL_law_879 : decode cL_law 879 = .ok (.aload_n 0, 1) := dk_42 (dk_at dksL_law_30 19 rfl rfl)
theorem dL_law_880 : decode cL_law 880 = .ok (.iload 5, 2) := dk_21 5 (dk_at dksL_law_30 20 rfl rfl)
theorem dL_law_882 : decode cL_law 882 = .ok (.iconst 2, 1) := dk_5 (dk_at dksL_law_30 22 rfl rfl)
theorem dL_law_883 : decode cL_law 883 = .ok (.iadd, 1) := dk_96 (dk_at dksL_law_30 23 rfl rfl)
theorem dL_law_884 : decode cL_law 884 = .ok (.iaload, 1) := dk_46 (dk_at dksL_law_31 0 rfl rfl)
theorem dL_law_885 : decode cL_law 885 = .ok (.aload_n 3, 1) := dk_45 (dk_at dksL_law_31 1 rfl rfl)
theorem dL_law_886 : decode cL_law 886 = .ok (.invokestatic 178, 3) := dk_184 0 178 (dk_at dksL_law_31 2 rfl rfl)
theorem dL_law_889 : decode cL_law 889 = .ok (.istore 6, 2) := dk_54 6 (dk_at dksL_law_31 5 rfl rfl)
theorem dL_law_891 : decode cL_law 891 = .ok (.aload_n 2, 1) := dk_44 (dk_at dksL_law_31 7 rfl rfl)
theorem dL_law_892 : decode cL_law 892 = .ok (.aload_n 0, 1) := dk_42 (dk_at dksL_law_31 8 rfl rfl)
theorem dL_law_893 : decode cL_law 893 = .ok (.iload 5, 2) := dk_21 5 (dk_at dksL_law_31 9 rfl rfl)
theorem dL_law_895 : decode cL_law 895 = .ok (.iconst 1, 1) := dk_4 (dk_at dksL_law_31 11 rfl rfl)
theorem dL_law_896 : decode cL_law 896 = .ok (.iadd, 1) := dk_96 (dk_at dksL_law_31 12 rfl rfl)
theorem dL_law_897 : decode cL_law 897 = .ok (.iaload, 1) := dk_46 (dk_at dksL_law_31 13 rfl rfl)
theorem dL_law_898 : decode cL_law 898 = .ok (.aload_n 0, 1) := dk_42 (dk_at dksL_law_31 14 rfl rfl)
theorem dL_law_899 : decode cL_law 899 = .ok (.iload 5, 2) := dk_21 5 (dk_at dksL_law_31 15 rfl rfl)
theorem dL_law_901 : decode cL_law 901 = .ok (.iconst 2, 1) := dk_5 (dk_at dksL_law_31 17 rfl rfl)
theorem dL_law_902 : decode cL_law 902 = .ok (.iadd, 1) := dk_96 (dk_at dksL_law_31 18 rfl rfl)
theorem dL_law_903 : decode cL_law 903 = .ok (.iaload, 1) := dk_46 (dk_at dksL_law_31 19 rfl rfl)
theorem dL_law_904 : decode cL_law 904 = .ok (.invokevirtual 180, 3) := dk_182 0 180 (dk_at dksL_law_31 20 rfl rfl)
theorem dL_law_907 : decode cL_law 907 = .ok (.istore 7, 2) := dk_54 7 (dk_at dksL_law_32 0 rfl rfl)
theorem dL_law_909 : decode cL_law 909 = .ok (.aload_n 2, 1) := dk_44 (dk_at dksL_law_32 2 rfl rfl)
theorem dL_law_910 : decode cL_law 910 = .ok (.invokevirtual 144, 3) := dk_182 0 144 (dk_at dksL_law_32 3 rfl rfl)
theorem dL_law_913 : decode cL_law 913 = .ok (.iload 6, 2) := dk_21 6 (dk_at dksL_law_32 6 rfl rfl)
theorem dL_law_915 : decode cL_law 915 = .ok (.if_icmp .eq 5, 3) := dk_159 0 5 (dk_at dksL_law_32 8 rfl rfl)
theorem dL_law_918 : decode cL_law 918 = .ok (.iconst 0, 1) := dk_3 (dk_at dksL_law_32 11 rfl rfl)
theorem dL_law_919 : decode cL_law 919 = .ok (.ireturn, 1) := dk_172 (dk_at dksL_law_32 12 rfl rfl)
theorem dL_law_920 : decode cL_law 920 = .ok (.iload 6, 2) := dk_21 6 (dk_at dksL_law_32 13 rfl rfl)
theorem dL_law_922 : decode cL_law 922 = .ok (.ifCond .ne 15, 3) := dk_154 0 15 (dk_at dksL_law_32 15 rfl rfl)
theorem dL_law_925 : decode cL_law 925 = .ok (.aload_n 3, 1) := dk_45 (dk_at dksL_law_32 18 rfl rfl)
theorem dL_law_926 : decode cL_law 926 = .ok (.iconst 0, 1) := dk_3 (dk_at dksL_law_32 19 rfl rfl)
theorem dL_law_927 : decode cL_law 927 = .ok (.laload, 1) := dk_47 (dk_at dksL_law_32 20 rfl rfl)
theorem dL_law_928 : decode cL_law 928 = .ok (.iload 7, 2) := dk_21 7 (dk_at dksL_law_32 21 rfl rfl)
theorem dL_law_930 : decode cL_law 930 = .ok (.i2l, 1) := dk_133 (dk_at dksL_law_32 23 rfl rfl)
theorem dL_law_931 : decode cL_law 931 = .ok (.lcmp, 1) := dk_148 (dk_at dksL_law_33 0 rfl rfl)
theorem dL_law_932 : decode cL_law 932 = .ok (.ifCond .eq 5, 3) := dk_153 0 5 (dk_at dksL_law_33 1 rfl rfl)
theorem dL_law_935 : decode cL_law 935 = .ok (.iconst 0, 1) := dk_3 (dk_at dksL_law_33 4 rfl rfl)
theorem dL_law_936 : decode cL_law 936 = .ok (.ireturn, 1) := dk_172 (dk_at dksL_law_33 5 rfl rfl)
theorem dL_law_937 : decode cL_law 937 = .ok (.goto 1399, 3) := dk_167 5 119 (dk_at dksL_law_33 6 rfl rfl)
theorem dL_law_940 : decode cL_law 940 = .ok (.aload_n 1, 1) := dk_43 (dk_at dksL_law_33 9 rfl rfl)
theorem dL_law_941 : decode cL_law 941 = .ok (.aload_n 0, 1) := dk_42 (dk_at dksL_law_33 10 rfl rfl)
theorem dL_law_942 : decode cL_law 942 = .ok (.iload 5, 2) := dk_21 5 (dk_at dksL_law_33 11 rfl rfl)
theorem dL_law_944 : decode cL_law 944 = .ok (.iconst 1, 1) := dk_4 (dk_at dksL_law_33 13 rfl rfl)
theorem dL_law_945 : decode cL_law 945 = .ok (.iadd, 1) := dk_96 (dk_at dksL_law_33 14 rfl rfl)
theorem dL_law_946 : decode cL_law 946 = .ok (.iaload, 1) := dk_46 (dk_at dksL_law_33 15 rfl rfl)
theorem dL_law_947 : decode cL_law 947 = .ok (.aload_n 3, 1) := dk_45 (dk_at dksL_law_33 16 rfl rfl)
theorem dL_law_948 : decode cL_law 948 = .ok (.invokestatic 181, 3) := dk_184 0 181 (dk_at dksL_law_33 17 rfl rfl)
theorem dL_law_951 : decode cL_law 951 = .ok (.istore 6, 2) := dk_54 6 (dk_at dksL_law_33 20 rfl rfl)
theorem dL_law_953 : decode cL_law 953 = .ok (.aload_n 2, 1) := dk_44 (dk_at dksL_law_33 22 rfl rfl)
theorem dL_law_954 : decode cL_law 954 = .ok (.aload_n 0, 1) := dk_42 (dk_at dksL_law_33 23 rfl rfl)
theorem dL_law_955 : decode cL_law 955 = .ok (.iload 5, 2) := dk_21 5 (dk_at dksL_law_34 0 rfl rfl)
theorem dL_law_957 : decode cL_law 957 = .ok (.iconst 1, 1) := dk_4 (dk_at dksL_law_34 2 rfl rfl)
theorem dL_law_958 : decode cL_law 958 = .ok (.iadd, 1) := dk_96 (dk_at dksL_law_34 3 rfl rfl)
theorem dL_law_959 : decode cL_law 959 = .ok (.iaload, 1) := dk_46 (dk_at dksL_law_34 4 rfl rfl)
theorem dL_law_960 : decode cL_law 960 = .ok (.invokevirtual 183, 3) := dk_182 0 183 (dk_at dksL_law_34 5 rfl rfl)
theorem dL_law_963 : decode cL_law 963 = .ok (.istore 7, 2) := dk_54 7 (dk_at dksL_law_34 8 rfl rfl)
theorem dL_law_965 : decode cL_law 965 = .ok (.aload_n 2, 1) := dk_44 (dk_at dksL_law_34 10 rfl rfl)
theorem dL_law_966 : decode cL_law 966 = .ok (.invokevirtual 144, 3) := dk_182 0 144 (dk_at dksL_law_34 11 rfl rfl)
theorem dL_law_969 : decode cL_law 969 = .ok (.iload 6, 2) := dk_21 6 (dk_at dksL_law_34 14 rfl rfl)
theorem dL_law_971 : decode cL_law 971 = .ok (.if_icmp .eq 5, 3) := dk_159 0 5 (dk_at dksL_law_34 16 rfl rfl)
theorem dL_law_974 : decode cL_law 974 = .ok (.iconst 0, 1) := dk_3 (dk_at dksL_law_34 19 rfl rfl)
theorem dL_law_975 : decode cL_law 975 = .ok (.ireturn, 1) := dk_172 (dk_at dksL_law_34 20 rfl rfl)
theorem dL_law_976 : decode cL_law 976 = .ok (.iload 6, 2) := dk_21 6 (dk_at dksL_law_34 21 rfl rfl)
theorem dL_law_978 : decode cL_law 978 = .ok (.ifCond .ne 15, 3) := dk_154 0 15 (dk_at dksL_law_35 0 rfl rfl)
theorem dL_law_981 : decode cL_law 981 = .ok (.aload_n 3, 1) := dk_45 (dk_at dksL_law_35 3 rfl rfl)
theorem dL_law_982 : decode cL_law 982 = .ok (.iconst 0, 1) := dk_3 (dk_at dksL_law_35 4 rfl rfl)
theorem dL_law_983 : decode cL_law 983 = .ok (.laload, 1) := dk_47 (dk_at dksL_law_35 5 rfl rfl)
theorem dL_law_984 : decode cL_law 984 = .ok (.iload 7, 2) := dk_21 7 (dk_at dksL_law_35 6 rfl rfl)
theorem dL_law_986 : decode cL_law 986 = .ok (.i2l, 1) := dk_133 (dk_at dksL_law_35 8 rfl rfl)
theorem dL_law_987 : decode cL_law 987 = .ok (.lcmp, 1) := dk_148 (dk_at dksL_law_35 9 rfl rfl)
theorem dL_law_988 : decode cL_law 988 = .ok (.ifCond .eq 5, 3) := dk_153 0 5 (dk_at dksL_law_35 10 rfl rfl)
theorem dL_law_991 : decode cL_law 991 = .ok (.iconst 0, 1) := dk_3 (dk_at dksL_law_35 13 rfl rfl)
theorem dL_law_992 : decode cL_law 992 = .ok (.ireturn, 1) := dk_172 (dk_at dksL_law_35 14 rfl rfl)
theorem dL_law_993 : decode cL_law 993 = .ok (.goto 1343, 3) := dk_167 5 63 (dk_at dksL_law_35 15 rfl rfl)
theorem dL_law_996 : decode cL_law 996 = .ok (.aload_n 1, 1) := dk_43 (dk_at dksL_law_35 18 rfl rfl)
theorem dL_law_997 : decode cL_law 997 = .ok (.aload_n 0, 1) := dk_42 (dk_at dksL_law_35 19 rfl rfl)
theorem dL_law_998 : decode cL_law 998 = .ok (.iload 5, 2) := dk_21 5 (dk_at dksL_law_35 20 rfl rfl)
theorem dL_law_1000 : decode cL_law 1000 = .ok (.iconst 1, 1) := dk_4 (dk_at dksL_law_35 22 rfl rfl)
theorem dL_law_1001 : decode cL_law 1001 = .ok (.iadd, 1) := dk_96 (dk_at dksL_law_35 23 rfl rfl)
theorem dL_law_1002 : decode cL_law 1002 = .ok (.iaload, 1) := dk_46 (dk_at dksL_law_36 0 rfl rfl)
theorem dL_law_1003 : decode cL_law 1003 = .ok (.aload_n 3, 1) := dk_45 (dk_at dksL_law_36 1 rfl rfl)
theorem dL_law_1004 : decode cL_law 1004 = .ok (.invokestatic 184, 3) := dk_184 0 184 (dk_at dksL_law_36 2 rfl rfl)
theorem dL_law_1007 : decode cL_law 1007 = .ok (.istore 6, 2) := dk_54 6 (dk_at dksL_law_36 5 rfl rfl)
theorem dL_law_1009 : decode cL_law 1009 = .ok (.aload_n 2, 1) := dk_44 (dk_at dksL_law_36 7 rfl rfl)
theorem dL_law_1010 : decode cL_law 1010 = .ok (.aload_n 0, 1) := dk_42 (dk_at dksL_law_36 8 rfl rfl)
theorem dL_law_1011 : decode cL_law 1011 = .ok (.iload 5, 2) := dk_21 5 (dk_at dksL_law_36 9 rfl rfl)
theorem dL_law_1013 : decode cL_law 1013 = .ok (.iconst 1, 1) := dk_4 (dk_at dksL_law_36 11 rfl rfl)
theorem dL_law_1014 : decode cL_law 1014 = .ok (.iadd, 1) := dk_96 (dk_at dksL_law_36 12 rfl rfl)
theorem dL_law_1015 : decode cL_law 1015 = .ok (.iaload, 1) := dk_46 (dk_at dksL_law_36 13 rfl rfl)
theorem dL_law_1016 : decode cL_law 1016 = .ok (.invokevirtual 186, 3) := dk_182 0 186 (dk_at dksL_law_36 14 rfl rfl)
theorem dL_law_1019 : decode cL_law 1019 = .ok (.istore 7, 2) := dk_54 7 (dk_at dksL_law_36 17 rfl rfl)
theorem dL_law_1021 : decode cL_law 1021 = .ok (.aload_n 2, 1) := dk_44 (dk_at dksL_law_36 19 rfl rfl)
theorem dL_law_1022 : decode cL_law 1022 = .ok (.invokevirtual 144, 3) := dk_182 0 144 (dk_at dksL_law_36 20 rfl rfl)
theorem dL_law_1025 : decode cL_law 1025 = .ok (.iload 6, 2) := dk_21 6 (dk_at dksL_law_37 0 rfl rfl)
theorem dL_law_1027 : decode cL_law 1027 = .ok (.if_icmp .eq 5, 3) := dk_159 0 5 (dk_at dksL_law_37 2 rfl rfl)
theorem dL_law_1030 : decode cL_law 1030 = .ok (.iconst 0, 1) := dk_3 (dk_at dksL_law_37 5 rfl rfl)
theorem dL_law_1031 : decode cL_law 1031 = .ok (.ireturn, 1) := dk_172 (dk_at dksL_law_37 6 rfl rfl)
theorem dL_law_1032 : decode cL_law 1032 = .ok (.iload 6, 2) := dk_21 6 (dk_at dksL_law_37 7 rfl rfl)
theorem dL_law_1034 : decode cL_law 1034 = .ok (.ifCond .ne 15, 3) := dk_154 0 15 (dk_at dksL_law_37 9 rfl rfl)
theorem dL_law_1037 : decode cL_law 1037 = .ok (.aload_n 3, 1) := dk_45 (dk_at dksL_law_37 12 rfl rfl)
theorem dL_law_1038 : decode cL_law 1038 = .ok (.iconst 0, 1) := dk_3 (dk_at dksL_law_37 13 rfl rfl)
theorem dL_law_1039 : decode cL_law 1039 = .ok (.laload, 1) := dk_47 (dk_at dksL_law_37 14 rfl rfl)
theorem dL_law_1040 : decode cL_law 1040 = .ok (.iload 7, 2) := dk_21 7 (dk_at dksL_law_37 15 rfl rfl)
theorem dL_law_1042 : decode cL_law 1042 = .ok (.i2l, 1) := dk_133 (dk_at dksL_law_37 17 rfl rfl)
theorem dL_law_1043 : decode cL_law 1043 = .ok (.lcmp, 1) := dk_148 (dk_at dksL_law_37 18 rfl rfl)
theorem dL_law_1044 : decode cL_law 1044 = .ok (.ifCond .eq 5, 3) := dk_153 0 5 (dk_at dksL_law_37 19 rfl rfl)
theorem dL_law_1047 : decode cL_law 1047 = .ok (.iconst 0, 1) := dk_3 (dk_at dksL_law_37 22 rfl rfl)
theorem dL_law_1048 : decode cL_law 1048 = .ok (.ireturn, 1) := dk_172 (dk_at dksL_law_37 23 rfl rfl)
theorem dL_law_1049 : decode cL_law 1049 = .ok (.goto 1287, 3) := dk_167 5 7 (dk_at dksL_law_38 0 rfl rfl)
theorem dL_law_1052 : decode cL_law 1052 = .ok (.aload_n 1, 1) := dk_43 (dk_at dksL_law_38 3 rfl rfl)
theorem dL_law_1053 : decode cL_law 1053 = .ok (.aload_n 0, 1) := dk_42 (dk_at dksL_law_38 4 rfl rfl)
theorem dL_law_1054 : decode cL_law 1054 = .ok (.iload 5, 2) := dk_21 5 (dk_at dksL_law_38 5 rfl rfl)
theorem dL_law_1056 : decode cL_law 1056 = .ok (.iconst 1, 1) := dk_4 (dk_at dksL_law_38 7 rfl rfl)
theorem dL_law_1057 : decode cL_law 1057 = .ok (.iadd, 1) := dk_96 (dk_at dksL_law_38 8 rfl rfl)
theorem dL_law_1058 : decode cL_law 1058 = .ok (.iaload, 1) := dk_46 (dk_at dksL_law_38 9 rfl rfl)
theorem dL_law_1059 : decode cL_law 1059 = .ok (.aload_n 3, 1) := dk_45 (dk_at dksL_law_38 10 rfl rfl)
theorem dL_law_1060 : decode cL_law 1060 = .ok (.invokestatic 187, 3) := dk_184 0 187 (dk_at dksL_law_38 11 rfl rfl)
theorem dL_law_1063 : decode cL_law 1063 = .ok (.istore 6, 2) := dk_54 6 (dk_at dksL_law_38 14 rfl rfl)
theorem dL_law_1065 : decode cL_law 1065 = .ok (.aload_n 2, 1) := dk_44 (dk_at dksL_law_38 16 rfl rfl)
theorem dL_law_1066 : decode cL_law 1066 = .ok (.aload_n 0, 1) := dk_42 (dk_at dksL_law_38 17 rfl rfl)
theorem dL_law_1067 : decode cL_law 1067 = .ok (.iload 5, 2) := dk_21 5 (dk_at dksL_law_38 18 rfl rfl)
theorem dL_law_1069 : decode cL_law 1069 = .ok (.iconst 1, 1) := dk_4 (dk_at dksL_law_38 20 rfl rfl)
theorem dL_law_1070 : decode cL_law 1070 = .ok (.iadd, 1) := dk_96 (dk_at dksL_law_38 21 rfl rfl)
theorem dL_law_1071 : decode cL_law 1071 = .ok (.iaload, 1) := dk_46 (dk_at dksL_law_38 22 rfl rfl)
theorem dL_law_1072 : decode cL_law 1072 = .ok (.invokevirtual 189, 3) := dk_182 0 189 (dk_at dksL_law_39 0 rfl rfl)
theorem dL_law_1075 : decode cL_law 1075 = .ok (.istore 7, 2) := dk_54 7 (dk_at dksL_law_39 3 rfl rfl)
theorem dL_law_1077 : decode cL_law 1077 = .ok (.aload_n 2, 1) := dk_44 (dk_at dksL_law_39 5 rfl rfl)
theorem dL_law_1078 : decode cL_law 1078 = .ok (.invokevirtual 144, 3) := dk_182 0 144 (dk_at dksL_law_39 6 rfl rfl)
theorem dL_law_1081 : decode cL_law 1081 = .ok (.iload 6, 2) := dk_21 6 (dk_at dksL_law_39 9 rfl rfl)
theorem dL_law_1083 : decode cL_law 1083 = .ok (.if_icmp .eq 5, 3) := dk_159 0 5 (dk_at dksL_law_39 11 rfl rfl)
theorem dL_law_1086 : decode cL_law 1086 = .ok (.iconst 0, 1) := dk_3 (dk_at dksL_law_39 14 rfl rfl)
theorem dL_law_1087 : decode cL_law 1087 = .ok (.ireturn, 1) := dk_172 (dk_at dksL_law_39 15 rfl rfl)
theorem dL_law_1088 : decode cL_law 1088 = .ok (.iload 6, 2) := dk_21 6 (dk_at dksL_law_39 16 rfl rfl)
theorem dL_law_1090 : decode cL_law 1090 = .ok (.ifCond .ne 15, 3) := dk_154 0 15 (dk_at dksL_law_39 18 rfl rfl)
theorem dL_law_1093 : decode cL_law 1093 = .ok (.aload_n 3, 1) := dk_45 (dk_at dksL_law_39 21 rfl rfl)
theorem dL_law_1094 : decode cL_law 1094 = .ok (.iconst 0, 1) := dk_3 (dk_at dksL_law_39 22 rfl rfl)
theorem dL_law_1095 : decode cL_law 1095 = .ok (.laload, 1) := dk_47 (dk_at dksL_law_39 23 rfl rfl)
theorem dL_law_1096 : decode cL_law 1096 = .ok (.iload 7, 2) := dk_21 7 (dk_at dksL_law_40 0 rfl rfl)
theorem dL_law_1098 : decode cL_law 1098 = .ok (.i2l, 1) := dk_133 (dk_at dksL_law_40 2 rfl rfl)
theorem dL_law_1099 : decode cL_law 1099 = .ok (.lcmp, 1) := dk_148 (dk_at dksL_law_40 3 rfl rfl)
theorem dL_law_1100 : decode cL_law 1100 = .ok (.ifCond .eq 5, 3) := dk_153 0 5 (dk_at dksL_law_40 4 rfl rfl)
theorem dL_law_1103 : decode cL_law 1103 = .ok (.iconst 0, 1) := dk_3 (dk_at dksL_law_40 7 rfl rfl)
theorem dL_law_1104 : decode cL_law 1104 = .ok (.ireturn, 1) := dk_172 (dk_at dksL_law_40 8 rfl rfl)
theorem dL_law_1105 : decode cL_law 1105 = .ok (.goto 1231, 3) := dk_167 4 207 (dk_at dksL_law_40 9 rfl rfl)
theorem dL_law_1108 : decode cL_law 1108 = .ok (.aload_n 1, 1) := dk_43 (dk_at dksL_law_40 12 rfl rfl)
theorem dL_law_1109 : decode cL_law 1109 = .ok (.aload_n 0, 1) := dk_42 (dk_at dksL_law_40 13 rfl rfl)
theorem dL_law_1110 : decode cL_law 1110 = .ok (.iload 5, 2) := dk_21 5 (dk_at dksL_law_40 14 rfl rfl)
theorem dL_law_1112 : decode cL_law 1112 = .ok (.iconst 1, 1) := dk_4 (dk_at dksL_law_40 16 rfl rfl)
theorem dL_law_1113 : decode cL_law 1113 = .ok (.iadd, 1) := dk_96 (dk_at dksL_law_40 17 rfl rfl)
theorem dL_law_1114 : decode cL_law 1114 = .ok (.iaload, 1) := dk_46 (dk_at dksL_law_40 18 rfl rfl)
theorem dL_law_1115 : decode cL_law 1115 = .ok (.aload_n 3, 1) := dk_45 (dk_at dksL_law_40 19 rfl rfl)
theorem dL_law_1116 : decode cL_law 1116 = .ok (.invokestatic 190, 3) := dk_184 0 190 (dk_at dksL_law_40 20 rfl rfl)
theorem dL_law_1119 : decode cL_law 1119 = .ok (.istore 6, 2) := dk_54 6 (dk_at dksL_law_41 0 rfl rfl)
theorem dL_law_1121 : decode cL_law 1121 = .ok (.aload_n 2, 1) := dk_44 (dk_at dksL_law_41 2 rfl rfl)
theorem dL_law_1122 : decode cL_law 1122 = .ok (.aload_n 0, 1) := dk_42 (dk_at dksL_law_41 3 rfl rfl)
theorem dL_law_1123 : decode cL_law 1123 = .ok (.iload 5, 2) := dk_21 5 (dk_at dksL_law_41 4 rfl rfl)
theorem dL_law_1125 : decode cL_law 1125 = .ok (.iconst 1, 1) := dk_4 (dk_at dksL_law_41 6 rfl rfl)
theorem dL_law_1126 : decode cL_law 1126 = .ok (.iadd, 1) := dk_96 (dk_at dksL_law_41 7 rfl rfl)
theorem dL_law_1127 : decode cL_law 1127 = .ok (.iaload, 1) := dk_46 (dk_at dksL_law_41 8 rfl rfl)
theorem dL_law_1128 : decode cL_law 1128 = .ok (.invokevirtual 192, 3) := dk_182 0 192 (dk_at dksL_law_41 9 rfl rfl)
theorem dL_law_1131 : decode cL_law 1131 = .ok (.istore 7, 2) := dk_54 7 (dk_at dksL_law_41 12 rfl rfl)
theorem dL_law_1133 : decode cL_law 1133 = .ok (.aload_n 2, 1) := dk_44 (dk_at dksL_law_41 14 rfl rfl)
theorem dL_law_1134 : decode cL_law 1134 = .ok (.invokevirtual 144, 3) := dk_182 0 144 (dk_at dksL_law_41 15 rfl rfl)
theorem dL_law_1137 : decode cL_law 1137 = .ok (.iload 6, 2) := dk_21 6 (dk_at dksL_law_41 18 rfl rfl)
theorem dL_law_1139 : decode cL_law 1139 = .ok (.if_icmp .eq 5, 3) := dk_159 0 5 (dk_at dksL_law_41 20 rfl rfl)
theorem dL_law_1142 : decode cL_law 1142 = .ok (.iconst 0, 1) := dk_3 (dk_at dksL_law_41 23 rfl rfl)
theorem dL_law_1143 : decode cL_law 1143 = .ok (.ireturn, 1) := dk_172 (dk_at dksL_law_42 0 rfl rfl)
theorem dL_law_1144 : decode cL_law 1144 = .ok (.iload 6, 2) := dk_21 6 (dk_at dksL_law_42 1 rfl rfl)
theorem dL_law_1146 : decode cL_law 1146 = .ok (.ifCond .ne 15, 3) := dk_154 0 15 (dk_at dksL_law_42 3 rfl rfl)
theorem dL_law_1149 : decode cL_law 1149 = .ok (.aload_n 3, 1) := dk_45 (dk_at dksL_law_42 6 rfl rfl)
theorem dL_law_1150 : decode cL_law 1150 = .ok (.iconst 0, 1) := dk_3 (dk_at dksL_law_42 7 rfl rfl)
theorem dL_law_1151 : decode cL_law 1151 = .ok (.laload, 1) := dk_47 (dk_at dksL_law_42 8 rfl rfl)
theorem dL_law_1152 : decode cL_law 1152 = .ok (.iload 7, 2) := dk_21 7 (dk_at dksL_law_42 9 rfl rfl)
theorem dL_law_1154 : decode cL_law 1154 = .ok (.i2l, 1) := dk_133 (dk_at dksL_law_42 11 rfl rfl)
theorem dL_law_1155 : decode cL_law 1155 = .ok (.lcmp, 1) := dk_148 (dk_at dksL_law_42 12 rfl rfl)
theorem dL_law_1156 : decode cL_law 1156 = .ok (.ifCond .eq 5, 3) := dk_153 0 5 (dk_at dksL_law_42 13 rfl rfl)
theorem dL_law_1159 : decode cL_law 1159 = .ok (.iconst 0, 1) := dk_3 (dk_at dksL_law_42 16 rfl rfl)
theorem dL_law_1160 : decode cL_law 1160 = .ok (.ireturn, 1) := dk_172 (dk_at dksL_law_42 17 rfl rfl)
theorem dL_law_1161 : decode cL_law 1161 = .ok (.goto 1175, 3) := dk_167 4 151 (dk_at dksL_law_42 18 rfl rfl)
theorem dL_law_1164 : decode cL_law 1164 = .ok (.aload_n 1, 1) := dk_43 (dk_at dksL_law_42 21 rfl rfl)
theorem dL_law_1165 : decode cL_law 1165 = .ok (.aload_n 0, 1) := dk_42 (dk_at dksL_law_42 22 rfl rfl)
theorem dL_law_1166 : decode cL_law 1166 = .ok (.iload 5, 2) := dk_21 5 (dk_at dksL_law_43 0 rfl rfl)
theorem dL_law_1168 : decode cL_law 1168 = .ok (.iconst 1, 1) := dk_4 (dk_at dksL_law_43 2 rfl rfl)
theorem dL_law_1169 : decode cL_law 1169 = .ok (.iadd, 1) := dk_96 (dk_at dksL_law_43 3 rfl rfl)
theorem dL_law_1170 : decode cL_law 1170 = .ok (.iaload, 1) := dk_46 (dk_at dksL_law_43 4 rfl rfl)
theorem dL_law_1171 : decode cL_law 1171 = .ok (.aload_n 3, 1) := dk_45 (dk_at dksL_law_43 5 rfl rfl)
theorem dL_law_1172 : decode cL_law 1172 = .ok (.invokestatic 193, 3) := dk_184 0 193 (dk_at dksL_law_43 6 rfl rfl)
theorem dL_law_1175 : decode cL_law 1175 = .ok (.istore 6, 2) := dk_54 6 (dk_at dksL_law_43 9 rfl rfl)
theorem dL_law_1177 : decode cL_law 1177 = .ok (.aload_n 2, 1) := dk_44 (dk_at dksL_law_43 11 rfl rfl)
theorem dL_law_1178 : decode cL_law 1178 = .ok (.aload_n 0, 1) := dk_42 (dk_at dksL_law_43 12 rfl rfl)
theorem dL_law_1179 : decode cL_law 1179 = .ok (.iload 5, 2) := dk_21 5 (dk_at dksL_law_43 13 rfl rfl)
theorem dL_law_1181 : decode cL_law 1181 = .ok (.iconst 1, 1) := dk_4 (dk_at dksL_law_43 15 rfl rfl)
theorem dL_law_1182 : decode cL_law 1182 = .ok (.iadd, 1) := dk_96 (dk_at dksL_law_43 16 rfl rfl)
theorem dL_law_1183 : decode cL_law 1183 = .ok (.iaload, 1) := dk_46 (dk_at dksL_law_43 17 rfl rfl)
theorem dL_law_1184 : decode cL_law 1184 = .ok (.invokevirtual 195, 3) := dk_182 0 195 (dk_at dksL_law_43 18 rfl rfl)
theorem dL_law_1187 : decode cL_law 1187 = .ok (.istore 7, 2) := dk_54 7 (dk_at dksL_law_43 21 rfl rfl)
theorem dL_law_1189 : decode cL_law 1189 = .ok (.aload_n 2, 1) := dk_44 (dk_at dksL_law_43 23 rfl rfl)
theorem dL_law_1190 : decode cL_law 1190 = .ok (.invokevirtual 144, 3) := dk_182 0 144 (dk_at dksL_law_44 0 rfl rfl)
theorem dL_law_1193 : decode cL_law 1193 = .ok (.iload 6, 2) := dk_21 6 (dk_at dksL_law_44 3 rfl rfl)
theorem dL_law_1195 : decode cL_law 1195 = .ok (.if_icmp .eq 5, 3) := dk_159 0 5 (dk_at dksL_law_44 5 rfl rfl)
theorem dL_law_1198 : decode cL_law 1198 = .ok (.iconst 0, 1) := dk_3 (dk_at dksL_law_44 8 rfl rfl)
theorem dL_law_1199 : decode cL_law 1199 = .ok (.ireturn, 1) := dk_172 (dk_at dksL_law_44 9 rfl rfl)
theorem dL_law_1200 : decode cL_law 1200 = .ok (.iload 6, 2) := dk_21 6 (dk_at dksL_law_44 10 rfl rfl)
theorem dL_law_1202 : decode cL_law 1202 = .ok (.ifCond .ne 15, 3) := dk_154 0 15 (dk_at dksL_law_44 12 rfl rfl)
theorem dL_law_1205 : decode cL_law 1205 = .ok (.aload_n 3, 1) := dk_45 (dk_at dksL_law_44 15 rfl rfl)
theorem dL_law_1206 : decode cL_law 1206 = .ok (.iconst 0, 1) := dk_3 (dk_at dksL_law_44 16 rfl rfl)
theorem dL_law_1207 : decode cL_law 1207 = .ok (.laload, 1) := dk_47 (dk_at dksL_law_44 17 rfl rfl)
theorem dL_law_1208 : decode cL_law 1208 = .ok (.iload 7, 2) := dk_21 7 (dk_at dksL_law_44 18 rfl rfl)
theorem dL_law_1210 : decode cL_law 1210 = .ok (.i2l, 1) := dk_133 (dk_at dksL_law_44 20 rfl rfl)
theorem dL_law_1211 : decode cL_law 1211 = .ok (.lcmp, 1) := dk_148 (dk_at dksL_law_44 21 rfl rfl)
theorem dL_law_1212 : decode cL_law 1212 = .ok (.ifCond .eq 5, 3) := dk_153 0 5 (dk_at dksL_law_45 0 rfl rfl)
theorem dL_law_1215 : decode cL_law 1215 = .ok (.iconst 0, 1) := dk_3 (dk_at dksL_law_45 3 rfl rfl)
theorem dL_law_1216 : decode cL_law 1216 = .ok (.ireturn, 1) := dk_172 (dk_at dksL_law_45 4 rfl rfl)
theorem dL_law_1217 : decode cL_law 1217 = .ok (.goto 1119, 3) := dk_167 4 95 (dk_at dksL_law_45 5 rfl rfl)
theorem dL_law_1220 : decode cL_law 1220 = .ok (.aload_n 1, 1) := dk_43 (dk_at dksL_law_45 8 rfl rfl)
theorem dL_law_1221 : decode cL_law 1221 = .ok (.aload_n 0, 1) := dk_42 (dk_at dksL_law_45 9 rfl rfl)
theorem dL_law_1222 : decode cL_law 1222 = .ok (.iload 5, 2) := dk_21 5 (dk_at dksL_law_45 10 rfl rfl)
theorem dL_law_1224 : decode cL_law 1224 = .ok (.iconst 1, 1) := dk_4 (dk_at dksL_law_45 12 rfl rfl)
theorem dL_law_1225 : decode cL_law 1225 = .ok (.iadd, 1) := dk_96 (dk_at dksL_law_45 13 rfl rfl)
theorem dL_law_1226 : decode cL_law 1226 = .ok (.iaload, 1) := dk_46 (dk_at dksL_law_45 14 rfl rfl)
theorem dL_law_1227 : decode cL_law 1227 = .ok (.aload_n 3, 1) := dk_45 (dk_at dksL_law_45 15 rfl rfl)
theorem dL_law_1228 : decode cL_law 1228 = .ok (.invokestatic 196, 3) := dk_184 0 196 (dk_at dksL_law_45 16 rfl rfl)
theorem dL_law_1231 : decode cL_law 1231 = .ok (.istore 6, 2) := dk_54 6 (dk_at dksL_law_45 19 rfl rfl)
theorem dL_law_1233 : decode cL_law 1233 = .ok (.aload_n 2, 1) := dk_44 (dk_at dksL_law_45 21 rfl rfl)
theorem dL_law_1234 : decode cL_law 1234 = .ok (.aload_n 0, 1) := dk_42 (dk_at dksL_law_45 22 rfl rfl)
theorem dL_law_1235 : decode cL_law 1235 = .ok (.iload 5, 2) := dk_21 5 (dk_at dksL_law_46 0 rfl rfl)
theorem dL_law_1237 : decode cL_law 1237 = .ok (.iconst 1, 1) := dk_4 (dk_at dksL_law_46 2 rfl rfl)
theorem dL_law_1238 : decode cL_law 1238 = .ok (.iadd, 1) := dk_96 (dk_at dksL_law_46 3 rfl rfl)
theorem dL_law_1239 : decode cL_law 1239 = .ok (.iaload, 1) := dk_46 (dk_at dksL_law_46 4 rfl rfl)
theorem dL_law_1240 : decode cL_law 1240 = .ok (.invokevirtual 198, 3) := dk_182 0 198 (dk_at dksL_law_46 5 rfl rfl)
theorem dL_law_1243 : decode cL_law 1243 = .ok (.istore 7, 2) := dk_54 7 (dk_at dksL_law_46 8 rfl rfl)
theorem dL_law_1245 : decode cL_law 1245 = .ok (.aload_n 2, 1) := dk_44 (dk_at dksL_law_46 10 rfl rfl)
theorem dL_law_1246 : decode cL_law 1246 = .ok (.invokevirtual 144, 3) := dk_182 0 144 (dk_at dksL_law_46 11 rfl rfl)
theorem dL_law_1249 : decode cL_law 1249 = .ok (.iload 6, 2) := dk_21 6 (dk_at dksL_law_46 14 rfl rfl)
theorem dL_law_1251 : decode cL_law 1251 = .ok (.if_icmp .eq 5, 3) := dk_159 0 5 (dk_at dksL_law_46 16 rfl rfl)
theorem dL_law_1254 : decode cL_law 1254 = .ok (.iconst 0, 1) := dk_3 (dk_at dksL_law_46 19 rfl rfl)
theorem dL_law_1255 : decode cL_law 1255 = .ok (.ireturn, 1) := dk_172 (dk_at dksL_law_46 20 rfl rfl)
theorem dL_law_1256 : decode cL_law 1256 = .ok (.iload 6, 2) := dk_21 6 (dk_at dksL_law_46 21 rfl rfl)
theorem dL_law_1258 : decode cL_law 1258 = .ok (.ifCond .ne 15, 3) := dk_154 0 15 (dk_at dksL_law_47 0 rfl rfl)
theorem dL_law_1261 : decode cL_law 1261 = .ok (.aload_n 3, 1) := dk_45 (dk_at dksL_law_47 3 rfl rfl)
theorem dL_law_1262 : decode cL_law 1262 = .ok (.iconst 0, 1) := dk_3 (dk_at dksL_law_47 4 rfl rfl)
theorem dL_law_1263 : decode cL_law 1263 = .ok (.laload, 1) := dk_47 (dk_at dksL_law_47 5 rfl rfl)
theorem dL_law_1264 : decode cL_law 1264 = .ok (.iload 7, 2) := dk_21 7 (dk_at dksL_law_47 6 rfl rfl)
theorem dL_law_1266 : decode cL_law 1266 = .ok (.i2l, 1) := dk_133 (dk_at dksL_law_47 8 rfl rfl)
theorem dL_law_1267 : decode cL_law 1267 = .ok (.lcmp, 1) := dk_148 (dk_at dksL_law_47 9 rfl rfl)
theorem dL_law_1268 : decode cL_law 1268 = .ok (.ifCond .eq 5, 3) := dk_153 0 5 (dk_at dksL_law_47 10 rfl rfl)
theorem dL_law_1271 : decode cL_law 1271 = .ok (.iconst 0, 1) := dk_3 (dk_at dksL_law_47 13 rfl rfl)
theorem dL_law_1272 : decode cL_law 1272 = .ok (.ireturn, 1) := dk_172 (dk_at dksL_law_47 14 rfl rfl)
theorem dL_law_1273 : decode cL_law 1273 = .ok (.goto 1063, 3) := dk_167 4 39 (dk_at dksL_law_47 15 rfl rfl)
theorem dL_law_1276 : decode cL_law 1276 = .ok (.aload_n 1, 1) := dk_43 (dk_at dksL_law_47 18 rfl rfl)
theorem dL_law_1277 : decode cL_law 1277 = .ok (.aload_n 0, 1) := dk_42 (dk_at dksL_law_47 19 rfl rfl)
theorem dL_law_1278 : decode cL_law 1278 = .ok (.iload 5, 2) := dk_21 5 (dk_at dksL_law_47 20 rfl rfl)
theorem dL_law_1280 : decode cL_law 1280 = .ok (.iconst 1, 1) := dk_4 (dk_at dksL_law_47 22 rfl rfl)
theorem dL_law_1281 : decode cL_law 1281 = .ok (.iadd, 1) := dk_96 (dk_at dksL_law_47 23 rfl rfl)
theorem dL_law_1282 : decode cL_law 1282 = .ok (.iaload, 1) := dk_46 (dk_at dksL_law_48 0 rfl rfl)
theorem dL_law_1283 : decode cL_law 1283 = .ok (.aload_n 3, 1) := dk_45 (dk_at dksL_law_48 1 rfl rfl)
theorem dL_law_1284 : decode cL_law 1284 = .ok (.invokestatic 199, 3) := dk_184 0 199 (dk_at dksL_law_48 2 rfl rfl)
theorem dL_law_1287 : decode cL_law 1287 = .ok (.istore 6, 2) := dk_54 6 (dk_at dksL_law_48 5 rfl rfl)
theorem dL_law_1289 : decode cL_law 1289 = .ok (.aload_n 2, 1) := dk_44 (dk_at dksL_law_48 7 rfl rfl)
theorem dL_law_1290 : decode cL_law 1290 = .ok (.aload_n 0, 1) := dk_42 (dk_at dksL_law_48 8 rfl rfl)
theorem dL_law_1291 : decode cL_law 1291 = .ok (.iload 5, 2) := dk_21 5 (dk_at dksL_law_48 9 rfl rfl)
theorem dL_law_1293 : decode cL_law 1293 = .ok (.iconst 1, 1) := dk_4 (dk_at dksL_law_48 11 rfl rfl)
theorem dL_law_1294 : decode cL_law 1294 = .ok (.iadd, 1) := dk_96 (dk_at dksL_law_48 12 rfl rfl)
theorem dL_law_1295 : decode cL_law 1295 = .ok (.iaload, 1) := dk_46 (dk_at dksL_law_48 13 rfl rfl)
theorem dL_law_1296 : decode cL_law 1296 = .ok (.invokevirtual 201, 3) := dk_182 0 201 (dk_at dksL_law_48 14 rfl rfl)
theorem dL_law_1299 : decode cL_law 1299 = .ok (.istore 7, 2) := dk_54 7 (dk_at dksL_law_48 17 rfl rfl)
theorem dL_law_1301 : decode cL_law 1301 = .ok (.aload_n 2, 1) := dk_44 (dk_at dksL_law_48 19 rfl rfl)
theorem dL_law_1302 : decode cL_law 1302 = .ok (.invokevirtual 144, 3) := dk_182 0 144 (dk_at dksL_law_48 20 rfl rfl)
theorem dL_law_1305 : decode cL_law 1305 = .ok (.iload 6, 2) := dk_21 6 (dk_at dksL_law_49 0 rfl rfl)
theorem dL_law_1307 : decode cL_law 1307 = .ok (.if_icmp .eq 5, 3) := dk_159 0 5 (dk_at dksL_law_49 2 rfl rfl)
theorem dL_law_1310 : decode cL_law 1310 = .ok (.iconst 0, 1) := dk_3 (dk_at dksL_law_49 5 rfl rfl)
theorem dL_law_1311 : decode cL_law 1311 = .ok (.ireturn, 1) := dk_172 (dk_at dksL_law_49 6 rfl rfl)
theorem dL_law_1312 : decode cL_law 1312 = .ok (.iload 6, 2) := dk_21 6 (dk_at dksL_law_49 7 rfl rfl)
theorem dL_law_1314 : decode cL_law 1314 = .ok (.ifCond .ne 15, 3) := dk_154 0 15 (dk_at dksL_law_49 9 rfl rfl)
theorem dL_law_1317 : decode cL_law 1317 = .ok (.aload_n 3, 1) := dk_45 (dk_at dksL_law_49 12 rfl rfl)
theorem dL_law_1318 : decode cL_law 1318 = .ok (.iconst 0, 1) := dk_3 (dk_at dksL_law_49 13 rfl rfl)
theorem dL_law_1319 : decode cL_law 1319 = .ok (.laload, 1) := dk_47 (dk_at dksL_law_49 14 rfl rfl)
theorem dL_law_1320 : decode cL_law 1320 = .ok (.iload 7, 2) := dk_21 7 (dk_at dksL_law_49 15 rfl rfl)
theorem dL_law_1322 : decode cL_law 1322 = .ok (.i2l, 1) := dk_133 (dk_at dksL_law_49 17 rfl rfl)
theorem dL_law_1323 : decode cL_law 1323 = .ok (.lcmp, 1) := dk_148 (dk_at dksL_law_49 18 rfl rfl)
theorem dL_law_1324 : decode cL_law 1324 = .ok (.ifCond .eq 5, 3) := dk_153 0 5 (dk_at dksL_law_49 19 rfl rfl)
theorem dL_law_1327 : decode cL_law 1327 = .ok (.iconst 0, 1) := dk_3 (dk_at dksL_law_49 22 rfl rfl)
theorem dL_law_1328 : decode cL_law 1328 = .ok (.ireturn, 1) := dk_172 (dk_at dksL_law_49 23 rfl rfl)
theorem dL_law_1329 : decode cL_law 1329 = .ok (.goto 1007, 3) := dk_167 3 239 (dk_at dksL_law_50 0 rfl rfl)
theorem dL_law_1332 : decode cL_law 1332 = .ok (.aload_n 1, 1) := dk_43 (dk_at dksL_law_50 3 rfl rfl)
theorem dL_law_1333 : decode cL_law 1333 = .ok (.aload_n 0, 1) := dk_42 (dk_at dksL_law_50 4 rfl rfl)
theorem dL_law_1334 : decode cL_law 1334 = .ok (.iload 5, 2) := dk_21 5 (dk_at dksL_law_50 5 rfl rfl)
theorem dL_law_1336 : decode cL_law 1336 = .ok (.iconst 1, 1) := dk_4 (dk_at dksL_law_50 7 rfl rfl)
theorem dL_law_1337 : decode cL_law 1337 = .ok (.iadd, 1) := dk_96 (dk_at dksL_law_50 8 rfl rfl)
theorem dL_law_1338 : decode cL_law 1338 = .ok (.iaload, 1) := dk_46 (dk_at dksL_law_50 9 rfl rfl)
theorem dL_law_1339 : decode cL_law 1339 = .ok (.aload_n 3, 1) := dk_45 (dk_at dksL_law_50 10 rfl rfl)
theorem dL_law_1340 : decode cL_law 1340 = .ok (.invokestatic 202, 3) := dk_184 0 202 (dk_at dksL_law_50 11 rfl rfl)
theorem dL_law_1343 : decode cL_law 1343 = .ok (.istore 6, 2) := dk_54 6 (dk_at dksL_law_50 14 rfl rfl)
theorem dL_law_1345 : decode cL_law 1345 = .ok (.aload_n 2, 1) := dk_44 (dk_at dksL_law_50 16 rfl rfl)
theorem dL_law_1346 : decode cL_law 1346 = .ok (.aload_n 0, 1) := dk_42 (dk_at dksL_law_50 17 rfl rfl)
theorem dL_law_1347 : decode cL_law 1347 = .ok (.iload 5, 2) := dk_21 5 (dk_at dksL_law_50 18 rfl rfl)
theorem dL_law_1349 : decode cL_law 1349 = .ok (.iconst 1, 1) := dk_4 (dk_at dksL_law_50 20 rfl rfl)
theorem dL_law_1350 : decode cL_law 1350 = .ok (.iadd, 1) := dk_96 (dk_at dksL_law_50 21 rfl rfl)
theorem dL_law_1351 : decode cL_law 1351 = .ok (.iaload, 1) := dk_46 (dk_at dksL_law_50 22 rfl rfl)
theorem dL_law_1352 : decode cL_law 1352 = .ok (.invokevirtual 204, 3) := dk_182 0 204 (dk_at dksL_law_51 0 rfl rfl)
theorem dL_law_1355 : decode cL_law 1355 = .ok (.istore 7, 2) := dk_54 7 (dk_at dksL_law_51 3 rfl rfl)
theorem dL_law_1357 : decode cL_law 1357 = .ok (.aload_n 2, 1) := dk_44 (dk_at dksL_law_51 5 rfl rfl)
theorem dL_law_1358 : decode cL_law 1358 = .ok (.invokevirtual 144, 3) := dk_182 0 144 (dk_at dksL_law_51 6 rfl rfl)
theorem dL_law_1361 : decode cL_law 1361 = .ok (.iload 6, 2) := dk_21 6 (dk_at dksL_law_51 9 rfl rfl)
theorem dL_law_1363 : decode cL_law 1363 = .ok (.if_icmp .eq 5, 3) := dk_159 0 5 (dk_at dksL_law_51 11 rfl rfl)
theorem dL_law_1366 : decode cL_law 1366 = .ok (.iconst 0, 1) := dk_3 (dk_at dksL_law_51 14 rfl rfl)
theorem dL_law_1367 : decode cL_law 1367 = .ok (.ireturn, 1) := dk_172 (dk_at dksL_law_51 15 rfl rfl)
theorem dL_law_1368 : decode cL_law 1368 = .ok (.iload 6, 2) := dk_21 6 (dk_at dksL_law_51 16 rfl rfl)
theorem dL_law_1370 : decode cL_law 1370 = .ok (.ifCond .ne 22, 3) := dk_154 0 22 (dk_at dksL_law_51 18 rfl rfl)
theorem dL_law_1373 : decode cL_law 1373 = .ok (.aload_n 3, 1) := dk_45 (dk_at dksL_law_51 21 rfl rfl)
theorem dL_law_1374 : decode cL_law 1374 = .ok (.iconst 0, 1) := dk_3 (dk_at dksL_law_51 22 rfl rfl)
theorem dL_law_1375 : decode cL_law 1375 = .ok (.laload, 1) := dk_47 (dk_at dksL_law_51 23 rfl rfl)
theorem dL_law_1376 : decode cL_law 1376 = .ok (.iload 7, 2) := dk_21 7 (dk_at dksL_law_52 0 rfl rfl)
theorem dL_law_1378 : decode cL_law 1378 = .ok (.ifCond .eq 7, 3) := dk_153 0 7 (dk_at dksL_law_52 2 rfl rfl)
theorem dL_law_1381 : decode cL_law 1381 = .ok (.lconst 1, 1) := dk_10 (dk_at dksL_law_52 5 rfl rfl)
theorem dL_law_1382 : decode cL_law 1382 = .ok (.goto 4, 3) := dk_167 0 4 (dk_at dksL_law_52 6 rfl rfl)
theorem dL_law_1385 : decode cL_law 1385 = .ok (.lconst 0, 1) := dk_9 (dk_at dksL_law_52 9 rfl rfl)
theorem dL_law_1386 : decode cL_law 1386 = .ok (.lcmp, 1) := dk_148 (dk_at dksL_law_52 10 rfl rfl)
theorem dL_law_1387 : decode cL_law 1387 = .ok (.ifCond .eq 5, 3) := dk_153 0 5 (dk_at dksL_law_52 11 rfl rfl)
theorem dL_law_1390 : decode cL_law 1390 = .ok (.iconst 0, 1) := dk_3 (dk_at dksL_law_52 14 rfl rfl)
theorem dL_law_1391 : decode cL_law 1391 = .ok (.ireturn, 1) := dk_172 (dk_at dksL_law_52 15 rfl rfl)
theorem dL_law_1392 : decode cL_law 1392 = .ok (.goto 944, 3) := dk_167 3 176 (dk_at dksL_law_52 16 rfl rfl)
theorem dL_law_1395 : decode cL_law 1395 = .ok (.aload_n 1, 1) := dk_43 (dk_at dksL_law_52 19 rfl rfl)
theorem dL_law_1396 : decode cL_law 1396 = .ok (.invokevirtual 205, 3) := dk_182 0 205 (dk_at dksL_law_52 20 rfl rfl)
theorem dL_law_1399 : decode cL_law 1399 = .ok (.aload_n 2, 1) := dk_44 (dk_at dksL_law_52 23 rfl rfl)
theorem dL_law_1400 : decode cL_law 1400 = .ok (.invokevirtual 208, 3) := dk_182 0 208 (dk_at dksL_law_53 0 rfl rfl)
theorem dL_law_1403 : decode cL_law 1403 = .ok (.if_icmp .eq 933, 3) := dk_159 3 165 (dk_at dksL_law_53 3 rfl rfl)
theorem dL_law_1406 : decode cL_law 1406 = .ok (.iconst 0, 1) := dk_3 (dk_at dksL_law_53 6 rfl rfl)
theorem dL_law_1407 : decode cL_law 1407 = .ok (.ireturn, 1) := dk_172 (dk_at dksL_law_53 7 rfl rfl)
theorem dL_law_1408 : decode cL_law 1408 = .ok (.aload_n 1, 1) := dk_43 (dk_at dksL_law_53 8 rfl rfl)
theorem dL_law_1409 : decode cL_law 1409 = .ok (.invokevirtual 209, 3) := dk_182 0 209 (dk_at dksL_law_53 9 rfl rfl)
theorem dL_law_1412 : decode cL_law 1412 = .ok (.aload_n 2, 1) := dk_44 (dk_at dksL_law_53 12 rfl rfl)
theorem dL_law_1413 : decode cL_law 1413 = .ok (.invokevirtual 212, 3) := dk_182 0 212 (dk_at dksL_law_53 13 rfl rfl)
theorem dL_law_1416 : decode cL_law 1416 = .ok (.if_icmp .eq 920, 3) := dk_159 3 152 (dk_at dksL_law_53 16 rfl rfl)
theorem dL_law_1419 : decode cL_law 1419 = .ok (.iconst 0, 1) := dk_3 (dk_at dksL_law_53 19 rfl rfl)
theorem dL_law_1420 : decode cL_law 1420 = .ok (.ireturn, 1) := dk_172 (dk_at dksL_law_53 20 rfl rfl)
theorem dL_law_1421 : decode cL_law 1421 = .ok (.aload_n 1, 1) := dk_43 (dk_at dksL_law_53 21 rfl rfl)
theorem dL_law_1422 : decode cL_law 1422 = .ok (.aload_n 0, 1) := dk_42 (dk_at dksL_law_53 22 rfl rfl)
theorem dL_law_1423 : decode cL_law 1423 = .ok (.iload 5, 2) := dk_21 5 (dk_at dksL_law_54 0 rfl rfl)
theorem dL_law_1425 : decode cL_law 1425 = .ok (.iconst 1, 1) := dk_4 (dk_at dksL_law_54 2 rfl rfl)
theorem dL_law_1426 : decode cL_law 1426 = .ok (.iadd, 1) := dk_96 (dk_at dksL_law_54 3 rfl rfl)
theorem dL_law_1427 : decode cL_law 1427 = .ok (.iaload, 1) := dk_46 (dk_at dksL_law_54 4 rfl rfl)
theorem dL_law_1428 : decode cL_law 1428 = .ok (.aload_n 3, 1) := dk_45 (dk_at dksL_law_54 5 rfl rfl)
theorem dL_law_1429 : decode cL_law 1429 = .ok (.invokestatic 213, 3) := dk_184 0 213 (dk_at dksL_law_54 6 rfl rfl)
theorem dL_law_1432 : decode cL_law 1432 = .ok (.istore 6, 2) := dk_54 6 (dk_at dksL_law_54 9 rfl rfl)
theorem dL_law_1434 : decode cL_law 1434 = .ok (.aload_n 2, 1) := dk_44 (dk_at dksL_law_54 11 rfl rfl)
theorem dL_law_1435 : decode cL_law 1435 = .ok (.aload_n 0, 1) := dk_42 (dk_at dksL_law_54 12 rfl rfl)
theorem dL_law_1436 : decode cL_law 1436 = .ok (.iload 5, 2) := dk_21 5 (dk_at dksL_law_54 13 rfl rfl)
theorem dL_law_1438 : decode cL_law 1438 = .ok (.iconst 1, 1) := dk_4 (dk_at dksL_law_54 15 rfl rfl)
theorem dL_law_1439 : decode cL_law 1439 = .ok (.iadd, 1) := dk_96 (dk_at dksL_law_54 16 rfl rfl)
theorem dL_law_1440 : decode cL_law 1440 = .ok (.iaload, 1) := dk_46 (dk_at dksL_law_54 17 rfl rfl)
theorem dL_law_1441 : decode cL_law 1441 = .ok (.invokevirtual 215, 3) := dk_182 0 215 (dk_at dksL_law_54 18 rfl rfl)
theorem dL_law_1444 : decode cL_law 1444 = .ok (.istore 7, 2) := dk_54 7 (dk_at dksL_law_54 21 rfl rfl)
theorem dL_law_1446 : decode cL_law 1446 = .ok (.aload_n 2, 1) := dk_44 (dk_at dksL_law_54 23 rfl rfl)
theorem dL_law_1447 : decode cL_law 1447 = .ok (.invokevirtual 144, 3) := dk_182 0 144 (dk_at dksL_law_55 0 rfl rfl)
theorem dL_law_1450 : decode cL_law 1450 = .ok (.iload 6, 2) := dk_21 6 (dk_at dksL_law_55 3 rfl rfl)
theorem dL_law_1452 : decode cL_law 1452 = .ok (.if_icmp .eq 5, 3) := dk_159 0 5 (dk_at dksL_law_55 5 rfl rfl)
theorem dL_law_1455 : decode cL_law 1455 = .ok (.iconst 0, 1) := dk_3 (dk_at dksL_law_55 8 rfl rfl)
theorem dL_law_1456 : decode cL_law 1456 = .ok (.ireturn, 1) := dk_172 (dk_at dksL_law_55 9 rfl rfl)
theorem dL_law_1457 : decode cL_law 1457 = .ok (.iload 6, 2) := dk_21 6 (dk_at dksL_law_55 10 rfl rfl)
theorem dL_law_1459 : decode cL_law 1459 = .ok (.ifCond .ne 15, 3) := dk_154 0 15 (dk_at dksL_law_55 12 rfl rfl)
theorem dL_law_1462 : decode cL_law 1462 = .ok (.aload_n 3, 1) := dk_45 (dk_at dksL_law_55 15 rfl rfl)
theorem dL_law_1463 : decode cL_law 1463 = .ok (.iconst 0, 1) := dk_3 (dk_at dksL_law_55 16 rfl rfl)
theorem dL_law_1464 : decode cL_law 1464 = .ok (.laload, 1) := dk_47 (dk_at dksL_law_55 17 rfl rfl)
theorem dL_law_1465 : decode cL_law 1465 = .ok (.iload 7, 2) := dk_21 7 (dk_at dksL_law_55 18 rfl rfl)
theorem dL_law_1467 : decode cL_law 1467 = .ok (.i2l, 1) := dk_133 (dk_at dksL_law_55 20 rfl rfl)
theorem dL_law_1468 : decode cL_law 1468 = .ok (.lcmp, 1) := dk_148 (dk_at dksL_law_55 21 rfl rfl)
theorem dL_law_1469 : decode cL_law 1469 = .ok (.ifCond .eq 5, 3) := dk_153 0 5 (dk_at dksL_law_56 0 rfl rfl)
theorem dL_law_1472 : decode cL_law 1472 = .ok (.iconst 0, 1) := dk_3 (dk_at dksL_law_56 3 rfl rfl)
theorem dL_law_1473 : decode cL_law 1473 = .ok (.ireturn, 1) := dk_172 (dk_at dksL_law_56 4 rfl rfl)
theorem dL_law_1474 : decode cL_law 1474 = .ok (.goto 862, 3) := dk_167 3 94 (dk_at dksL_law_56 5 rfl rfl)
theorem dL_law_1477 : decode cL_law 1477 = .ok (.aload_n 1, 1) := dk_43 (dk_at dksL_law_56 8 rfl rfl)
theorem dL_law_1478 : decode cL_law 1478 = .ok (.aload_n 0, 1) := dk_42 (dk_at dksL_law_56 9 rfl rfl)
theorem dL_law_1479 : decode cL_law 1479 = .ok (.iload 5, 2) := dk_21 5 (dk_at dksL_law_56 10 rfl rfl)
theorem dL_law_1481 : decode cL_law 1481 = .ok (.iconst 1, 1) := dk_4 (dk_at dksL_law_56 12 rfl rfl)
theorem dL_law_1482 : decode cL_law 1482 = .ok (.iadd, 1) := dk_96 (dk_at dksL_law_56 13 rfl rfl)
theorem dL_law_1483 : decode cL_law 1483 = .ok (.iaload, 1) := dk_46 (dk_at dksL_law_56 14 rfl rfl)
theorem dL_law_1484 : decode cL_law 1484 = .ok (.aload_n 3, 1) := dk_45 (dk_at dksL_law_56 15 rfl rfl)
theorem dL_law_1485 : decode cL_law 1485 = .ok (.invokestatic 216, 3) := dk_184 0 216 (dk_at dksL_law_56 16 rfl rfl)
theorem dL_law_1488 : decode cL_law 1488 = .ok (.istore 6, 2) := dk_54 6 (dk_at dksL_law_56 19 rfl rfl)
theorem dL_law_1490 : decode cL_law 1490 = .ok (.aload_n 2, 1) := dk_44 (dk_at dksL_law_56 21 rfl rfl)
theorem dL_law_1491 : decode cL_law 1491 = .ok (.aload_n 0, 1) := dk_42 (dk_at dksL_law_56 22 rfl rfl)
theorem dL_law_1492 : decode cL_law 1492 = .ok (.iload 5, 2) := dk_21 5 (dk_at dksL_law_57 0 rfl rfl)
theorem dL_law_1494 : decode cL_law 1494 = .ok (.iconst 1, 1) := dk_4 (dk_at dksL_law_57 2 rfl rfl)
theorem dL_law_1495 : decode cL_law 1495 = .ok (.iadd, 1) := dk_96 (dk_at dksL_law_57 3 rfl rfl)
theorem dL_law_1496 : decode cL_law 1496 = .ok (.iaload, 1) := dk_46 (dk_at dksL_law_57 4 rfl rfl)
theorem dL_law_1497 : decode cL_law 1497 = .ok (.invokevirtual 218, 3) := dk_182 0 218 (dk_at dksL_law_57 5 rfl rfl)
theorem dL_law_1500 : decode cL_law 1500 = .ok (.istore 7, 2) := dk_54 7 (dk_at dksL_law_57 8 rfl rfl)
theorem dL_law_1502 : decode cL_law 1502 = .ok (.aload_n 2, 1) := dk_44 (dk_at dksL_law_57 10 rfl rfl)
theorem dL_law_1503 : decode cL_law 1503 = .ok (.invokevirtual 144, 3) := dk_182 0 144 (dk_at dksL_law_57 11 rfl rfl)
theorem dL_law_1506 : decode cL_law 1506 = .ok (.iload 6, 2) := dk_21 6 (dk_at dksL_law_57 14 rfl rfl)
theorem dL_law_1508 : decode cL_law 1508 = .ok (.if_icmp .eq 5, 3) := dk_159 0 5 (dk_at dksL_law_57 16 rfl rfl)
theorem dL_law_1511 : decode cL_law 1511 = .ok (.iconst 0, 1) := dk_3 (dk_at dksL_law_57 19 rfl rfl)
theorem dL_law_1512 : decode cL_law 1512 = .ok (.ireturn, 1) := dk_172 (dk_at dksL_law_57 20 rfl rfl)
theorem dL_law_1513 : decode cL_law 1513 = .ok (.iload 6, 2) := dk_21 6 (dk_at dksL_law_57 21 rfl rfl)
theorem dL_law_1515 : decode cL_law 1515 = .ok (.ifCond .ne 15, 3) := dk_154 0 15 (dk_at dksL_law_58 0 rfl rfl)
theorem dL_law_1518 : decode cL_law 1518 = .ok (.aload_n 3, 1) := dk_45 (dk_at dksL_law_58 3 rfl rfl)
theorem dL_law_1519 : decode cL_law 1519 = .ok (.iconst 0, 1) := dk_3 (dk_at dksL_law_58 4 rfl rfl)
theorem dL_law_1520 : decode cL_law 1520 = .ok (.laload, 1) := dk_47 (dk_at dksL_law_58 5 rfl rfl)
theorem dL_law_1521 : decode cL_law 1521 = .ok (.iload 7, 2) := dk_21 7 (dk_at dksL_law_58 6 rfl rfl)
theorem dL_law_1523 : decode cL_law 1523 = .ok (.i2l, 1) := dk_133 (dk_at dksL_law_58 8 rfl rfl)
theorem dL_law_1524 : decode cL_law 1524 = .ok (.lcmp, 1) := dk_148 (dk_at dksL_law_58 9 rfl rfl)
theorem dL_law_1525 : decode cL_law 1525 = .ok (.ifCond .eq 5, 3) := dk_153 0 5 (dk_at dksL_law_58 10 rfl rfl)
theorem dL_law_1528 : decode cL_law 1528 = .ok (.iconst 0, 1) := dk_3 (dk_at dksL_law_58 13 rfl rfl)
theorem dL_law_1529 : decode cL_law 1529 = .ok (.ireturn, 1) := dk_172 (dk_at dksL_law_58 14 rfl rfl)
theorem dL_law_1530 : decode cL_law 1530 = .ok (.goto 806, 3) := dk_167 3 38 (dk_at dksL_law_58 15 rfl rfl)
theorem dL_law_1533 : decode cL_law 1533 = .ok (.aload_n 1, 1) := dk_43 (dk_at dksL_law_58 18 rfl rfl)
theorem dL_law_1534 : decode cL_law 1534 = .ok (.aload_n 3, 1) := dk_45 (dk_at dksL_law_58 19 rfl rfl)
theorem dL_law_1535 : decode cL_law 1535 = .ok (.invokestatic 219, 3) := dk_184 0 219 (dk_at dksL_law_58 20 rfl rfl)
theorem dL_law_1538 : decode cL_law 1538 = .ok (.istore 6, 2) := dk_54 6 (dk_at dksL_law_59 0 rfl rfl)
theorem dL_law_1540 : decode cL_law 1540 = .ok (.aload_n 2, 1) := dk_44 (dk_at dksL_law_59 2 rfl rfl)
theorem dL_law_1541 : decode cL_law 1541 = .ok (.invokevirtual 222, 3) := dk_182 0 222 (dk_at dksL_law_59 3 rfl rfl)
theorem dL_law_1544 : decode cL_law 1544 = .ok (.istore 7, 2) := dk_54 7 (dk_at dksL_law_59 6 rfl rfl)
theorem dL_law_1546 : decode cL_law 1546 = .ok (.aload_n 2, 1) := dk_44 (dk_at dksL_law_59 8 rfl rfl)
theorem dL_law_1547 : decode cL_law 1547 = .ok (.invokevirtual 144, 3) := dk_182 0 144 (dk_at dksL_law_59 9 rfl rfl)
theorem dL_law_1550 : decode cL_law 1550 = .ok (.iload 6, 2) := dk_21 6 (dk_at dksL_law_59 12 rfl rfl)
theorem dL_law_1552 : decode cL_law 1552 = .ok (.if_icmp .eq 5, 3) := dk_159 0 5 (dk_at dksL_law_59 14 rfl rfl)
theorem dL_law_1555 : decode cL_law 1555 = .ok (.iconst 0, 1) := dk_3 (dk_at dksL_law_59 17 rfl rfl)
theorem dL_law_1556 : decode cL_law 1556 = .ok (.ireturn, 1) := dk_172 (dk_at dksL_law_59 18 rfl rfl)
theorem dL_law_1557 : decode cL_law 1557 = .ok (.iload 6, 2) := dk_21 6 (dk_at dksL_law_59 19 rfl rfl)
theorem dL_law_1559 : decode cL_law 1559 = .ok (.ifCond .ne 15, 3) := dk_154 0 15 (dk_at dksL_law_59 21 rfl rfl)
theorem dL_law_1562 : decode cL_law 1562 = .ok (.aload_n 3, 1) := dk_45 (dk_at dksL_law_60 0 rfl rfl)
theorem dL_law_1563 : decode cL_law 1563 = .ok (.iconst 0, 1) := dk_3 (dk_at dksL_law_60 1 rfl rfl)
theorem dL_law_1564 : decode cL_law 1564 = .ok (.laload, 1) := dk_47 (dk_at dksL_law_60 2 rfl rfl)
theorem dL_law_1565 : decode cL_law 1565 = .ok (.iload 7, 2) := dk_21 7 (dk_at dksL_law_60 3 rfl rfl)
theorem dL_law_1567 : decode cL_law 1567 = .ok (.i2l, 1) := dk_133 (dk_at dksL_law_60 5 rfl rfl)
theorem dL_law_1568 : decode cL_law 1568 = .ok (.lcmp, 1) := dk_148 (dk_at dksL_law_60 6 rfl rfl)
theorem dL_law_1569 : decode cL_law 1569 = .ok (.ifCond .eq 5, 3) := dk_153 0 5 (dk_at dksL_law_60 7 rfl rfl)
theorem dL_law_1572 : decode cL_law 1572 = .ok (.iconst 0, 1) := dk_3 (dk_at dksL_law_60 10 rfl rfl)
theorem dL_law_1573 : decode cL_law 1573 = .ok (.ireturn, 1) := dk_172 (dk_at dksL_law_60 11 rfl rfl)
theorem dL_law_1574 : decode cL_law 1574 = .ok (.goto 762, 3) := dk_167 2 250 (dk_at dksL_law_60 12 rfl rfl)
theorem dL_law_1577 : decode cL_law 1577 = .ok (.aload_n 1, 1) := dk_43 (dk_at dksL_law_60 15 rfl rfl)
theorem dL_law_1578 : decode cL_law 1578 = .ok (.aload_n 0, 1) := dk_42 (dk_at dksL_law_60 16 rfl rfl)
theorem dL_law_1579 : decode cL_law 1579 = .ok (.iload 5, 2) := dk_21 5 (dk_at dksL_law_60 17 rfl rfl)
theorem dL_law_1581 : decode cL_law 1581 = .ok (.iconst 1, 1) := dk_4 (dk_at dksL_law_60 19 rfl rfl)
theorem dL_law_1582 : decode cL_law 1582 = .ok (.iadd, 1) := dk_96 (dk_at dksL_law_60 20 rfl rfl)
theorem dL_law_1583 : decode cL_law 1583 = .ok (.iaload, 1) := dk_46 (dk_at dksL_law_60 21 rfl rfl)
theorem dL_law_1584 : decode cL_law 1584 = .ok (.aload_n 3, 1) := dk_45 (dk_at dksL_law_60 22 rfl rfl)
theorem dL_law_1585 : decode cL_law 1585 = .ok (.invokestatic 223, 3) := dk_184 0 223 (dk_at dksL_law_61 0 rfl rfl)
theorem dL_law_1588 : decode cL_law 1588 = .ok (.istore 6, 2) := dk_54 6 (dk_at dksL_law_61 3 rfl rfl)
theorem dL_law_1590 : decode cL_law 1590 = .ok (.aload_n 2, 1) := dk_44 (dk_at dksL_law_61 5 rfl rfl)
theorem dL_law_1591 : decode cL_law 1591 = .ok (.aload_n 0, 1) := dk_42 (dk_at dksL_law_61 6 rfl rfl)
theorem dL_law_1592 : decode cL_law 1592 = .ok (.iload 5, 2) := dk_21 5 (dk_at dksL_law_61 7 rfl rfl)
theorem dL_law_1594 : decode cL_law 1594 = .ok (.iconst 1, 1) := dk_4 (dk_at dksL_law_61 9 rfl rfl)
theorem dL_law_1595 : decode cL_law 1595 = .ok (.iadd, 1) := dk_96 (dk_at dksL_law_61 10 rfl rfl)
theorem dL_law_1596 : decode cL_law 1596 = .ok (.iaload, 1) := dk_46 (dk_at dksL_law_61 11 rfl rfl)
theorem dL_law_1597 : decode cL_law 1597 = .ok (.invokevirtual 225, 3) := dk_182 0 225 (dk_at dksL_law_61 12 rfl rfl)
theorem dL_law_1600 : decode cL_law 1600 = .ok (.istore 7, 2) := dk_54 7 (dk_at dksL_law_61 15 rfl rfl)
theorem dL_law_1602 : decode cL_law 1602 = .ok (.aload_n 2, 1) := dk_44 (dk_at dksL_law_61 17 rfl rfl)
theorem dL_law_1603 : decode cL_law 1603 = .ok (.invokevirtual 144, 3) := dk_182 0 144 (dk_at dksL_law_61 18 rfl rfl)
theorem dL_law_1606 : decode cL_law 1606 = .ok (.iload 6, 2) := dk_21 6 (dk_at dksL_law_61 21 rfl rfl)
theorem dL_law_1608 : decode cL_law 1608 = .ok (.if_icmp .eq 5, 3) := dk_159 0 5 (dk_at dksL_law_62 0 rfl rfl)
theorem dL_law_1611 : decode cL_law 1611 = .ok (.iconst 0, 1) := dk_3 (dk_at dksL_law_62 3 rfl rfl)
theorem dL_law_1612 : decode cL_law 1612 = .ok (.ireturn, 1) := dk_172 (dk_at dksL_law_62 4 rfl rfl)
theorem dL_law_1613 : decode cL_law 1613 = .ok (.iload 6, 2) := dk_21 6 (dk_at dksL_law_62 5 rfl rfl)
theorem dL_law_1615 : decode cL_law 1615 = .ok (.ifCond .ne 15, 3) := dk_154 0 15 (dk_at dksL_law_62 7 rfl rfl)
theorem dL_law_1618 : decode cL_law 1618 = .ok (.aload_n 3, 1) := dk_45 (dk_at dksL_law_62 10 rfl rfl)
theorem dL_law_1619 : decode cL_law 1619 = .ok (.iconst 0, 1) := dk_3 (dk_at dksL_law_62 11 rfl rfl)
theorem dL_law_1620 : decode cL_law 1620 = .ok (.laload, 1) := dk_47 (dk_at dksL_law_62 12 rfl rfl)
theorem dL_law_1621 : decode cL_law 1621 = .ok (.iload 7, 2) := dk_21 7 (dk_at dksL_law_62 13 rfl rfl)
theorem dL_law_1623 : decode cL_law 1623 = .ok (.i2l, 1) := dk_133 (dk_at dksL_law_62 15 rfl rfl)
theorem dL_law_1624 : decode cL_law 1624 = .ok (.lcmp, 1) := dk_148 (dk_at dksL_law_62 16 rfl rfl)
theorem dL_law_1625 : decode cL_law 1625 = .ok (.ifCond .eq 5, 3) := dk_153 0 5 (dk_at dksL_law_62 17 rfl rfl)
theorem dL_law_1628 : decode cL_law 1628 = .ok (.iconst 0, 1) := dk_3 (dk_at dksL_law_62 20 rfl rfl)
theorem dL_law_1629 : decode cL_law 1629 = .ok (.ireturn, 1) := dk_172 (dk_at dksL_law_62 21 rfl rfl)
theorem dL_law_1630 : decode cL_law 1630 = .ok (.goto 706, 3) := dk_167 2 194 (dk_at dksL_law_63 0 rfl rfl)
theorem dL_law_1633 : decode cL_law 1633 = .ok (.aload_n 1, 1) := dk_43 (dk_at dksL_law_63 3 rfl rfl)
theorem dL_law_1634 : decode cL_law 1634 = .ok (.aload_n 3, 1) := dk_45 (dk_at dksL_law_63 4 rfl rfl)
theorem dL_law_1635 : decode cL_law 1635 = .ok (.invokestatic 226, 3) := dk_184 0 226 (dk_at dksL_law_63 5 rfl rfl)
theorem dL_law_1638 : decode cL_law 1638 = .ok (.istore 6, 2) := dk_54 6 (dk_at dksL_law_63 8 rfl rfl)
theorem dL_law_1640 : decode cL_law 1640 = .ok (.aload_n 2, 1) := dk_44 (dk_at dksL_law_63 10 rfl rfl)
theorem dL_law_1641 : decode cL_law 1641 = .ok (.invokevirtual 228, 3) := dk_182 0 228 (dk_at dksL_law_63 11 rfl rfl)
theorem dL_law_1644 : decode cL_law 1644 = .ok (.istore 7, 2) := dk_54 7 (dk_at dksL_law_63 14 rfl rfl)
theorem dL_law_1646 : decode cL_law 1646 = .ok (.aload_n 2, 1) := dk_44 (dk_at dksL_law_63 16 rfl rfl)
theorem dL_law_1647 : decode cL_law 1647 = .ok (.invokevirtual 144, 3) := dk_182 0 144 (dk_at dksL_law_63 17 rfl rfl)
theorem dL_law_1650 : decode cL_law 1650 = .ok (.iload 6, 2) := dk_21 6 (dk_at dksL_law_63 20 rfl rfl)
theorem dL_law_1652 : decode cL_law 1652 = .ok (.if_icmp .eq 5, 3) := dk_159 0 5 (dk_at dksL_law_64 0 rfl rfl)
theorem dL_law_1655 : decode cL_law 1655 = .ok (.iconst 0, 1) := dk_3 (dk_at dksL_law_64 3 rfl rfl)
theorem dL_law_1656 : decode cL_law 1656 = .ok (.ireturn, 1) := dk_172 (dk_at dksL_law_64 4 rfl rfl)
theorem dL_law_1657 : decode cL_law 1657 = .ok (.iload 6, 2) := dk_21 6 (dk_at dksL_law_64 5 rfl rfl)
theorem dL_law_1659 : decode cL_law 1659 = .ok (.ifCond .ne 15, 3) := dk_154 0 15 (dk_at dksL_law_64 7 rfl rfl)
theorem dL_law_1662 : decode cL_law 1662 = .ok (.aload_n 3, 1) := dk_45 (dk_at dksL_law_64 10 rfl rfl)
theorem dL_law_1663 : decode cL_law 1663 = .ok (.iconst 0, 1) := dk_3 (dk_at dksL_law_64 11 rfl rfl)
theorem dL_law_1664 : decode cL_law 1664 = .ok (.laload, 1) := dk_47 (dk_at dksL_law_64 12 rfl rfl)
theorem dL_law_1665 : decode cL_law 1665 = .ok (.iload 7, 2) := dk_21 7 (dk_at dksL_law_64 13 rfl rfl)
theorem dL_law_1667 : decode cL_law 1667 = .ok (.i2l, 1) := dk_133 (dk_at dksL_law_64 15 rfl rfl)
theorem dL_law_1668 : decode cL_law 1668 = .ok (.lcmp, 1) := dk_148 (dk_at dksL_law_64 16 rfl rfl)
theorem dL_law_1669 : decode cL_law 1669 = .ok (.ifCond .eq 5, 3) := dk_153 0 5 (dk_at dksL_law_64 17 rfl rfl)
theorem dL_law_1672 : decode cL_law 1672 = .ok (.iconst 0, 1) := dk_3 (dk_at dksL_law_64 20 rfl rfl)
theorem dL_law_1673 : decode cL_law 1673 = .ok (.ireturn, 1) := dk_172 (dk_at dksL_law_64 21 rfl rfl)
theorem dL_law_1674 : decode cL_law 1674 = .ok (.goto 662, 3) := dk_167 2 150 (dk_at dksL_law_65 0 rfl rfl)
theorem dL_law_1677 : decode cL_law 1677 = .ok (.aload_n 1, 1) := dk_43 (dk_at dksL_law_65 3 rfl rfl)
theorem dL_law_1678 : decode cL_law 1678 = .ok (.aload_n 3, 1) := dk_45 (dk_at dksL_law_65 4 rfl rfl)
theorem dL_law_1679 : decode cL_law 1679 = .ok (.invokestatic 229, 3) := dk_184 0 229 (dk_at dksL_law_65 5 rfl rfl)
theorem dL_law_1682 : decode cL_law 1682 = .ok (.istore 6, 2) := dk_54 6 (dk_at dksL_law_65 8 rfl rfl)
theorem dL_law_1684 : decode cL_law 1684 = .ok (.aload_n 2, 1) := dk_44 (dk_at dksL_law_65 10 rfl rfl)
theorem dL_law_1685 : decode cL_law 1685 = .ok (.invokevirtual 231, 3) := dk_182 0 231 (dk_at dksL_law_65 11 rfl rfl)
theorem dL_law_1688 : decode cL_law 1688 = .ok (.istore 7, 2) := dk_54 7 (dk_at dksL_law_65 14 rfl rfl)
theorem dL_law_1690 : decode cL_law 1690 = .ok (.aload_n 2, 1) := dk_44 (dk_at dksL_law_65 16 rfl rfl)
theorem dL_law_1691 : decode cL_law 1691 = .ok (.invokevirtual 144, 3) := dk_182 0 144 (dk_at dksL_law_65 17 rfl rfl)
theorem dL_law_1694 : decode cL_law 1694 = .ok (.iload 6, 2) := dk_21 6 (dk_at dksL_law_65 20 rfl rfl)
theorem dL_law_1696 : decode cL_law 1696 = .ok (.if_icmp .eq 5, 3) := dk_159 0 5 (dk_at dksL_law_66 0 rfl rfl)
theorem dL_law_1699 : decode cL_law 1699 = .ok (.iconst 0, 1) := dk_3 (dk_at dksL_law_66 3 rfl rfl)
theorem dL_law_1700 : decode cL_law 1700 = .ok (.ireturn, 1) := dk_172 (dk_at dksL_law_66 4 rfl rfl)
theorem dL_law_1701 : decode cL_law 1701 = .ok (.iload 6, 2) := dk_21 6 (dk_at dksL_law_66 5 rfl rfl)
theorem dL_law_1703 : decode cL_law 1703 = .ok (.ifCond .ne 15, 3) := dk_154 0 15 (dk_at dksL_law_66 7 rfl rfl)
theorem dL_law_1706 : decode cL_law 1706 = .ok (.aload_n 3, 1) := dk_45 (dk_at dksL_law_66 10 rfl rfl)
theorem dL_law_1707 : decode cL_law 1707 = .ok (.iconst 0, 1) := dk_3 (dk_at dksL_law_66 11 rfl rfl)
theorem dL_law_1708 : decode cL_law 1708 = .ok (.laload, 1) := dk_47 (dk_at dksL_law_66 12 rfl rfl)
theorem dL_law_1709 : decode cL_law 1709 = .ok (.iload 7, 2) := dk_21 7 (dk_at dksL_law_66 13 rfl rfl)
theorem dL_law_1711 : decode cL_law 1711 = .ok (.i2l, 1) := dk_133 (dk_at dksL_law_66 15 rfl rfl)
theorem dL_law_1712 : decode cL_law 1712 = .ok (.lcmp, 1) := dk_148 (dk_at dksL_law_66 16 rfl rfl)
theorem dL_law_1713 : decode cL_law 1713 = .ok (.ifCond .eq 5, 3) := dk_153 0 5 (dk_at dksL_law_66 17 rfl rfl)
theorem dL_law_1716 : decode cL_law 1716 = .ok (.iconst 0, 1) := dk_3 (dk_at dksL_law_66 20 rfl rfl)
theorem dL_law_1717 : decode cL_law 1717 = .ok (.ireturn, 1) := dk_172 (dk_at dksL_law_66 21 rfl rfl)
theorem dL_law_1718 : decode cL_law 1718 = .ok (.goto 618, 3) := dk_167 2 106 (dk_at dksL_law_67 0 rfl rfl)
theorem dL_law_1721 : decode cL_law 1721 = .ok (.aload_n 1, 1) := dk_43 (dk_at dksL_law_67 3 rfl rfl)
theorem dL_law_1722 : decode cL_law 1722 = .ok (.invokevirtual 232, 3) := dk_182 0 232 (dk_at dksL_law_67 4 rfl rfl)
theorem dL_law_1725 : decode cL_law 1725 = .ok (.aload_n 2, 1) := dk_44 (dk_at dksL_law_67 7 rfl rfl)
theorem dL_law_1726 : decode cL_law 1726 = .ok (.invokevirtual 236, 3) := dk_182 0 236 (dk_at dksL_law_67 8 rfl rfl)
theorem dL_law_1729 : decode cL_law 1729 = .ok (.if_icmp .eq 607, 3) := dk_159 2 95 (dk_at dksL_law_67 11 rfl rfl)
theorem dL_law_1732 : decode cL_law 1732 = .ok (.iconst 0, 1) := dk_3 (dk_at dksL_law_67 14 rfl rfl)
theorem dL_law_1733 : decode cL_law 1733 = .ok (.ireturn, 1) := dk_172 (dk_at dksL_law_67 15 rfl rfl)
theorem dL_law_1734 : decode cL_law 1734 = .ok (.aload_n 1, 1) := dk_43 (dk_at dksL_law_67 16 rfl rfl)
theorem dL_law_1735 : decode cL_law 1735 = .ok (.aload_n 0, 1) := dk_42 (dk_at dksL_law_67 17 rfl rfl)
theorem dL_law_1736 : decode cL_law 1736 = .ok (.iload 5, 2) := dk_21 5 (dk_at dksL_law_67 18 rfl rfl)
theorem dL_law_1738 : decode cL_law 1738 = .ok (.iconst 1, 1) := dk_4 (dk_at dksL_law_67 20 rfl rfl)
theorem dL_law_1739 : decode cL_law 1739 = .ok (.iadd, 1) := dk_96 (dk_at dksL_law_67 21 rfl rfl)
theorem dL_law_1740 : decode cL_law 1740 = .ok (.iaload, 1) := dk_46 (dk_at dksL_law_67 22 rfl rfl)
theorem dL_law_1741 : decode cL_law 1741 = .ok (.i2c, 1) := dk_146 (dk_at dksL_law_67 23 rfl rfl)
theorem dL_law_1742 : decode cL_law 1742 = .ok (.aload_n 3, 1) := dk_45 (dk_at dksL_law_68 0 rfl rfl)
theorem dL_law_1743 : decode cL_law 1743 = .ok (.invokestatic 237, 3) := dk_184 0 237 (dk_at dksL_law_68 1 rfl rfl)
theorem dL_law_1746 : decode cL_law 1746 = .ok (.istore 6, 2) := dk_54 6 (dk_at dksL_law_68 4 rfl rfl)
theorem dL_law_1748 : decode cL_law 1748 = .ok (.aload_n 2, 1) := dk_44 (dk_at dksL_law_68 6 rfl rfl)
theorem dL_law_1749 : decode cL_law 1749 = .ok (.aload_n 0, 1) := dk_42 (dk_at dksL_law_68 7 rfl rfl)
theorem dL_law_1750 : decode cL_law 1750 = .ok (.iload 5, 2) := dk_21 5 (dk_at dksL_law_68 8 rfl rfl)
theorem dL_law_1752 : decode cL_law 1752 = .ok (.iconst 1, 1) := dk_4 (dk_at dksL_law_68 10 rfl rfl)
theorem dL_law_1753 : decode cL_law 1753 = .ok (.iadd, 1) := dk_96 (dk_at dksL_law_68 11 rfl rfl)
theorem dL_law_1754 : decode cL_law 1754 = .ok (.iaload, 1) := dk_46 (dk_at dksL_law_68 12 rfl rfl)
theorem dL_law_1755 : decode cL_law 1755 = .ok (.i2c, 1) := dk_146 (dk_at dksL_law_68 13 rfl rfl)
theorem dL_law_1756 : decode cL_law 1756 = .ok (.invokevirtual 240, 3) := dk_182 0 240 (dk_at dksL_law_68 14 rfl rfl)
theorem dL_law_1759 : decode cL_law 1759 = .ok (.istore 7, 2) := dk_54 7 (dk_at dksL_law_68 17 rfl rfl)
theorem dL_law_1761 : decode cL_law 1761 = .ok (.aload_n 2, 1) := dk_44 (dk_at dksL_law_68 19 rfl rfl)
theorem dL_law_1762 : decode cL_law 1762 = .ok (.invokevirtual 144, 3) := dk_182 0 144 (dk_at dksL_law_68 20 rfl rfl)
theorem dL_law_1765 : decode cL_law 1765 = .ok (.iload 6, 2) := dk_21 6 (dk_at dksL_law_69 0 rfl rfl)
theorem dL_law_1767 : decode cL_law 1767 = .ok (.if_icmp .eq 5, 3) := dk_159 0 5 (dk_at dksL_law_69 2 rfl rfl)
theorem dL_law_1770 : decode cL_law 1770 = .ok (.iconst 0, 1) := dk_3 (dk_at dksL_law_69 5 rfl rfl)
theorem dL_law_1771 : decode cL_law 1771 = .ok (.ireturn, 1) := dk_172 (dk_at dksL_law_69 6 rfl rfl)
theorem dL_law_1772 : decode cL_law 1772 = .ok (.iload 6, 2) := dk_21 6 (dk_at dksL_law_69 7 rfl rfl)
theorem dL_law_1774 : decode cL_law 1774 = .ok (.ifCond .ne 15, 3) := dk_154 0 15 (dk_at dksL_law_69 9 rfl rfl)
theorem dL_law_1777 : decode cL_law 1777 = .ok (.aload_n 3, 1) := dk_45 (dk_at dksL_law_69 12 rfl rfl)
theorem dL_law_1778 : decode cL_law 1778 = .ok (.iconst 0, 1) := dk_3 (dk_at dksL_law_69 13 rfl rfl)
theorem dL_law_1779 : decode cL_law 1779 = .ok (.laload, 1) := dk_47 (dk_at dksL_law_69 14 rfl rfl)
theorem dL_law_1780 : decode cL_law 1780 = .ok (.iload 7, 2) := dk_21 7 (dk_at dksL_law_69 15 rfl rfl)
theorem dL_law_1782 : decode cL_law 1782 = .ok (.i2l, 1) := dk_133 (dk_at dksL_law_69 17 rfl rfl)
theorem dL_law_1783 : decode cL_law 1783 = .ok (.lcmp, 1) := dk_148 (dk_at dksL_law_69 18 rfl rfl)
theorem dL_law_1784 : decode cL_law 1784 = .ok (.ifCond .eq 5, 3) := dk_153 0 5 (dk_at dksL_law_69 19 rfl rfl)
theorem dL_law_1787 : decode cL_law 1787 = .ok (.iconst 0, 1) := dk_3 (dk_at dksL_law_69 22 rfl rfl)
theorem dL_law_1788 : decode cL_law 1788 = .ok (.ireturn, 1) := dk_172 (dk_at dksL_law_69 23 rfl rfl)
theorem dL_law_1789 : decode cL_law 1789 = .ok (.goto 547, 3) := dk_167 2 35 (dk_at dksL_law_70 0 rfl rfl)
theorem dL_law_1792 : decode cL_law 1792 = .ok (.aload_n 1, 1) := dk_43 (dk_at dksL_law_70 3 rfl rfl)
theorem dL_law_1793 : decode cL_law 1793 = .ok (.aload_n 3, 1) := dk_45 (dk_at dksL_law_70 4 rfl rfl)
theorem dL_law_1794 : decode cL_law 1794 = .ok (.invokestatic 241, 3) := dk_184 0 241 (dk_at dksL_law_70 5 rfl rfl)
theorem dL_law_1797 : decode cL_law 1797 = .ok (.istore 6, 2) := dk_54 6 (dk_at dksL_law_70 8 rfl rfl)
theorem dL_law_1799 : decode cL_law 1799 = .ok (.aload_n 2, 1) := dk_44 (dk_at dksL_law_70 10 rfl rfl)
theorem dL_law_1800 : decode cL_law 1800 = .ok (.invokevirtual 243, 3) := dk_182 0 243 (dk_at dksL_law_70 11 rfl rfl)
theorem dL_law_1803 : decode cL_law 1803 = .ok (.istore 7, 2) := dk_54 7 (dk_at dksL_law_70 14 rfl rfl)
theorem dL_law_1805 : decode cL_law 1805 = .ok (.aload_n 2, 1) := dk_44 (dk_at dksL_law_70 16 rfl rfl)
theorem dL_law_1806 : decode cL_law 1806 = .ok (.invokevirtual 144, 3) := dk_182 0 144 (dk_at dksL_law_70 17 rfl rfl)
theorem dL_law_1809 : decode cL_law 1809 = .ok (.iload 6, 2) := dk_21 6 (dk_at dksL_law_70 20 rfl rfl)
theorem dL_law_1811 : decode cL_law 1811 = .ok (.if_icmp .eq 5, 3) := dk_159 0 5 (dk_at dksL_law_71 0 rfl rfl)
theorem dL_law_1814 : decode cL_law 1814 = .ok (.iconst 0, 1) := dk_3 (dk_at dksL_law_71 3 rfl rfl)
theorem dL_law_1815 : decode cL_law 1815 = .ok (.ireturn, 1) := dk_172 (dk_at dksL_law_71 4 rfl rfl)
theorem dL_law_1816 : decode cL_law 1816 = .ok (.iload 6, 2) := dk_21 6 (dk_at dksL_law_71 5 rfl rfl)
theorem dL_law_1818 : decode cL_law 1818 = .ok (.ifCond .ne 15, 3) := dk_154 0 15 (dk_at dksL_law_71 7 rfl rfl)
theorem dL_law_1821 : decode cL_law 1821 = .ok (.aload_n 3, 1) := dk_45 (dk_at dksL_law_71 10 rfl rfl)
theorem dL_law_1822 : decode cL_law 1822 = .ok (.iconst 0, 1) := dk_3 (dk_at dksL_law_71 11 rfl rfl)
theorem dL_law_1823 : decode cL_law 1823 = .ok (.laload, 1) := dk_47 (dk_at dksL_law_71 12 rfl rfl)
theorem dL_law_1824 : decode cL_law 1824 = .ok (.iload 7, 2) := dk_21 7 (dk_at dksL_law_71 13 rfl rfl)
theorem dL_law_1826 : decode cL_law 1826 = .ok (.i2l, 1) := dk_133 (dk_at dksL_law_71 15 rfl rfl)
theorem dL_law_1827 : decode cL_law 1827 = .ok (.lcmp, 1) := dk_148 (dk_at dksL_law_71 16 rfl rfl)
theorem dL_law_1828 : decode cL_law 1828 = .ok (.ifCond .eq 5, 3) := dk_153 0 5 (dk_at dksL_law_71 17 rfl rfl)
theorem dL_law_1831 : decode cL_law 1831 = .ok (.iconst 0, 1) := dk_3 (dk_at dksL_law_71 20 rfl rfl)
theorem dL_law_1832 : decode cL_law 1832 = .ok (.ireturn, 1) := dk_172 (dk_at dksL_law_71 21 rfl rfl)
theorem dL_law_1833 : decode cL_law 1833 = .ok (.goto 503, 3) := dk_167 1 247 (dk_at dksL_law_72 0 rfl rfl)
theorem dL_law_1836 : decode cL_law 1836 = .ok (.aload_n 1, 1) := dk_43 (dk_at dksL_law_72 3 rfl rfl)
theorem dL_law_1837 : decode cL_law 1837 = .ok (.invokevirtual 244, 3) := dk_182 0 244 (dk_at dksL_law_72 4 rfl rfl)
theorem dL_law_1840 : decode cL_law 1840 = .ok (.aload_n 2, 1) := dk_44 (dk_at dksL_law_72 7 rfl rfl)
theorem dL_law_1841 : decode cL_law 1841 = .ok (.invokevirtual 247, 3) := dk_182 0 247 (dk_at dksL_law_72 8 rfl rfl)
theorem dL_law_1844 : decode cL_law 1844 = .ok (.if_icmp .eq 492, 3) := dk_159 1 236 (dk_at dksL_law_72 11 rfl rfl)
theorem dL_law_1847 : decode cL_law 1847 = .ok (.iconst 0, 1) := dk_3 (dk_at dksL_law_72 14 rfl rfl)
theorem dL_law_1848 : decode cL_law 1848 = .ok (.ireturn, 1) := dk_172 (dk_at dksL_law_72 15 rfl rfl)
theorem dL_law_1849 : decode cL_law 1849 = .ok (.aload_n 1, 1) := dk_43 (dk_at dksL_law_72 16 rfl rfl)
theorem dL_law_1850 : decode cL_law 1850 = .ok (.aload_n 0, 1) := dk_42 (dk_at dksL_law_72 17 rfl rfl)
theorem dL_law_1851 : decode cL_law 1851 = .ok (.iload 5, 2) := dk_21 5 (dk_at dksL_law_72 18 rfl rfl)
theorem dL_law_1853 : decode cL_law 1853 = .ok (.iconst 1, 1) := dk_4 (dk_at dksL_law_72 20 rfl rfl)
theorem dL_law_1854 : decode cL_law 1854 = .ok (.iadd, 1) := dk_96 (dk_at dksL_law_72 21 rfl rfl)
theorem dL_law_1855 : decode cL_law 1855 = .ok (.iaload, 1) := dk_46 (dk_at dksL_law_72 22 rfl rfl)
theorem dL_law_1856 : decode cL_law 1856 = .ok (.aload_n 0, 1) := dk_42 (dk_at dksL_law_72 23 rfl rfl)
theorem dL_law_1857 : decode cL_law 1857 = .ok (.iload 5, 2) := dk_21 5 (dk_at dksL_law_73 0 rfl rfl)
theorem dL_law_1859 : decode cL_law 1859 = .ok (.iconst 2, 1) := dk_5 (dk_at dksL_law_73 2 rfl rfl)
theorem dL_law_1860 : decode cL_law 1860 = .ok (.iadd, 1) := dk_96 (dk_at dksL_law_73 3 rfl rfl)
theorem dL_law_1861 : decode cL_law 1861 = .ok (.iaload, 1) := dk_46 (dk_at dksL_law_73 4 rfl rfl)
theorem dL_law_1862 : decode cL_law 1862 = .ok (.ifCond .eq 7, 3) := dk_153 0 7 (dk_at dksL_law_73 5 rfl rfl)
theorem dL_law_1865 : decode cL_law 1865 = .ok (.iconst 1, 1) := dk_4 (dk_at dksL_law_73 8 rfl rfl)
theorem dL_law_1866 : decode cL_law 1866 = .ok (.goto 4, 3) := dk_167 0 4 (dk_at dksL_law_73 9 rfl rfl)
theorem dL_law_1869 : decode cL_law 1869 = .ok (.iconst 0, 1) := dk_3 (dk_at dksL_law_73 12 rfl rfl)
theorem dL_law_1870 : decode cL_law 1870 = .ok (.aload_n 3, 1) := dk_45 (dk_at dksL_law_73 13 rfl rfl)
theorem dL_law_1871 : decode cL_law 1871 = .ok (.invokestatic 248, 3) := dk_184 0 248 (dk_at dksL_law_73 14 rfl rfl)
theorem dL_law_1874 : decode cL_law 1874 = .ok (.istore 6, 2) := dk_54 6 (dk_at dksL_law_73 17 rfl rfl)
theorem dL_law_1876 : decode cL_law 1876 = .ok (.aload_n 2, 1) := dk_44 (dk_at dksL_law_73 19 rfl rfl)
theorem dL_law_1877 : decode cL_law 1877 = .ok (.aload_n 0, 1) := dk_42 (dk_at dksL_law_73 20 rfl rfl)
theorem dL_law_1878 : decode cL_law 1878 = .ok (.iload 5, 2) := dk_21 5 (dk_at dksL_law_73 21 rfl rfl)
theorem dL_law_1880 : decode cL_law 1880 = .ok (.iconst 1, 1) := dk_4 (dk_at dksL_law_73 23 rfl rfl)
theorem dL_law_1881 : decode cL_law 1881 = .ok (.iadd, 1) := dk_96 (dk_at dksL_law_74 0 rfl rfl)
theorem dL_law_1882 : decode cL_law 1882 = .ok (.iaload, 1) := dk_46 (dk_at dksL_law_74 1 rfl rfl)
theorem dL_law_1883 : decode cL_law 1883 = .ok (.aload_n 0, 1) := dk_42 (dk_at dksL_law_74 2 rfl rfl)
theorem dL_law_1884 : decode cL_law 1884 = .ok (.iload 5, 2) := dk_21 5 (dk_at dksL_law_74 3 rfl rfl)
theorem dL_law_1886 : decode cL_law 1886 = .ok (.iconst 2, 1) := dk_5 (dk_at dksL_law_74 5 rfl rfl)
theorem dL_law_1887 : decode cL_law 1887 = .ok (.iadd, 1) := dk_96 (dk_at dksL_law_74 6 rfl rfl)
theorem dL_law_1888 : decode cL_law 1888 = .ok (.iaload, 1) := dk_46 (dk_at dksL_law_74 7 rfl rfl)
theorem dL_law_1889 : decode cL_law 1889 = .ok (.ifCond .eq 7, 3) := dk_153 0 7 (dk_at dksL_law_74 8 rfl rfl)
theorem dL_law_1892 : decode cL_law 1892 = .ok (.iconst 1, 1) := dk_4 (dk_at dksL_law_74 11 rfl rfl)
theorem dL_law_1893 : decode cL_law 1893 = .ok (.goto 4, 3) := dk_167 0 4 (dk_at dksL_law_74 12 rfl rfl)
theorem dL_law_1896 : decode cL_law 1896 = .ok (.iconst 0, 1) := dk_3 (dk_at dksL_law_74 15 rfl rfl)
theorem dL_law_1897 : decode cL_law 1897 = .ok (.invokevirtual 251, 3) := dk_182 0 251 (dk_at dksL_law_74 16 rfl rfl)
theorem dL_law_1900 : decode cL_law 1900 = .ok (.istore 7, 2) := dk_54 7 (dk_at dksL_law_74 19 rfl rfl)
theorem dL_law_1902 : decode cL_law 1902 = .ok (.aload_n 2, 1) := dk_44 (dk_at dksL_law_74 21 rfl rfl)
theorem dL_law_1903 : decode cL_law 1903 = .ok (.invokevirtual 144, 3) := dk_182 0 144 (dk_at dksL_law_75 0 rfl rfl)
theorem dL_law_1906 : decode cL_law 1906 = .ok (.iload 6, 2) := dk_21 6 (dk_at dksL_law_75 3 rfl rfl)
theorem dL_law_1908 : decode cL_law 1908 = .ok (.if_icmp .eq 5, 3) := dk_159 0 5 (dk_at dksL_law_75 5 rfl rfl)
theorem dL_law_1911 : decode cL_law 1911 = .ok (.iconst 0, 1) := dk_3 (dk_at dksL_law_75 8 rfl rfl)
theorem dL_law_1912 : decode cL_law 1912 = .ok (.ireturn, 1) := dk_172 (dk_at dksL_law_75 9 rfl rfl)
theorem dL_law_1913 : decode cL_law 1913 = .ok (.iload 6, 2) := dk_21 6 (dk_at dksL_law_75 10 rfl rfl)
theorem dL_law_1915 : decode cL_law 1915 = .ok (.ifCond .ne 15, 3) := dk_154 0 15 (dk_at dksL_law_75 12 rfl rfl)
theorem dL_law_1918 : decode cL_law 1918 = .ok (.aload_n 3, 1) := dk_45 (dk_at dksL_law_75 15 rfl rfl)
theorem dL_law_1919 : decode cL_law 1919 = .ok (.iconst 0, 1) := dk_3 (dk_at dksL_law_75 16 rfl rfl)
theorem dL_law_1920 : decode cL_law 1920 = .ok (.laload, 1) := dk_47 (dk_at dksL_law_75 17 rfl rfl)
theorem dL_law_1921 : decode cL_law 1921 = .ok (.iload 7, 2) := dk_21 7 (dk_at dksL_law_75 18 rfl rfl)
theorem dL_law_1923 : decode cL_law 1923 = .ok (.i2l, 1) := dk_133 (dk_at dksL_law_75 20 rfl rfl)
theorem dL_law_1924 : decode cL_law 1924 = .ok (.lcmp, 1) := dk_148 (dk_at dksL_law_75 21 rfl rfl)
theorem dL_law_1925 : decode cL_law 1925 = .ok (.ifCond .eq 5, 3) := dk_153 0 5 (dk_at dksL_law_76 0 rfl rfl)
theorem dL_law_1928 : decode cL_law 1928 = .ok (.iconst 0, 1) := dk_3 (dk_at dksL_law_76 3 rfl rfl)
theorem dL_law_1929 : decode cL_law 1929 = .ok (.ireturn, 1) := dk_172 (dk_at dksL_law_76 4 rfl rfl)
theorem dL_law_1930 : decode cL_law 1930 = .ok (.goto 406, 3) := dk_167 1 150 (dk_at dksL_law_76 5 rfl rfl)
theorem dL_law_1933 : decode cL_law 1933 = .ok (.aload_n 1, 1) := dk_43 (dk_at dksL_law_76 8 rfl rfl)
theorem dL_law_1934 : decode cL_law 1934 = .ok (.invokevirtual 252, 3) := dk_182 0 252 (dk_at dksL_law_76 9 rfl rfl)
theorem dL_law_1937 : decode cL_law 1937 = .ok (.aload_n 2, 1) := dk_44 (dk_at dksL_law_76 12 rfl rfl)
theorem dL_law_1938 : decode cL_law 1938 = .ok (.invokevirtual 255, 3) := dk_182 0 255 (dk_at dksL_law_76 13 rfl rfl)
theorem dL_law_1941 : decode cL_law 1941 = .ok (.if_icmp .eq 395, 3) := dk_159 1 139 (dk_at dksL_law_76 16 rfl rfl)
theorem dL_law_1944 : decode cL_law 1944 = .ok (.iconst 0, 1) := dk_3 (dk_at dksL_law_76 19 rfl rfl)
theorem dL_law_1945 : decode cL_law 1945 = .ok (.ireturn, 1) := dk_172 (dk_at dksL_law_76 20 rfl rfl)
theorem dL_law_1946 : decode cL_law 1946 = .ok (.aload_n 1, 1) := dk_43 (dk_at dksL_law_76 21 rfl rfl)
theorem dL_law_1947 : decode cL_law 1947 = .ok (.invokevirtual 256, 3) := dk_182 1 0 (dk_at dksL_law_77 0 rfl rfl)
theorem dL_law_1950 : decode cL_law 1950 = .ok (.aload_n 2, 1) := dk_44 (dk_at dksL_law_77 3 rfl rfl)
theorem dL_law_1951 : decode cL_law 1951 = .ok (.invokevirtual 259, 3) := dk_182 1 3 (dk_at dksL_law_77 4 rfl rfl)
theorem dL_law_1954 : decode cL_law 1954 = .ok (.if_icmp .eq 382, 3) := dk_159 1 126 (dk_at dksL_law_77 7 rfl rfl)
theorem dL_law_1957 : decode cL_law 1957 = .ok (.iconst 0, 1) := dk_3 (dk_at dksL_law_77 10 rfl rfl)
theorem dL_law_1958 : decode cL_law 1958 = .ok (.ireturn, 1) := dk_172 (dk_at dksL_law_77 11 rfl rfl)
theorem dL_law_1959 : decode cL_law 1959 = .ok (.aload_n 1, 1) := dk_43 (dk_at dksL_law_77 12 rfl rfl)
theorem dL_law_1960 : decode cL_law 1960 = .ok (.aload_n 0, 1) := dk_42 (dk_at dksL_law_77 13 rfl rfl)
theorem dL_law_1961 : decode cL_law 1961 = .ok (.iload 5, 2) := dk_21 5 (dk_at dksL_law_77 14 rfl rfl)
theorem dL_law_1963 : decode cL_law 1963 = .ok (.iconst 1, 1) := dk_4 (dk_at dksL_law_77 16 rfl rfl)
theorem dL_law_1964 : decode cL_law 1964 = .ok (.iadd, 1) := dk_96 (dk_at dksL_law_77 17 rfl rfl)
theorem dL_law_1965 : decode cL_law 1965 = .ok (.iaload, 1) := dk_46 (dk_at dksL_law_77 18 rfl rfl)
theorem dL_law_1966 : decode cL_law 1966 = .ok (.aload_n 3, 1) := dk_45 (dk_at dksL_law_77 19 rfl rfl)
theorem dL_law_1967 : decode cL_law 1967 = .ok (.invokestatic 260, 3) := dk_184 1 4 (dk_at dksL_law_77 20 rfl rfl)
theorem dL_law_1970 : decode cL_law 1970 = .ok (.istore 6, 2) := dk_54 6 (dk_at dksL_law_78 0 rfl rfl)
theorem dL_law_1972 : decode cL_law 1972 = .ok (.aload_n 2, 1) := dk_44 (dk_at dksL_law_78 2 rfl rfl)
theorem dL_law_1973 : decode cL_law 1973 = .ok (.aload_n 0, 1) := dk_42 (dk_at dksL_law_78 3 rfl rfl)
theorem dL_law_1974 : decode cL_law 1974 = .ok (.iload 5, 2) := dk_21 5 (dk_at dksL_law_78 4 rfl rfl)
theorem dL_law_1976 : decode cL_law 1976 = .ok (.iconst 1, 1) := dk_4 (dk_at dksL_law_78 6 rfl rfl)
theorem dL_law_1977 : decode cL_law 1977 = .ok (.iadd, 1) := dk_96 (dk_at dksL_law_78 7 rfl rfl)
theorem dL_law_1978 : decode cL_law 1978 = .ok (.iaload, 1) := dk_46 (dk_at dksL_law_78 8 rfl rfl)
theorem dL_law_1979 : decode cL_law 1979 = .ok (.invokevirtual 262, 3) := dk_182 1 6 (dk_at dksL_law_78 9 rfl rfl)
theorem dL_law_1982 : decode cL_law 1982 = .ok (.istore 7, 2) := dk_54 7 (dk_at dksL_law_78 12 rfl rfl)
theorem dL_law_1984 : decode cL_law 1984 = .ok (.aload_n 2, 1) := dk_44 (dk_at dksL_law_78 14 rfl rfl)
theorem dL_law_1985 : decode cL_law 1985 = .ok (.invokevirtual 144, 3) := dk_182 0 144 (dk_at dksL_law_78 15 rfl rfl)
theorem dL_law_1988 : decode cL_law 1988 = .ok (.iload 6, 2) := dk_21 6 (dk_at dksL_law_78 18 rfl rfl)
theorem dL_law_1990 : decode cL_law 1990 = .ok (.if_icmp .eq 5, 3) := dk_159 0 5 (dk_at dksL_law_78 20 rfl rfl)
theorem dL_law_1993 : decode cL_law 1993 = .ok (.iconst 0, 1) := dk_3 (dk_at dksL_law_78 23 rfl rfl)
theorem dL_law_1994 : decode cL_law 1994 = .ok (.ireturn, 1) := dk_172 (dk_at dksL_law_79 0 rfl rfl)
theorem dL_law_1995 : decode cL_law 1995 = .ok (.iload 6, 2) := dk_21 6 (dk_at dksL_law_79 1 rfl rfl)
theorem dL_law_1997 : decode cL_law 1997 = .ok (.ifCond .ne 15, 3) := dk_154 0 15 (dk_at dksL_law_79 3 rfl rfl)
theorem dL_law_2000 : decode cL_law 2000 = .ok (.aload_n 3, 1) := dk_45 (dk_at dksL_law_79 6 rfl rfl)
theorem dL_law_2001 : decode cL_law 2001 = .ok (.iconst 0, 1) := dk_3 (dk_at dksL_law_79 7 rfl rfl)
theorem dL_law_2002 : decode cL_law 2002 = .ok (.laload, 1) := dk_47 (dk_at dksL_law_79 8 rfl rfl)
theorem dL_law_2003 : decode cL_law 2003 = .ok (.iload 7, 2) := dk_21 7 (dk_at dksL_law_79 9 rfl rfl)
theorem dL_law_2005 : decode cL_law 2005 = .ok (.i2l, 1) := dk_133 (dk_at dksL_law_79 11 rfl rfl)
theorem dL_law_2006 : decode cL_law 2006 = .ok (.lcmp, 1) := dk_148 (dk_at dksL_law_79 12 rfl rfl)
theorem dL_law_2007 : decode cL_law 2007 = .ok (.ifCond .eq 5, 3) := dk_153 0 5 (dk_at dksL_law_79 13 rfl rfl)
theorem dL_law_2010 : decode cL_law 2010 = .ok (.iconst 0, 1) := dk_3 (dk_at dksL_law_79 16 rfl rfl)
theorem dL_law_2011 : decode cL_law 2011 = .ok (.ireturn, 1) := dk_172 (dk_at dksL_law_79 17 rfl rfl)
theorem dL_law_2012 : decode cL_law 2012 = .ok (.goto 324, 3) := dk_167 1 68 (dk_at dksL_law_79 18 rfl rfl)
theorem dL_law_2015 : decode cL_law 2015 = .ok (.aload_n 1, 1) := dk_43 (dk_at dksL_law_79 21 rfl rfl)
theorem dL_law_2016 : decode cL_law 2016 = .ok (.aload_n 0, 1) := dk_42 (dk_at dksL_law_79 22 rfl rfl)
theorem dL_law_2017 : decode cL_law 2017 = .ok (.iload 5, 2) := dk_21 5 (dk_at dksL_law_80 0 rfl rfl)
theorem dL_law_2019 : decode cL_law 2019 = .ok (.iconst 1, 1) := dk_4 (dk_at dksL_law_80 2 rfl rfl)
theorem dL_law_2020 : decode cL_law 2020 = .ok (.iadd, 1) := dk_96 (dk_at dksL_law_80 3 rfl rfl)
theorem dL_law_2021 : decode cL_law 2021 = .ok (.iaload, 1) := dk_46 (dk_at dksL_law_80 4 rfl rfl)
theorem dL_law_2022 : decode cL_law 2022 = .ok (.aload_n 3, 1) := dk_45 (dk_at dksL_law_80 5 rfl rfl)
theorem dL_law_2023 : decode cL_law 2023 = .ok (.invokestatic 263, 3) := dk_184 1 7 (dk_at dksL_law_80 6 rfl rfl)
theorem dL_law_2026 : decode cL_law 2026 = .ok (.istore 6, 2) := dk_54 6 (dk_at dksL_law_80 9 rfl rfl)
theorem dL_law_2028 : decode cL_law 2028 = .ok (.aload_n 2, 1) := dk_44 (dk_at dksL_law_80 11 rfl rfl)
theorem dL_law_2029 : decode cL_law 2029 = .ok (.aload_n 0, 1) := dk_42 (dk_at dksL_law_80 12 rfl rfl)
theorem dL_law_2030 : decode cL_law 2030 = .ok (.iload 5, 2) := dk_21 5 (dk_at dksL_law_80 13 rfl rfl)
theorem dL_law_2032 : decode cL_law 2032 = .ok (.iconst 1, 1) := dk_4 (dk_at dksL_law_80 15 rfl rfl)
theorem dL_law_2033 : decode cL_law 2033 = .ok (.iadd, 1) := dk_96 (dk_at dksL_law_80 16 rfl rfl)
theorem dL_law_2034 : decode cL_law 2034 = .ok (.iaload, 1) := dk_46 (dk_at dksL_law_80 17 rfl rfl)
theorem dL_law_2035 : decode cL_law 2035 = .ok (.invokevirtual 265, 3) := dk_182 1 9 (dk_at dksL_law_80 18 rfl rfl)
theorem dL_law_2038 : decode cL_law 2038 = .ok (.istore 7, 2) := dk_54 7 (dk_at dksL_law_80 21 rfl rfl)
theorem dL_law_2040 : decode cL_law 2040 = .ok (.aload_n 2, 1) := dk_44 (dk_at dksL_law_80 23 rfl rfl)
theorem dL_law_2041 : decode cL_law 2041 = .ok (.invokevirtual 144, 3) := dk_182 0 144 (dk_at dksL_law_81 0 rfl rfl)
theorem dL_law_2044 : decode cL_law 2044 = .ok (.iload 6, 2) := dk_21 6 (dk_at dksL_law_81 3 rfl rfl)
theorem dL_law_2046 : decode cL_law 2046 = .ok (.if_icmp .eq 5, 3) := dk_159 0 5 (dk_at dksL_law_81 5 rfl rfl)
theorem dL_law_2049 : decode cL_law 2049 = .ok (.iconst 0, 1) := dk_3 (dk_at dksL_law_81 8 rfl rfl)
theorem dL_law_2050 : decode cL_law 2050 = .ok (.ireturn, 1) := dk_172 (dk_at dksL_law_81 9 rfl rfl)
theorem dL_law_2051 : decode cL_law 2051 = .ok (.iload 6, 2) := dk_21 6 (dk_at dksL_law_81 10 rfl rfl)
theorem dL_law_2053 : decode cL_law 2053 = .ok (.ifCond .ne 15, 3) := dk_154 0 15 (dk_at dksL_law_81 12 rfl rfl)
theorem dL_law_2056 : decode cL_law 2056 = .ok (.aload_n 3, 1) := dk_45 (dk_at dksL_law_81 15 rfl rfl)
theorem dL_law_2057 : decode cL_law 2057 = .ok (.iconst 0, 1) := dk_3 (dk_at dksL_law_81 16 rfl rfl)
theorem dL_law_2058 : decode cL_law 2058 = .ok (.laload, 1) := dk_47 (dk_at dksL_law_81 17 rfl rfl)
theorem dL_law_2059 : decode cL_law 2059 = .ok (.iload 7, 2) := dk_21 7 (dk_at dksL_law_81 18 rfl rfl)
theorem dL_law_2061 : decode cL_law 2061 = .ok (.i2l, 1) := dk_133 (dk_at dksL_law_81 20 rfl rfl)
theorem dL_law_2062 : decode cL_law 2062 = .ok (.lcmp, 1) := dk_148 (dk_at dksL_law_81 21 rfl rfl)
theorem dL_law_2063 : decode cL_law 2063 = .ok (.ifCond .eq 5, 3) := dk_153 0 5 (dk_at dksL_law_82 0 rfl rfl)
theorem dL_law_2066 : decode cL_law 2066 = .ok (.iconst 0, 1) := dk_3 (dk_at dksL_law_82 3 rfl rfl)
theorem dL_law_2067 : decode cL_law 2067 = .ok (.ireturn, 1) := dk_172 (dk_at dksL_law_82 4 rfl rfl)
theorem dL_law_2068 : decode cL_law 2068 = .ok (.goto 268, 3) := dk_167 1 12 (dk_at dksL_law_82 5 rfl rfl)
theorem dL_law_2071 : decode cL_law 2071 = .ok (.aload_n 1, 1) := dk_43 (dk_at dksL_law_82 8 rfl rfl)
theorem dL_law_2072 : decode cL_law 2072 = .ok (.aload_n 0, 1) := dk_42 (dk_at dksL_law_82 9 rfl rfl)
theorem dL_law_2073 : decode cL_law 2073 = .ok (.iload 5, 2) := dk_21 5 (dk_at dksL_law_82 10 rfl rfl)
theorem dL_law_2075 : decode cL_law 2075 = .ok (.iconst 1, 1) := dk_4 (dk_at dksL_law_82 12 rfl rfl)
theorem dL_law_2076 : decode cL_law 2076 = .ok (.iadd, 1) := dk_96 (dk_at dksL_law_82 13 rfl rfl)
theorem dL_law_2077 : decode cL_law 2077 = .ok (.iaload, 1) := dk_46 (dk_at dksL_law_82 14 rfl rfl)
theorem dL_law_2078 : decode cL_law 2078 = .ok (.aload_n 3, 1) := dk_45 (dk_at dksL_law_82 15 rfl rfl)
theorem dL_law_2079 : decode cL_law 2079 = .ok (.invokestatic 266, 3) := dk_184 1 10 (dk_at dksL_law_82 16 rfl rfl)
theorem dL_law_2082 : decode cL_law 2082 = .ok (.istore 6, 2) := dk_54 6 (dk_at dksL_law_82 19 rfl rfl)
theorem dL_law_2084 : decode cL_law 2084 = .ok (.aload_n 2, 1) := dk_44 (dk_at dksL_law_82 21 rfl rfl)
theorem dL_law_2085 : decode cL_law 2085 = .ok (.aload_n 0, 1) := dk_42 (dk_at dksL_law_82 22 rfl rfl)
theorem dL_law_2086 : decode cL_law 2086 = .ok (.iload 5, 2) := dk_21 5 (dk_at dksL_law_83 0 rfl rfl)
theorem dL_law_2088 : decode cL_law 2088 = .ok (.iconst 1, 1) := dk_4 (dk_at dksL_law_83 2 rfl rfl)
theorem dL_law_2089 : decode cL_law 2089 = .ok (.iadd, 1) := dk_96 (dk_at dksL_law_83 3 rfl rfl)
theorem dL_law_2090 : decode cL_law 2090 = .ok (.iaload, 1) := dk_46 (dk_at dksL_law_83 4 rfl rfl)
theorem dL_law_2091 : decode cL_law 2091 = .ok (.invokevirtual 268, 3) := dk_182 1 12 (dk_at dksL_law_83 5 rfl rfl)
theorem dL_law_2094 : decode cL_law 2094 = .ok (.istore 7, 2) := dk_54 7 (dk_at dksL_law_83 8 rfl rfl)
theorem dL_law_2096 : decode cL_law 2096 = .ok (.aload_n 2, 1) := dk_44 (dk_at dksL_law_83 10 rfl rfl)
theorem dL_law_2097 : decode cL_law 2097 = .ok (.invokevirtual 144, 3) := dk_182 0 144 (dk_at dksL_law_83 11 rfl rfl)
theorem dL_law_2100 : decode cL_law 2100 = .ok (.iload 6, 2) := dk_21 6 (dk_at dksL_law_83 14 rfl rfl)
theorem dL_law_2102 : decode cL_law 2102 = .ok (.if_icmp .eq 5, 3) := dk_159 0 5 (dk_at dksL_law_83 16 rfl rfl)
theorem dL_law_2105 : decode cL_law 2105 = .ok (.iconst 0, 1) := dk_3 (dk_at dksL_law_83 19 rfl rfl)
theorem dL_law_2106 : decode cL_law 2106 = .ok (.ireturn, 1) := dk_172 (dk_at dksL_law_83 20 rfl rfl)
theorem dL_law_2107 : decode cL_law 2107 = .ok (.iload 6, 2) := dk_21 6 (dk_at dksL_law_83 21 rfl rfl)
theorem dL_law_2109 : decode cL_law 2109 = .ok (.ifCond .ne 15, 3) := dk_154 0 15 (dk_at dksL_law_84 0 rfl rfl)
theorem dL_law_2112 : decode cL_law 2112 = .ok (.aload_n 3, 1) := dk_45 (dk_at dksL_law_84 3 rfl rfl)
theorem dL_law_2113 : decode cL_law 2113 = .ok (.iconst 0, 1) := dk_3 (dk_at dksL_law_84 4 rfl rfl)
theorem dL_law_2114 : decode cL_law 2114 = .ok (.laload, 1) := dk_47 (dk_at dksL_law_84 5 rfl rfl)
theorem dL_law_2115 : decode cL_law 2115 = .ok (.iload 7, 2) := dk_21 7 (dk_at dksL_law_84 6 rfl rfl)
theorem dL_law_2117 : decode cL_law 2117 = .ok (.i2l, 1) := dk_133 (dk_at dksL_law_84 8 rfl rfl)
theorem dL_law_2118 : decode cL_law 2118 = .ok (.lcmp, 1) := dk_148 (dk_at dksL_law_84 9 rfl rfl)
theorem dL_law_2119 : decode cL_law 2119 = .ok (.ifCond .eq 5, 3) := dk_153 0 5 (dk_at dksL_law_84 10 rfl rfl)
theorem dL_law_2122 : decode cL_law 2122 = .ok (.iconst 0, 1) := dk_3 (dk_at dksL_law_84 13 rfl rfl)
theorem dL_law_2123 : decode cL_law 2123 = .ok (.ireturn, 1) := dk_172 (dk_at dksL_law_84 14 rfl rfl)
theorem dL_law_2124 : decode cL_law 2124 = .ok (.goto 212, 3) := dk_167 0 212 (dk_at dksL_law_84 15 rfl rfl)
theorem dL_law_2127 : decode cL_law 2127 = .ok (.aload_n 1, 1) := dk_43 (dk_at dksL_law_84 18 rfl rfl)
theorem dL_law_2128 : decode cL_law 2128 = .ok (.aload 4, 2) := dk_25 4 (dk_at dksL_law_84 19 rfl rfl)
theorem dL_law_2130 : decode cL_law 2130 = .ok (.invokestatic 269, 3) := dk_184 1 13 (dk_at dksL_law_84 21 rfl rfl)
theorem dL_law_2133 : decode cL_law 2133 = .ok (.istore 6, 2) := dk_54 6 (dk_at dksL_law_85 0 rfl rfl)
theorem dL_law_2135 : decode cL_law 2135 = .ok (.aload_n 2, 1) := dk_44 (dk_at dksL_law_85 2 rfl rfl)
theorem dL_law_2136 : decode cL_law 2136 = .ok (.invokevirtual 272, 3) := dk_182 1 16 (dk_at dksL_law_85 3 rfl rfl)
theorem dL_law_2139 : decode cL_law 2139 = .ok (.dstore 7, 2) := dk_57 7 (dk_at dksL_law_85 6 rfl rfl)
theorem dL_law_2141 : decode cL_law 2141 = .ok (.aload_n 2, 1) := dk_44 (dk_at dksL_law_85 8 rfl rfl)
theorem dL_law_2142 : decode cL_law 2142 = .ok (.invokevirtual 144, 3) := dk_182 0 144 (dk_at dksL_law_85 9 rfl rfl)
theorem dL_law_2145 : decode cL_law 2145 = .ok (.iload 6, 2) := dk_21 6 (dk_at dksL_law_85 12 rfl rfl)
theorem dL_law_2147 : decode cL_law 2147 = .ok (.if_icmp .eq 5, 3) := dk_159 0 5 (dk_at dksL_law_85 14 rfl rfl)
theorem dL_law_2150 : decode cL_law 2150 = .ok (.iconst 0, 1) := dk_3 (dk_at dksL_law_85 17 rfl rfl)
theorem dL_law_2151 : decode cL_law 2151 = .ok (.ireturn, 1) := dk_172 (dk_at dksL_law_85 18 rfl rfl)
theorem dL_law_2152 : decode cL_law 2152 = .ok (.iload 6, 2) := dk_21 6 (dk_at dksL_law_85 19 rfl rfl)
theorem dL_law_2154 : decode cL_law 2154 = .ok (.ifCond .ne 35, 3) := dk_154 0 35 (dk_at dksL_law_85 21 rfl rfl)
theorem dL_law_2157 : decode cL_law 2157 = .ok (.aload 4, 2) := dk_25 4 (dk_at dksL_law_86 0 rfl rfl)
theorem dL_law_2159 : decode cL_law 2159 = .ok (.iconst 0, 1) := dk_3 (dk_at dksL_law_86 2 rfl rfl)
theorem dL_law_2160 : decode cL_law 2160 = .ok (.daload, 1) := dk_49 (dk_at dksL_law_86 3 rfl rfl)
theorem dL_law_2161 : decode cL_law 2161 = .ok (.dload 7, 2) := dk_24 7 (dk_at dksL_law_86 4 rfl rfl)
theorem dL_law_2163 : decode cL_law 2163 = .ok (.dcmp .l, 1) := dk_151 (dk_at dksL_law_86 6 rfl rfl)
theorem dL_law_2164 : decode cL_law 2164 = .ok (.ifCond .eq 25, 3) := dk_153 0 25 (dk_at dksL_law_86 7 rfl rfl)
theorem dL_law_2167 : decode cL_law 2167 = .ok (.aload 4, 2) := dk_25 4 (dk_at dksL_law_86 10 rfl rfl)
theorem dL_law_2169 : decode cL_law 2169 = .ok (.iconst 0, 1) := dk_3 (dk_at dksL_law_86 12 rfl rfl)
theorem dL_law_2170 : decode cL_law 2170 = .ok (.daload, 1) := dk_49 (dk_at dksL_law_86 13 rfl rfl)
theorem dL_law_2171 : decode cL_law 2171 = .ok (.aload 4, 2) := dk_25 4 (dk_at dksL_law_86 14 rfl rfl)
theorem dL_law_2173 : decode cL_law 2173 = .ok (.iconst 0, 1) := dk_3 (dk_at dksL_law_86 16 rfl rfl)
theorem dL_law_2174 : decode cL_law 2174 = .ok (.daload, 1) := dk_49 (dk_at dksL_law_86 17 rfl rfl)
theorem dL_law_2175 : decode cL_law 2175 = .ok (.dcmp .l, 1) := dk_151 (dk_at dksL_law_86 18 rfl rfl)
theorem dL_law_2176 : decode cL_law 2176 = .ok (.ifCond .eq 11, 3) := dk_153 0 11 (dk_at dksL_law_86 19 rfl rfl)
theorem dL_law_2179 : decode cL_law 2179 = .ok (.dload 7, 2) := dk_24 7 (dk_at dksL_law_86 22 rfl rfl)
theorem dL_law_2181 : decode cL_law 2181 = .ok (.dload 7, 2) := dk_24 7 (dk_at dksL_law_87 0 rfl rfl)
theorem dL_law_2183 : decode cL_law 2183 = .ok (.dcmp .l, 1) := dk_151 (dk_at dksL_law_87 2 rfl rfl)
theorem dL_law_2184 : decode cL_law 2184 = .ok (.ifCond .ne 5, 3) := dk_154 0 5 (dk_at dksL_law_87 3 rfl rfl)
theorem dL_law_2187 : decode cL_law 2187 = .ok (.iconst 0, 1) := dk_3 (dk_at dksL_law_87 6 rfl rfl)
theorem dL_law_2188 : decode cL_law 2188 = .ok (.ireturn, 1) := dk_172 (dk_at dksL_law_87 7 rfl rfl)
theorem dL_law_2189 : decode cL_law 2189 = .ok (.goto 147, 3) := dk_167 0 147 (dk_at dksL_law_87 8 rfl rfl)
theorem dL_law_2192 : decode cL_law 2192 = .ok (.aload_n 1, 1) := dk_43 (dk_at dksL_law_87 11 rfl rfl)
theorem dL_law_2193 : decode cL_law 2193 = .ok (.invokevirtual 273, 3) := dk_182 1 17 (dk_at dksL_law_87 12 rfl rfl)
theorem dL_law_2196 : decode cL_law 2196 = .ok (.f2d, 1) := dk_141 (dk_at dksL_law_87 15 rfl rfl)
theorem dL_law_2197 : decode cL_law 2197 = .ok (.dstore 6, 2) := dk_57 6 (dk_at dksL_law_87 16 rfl rfl)
theorem dL_law_2199 : decode cL_law 2199 = .ok (.aload_n 2, 1) := dk_44 (dk_at dksL_law_87 18 rfl rfl)
theorem dL_law_2200 : decode cL_law 2200 = .ok (.invokevirtual 277, 3) := dk_182 1 21 (dk_at dksL_law_87 19 rfl rfl)
theorem dL_law_2203 : decode cL_law 2203 = .ok (.f2d, 1) := dk_141 (dk_at dksL_law_87 22 rfl rfl)
theorem dL_law_2204 : decode cL_law 2204 = .ok (.dstore 8, 2) := dk_57 8 (dk_at dksL_law_88 0 rfl rfl)
theorem dL_law_2206 : decode cL_law 2206 = .ok (.dload 6, 2) := dk_24 6 (dk_at dksL_law_88 2 rfl rfl)
theorem dL_law_2208 : decode cL_law 2208 = .ok (.dload 8, 2) := dk_24 8 (dk_at dksL_law_88 4 rfl rfl)
theorem dL_law_2210 : decode cL_law 2210 = .ok (.dcmp .l, 1) := dk_151 (dk_at dksL_law_88 6 rfl rfl)
theorem dL_law_2211 : decode cL_law 2211 = .ok (.ifCond .eq 21, 3) := dk_153 0 21 (dk_at dksL_law_88 7 rfl rfl)
theorem dL_law_2214 : decode cL_law 2214 = .ok (.dload 6, 2) := dk_24 6 (dk_at dksL_law_88 10 rfl rfl)
theorem dL_law_2216 : decode cL_law 2216 = .ok (.dload 6, 2) := dk_24 6 (dk_at dksL_law_88 12 rfl rfl)
theorem dL_law_2218 : decode cL_law 2218 = .ok (.dcmp .l, 1) := dk_151 (dk_at dksL_law_88 14 rfl rfl)
theorem dL_law_2219 : decode cL_law 2219 = .ok (.ifCond .eq 11, 3) := dk_153 0 11 (dk_at dksL_law_88 15 rfl rfl)
theorem dL_law_2222 : decode cL_law 2222 = .ok (.dload 8, 2) := dk_24 8 (dk_at dksL_law_88 18 rfl rfl)
theorem dL_law_2224 : decode cL_law 2224 = .ok (.dload 8, 2) := dk_24 8 (dk_at dksL_law_88 20 rfl rfl)
theorem dL_law_2226 : decode cL_law 2226 = .ok (.dcmp .l, 1) := dk_151 (dk_at dksL_law_88 22 rfl rfl)
theorem dL_law_2227 : decode cL_law 2227 = .ok (.ifCond .ne 5, 3) := dk_154 0 5 (dk_at dksL_law_89 0 rfl rfl)
theorem dL_law_2230 : decode cL_law 2230 = .ok (.iconst 0, 1) := dk_3 (dk_at dksL_law_89 3 rfl rfl)
theorem dL_law_2231 : decode cL_law 2231 = .ok (.ireturn, 1) := dk_172 (dk_at dksL_law_89 4 rfl rfl)
theorem dL_law_2232 : decode cL_law 2232 = .ok (.goto 104, 3) := dk_167 0 104 (dk_at dksL_law_89 5 rfl rfl)
theorem dL_law_2235 : decode cL_law 2235 = .ok (.aload_n 1, 1) := dk_43 (dk_at dksL_law_89 8 rfl rfl)
theorem dL_law_2236 : decode cL_law 2236 = .ok (.aload_n 3, 1) := dk_45 (dk_at dksL_law_89 9 rfl rfl)
theorem dL_law_2237 : decode cL_law 2237 = .ok (.invokestatic 278, 3) := dk_184 1 22 (dk_at dksL_law_89 10 rfl rfl)
theorem dL_law_2240 : decode cL_law 2240 = .ok (.istore 6, 2) := dk_54 6 (dk_at dksL_law_89 13 rfl rfl)
theorem dL_law_2242 : decode cL_law 2242 = .ok (.aload_n 2, 1) := dk_44 (dk_at dksL_law_89 15 rfl rfl)
theorem dL_law_2243 : decode cL_law 2243 = .ok (.invokevirtual 280, 3) := dk_182 1 24 (dk_at dksL_law_89 16 rfl rfl)
theorem dL_law_2246 : decode cL_law 2246 = .ok (.istore 7, 2) := dk_54 7 (dk_at dksL_law_89 19 rfl rfl)
theorem dL_law_2248 : decode cL_law 2248 = .ok (.aload_n 2, 1) := dk_44 (dk_at dksL_law_89 21 rfl rfl)
theorem dL_law_2249 : decode cL_law 2249 = .ok (.invokevirtual 144, 3) := dk_182 0 144 (dk_at dksL_law_90 0 rfl rfl)
theorem dL_law_2252 : decode cL_law 2252 = .ok (.iload 6, 2) := dk_21 6 (dk_at dksL_law_90 3 rfl rfl)
theorem dL_law_2254 : decode cL_law 2254 = .ok (.if_icmp .eq 5, 3) := dk_159 0 5 (dk_at dksL_law_90 5 rfl rfl)
theorem dL_law_2257 : decode cL_law 2257 = .ok (.iconst 0, 1) := dk_3 (dk_at dksL_law_90 8 rfl rfl)
theorem dL_law_2258 : decode cL_law 2258 = .ok (.ireturn, 1) := dk_172 (dk_at dksL_law_90 9 rfl rfl)
theorem dL_law_2259 : decode cL_law 2259 = .ok (.iload 6, 2) := dk_21 6 (dk_at dksL_law_90 10 rfl rfl)
theorem dL_law_2261 : decode cL_law 2261 = .ok (.ifCond .ne 15, 3) := dk_154 0 15 (dk_at dksL_law_90 12 rfl rfl)
theorem dL_law_2264 : decode cL_law 2264 = .ok (.aload_n 3, 1) := dk_45 (dk_at dksL_law_90 15 rfl rfl)
theorem dL_law_2265 : decode cL_law 2265 = .ok (.iconst 0, 1) := dk_3 (dk_at dksL_law_90 16 rfl rfl)
theorem dL_law_2266 : decode cL_law 2266 = .ok (.laload, 1) := dk_47 (dk_at dksL_law_90 17 rfl rfl)
theorem dL_law_2267 : decode cL_law 2267 = .ok (.iload 7, 2) := dk_21 7 (dk_at dksL_law_90 18 rfl rfl)
theorem dL_law_2269 : decode cL_law 2269 = .ok (.i2l, 1) := dk_133 (dk_at dksL_law_90 20 rfl rfl)
theorem dL_law_2270 : decode cL_law 2270 = .ok (.lcmp, 1) := dk_148 (dk_at dksL_law_90 21 rfl rfl)
theorem dL_law_2271 : decode cL_law 2271 = .ok (.ifCond .eq 5, 3) := dk_153 0 5 (dk_at dksL_law_91 0 rfl rfl)
theorem dL_law_2274 : decode cL_law 2274 = .ok (.iconst 0, 1) := dk_3 (dk_at dksL_law_91 3 rfl rfl)
theorem dL_law_2275 : decode cL_law 2275 = .ok (.ireturn, 1) := dk_172 (dk_at dksL_law_91 4 rfl rfl)
theorem dL_law_2276 : decode cL_law 2276 = .ok (.goto 60, 3) := dk_167 0 60 (dk_at dksL_law_91 5 rfl rfl)
theorem dL_law_2279 : decode cL_law 2279 = .ok (.aload_n 1, 1) := dk_43 (dk_at dksL_law_91 8 rfl rfl)
theorem dL_law_2280 : decode cL_law 2280 = .ok (.invokevirtual 281, 3) := dk_182 1 25 (dk_at dksL_law_91 9 rfl rfl)
theorem dL_law_2283 : decode cL_law 2283 = .ok (.aload_n 2, 1) := dk_44 (dk_at dksL_law_91 12 rfl rfl)
theorem dL_law_2284 : decode cL_law 2284 = .ok (.invokevirtual 284, 3) := dk_182 1 28 (dk_at dksL_law_91 13 rfl rfl)
theorem dL_law_2287 : decode cL_law 2287 = .ok (.if_icmp .eq 49, 3) := dk_159 0 49 (dk_at dksL_law_91 16 rfl rfl)
theorem dL_law_2290 : decode cL_law 2290 = .ok (.iconst 0, 1) := dk_3 (dk_at dksL_law_91 19 rfl rfl)
theorem dL_law_2291 : decode cL_law 2291 = .ok (.ireturn, 1) := dk_172 (dk_at dksL_law_91 20 rfl rfl)
theorem dL_law_2292 : decode cL_law 2292 = .ok (.aload_n 1, 1) := dk_43 (dk_at dksL_law_91 21 rfl rfl)
theorem dL_law_2293 : decode cL_law 2293 = .ok (.aload_n 3, 1) := dk_45 (dk_at dksL_law_91 22 rfl rfl)
theorem dL_law_2294 : decode cL_law 2294 = .ok (.invokestatic 285, 3) := dk_184 1 29 (dk_at dksL_law_92 0 rfl rfl)
theorem dL_law_2297 : decode cL_law 2297 = .ok (.istore 6, 2) := dk_54 6 (dk_at dksL_law_92 3 rfl rfl)
theorem dL_law_2299 : decode cL_law 2299 = .ok (.aload_n 2, 1) := dk_44 (dk_at dksL_law_92 5 rfl rfl)
theorem dL_law_2300 : decode cL_law 2300 = .ok (.invokevirtual 287, 3) := dk_182 1 31 (dk_at dksL_law_92 6 rfl rfl)
theorem dL_law_2303 : decode cL_law 2303 = .ok (.istore 7, 2) := dk_54 7 (dk_at dksL_law_92 9 rfl rfl)
theorem dL_law_2305 : decode cL_law 2305 = .ok (.aload_n 2, 1) := dk_44 (dk_at dksL_law_92 11 rfl rfl)
theorem dL_law_2306 : decode cL_law 2306 = .ok (.invokevirtual 144, 3) := dk_182 0 144 (dk_at dksL_law_92 12 rfl rfl)
theorem dL_law_2309 : decode cL_law 2309 = .ok (.iload 6, 2) := dk_21 6 (dk_at dksL_law_92 15 rfl rfl)
theorem dL_law_2311 : decode cL_law 2311 = .ok (.if_icmp .eq 5, 3) := dk_159 0 5 (dk_at dksL_law_92 17 rfl rfl)
theorem dL_law_2314 : decode cL_law 2314 = .ok (.iconst 0, 1) := dk_3 (dk_at dksL_law_92 20 rfl rfl)
theorem dL_law_2315 : decode cL_law 2315 = .ok (.ireturn, 1) := dk_172 (dk_at dksL_law_92 21 rfl rfl)
theorem dL_law_2316 : decode cL_law 2316 = .ok (.iload 6, 2) := dk_21 6 (dk_at dksL_law_92 22 rfl rfl)
theorem dL_law_2318 : decode cL_law 2318 = .ok (.ifCond .ne 15, 3) := dk_154 0 15 (dk_at dksL_law_93 0 rfl rfl)
theorem dL_law_2321 : decode cL_law 2321 = .ok (.aload_n 3, 1) := dk_45 (dk_at dksL_law_93 3 rfl rfl)
theorem dL_law_2322 : decode cL_law 2322 = .ok (.iconst 0, 1) := dk_3 (dk_at dksL_law_93 4 rfl rfl)
theorem dL_law_2323 : decode cL_law 2323 = .ok (.laload, 1) := dk_47 (dk_at dksL_law_93 5 rfl rfl)
theorem dL_law_2324 : decode cL_law 2324 = .ok (.iload 7, 2) := dk_21 7 (dk_at dksL_law_93 6 rfl rfl)
theorem dL_law_2326 : decode cL_law 2326 = .ok (.i2l, 1) := dk_133 (dk_at dksL_law_93 8 rfl rfl)
theorem dL_law_2327 : decode cL_law 2327 = .ok (.lcmp, 1) := dk_148 (dk_at dksL_law_93 9 rfl rfl)
theorem dL_law_2328 : decode cL_law 2328 = .ok (.ifCond .eq 5, 3) := dk_153 0 5 (dk_at dksL_law_93 10 rfl rfl)
theorem dL_law_2331 : decode cL_law 2331 = .ok (.iconst 0, 1) := dk_3 (dk_at dksL_law_93 13 rfl rfl)
theorem dL_law_2332 : decode cL_law 2332 = .ok (.ireturn, 1) := dk_172 (dk_at dksL_law_93 14 rfl rfl)
theorem dL_law_2333 : decode cL_law 2333 = .ok (.goto 3, 3) := dk_167 0 3 (dk_at dksL_law_93 15 rfl rfl)
theorem dL_law_2336 : decode cL_law 2336 = .ok (.iinc 5 3, 3) := dk_132 5 3 (dk_at dksL_law_93 18 rfl rfl)
theorem dL_law_2339 : decode cL_law 2339 = .ok (.goto (-2311), 3) := dk_167 246 249 (dk_at dksL_law_93 21 rfl rfl)
theorem dL_law_2342 : decode cL_law 2342 = .ok (.iconst 1, 1) := dk_4 (dk_at dksL_law_94 0 rfl rfl)
theorem dL_law_2343 : decode cL_law 2343 = .ok (.ireturn, 1) := dk_172 (dk_at dksL_law_94 1 rfl rfl)

def yL_law : MethodName := x
abbrev ML_law : zM := (x, code, 10, ret, [])
