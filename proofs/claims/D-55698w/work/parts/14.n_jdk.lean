/-! java/util/AbstractCollection -/
set_option maxRecDepth 100000
abbrev cJ0_init : ByteArray := prog_44_method_1_code
def yJ0_init : MethodName := ⟨RJ0, "<init>", "()V"⟩
theorem dJ0_init_0 : decode cJ0_init 0 = .ok (.aload_n 0, 1) := by decide +kernel
theorem dJ0_init_1 : decode cJ0_init 1 = .ok (.invokespecial 1, 3) := by decide +kernel
theorem dJ0_init_4 : decode cJ0_init 4 = .ok (.return_, 1) := by decide +kernel
abbrev MJ0_init : zM := (yJ0_init, cJ0_init, 1, (Option.none : Option Jvm.ClassFile.FieldType), [])
theorem kJ0_init : zMk MJ0_init := ⟨zt (lw_at lw_m1 68 rfl), zt (lw_at lw_m1 3 rfl), by decide +kernel, by decide, by decide +kernel⟩
/-! java/util/AbstractList -/
set_option maxRecDepth 100000
abbrev cJ1_init : ByteArray := prog_45_method_1_code
def yJ1_init : MethodName := ⟨RJ1, "<init>", "()V"⟩
def dkwJ1_init_0 : List UInt8 := [42, 183, 0, 1, 42, 3, 181, 0, 7, 177]
abbrev dktJ1_init_0 : List UInt8 := dkwJ1_init_0 ++ []
theorem dksJ1_init_0 : cJ1_init.data.toList.drop 0 = dktJ1_init_0 := by decide +kernel
theorem dJ1_init_0 : decode cJ1_init 0 = .ok (.aload_n 0, 1) := dk_42 (dk_at dksJ1_init_0 0 rfl rfl)
theorem dJ1_init_1 : decode cJ1_init 1 = .ok (.invokespecial 1, 3) := dk_183 0 1 (dk_at dksJ1_init_0 1 rfl rfl)
theorem dJ1_init_4 : decode cJ1_init 4 = .ok (.aload_n 0, 1) := dk_42 (dk_at dksJ1_init_0 4 rfl rfl)
theorem dJ1_init_5 : decode cJ1_init 5 = .ok (.iconst 0, 1) := dk_3 (dk_at dksJ1_init_0 5 rfl rfl)
theorem dJ1_init_6 : decode cJ1_init 6 = .ok (.putfield 7, 3) := dk_181 0 7 (dk_at dksJ1_init_0 6 rfl rfl)
theorem dJ1_init_9 : decode cJ1_init 9 = .ok (.return_, 1) := dk_177 (dk_at dksJ1_init_0 9 rfl rfl)
abbrev MJ1_init : zM := (yJ1_init, cJ1_init, 1, (Option.none : Option Jvm.ClassFile.FieldType), [])
theorem kJ1_init : zMk MJ1_init := ⟨zt (lw_at lw_m1 65 rfl), zt (lw_at lw_m1 4 rfl), by decide +kernel, by decide, by decide +kernel⟩
/-! java/util/ArrayList -/
set_option maxRecDepth 100000
abbrev cJ2_init : ByteArray := prog_47_method_2_code
def yJ2_init : MethodName := ⟨RJ2, "<init>", "()V"⟩
def dkwJ2_init_0 : List UInt8 := [42, 183, 0, 1, 42, 178, 0, 39, 181, 0, 9, 177]
abbrev dktJ2_init_0 : List UInt8 := dkwJ2_init_0 ++ []
theorem dksJ2_init_0 : cJ2_init.data.toList.drop 0 = dktJ2_init_0 := by decide +kernel
theorem dJ2_init_0 : decode cJ2_init 0 = .ok (.aload_n 0, 1) := dk_42 (dk_at dksJ2_init_0 0 rfl rfl)
theorem dJ2_init_1 : decode cJ2_init 1 = .ok (.invokespecial 1, 3) := dk_183 0 1 (dk_at dksJ2_init_0 1 rfl rfl)
theorem dJ2_init_4 : decode cJ2_init 4 = .ok (.aload_n 0, 1) := dk_42 (dk_at dksJ2_init_0 4 rfl rfl)
theorem dJ2_init_5 : decode cJ2_init 5 = .ok (.getstatic 39, 3) := dk_178 0 39 (dk_at dksJ2_init_0 5 rfl rfl)
theorem dJ2_init_8 : decode cJ2_init 8 = .ok (.putfield 9, 3) := dk_181 0 9 (dk_at dksJ2_init_0 8 rfl rfl)
theorem dJ2_init_11 : decode cJ2_init 11 = .ok (.return_, 1) := dk_177 (dk_at dksJ2_init_0 11 rfl rfl)
abbrev cJ2_get : ByteArray := prog_47_method_20_code
def yJ2_get : MethodName := ⟨RJ2, "get", "(I)Ljava/lang/Object;"⟩
def dkwJ2_get_0 : List UInt8 := [27, 42, 180, 0, 48, 184, 0, 118, 87, 42, 27, 182, 0, 123, 176]
abbrev dktJ2_get_0 : List UInt8 := dkwJ2_get_0 ++ []
theorem dksJ2_get_0 : cJ2_get.data.toList.drop 0 = dktJ2_get_0 := by decide +kernel
theorem dJ2_get_0 : decode cJ2_get 0 = .ok (.iload_n 1, 1) := dk_27 (dk_at dksJ2_get_0 0 rfl rfl)
theorem dJ2_get_1 : decode cJ2_get 1 = .ok (.aload_n 0, 1) := dk_42 (dk_at dksJ2_get_0 1 rfl rfl)
theorem dJ2_get_2 : decode cJ2_get 2 = .ok (.getfield 48, 3) := dk_180 0 48 (dk_at dksJ2_get_0 2 rfl rfl)
theorem dJ2_get_5 : decode cJ2_get 5 = .ok (.invokestatic 118, 3) := dk_184 0 118 (dk_at dksJ2_get_0 5 rfl rfl)
theorem dJ2_get_8 : decode cJ2_get 8 = .ok (.pop, 1) := dk_87 (dk_at dksJ2_get_0 8 rfl rfl)
theorem dJ2_get_9 : decode cJ2_get 9 = .ok (.aload_n 0, 1) := dk_42 (dk_at dksJ2_get_0 9 rfl rfl)
theorem dJ2_get_10 : decode cJ2_get 10 = .ok (.iload_n 1, 1) := dk_27 (dk_at dksJ2_get_0 10 rfl rfl)
theorem dJ2_get_11 : decode cJ2_get 11 = .ok (.invokevirtual 123, 3) := dk_182 0 123 (dk_at dksJ2_get_0 11 rfl rfl)
theorem dJ2_get_14 : decode cJ2_get 14 = .ok (.areturn, 1) := dk_176 (dk_at dksJ2_get_0 14 rfl rfl)
abbrev cJ2_elementData : ByteArray := prog_47_method_18_code
def yJ2_elementData : MethodName := ⟨RJ2, "elementData", "(I)Ljava/lang/Object;"⟩
def dkwJ2_elementData_0 : List UInt8 := [42, 180, 0, 9, 27, 50, 176]
abbrev dktJ2_elementData_0 : List UInt8 := dkwJ2_elementData_0 ++ []
theorem dksJ2_elementData_0 : cJ2_elementData.data.toList.drop 0 = dktJ2_elementData_0 := by decide +kernel
theorem dJ2_elementData_0 : decode cJ2_elementData 0 = .ok (.aload_n 0, 1) := dk_42 (dk_at dksJ2_elementData_0 0 rfl rfl)
theorem dJ2_elementData_1 : decode cJ2_elementData 1 = .ok (.getfield 9, 3) := dk_180 0 9 (dk_at dksJ2_elementData_0 1 rfl rfl)
theorem dJ2_elementData_4 : decode cJ2_elementData 4 = .ok (.iload_n 1, 1) := dk_27 (dk_at dksJ2_elementData_0 4 rfl rfl)
theorem dJ2_elementData_5 : decode cJ2_elementData 5 = .ok (.aaload, 1) := dk_50 (dk_at dksJ2_elementData_0 5 rfl rfl)
theorem dJ2_elementData_6 : decode cJ2_elementData 6 = .ok (.areturn, 1) := dk_176 (dk_at dksJ2_elementData_0 6 rfl rfl)
abbrev cJ2_iterator : ByteArray := prog_47_method_55_code
def yJ2_iterator : MethodName := ⟨RJ2, "iterator", "()Ljava/util/Iterator;"⟩
def dkwJ2_iterator_0 : List UInt8 := [187, 1, 11, 89, 42, 183, 1, 13, 176]
abbrev dktJ2_iterator_0 : List UInt8 := dkwJ2_iterator_0 ++ []
theorem dksJ2_iterator_0 : cJ2_iterator.data.toList.drop 0 = dktJ2_iterator_0 := by decide +kernel
theorem dJ2_iterator_0 : decode cJ2_iterator 0 = .ok (.new 267, 3) := dk_187 1 11 (dk_at dksJ2_iterator_0 0 rfl rfl)
theorem dJ2_iterator_3 : decode cJ2_iterator 3 = .ok (.dup, 1) := dk_89 (dk_at dksJ2_iterator_0 3 rfl rfl)
theorem dJ2_iterator_4 : decode cJ2_iterator 4 = .ok (.aload_n 0, 1) := dk_42 (dk_at dksJ2_iterator_0 4 rfl rfl)
theorem dJ2_iterator_5 : decode cJ2_iterator 5 = .ok (.invokespecial 269, 3) := dk_183 1 13 (dk_at dksJ2_iterator_0 5 rfl rfl)
theorem dJ2_iterator_8 : decode cJ2_iterator 8 = .ok (.areturn, 1) := dk_176 (dk_at dksJ2_iterator_0 8 rfl rfl)
abbrev cJ2_size : ByteArray := prog_47_method_8_code
def yJ2_size : MethodName := ⟨RJ2, "size", "()I"⟩
theorem dJ2_size_0 : decode cJ2_size 0 = .ok (.aload_n 0, 1) := by decide +kernel
theorem dJ2_size_1 : decode cJ2_size 1 = .ok (.getfield 48, 3) := by decide +kernel
theorem dJ2_size_4 : decode cJ2_size 4 = .ok (.ireturn, 1) := by decide +kernel
abbrev cJ2_add : ByteArray := prog_47_method_25_code
def yJ2_add : MethodName := ⟨RJ2, "add", "(Ljava/lang/Object;)Z"⟩
def dkwJ2_add_1 : List UInt8 := [172]
abbrev dktJ2_add_1 : List UInt8 := dkwJ2_add_1 ++ []
def dkwJ2_add_0 : List UInt8 := [42, 89, 180, 0, 63, 4, 96, 181, 0, 63, 42, 43, 42, 180, 0, 9, 42, 180, 0, 48, 182, 0, 131, 4]
abbrev dktJ2_add_0 : List UInt8 := dkwJ2_add_0 ++ dktJ2_add_1
theorem dksJ2_add_0 : cJ2_add.data.toList.drop 0 = dktJ2_add_0 := by decide +kernel
theorem dksJ2_add_1 : cJ2_add.data.toList.drop 24 = dktJ2_add_1 := dk_seg dksJ2_add_0 24 rfl rfl
theorem dJ2_add_0 : decode cJ2_add 0 = .ok (.aload_n 0, 1) := dk_42 (dk_at dksJ2_add_0 0 rfl rfl)
theorem dJ2_add_1 : decode cJ2_add 1 = .ok (.dup, 1) := dk_89 (dk_at dksJ2_add_0 1 rfl rfl)
theorem dJ2_add_2 : decode cJ2_add 2 = .ok (.getfield 63, 3) := dk_180 0 63 (dk_at dksJ2_add_0 2 rfl rfl)
theorem dJ2_add_5 : decode cJ2_add 5 = .ok (.iconst 1, 1) := dk_4 (dk_at dksJ2_add_0 5 rfl rfl)
theorem dJ2_add_6 : decode cJ2_add 6 = .ok (.iadd, 1) := dk_96 (dk_at dksJ2_add_0 6 rfl rfl)
theorem dJ2_add_7 : decode cJ2_add 7 = .ok (.putfield 63, 3) := dk_181 0 63 (dk_at dksJ2_add_0 7 rfl rfl)
theorem dJ2_add_10 : decode cJ2_add 10 = .ok (.aload_n 0, 1) := dk_42 (dk_at dksJ2_add_0 10 rfl rfl)
theorem dJ2_add_11 : decode cJ2_add 11 = .ok (.aload_n 1, 1) := dk_43 (dk_at dksJ2_add_0 11 rfl rfl)
theorem dJ2_add_12 : decode cJ2_add 12 = .ok (.aload_n 0, 1) := dk_42 (dk_at dksJ2_add_0 12 rfl rfl)
theorem dJ2_add_13 : decode cJ2_add 13 = .ok (.getfield 9, 3) := dk_180 0 9 (dk_at dksJ2_add_0 13 rfl rfl)
theorem dJ2_add_16 : decode cJ2_add 16 = .ok (.aload_n 0, 1) := dk_42 (dk_at dksJ2_add_0 16 rfl rfl)
theorem dJ2_add_17 : decode cJ2_add 17 = .ok (.getfield 48, 3) := dk_180 0 48 (dk_at dksJ2_add_0 17 rfl rfl)
theorem dJ2_add_20 : decode cJ2_add 20 = .ok (.invokevirtual 131, 3) := dk_182 0 131 (dk_at dksJ2_add_0 20 rfl rfl)
theorem dJ2_add_23 : decode cJ2_add 23 = .ok (.iconst 1, 1) := dk_4 (dk_at dksJ2_add_0 23 rfl rfl)
theorem dJ2_add_24 : decode cJ2_add 24 = .ok (.ireturn, 1) := dk_172 (dk_at dksJ2_add_1 0 rfl rfl)
abbrev cJ2_add_2 : ByteArray := prog_47_method_24_code
def yJ2_add_2 : MethodName := ⟨RJ2, "add", "(Ljava/lang/Object;[Ljava/lang/Object;I)V"⟩
def dkwJ2_add_2_0 : List UInt8 := [29, 44, 190, 160, 0, 8, 42, 182, 0, 129, 77, 44, 29, 43, 83, 42, 29, 4, 96, 181, 0, 48, 177]
abbrev dktJ2_add_2_0 : List UInt8 := dkwJ2_add_2_0 ++ []
theorem dksJ2_add_2_0 : cJ2_add_2.data.toList.drop 0 = dktJ2_add_2_0 := by decide +kernel
theorem dJ2_add_2_0 : decode cJ2_add_2 0 = .ok (.iload_n 3, 1) := dk_29 (dk_at dksJ2_add_2_0 0 rfl rfl)
theorem dJ2_add_2_1 : decode cJ2_add_2 1 = .ok (.aload_n 2, 1) := dk_44 (dk_at dksJ2_add_2_0 1 rfl rfl)
theorem dJ2_add_2_2 : decode cJ2_add_2 2 = .ok (.arraylength, 1) := dk_190 (dk_at dksJ2_add_2_0 2 rfl rfl)
theorem dJ2_add_2_3 : decode cJ2_add_2 3 = .ok (.if_icmp .ne 8, 3) := dk_160 0 8 (dk_at dksJ2_add_2_0 3 rfl rfl)
theorem dJ2_add_2_6 : decode cJ2_add_2 6 = .ok (.aload_n 0, 1) := dk_42 (dk_at dksJ2_add_2_0 6 rfl rfl)
theorem dJ2_add_2_7 : decode cJ2_add_2 7 = .ok (.invokevirtual 129, 3) := dk_182 0 129 (dk_at dksJ2_add_2_0 7 rfl rfl)
theorem dJ2_add_2_10 : decode cJ2_add_2 10 = .ok (.astore_n 2, 1) := dk_77 (dk_at dksJ2_add_2_0 10 rfl rfl)
theorem dJ2_add_2_11 : decode cJ2_add_2 11 = .ok (.aload_n 2, 1) := dk_44 (dk_at dksJ2_add_2_0 11 rfl rfl)
theorem dJ2_add_2_12 : decode cJ2_add_2 12 = .ok (.iload_n 3, 1) := dk_29 (dk_at dksJ2_add_2_0 12 rfl rfl)
theorem dJ2_add_2_13 : decode cJ2_add_2 13 = .ok (.aload_n 1, 1) := dk_43 (dk_at dksJ2_add_2_0 13 rfl rfl)
theorem dJ2_add_2_14 : decode cJ2_add_2 14 = .ok (.aastore, 1) := dk_83 (dk_at dksJ2_add_2_0 14 rfl rfl)
theorem dJ2_add_2_15 : decode cJ2_add_2 15 = .ok (.aload_n 0, 1) := dk_42 (dk_at dksJ2_add_2_0 15 rfl rfl)
theorem dJ2_add_2_16 : decode cJ2_add_2 16 = .ok (.iload_n 3, 1) := dk_29 (dk_at dksJ2_add_2_0 16 rfl rfl)
theorem dJ2_add_2_17 : decode cJ2_add_2 17 = .ok (.iconst 1, 1) := dk_4 (dk_at dksJ2_add_2_0 17 rfl rfl)
theorem dJ2_add_2_18 : decode cJ2_add_2 18 = .ok (.iadd, 1) := dk_96 (dk_at dksJ2_add_2_0 18 rfl rfl)
theorem dJ2_add_2_19 : decode cJ2_add_2 19 = .ok (.putfield 48, 3) := dk_181 0 48 (dk_at dksJ2_add_2_0 19 rfl rfl)
theorem dJ2_add_2_22 : decode cJ2_add_2 22 = .ok (.return_, 1) := dk_177 (dk_at dksJ2_add_2_0 22 rfl rfl)
abbrev cJ2_grow : ByteArray := prog_47_method_7_code
def yJ2_grow : MethodName := ⟨RJ2, "grow", "()[Ljava/lang/Object;"⟩
def dkwJ2_grow_0 : List UInt8 := [42, 42, 180, 0, 48, 4, 96, 182, 0, 69, 176]
abbrev dktJ2_grow_0 : List UInt8 := dkwJ2_grow_0 ++ []
theorem dksJ2_grow_0 : cJ2_grow.data.toList.drop 0 = dktJ2_grow_0 := by decide +kernel
theorem dJ2_grow_0 : decode cJ2_grow 0 = .ok (.aload_n 0, 1) := dk_42 (dk_at dksJ2_grow_0 0 rfl rfl)
theorem dJ2_grow_1 : decode cJ2_grow 1 = .ok (.aload_n 0, 1) := dk_42 (dk_at dksJ2_grow_0 1 rfl rfl)
theorem dJ2_grow_2 : decode cJ2_grow 2 = .ok (.getfield 48, 3) := dk_180 0 48 (dk_at dksJ2_grow_0 2 rfl rfl)
theorem dJ2_grow_5 : decode cJ2_grow 5 = .ok (.iconst 1, 1) := dk_4 (dk_at dksJ2_grow_0 5 rfl rfl)
theorem dJ2_grow_6 : decode cJ2_grow 6 = .ok (.iadd, 1) := dk_96 (dk_at dksJ2_grow_0 6 rfl rfl)
theorem dJ2_grow_7 : decode cJ2_grow 7 = .ok (.invokevirtual 69, 3) := dk_182 0 69 (dk_at dksJ2_grow_0 7 rfl rfl)
theorem dJ2_grow_10 : decode cJ2_grow 10 = .ok (.areturn, 1) := dk_176 (dk_at dksJ2_grow_0 10 rfl rfl)
abbrev cJ2_grow_2 : ByteArray := prog_47_method_6_code
def yJ2_grow_2 : MethodName := ⟨RJ2, "grow", "(I)[Ljava/lang/Object;"⟩
def dkwJ2_grow_2_2 : List UInt8 := [27, 184, 0, 79, 189, 0, 7, 90, 181, 0, 9, 176]
abbrev dktJ2_grow_2_2 : List UInt8 := dkwJ2_grow_2_2 ++ []
def dkwJ2_grow_2_1 : List UInt8 := [28, 4, 122, 184, 0, 73, 62, 42, 42, 180, 0, 9, 29, 184, 0, 66, 90, 181, 0, 9, 176, 42, 16, 10]
abbrev dktJ2_grow_2_1 : List UInt8 := dkwJ2_grow_2_1 ++ dktJ2_grow_2_2
def dkwJ2_grow_2_0 : List UInt8 := [42, 180, 0, 9, 190, 61, 28, 157, 0, 13, 42, 180, 0, 9, 178, 0, 39, 165, 0, 28, 28, 27, 28, 100]
abbrev dktJ2_grow_2_0 : List UInt8 := dkwJ2_grow_2_0 ++ dktJ2_grow_2_1
theorem dksJ2_grow_2_0 : cJ2_grow_2.data.toList.drop 0 = dktJ2_grow_2_0 := by decide +kernel
theorem dksJ2_grow_2_1 : cJ2_grow_2.data.toList.drop 24 = dktJ2_grow_2_1 := dk_seg dksJ2_grow_2_0 24 rfl rfl
theorem dksJ2_grow_2_2 : cJ2_grow_2.data.toList.drop 48 = dktJ2_grow_2_2 := dk_seg dksJ2_grow_2_1 24 rfl rfl
theorem dJ2_grow_2_0 : decode cJ2_grow_2 0 = .ok (.aload_n 0, 1) := dk_42 (dk_at dksJ2_grow_2_0 0 rfl rfl)
theorem dJ2_grow_2_1 : decode cJ2_grow_2 1 = .ok (.getfield 9, 3) := dk_180 0 9 (dk_at dksJ2_grow_2_0 1 rfl rfl)
theorem dJ2_grow_2_4 : decode cJ2_grow_2 4 = .ok (.arraylength, 1) := dk_190 (dk_at dksJ2_grow_2_0 4 rfl rfl)
theorem dJ2_grow_2_5 : decode cJ2_grow_2 5 = .ok (.istore_n 2, 1) := dk_61 (dk_at dksJ2_grow_2_0 5 rfl rfl)
theorem dJ2_grow_2_6 : decode cJ2_grow_2 6 = .ok (.iload_n 2, 1) := dk_28 (dk_at dksJ2_grow_2_0 6 rfl rfl)
theorem dJ2_grow_2_7 : decode cJ2_grow_2 7 = .ok (.ifCond .gt 13, 3) := dk_157 0 13 (dk_at dksJ2_grow_2_0 7 rfl rfl)
theorem dJ2_grow_2_10 : decode cJ2_grow_2 10 = .ok (.aload_n 0, 1) := dk_42 (dk_at dksJ2_grow_2_0 10 rfl rfl)
theorem dJ2_grow_2_11 : decode cJ2_grow_2 11 = .ok (.getfield 9, 3) := dk_180 0 9 (dk_at dksJ2_grow_2_0 11 rfl rfl)
theorem dJ2_grow_2_14 : decode cJ2_grow_2 14 = .ok (.getstatic 39, 3) := dk_178 0 39 (dk_at dksJ2_grow_2_0 14 rfl rfl)
theorem dJ2_grow_2_17 : decode cJ2_grow_2 17 = .ok (.if_acmp .eq 28, 3) := dk_165 0 28 (dk_at dksJ2_grow_2_0 17 rfl rfl)
theorem dJ2_grow_2_20 : decode cJ2_grow_2 20 = .ok (.iload_n 2, 1) := dk_28 (dk_at dksJ2_grow_2_0 20 rfl rfl)
theorem dJ2_grow_2_21 : decode cJ2_grow_2 21 = .ok (.iload_n 1, 1) := dk_27 (dk_at dksJ2_grow_2_0 21 rfl rfl)
theorem dJ2_grow_2_22 : decode cJ2_grow_2 22 = .ok (.iload_n 2, 1) := dk_28 (dk_at dksJ2_grow_2_0 22 rfl rfl)
theorem dJ2_grow_2_23 : decode cJ2_grow_2 23 = .ok (.isub, 1) := dk_100 (dk_at dksJ2_grow_2_0 23 rfl rfl)
theorem dJ2_grow_2_24 : decode cJ2_grow_2 24 = .ok (.iload_n 2, 1) := dk_28 (dk_at dksJ2_grow_2_1 0 rfl rfl)
theorem dJ2_grow_2_25 : decode cJ2_grow_2 25 = .ok (.iconst 1, 1) := dk_4 (dk_at dksJ2_grow_2_1 1 rfl rfl)
theorem dJ2_grow_2_26 : decode cJ2_grow_2 26 = .ok (.ishr, 1) := dk_122 (dk_at dksJ2_grow_2_1 2 rfl rfl)
theorem dJ2_grow_2_27 : decode cJ2_grow_2 27 = .ok (.invokestatic 73, 3) := dk_184 0 73 (dk_at dksJ2_grow_2_1 3 rfl rfl)
theorem dJ2_grow_2_30 : decode cJ2_grow_2 30 = .ok (.istore_n 3, 1) := dk_62 (dk_at dksJ2_grow_2_1 6 rfl rfl)
theorem dJ2_grow_2_31 : decode cJ2_grow_2 31 = .ok (.aload_n 0, 1) := dk_42 (dk_at dksJ2_grow_2_1 7 rfl rfl)
theorem dJ2_grow_2_32 : decode cJ2_grow_2 32 = .ok (.aload_n 0, 1) := dk_42 (dk_at dksJ2_grow_2_1 8 rfl rfl)
theorem dJ2_grow_2_33 : decode cJ2_grow_2 33 = .ok (.getfield 9, 3) := dk_180 0 9 (dk_at dksJ2_grow_2_1 9 rfl rfl)
theorem dJ2_grow_2_36 : decode cJ2_grow_2 36 = .ok (.iload_n 3, 1) := dk_29 (dk_at dksJ2_grow_2_1 12 rfl rfl)
theorem dJ2_grow_2_37 : decode cJ2_grow_2 37 = .ok (.invokestatic 66, 3) := dk_184 0 66 (dk_at dksJ2_grow_2_1 13 rfl rfl)
theorem dJ2_grow_2_40 : decode cJ2_grow_2 40 = .ok (.dup_x1, 1) := dk_90 (dk_at dksJ2_grow_2_1 16 rfl rfl)
theorem dJ2_grow_2_41 : decode cJ2_grow_2 41 = .ok (.putfield 9, 3) := dk_181 0 9 (dk_at dksJ2_grow_2_1 17 rfl rfl)
theorem dJ2_grow_2_44 : decode cJ2_grow_2 44 = .ok (.areturn, 1) := dk_176 (dk_at dksJ2_grow_2_1 20 rfl rfl)
theorem dJ2_grow_2_45 : decode cJ2_grow_2 45 = .ok (.aload_n 0, 1) := dk_42 (dk_at dksJ2_grow_2_1 21 rfl rfl)
theorem dJ2_grow_2_46 : decode cJ2_grow_2 46 = .ok (.bipush 10, 2) := dk_16 10 (dk_at dksJ2_grow_2_1 22 rfl rfl)
theorem dJ2_grow_2_48 : decode cJ2_grow_2 48 = .ok (.iload_n 1, 1) := dk_27 (dk_at dksJ2_grow_2_2 0 rfl rfl)
theorem dJ2_grow_2_49 : decode cJ2_grow_2 49 = .ok (.invokestatic 79, 3) := dk_184 0 79 (dk_at dksJ2_grow_2_2 1 rfl rfl)
theorem dJ2_grow_2_52 : decode cJ2_grow_2 52 = .ok (.anewarray 7, 3) := dk_189 0 7 (dk_at dksJ2_grow_2_2 4 rfl rfl)
theorem dJ2_grow_2_55 : decode cJ2_grow_2 55 = .ok (.dup_x1, 1) := dk_90 (dk_at dksJ2_grow_2_2 7 rfl rfl)
theorem dJ2_grow_2_56 : decode cJ2_grow_2 56 = .ok (.putfield 9, 3) := dk_181 0 9 (dk_at dksJ2_grow_2_2 8 rfl rfl)
theorem dJ2_grow_2_59 : decode cJ2_grow_2 59 = .ok (.areturn, 1) := dk_176 (dk_at dksJ2_grow_2_2 11 rfl rfl)
abbrev cJ2_add_3 : ByteArray := prog_47_method_26_code
def yJ2_add_3 : MethodName := ⟨RJ2, "add", "(ILjava/lang/Object;)V"⟩
def dkwJ2_add_3_2 : List UInt8 := [29, 27, 100, 184, 0, 112, 25, 4, 27, 44, 83, 42, 29, 4, 96, 181, 0, 48, 177]
abbrev dktJ2_add_3_2 : List UInt8 := dkwJ2_add_3_2 ++ []
def dkwJ2_add_3_1 : List UInt8 := [180, 0, 9, 89, 58, 4, 190, 160, 0, 9, 42, 182, 0, 129, 58, 4, 25, 4, 27, 25, 4, 27, 4, 96]
abbrev dktJ2_add_3_1 : List UInt8 := dkwJ2_add_3_1 ++ dktJ2_add_3_2
def dkwJ2_add_3_0 : List UInt8 := [42, 27, 182, 0, 135, 42, 89, 180, 0, 63, 4, 96, 181, 0, 63, 42, 180, 0, 48, 89, 62, 42]
abbrev dktJ2_add_3_0 : List UInt8 := dkwJ2_add_3_0 ++ dktJ2_add_3_1
theorem dksJ2_add_3_0 : cJ2_add_3.data.toList.drop 0 = dktJ2_add_3_0 := by decide +kernel
theorem dksJ2_add_3_1 : cJ2_add_3.data.toList.drop 22 = dktJ2_add_3_1 := dk_seg dksJ2_add_3_0 22 rfl rfl
theorem dksJ2_add_3_2 : cJ2_add_3.data.toList.drop 46 = dktJ2_add_3_2 := dk_seg dksJ2_add_3_1 24 rfl rfl
theorem dJ2_add_3_0 : decode cJ2_add_3 0 = .ok (.aload_n 0, 1) := dk_42 (dk_at dksJ2_add_3_0 0 rfl rfl)
theorem dJ2_add_3_1 : decode cJ2_add_3 1 = .ok (.iload_n 1, 1) := dk_27 (dk_at dksJ2_add_3_0 1 rfl rfl)
theorem dJ2_add_3_2 : decode cJ2_add_3 2 = .ok (.invokevirtual 135, 3) := dk_182 0 135 (dk_at dksJ2_add_3_0 2 rfl rfl)
theorem dJ2_add_3_5 : decode cJ2_add_3 5 = .ok (.aload_n 0, 1) := dk_42 (dk_at dksJ2_add_3_0 5 rfl rfl)
theorem dJ2_add_3_6 : decode cJ2_add_3 6 = .ok (.dup, 1) := dk_89 (dk_at dksJ2_add_3_0 6 rfl rfl)
theorem dJ2_add_3_7 : decode cJ2_add_3 7 = .ok (.getfield 63, 3) := dk_180 0 63 (dk_at dksJ2_add_3_0 7 rfl rfl)
theorem dJ2_add_3_10 : decode cJ2_add_3 10 = .ok (.iconst 1, 1) := dk_4 (dk_at dksJ2_add_3_0 10 rfl rfl)
theorem dJ2_add_3_11 : decode cJ2_add_3 11 = .ok (.iadd, 1) := dk_96 (dk_at dksJ2_add_3_0 11 rfl rfl)
theorem dJ2_add_3_12 : decode cJ2_add_3 12 = .ok (.putfield 63, 3) := dk_181 0 63 (dk_at dksJ2_add_3_0 12 rfl rfl)
theorem dJ2_add_3_15 : decode cJ2_add_3 15 = .ok (.aload_n 0, 1) := dk_42 (dk_at dksJ2_add_3_0 15 rfl rfl)
theorem dJ2_add_3_16 : decode cJ2_add_3 16 = .ok (.getfield 48, 3) := dk_180 0 48 (dk_at dksJ2_add_3_0 16 rfl rfl)
theorem dJ2_add_3_19 : decode cJ2_add_3 19 = .ok (.dup, 1) := dk_89 (dk_at dksJ2_add_3_0 19 rfl rfl)
theorem dJ2_add_3_20 : decode cJ2_add_3 20 = .ok (.istore_n 3, 1) := dk_62 (dk_at dksJ2_add_3_0 20 rfl rfl)
theorem dJ2_add_3_21 : decode cJ2_add_3 21 = .ok (.aload_n 0, 1) := dk_42 (dk_at dksJ2_add_3_0 21 rfl rfl)
theorem dJ2_add_3_22 : decode cJ2_add_3 22 = .ok (.getfield 9, 3) := dk_180 0 9 (dk_at dksJ2_add_3_1 0 rfl rfl)
theorem dJ2_add_3_25 : decode cJ2_add_3 25 = .ok (.dup, 1) := dk_89 (dk_at dksJ2_add_3_1 3 rfl rfl)
theorem dJ2_add_3_26 : decode cJ2_add_3 26 = .ok (.astore 4, 2) := dk_58 4 (dk_at dksJ2_add_3_1 4 rfl rfl)
theorem dJ2_add_3_28 : decode cJ2_add_3 28 = .ok (.arraylength, 1) := dk_190 (dk_at dksJ2_add_3_1 6 rfl rfl)
theorem dJ2_add_3_29 : decode cJ2_add_3 29 = .ok (.if_icmp .ne 9, 3) := dk_160 0 9 (dk_at dksJ2_add_3_1 7 rfl rfl)
theorem dJ2_add_3_32 : decode cJ2_add_3 32 = .ok (.aload_n 0, 1) := dk_42 (dk_at dksJ2_add_3_1 10 rfl rfl)
theorem dJ2_add_3_33 : decode cJ2_add_3 33 = .ok (.invokevirtual 129, 3) := dk_182 0 129 (dk_at dksJ2_add_3_1 11 rfl rfl)
theorem dJ2_add_3_36 : decode cJ2_add_3 36 = .ok (.astore 4, 2) := dk_58 4 (dk_at dksJ2_add_3_1 14 rfl rfl)
theorem dJ2_add_3_38 : decode cJ2_add_3 38 = .ok (.aload 4, 2) := dk_25 4 (dk_at dksJ2_add_3_1 16 rfl rfl)
theorem dJ2_add_3_40 : decode cJ2_add_3 40 = .ok (.iload_n 1, 1) := dk_27 (dk_at dksJ2_add_3_1 18 rfl rfl)
theorem dJ2_add_3_41 : decode cJ2_add_3 41 = .ok (.aload 4, 2) := dk_25 4 (dk_at dksJ2_add_3_1 19 rfl rfl)
theorem dJ2_add_3_43 : decode cJ2_add_3 43 = .ok (.iload_n 1, 1) := dk_27 (dk_at dksJ2_add_3_1 21 rfl rfl)
theorem dJ2_add_3_44 : decode cJ2_add_3 44 = .ok (.iconst 1, 1) := dk_4 (dk_at dksJ2_add_3_1 22 rfl rfl)
theorem dJ2_add_3_45 : decode cJ2_add_3 45 = .ok (.iadd, 1) := dk_96 (dk_at dksJ2_add_3_1 23 rfl rfl)
theorem dJ2_add_3_46 : decode cJ2_add_3 46 = .ok (.iload_n 3, 1) := dk_29 (dk_at dksJ2_add_3_2 0 rfl rfl)
theorem dJ2_add_3_47 : decode cJ2_add_3 47 = .ok (.iload_n 1, 1) := dk_27 (dk_at dksJ2_add_3_2 1 rfl rfl)
theorem dJ2_add_3_48 : decode cJ2_add_3 48 = .ok (.isub, 1) := dk_100 (dk_at dksJ2_add_3_2 2 rfl rfl)
theorem dJ2_add_3_49 : decode cJ2_add_3 49 = .ok (.invokestatic 112, 3) := dk_184 0 112 (dk_at dksJ2_add_3_2 3 rfl rfl)
theorem dJ2_add_3_52 : decode cJ2_add_3 52 = .ok (.aload 4, 2) := dk_25 4 (dk_at dksJ2_add_3_2 6 rfl rfl)
theorem dJ2_add_3_54 : decode cJ2_add_3 54 = .ok (.iload_n 1, 1) := dk_27 (dk_at dksJ2_add_3_2 8 rfl rfl)
theorem dJ2_add_3_55 : decode cJ2_add_3 55 = .ok (.aload_n 2, 1) := dk_44 (dk_at dksJ2_add_3_2 9 rfl rfl)
theorem dJ2_add_3_56 : decode cJ2_add_3 56 = .ok (.aastore, 1) := dk_83 (dk_at dksJ2_add_3_2 10 rfl rfl)
theorem dJ2_add_3_57 : decode cJ2_add_3 57 = .ok (.aload_n 0, 1) := dk_42 (dk_at dksJ2_add_3_2 11 rfl rfl)
theorem dJ2_add_3_58 : decode cJ2_add_3 58 = .ok (.iload_n 3, 1) := dk_29 (dk_at dksJ2_add_3_2 12 rfl rfl)
theorem dJ2_add_3_59 : decode cJ2_add_3 59 = .ok (.iconst 1, 1) := dk_4 (dk_at dksJ2_add_3_2 13 rfl rfl)
theorem dJ2_add_3_60 : decode cJ2_add_3 60 = .ok (.iadd, 1) := dk_96 (dk_at dksJ2_add_3_2 14 rfl rfl)
theorem dJ2_add_3_61 : decode cJ2_add_3 61 = .ok (.putfield 48, 3) := dk_181 0 48 (dk_at dksJ2_add_3_2 15 rfl rfl)
theorem dJ2_add_3_64 : decode cJ2_add_3 64 = .ok (.return_, 1) := dk_177 (dk_at dksJ2_add_3_2 18 rfl rfl)
abbrev cJ2_rangeCheckForAdd : ByteArray := prog_47_method_45_code
def yJ2_rangeCheckForAdd : MethodName := ⟨RJ2, "rangeCheckForAdd", "(I)V"⟩
def dkwJ2_rangeCheckForAdd_1 : List UInt8 := [191, 177]
abbrev dktJ2_rangeCheckForAdd_1 : List UInt8 := dkwJ2_rangeCheckForAdd_1 ++ []
def dkwJ2_rangeCheckForAdd_0 : List UInt8 := [27, 42, 180, 0, 48, 163, 0, 7, 27, 156, 0, 16, 187, 0, 187, 89, 42, 27, 182, 0, 198, 183, 0, 193]
abbrev dktJ2_rangeCheckForAdd_0 : List UInt8 := dkwJ2_rangeCheckForAdd_0 ++ dktJ2_rangeCheckForAdd_1
theorem dksJ2_rangeCheckForAdd_0 : cJ2_rangeCheckForAdd.data.toList.drop 0 = dktJ2_rangeCheckForAdd_0 := by decide +kernel
theorem dksJ2_rangeCheckForAdd_1 : cJ2_rangeCheckForAdd.data.toList.drop 24 = dktJ2_rangeCheckForAdd_1 := dk_seg dksJ2_rangeCheckForAdd_0 24 rfl rfl
theorem dJ2_rangeCheckForAdd_0 : decode cJ2_rangeCheckForAdd 0 = .ok (.iload_n 1, 1) := dk_27 (dk_at dksJ2_rangeCheckForAdd_0 0 rfl rfl)
theorem dJ2_rangeCheckForAdd_1 : decode cJ2_rangeCheckForAdd 1 = .ok (.aload_n 0, 1) := dk_42 (dk_at dksJ2_rangeCheckForAdd_0 1 rfl rfl)
theorem dJ2_rangeCheckForAdd_2 : decode cJ2_rangeCheckForAdd 2 = .ok (.getfield 48, 3) := dk_180 0 48 (dk_at dksJ2_rangeCheckForAdd_0 2 rfl rfl)
theorem dJ2_rangeCheckForAdd_5 : decode cJ2_rangeCheckForAdd 5 = .ok (.if_icmp .gt 7, 3) := dk_163 0 7 (dk_at dksJ2_rangeCheckForAdd_0 5 rfl rfl)
theorem dJ2_rangeCheckForAdd_8 : decode cJ2_rangeCheckForAdd 8 = .ok (.iload_n 1, 1) := dk_27 (dk_at dksJ2_rangeCheckForAdd_0 8 rfl rfl)
theorem dJ2_rangeCheckForAdd_9 : decode cJ2_rangeCheckForAdd 9 = .ok (.ifCond .ge 16, 3) := dk_156 0 16 (dk_at dksJ2_rangeCheckForAdd_0 9 rfl rfl)
theorem dJ2_rangeCheckForAdd_12 : decode cJ2_rangeCheckForAdd 12 = .ok (.new 187, 3) := dk_187 0 187 (dk_at dksJ2_rangeCheckForAdd_0 12 rfl rfl)
theorem dJ2_rangeCheckForAdd_15 : decode cJ2_rangeCheckForAdd 15 = .ok (.dup, 1) := dk_89 (dk_at dksJ2_rangeCheckForAdd_0 15 rfl rfl)
theorem dJ2_rangeCheckForAdd_16 : decode cJ2_rangeCheckForAdd 16 = .ok (.aload_n 0, 1) := dk_42 (dk_at dksJ2_rangeCheckForAdd_0 16 rfl rfl)
theorem dJ2_rangeCheckForAdd_17 : decode cJ2_rangeCheckForAdd 17 = .ok (.iload_n 1, 1) := dk_27 (dk_at dksJ2_rangeCheckForAdd_0 17 rfl rfl)
theorem dJ2_rangeCheckForAdd_18 : decode cJ2_rangeCheckForAdd 18 = .ok (.invokevirtual 198, 3) := dk_182 0 198 (dk_at dksJ2_rangeCheckForAdd_0 18 rfl rfl)
theorem dJ2_rangeCheckForAdd_21 : decode cJ2_rangeCheckForAdd 21 = .ok (.invokespecial 193, 3) := dk_183 0 193 (dk_at dksJ2_rangeCheckForAdd_0 21 rfl rfl)
theorem dJ2_rangeCheckForAdd_24 : decode cJ2_rangeCheckForAdd 24 = .ok (.athrow, 1) := dk_191 (dk_at dksJ2_rangeCheckForAdd_1 0 rfl rfl)
theorem dJ2_rangeCheckForAdd_25 : decode cJ2_rangeCheckForAdd 25 = .ok (.return_, 1) := dk_177 (dk_at dksJ2_rangeCheckForAdd_1 1 rfl rfl)
abbrev cJ2_outOfBoundsMsg : ByteArray := prog_47_method_46_code
def yJ2_outOfBoundsMsg : MethodName := ⟨RJ2, "outOfBoundsMsg", "(I)Ljava/lang/String;"⟩
def dkwJ2_outOfBoundsMsg_1 : List UInt8 := [180, 0, 48, 182, 0, 29, 182, 0, 32, 176]
abbrev dktJ2_outOfBoundsMsg_1 : List UInt8 := dkwJ2_outOfBoundsMsg_1 ++ []
def dkwJ2_outOfBoundsMsg_0 : List UInt8 := [187, 0, 20, 89, 183, 0, 22, 18, 201, 182, 0, 25, 27, 182, 0, 29, 18, 203, 182, 0, 25, 42]
abbrev dktJ2_outOfBoundsMsg_0 : List UInt8 := dkwJ2_outOfBoundsMsg_0 ++ dktJ2_outOfBoundsMsg_1
theorem dksJ2_outOfBoundsMsg_0 : cJ2_outOfBoundsMsg.data.toList.drop 0 = dktJ2_outOfBoundsMsg_0 := by decide +kernel
theorem dksJ2_outOfBoundsMsg_1 : cJ2_outOfBoundsMsg.data.toList.drop 22 = dktJ2_outOfBoundsMsg_1 := dk_seg dksJ2_outOfBoundsMsg_0 22 rfl rfl
theorem dJ2_outOfBoundsMsg_0 : decode cJ2_outOfBoundsMsg 0 = .ok (.new 20, 3) := dk_187 0 20 (dk_at dksJ2_outOfBoundsMsg_0 0 rfl rfl)
theorem dJ2_outOfBoundsMsg_3 : decode cJ2_outOfBoundsMsg 3 = .ok (.dup, 1) := dk_89 (dk_at dksJ2_outOfBoundsMsg_0 3 rfl rfl)
theorem dJ2_outOfBoundsMsg_4 : decode cJ2_outOfBoundsMsg 4 = .ok (.invokespecial 22, 3) := dk_183 0 22 (dk_at dksJ2_outOfBoundsMsg_0 4 rfl rfl)
theorem dJ2_outOfBoundsMsg_7 : decode cJ2_outOfBoundsMsg 7 = .ok (.ldc 201, 2) := dk_18 201 (dk_at dksJ2_outOfBoundsMsg_0 7 rfl rfl)
theorem dJ2_outOfBoundsMsg_9 : decode cJ2_outOfBoundsMsg 9 = .ok (.invokevirtual 25, 3) := dk_182 0 25 (dk_at dksJ2_outOfBoundsMsg_0 9 rfl rfl)
theorem dJ2_outOfBoundsMsg_12 : decode cJ2_outOfBoundsMsg 12 = .ok (.iload_n 1, 1) := dk_27 (dk_at dksJ2_outOfBoundsMsg_0 12 rfl rfl)
theorem dJ2_outOfBoundsMsg_13 : decode cJ2_outOfBoundsMsg 13 = .ok (.invokevirtual 29, 3) := dk_182 0 29 (dk_at dksJ2_outOfBoundsMsg_0 13 rfl rfl)
theorem dJ2_outOfBoundsMsg_16 : decode cJ2_outOfBoundsMsg 16 = .ok (.ldc 203, 2) := dk_18 203 (dk_at dksJ2_outOfBoundsMsg_0 16 rfl rfl)
theorem dJ2_outOfBoundsMsg_18 : decode cJ2_outOfBoundsMsg 18 = .ok (.invokevirtual 25, 3) := dk_182 0 25 (dk_at dksJ2_outOfBoundsMsg_0 18 rfl rfl)
theorem dJ2_outOfBoundsMsg_21 : decode cJ2_outOfBoundsMsg 21 = .ok (.aload_n 0, 1) := dk_42 (dk_at dksJ2_outOfBoundsMsg_0 21 rfl rfl)
theorem dJ2_outOfBoundsMsg_22 : decode cJ2_outOfBoundsMsg 22 = .ok (.getfield 48, 3) := dk_180 0 48 (dk_at dksJ2_outOfBoundsMsg_1 0 rfl rfl)
theorem dJ2_outOfBoundsMsg_25 : decode cJ2_outOfBoundsMsg 25 = .ok (.invokevirtual 29, 3) := dk_182 0 29 (dk_at dksJ2_outOfBoundsMsg_1 3 rfl rfl)
theorem dJ2_outOfBoundsMsg_28 : decode cJ2_outOfBoundsMsg 28 = .ok (.invokevirtual 32, 3) := dk_182 0 32 (dk_at dksJ2_outOfBoundsMsg_1 6 rfl rfl)
theorem dJ2_outOfBoundsMsg_31 : decode cJ2_outOfBoundsMsg 31 = .ok (.areturn, 1) := dk_176 (dk_at dksJ2_outOfBoundsMsg_1 9 rfl rfl)
abbrev cJ2_isEmpty : ByteArray := prog_47_method_9_code
def yJ2_isEmpty : MethodName := ⟨RJ2, "isEmpty", "()Z"⟩
def dkwJ2_isEmpty_0 : List UInt8 := [42, 180, 0, 48, 154, 0, 7, 4, 167, 0, 4, 3, 172]
abbrev dktJ2_isEmpty_0 : List UInt8 := dkwJ2_isEmpty_0 ++ []
theorem dksJ2_isEmpty_0 : cJ2_isEmpty.data.toList.drop 0 = dktJ2_isEmpty_0 := by decide +kernel
theorem dJ2_isEmpty_0 : decode cJ2_isEmpty 0 = .ok (.aload_n 0, 1) := dk_42 (dk_at dksJ2_isEmpty_0 0 rfl rfl)
theorem dJ2_isEmpty_1 : decode cJ2_isEmpty 1 = .ok (.getfield 48, 3) := dk_180 0 48 (dk_at dksJ2_isEmpty_0 1 rfl rfl)
theorem dJ2_isEmpty_4 : decode cJ2_isEmpty 4 = .ok (.ifCond .ne 7, 3) := dk_154 0 7 (dk_at dksJ2_isEmpty_0 4 rfl rfl)
theorem dJ2_isEmpty_7 : decode cJ2_isEmpty 7 = .ok (.iconst 1, 1) := dk_4 (dk_at dksJ2_isEmpty_0 7 rfl rfl)
theorem dJ2_isEmpty_8 : decode cJ2_isEmpty 8 = .ok (.goto 4, 3) := dk_167 0 4 (dk_at dksJ2_isEmpty_0 8 rfl rfl)
theorem dJ2_isEmpty_11 : decode cJ2_isEmpty 11 = .ok (.iconst 0, 1) := dk_3 (dk_at dksJ2_isEmpty_0 11 rfl rfl)
theorem dJ2_isEmpty_12 : decode cJ2_isEmpty 12 = .ok (.ireturn, 1) := dk_172 (dk_at dksJ2_isEmpty_0 12 rfl rfl)
abbrev cJ2_remove : ByteArray := prog_47_method_29_code
def yJ2_remove : MethodName := ⟨RJ2, "remove", "(I)Ljava/lang/Object;"⟩
def dkwJ2_remove_1 : List UInt8 := [45, 176]
abbrev dktJ2_remove_1 : List UInt8 := dkwJ2_remove_1 ++ []
def dkwJ2_remove_0 : List UInt8 := [27, 42, 180, 0, 48, 184, 0, 118, 87, 42, 180, 0, 9, 77, 44, 27, 50, 78, 42, 44, 27, 182, 0, 144]
abbrev dktJ2_remove_0 : List UInt8 := dkwJ2_remove_0 ++ dktJ2_remove_1
theorem dksJ2_remove_0 : cJ2_remove.data.toList.drop 0 = dktJ2_remove_0 := by decide +kernel
theorem dksJ2_remove_1 : cJ2_remove.data.toList.drop 24 = dktJ2_remove_1 := dk_seg dksJ2_remove_0 24 rfl rfl
theorem dJ2_remove_0 : decode cJ2_remove 0 = .ok (.iload_n 1, 1) := dk_27 (dk_at dksJ2_remove_0 0 rfl rfl)
theorem dJ2_remove_1 : decode cJ2_remove 1 = .ok (.aload_n 0, 1) := dk_42 (dk_at dksJ2_remove_0 1 rfl rfl)
theorem dJ2_remove_2 : decode cJ2_remove 2 = .ok (.getfield 48, 3) := dk_180 0 48 (dk_at dksJ2_remove_0 2 rfl rfl)
theorem dJ2_remove_5 : decode cJ2_remove 5 = .ok (.invokestatic 118, 3) := dk_184 0 118 (dk_at dksJ2_remove_0 5 rfl rfl)
theorem dJ2_remove_8 : decode cJ2_remove 8 = .ok (.pop, 1) := dk_87 (dk_at dksJ2_remove_0 8 rfl rfl)
theorem dJ2_remove_9 : decode cJ2_remove 9 = .ok (.aload_n 0, 1) := dk_42 (dk_at dksJ2_remove_0 9 rfl rfl)
theorem dJ2_remove_10 : decode cJ2_remove 10 = .ok (.getfield 9, 3) := dk_180 0 9 (dk_at dksJ2_remove_0 10 rfl rfl)
theorem dJ2_remove_13 : decode cJ2_remove 13 = .ok (.astore_n 2, 1) := dk_77 (dk_at dksJ2_remove_0 13 rfl rfl)
theorem dJ2_remove_14 : decode cJ2_remove 14 = .ok (.aload_n 2, 1) := dk_44 (dk_at dksJ2_remove_0 14 rfl rfl)
theorem dJ2_remove_15 : decode cJ2_remove 15 = .ok (.iload_n 1, 1) := dk_27 (dk_at dksJ2_remove_0 15 rfl rfl)
theorem dJ2_remove_16 : decode cJ2_remove 16 = .ok (.aaload, 1) := dk_50 (dk_at dksJ2_remove_0 16 rfl rfl)
theorem dJ2_remove_17 : decode cJ2_remove 17 = .ok (.astore_n 3, 1) := dk_78 (dk_at dksJ2_remove_0 17 rfl rfl)
theorem dJ2_remove_18 : decode cJ2_remove 18 = .ok (.aload_n 0, 1) := dk_42 (dk_at dksJ2_remove_0 18 rfl rfl)
theorem dJ2_remove_19 : decode cJ2_remove 19 = .ok (.aload_n 2, 1) := dk_44 (dk_at dksJ2_remove_0 19 rfl rfl)
theorem dJ2_remove_20 : decode cJ2_remove 20 = .ok (.iload_n 1, 1) := dk_27 (dk_at dksJ2_remove_0 20 rfl rfl)
theorem dJ2_remove_21 : decode cJ2_remove 21 = .ok (.invokevirtual 144, 3) := dk_182 0 144 (dk_at dksJ2_remove_0 21 rfl rfl)
theorem dJ2_remove_24 : decode cJ2_remove 24 = .ok (.aload_n 3, 1) := dk_45 (dk_at dksJ2_remove_1 0 rfl rfl)
theorem dJ2_remove_25 : decode cJ2_remove 25 = .ok (.areturn, 1) := dk_176 (dk_at dksJ2_remove_1 1 rfl rfl)
abbrev cJ2_fastRemove : ByteArray := prog_47_method_39_code
def yJ2_fastRemove : MethodName := ⟨RJ2, "fastRemove", "([Ljava/lang/Object;I)V"⟩
def dkwJ2_fastRemove_1 : List UInt8 := [4, 96, 43, 28, 29, 28, 100, 184, 0, 112, 43, 42, 29, 90, 181, 0, 48, 1, 83, 177]
abbrev dktJ2_fastRemove_1 : List UInt8 := dkwJ2_fastRemove_1 ++ []
def dkwJ2_fastRemove_0 : List UInt8 := [42, 89, 180, 0, 63, 4, 96, 181, 0, 63, 42, 180, 0, 48, 4, 100, 89, 62, 28, 164, 0, 15, 43, 28]
abbrev dktJ2_fastRemove_0 : List UInt8 := dkwJ2_fastRemove_0 ++ dktJ2_fastRemove_1
theorem dksJ2_fastRemove_0 : cJ2_fastRemove.data.toList.drop 0 = dktJ2_fastRemove_0 := by decide +kernel
theorem dksJ2_fastRemove_1 : cJ2_fastRemove.data.toList.drop 24 = dktJ2_fastRemove_1 := dk_seg dksJ2_fastRemove_0 24 rfl rfl
theorem dJ2_fastRemove_0 : decode cJ2_fastRemove 0 = .ok (.aload_n 0, 1) := dk_42 (dk_at dksJ2_fastRemove_0 0 rfl rfl)
theorem dJ2_fastRemove_1 : decode cJ2_fastRemove 1 = .ok (.dup, 1) := dk_89 (dk_at dksJ2_fastRemove_0 1 rfl rfl)
theorem dJ2_fastRemove_2 : decode cJ2_fastRemove 2 = .ok (.getfield 63, 3) := dk_180 0 63 (dk_at dksJ2_fastRemove_0 2 rfl rfl)
theorem dJ2_fastRemove_5 : decode cJ2_fastRemove 5 = .ok (.iconst 1, 1) := dk_4 (dk_at dksJ2_fastRemove_0 5 rfl rfl)
theorem dJ2_fastRemove_6 : decode cJ2_fastRemove 6 = .ok (.iadd, 1) := dk_96 (dk_at dksJ2_fastRemove_0 6 rfl rfl)
theorem dJ2_fastRemove_7 : decode cJ2_fastRemove 7 = .ok (.putfield 63, 3) := dk_181 0 63 (dk_at dksJ2_fastRemove_0 7 rfl rfl)
theorem dJ2_fastRemove_10 : decode cJ2_fastRemove 10 = .ok (.aload_n 0, 1) := dk_42 (dk_at dksJ2_fastRemove_0 10 rfl rfl)
theorem dJ2_fastRemove_11 : decode cJ2_fastRemove 11 = .ok (.getfield 48, 3) := dk_180 0 48 (dk_at dksJ2_fastRemove_0 11 rfl rfl)
theorem dJ2_fastRemove_14 : decode cJ2_fastRemove 14 = .ok (.iconst 1, 1) := dk_4 (dk_at dksJ2_fastRemove_0 14 rfl rfl)
theorem dJ2_fastRemove_15 : decode cJ2_fastRemove 15 = .ok (.isub, 1) := dk_100 (dk_at dksJ2_fastRemove_0 15 rfl rfl)
theorem dJ2_fastRemove_16 : decode cJ2_fastRemove 16 = .ok (.dup, 1) := dk_89 (dk_at dksJ2_fastRemove_0 16 rfl rfl)
theorem dJ2_fastRemove_17 : decode cJ2_fastRemove 17 = .ok (.istore_n 3, 1) := dk_62 (dk_at dksJ2_fastRemove_0 17 rfl rfl)
theorem dJ2_fastRemove_18 : decode cJ2_fastRemove 18 = .ok (.iload_n 2, 1) := dk_28 (dk_at dksJ2_fastRemove_0 18 rfl rfl)
theorem dJ2_fastRemove_19 : decode cJ2_fastRemove 19 = .ok (.if_icmp .le 15, 3) := dk_164 0 15 (dk_at dksJ2_fastRemove_0 19 rfl rfl)
theorem dJ2_fastRemove_22 : decode cJ2_fastRemove 22 = .ok (.aload_n 1, 1) := dk_43 (dk_at dksJ2_fastRemove_0 22 rfl rfl)
theorem dJ2_fastRemove_23 : decode cJ2_fastRemove 23 = .ok (.iload_n 2, 1) := dk_28 (dk_at dksJ2_fastRemove_0 23 rfl rfl)
theorem dJ2_fastRemove_24 : decode cJ2_fastRemove 24 = .ok (.iconst 1, 1) := dk_4 (dk_at dksJ2_fastRemove_1 0 rfl rfl)
theorem dJ2_fastRemove_25 : decode cJ2_fastRemove 25 = .ok (.iadd, 1) := dk_96 (dk_at dksJ2_fastRemove_1 1 rfl rfl)
theorem dJ2_fastRemove_26 : decode cJ2_fastRemove 26 = .ok (.aload_n 1, 1) := dk_43 (dk_at dksJ2_fastRemove_1 2 rfl rfl)
theorem dJ2_fastRemove_27 : decode cJ2_fastRemove 27 = .ok (.iload_n 2, 1) := dk_28 (dk_at dksJ2_fastRemove_1 3 rfl rfl)
theorem dJ2_fastRemove_28 : decode cJ2_fastRemove 28 = .ok (.iload_n 3, 1) := dk_29 (dk_at dksJ2_fastRemove_1 4 rfl rfl)
theorem dJ2_fastRemove_29 : decode cJ2_fastRemove 29 = .ok (.iload_n 2, 1) := dk_28 (dk_at dksJ2_fastRemove_1 5 rfl rfl)
theorem dJ2_fastRemove_30 : decode cJ2_fastRemove 30 = .ok (.isub, 1) := dk_100 (dk_at dksJ2_fastRemove_1 6 rfl rfl)
theorem dJ2_fastRemove_31 : decode cJ2_fastRemove 31 = .ok (.invokestatic 112, 3) := dk_184 0 112 (dk_at dksJ2_fastRemove_1 7 rfl rfl)
theorem dJ2_fastRemove_34 : decode cJ2_fastRemove 34 = .ok (.aload_n 1, 1) := dk_43 (dk_at dksJ2_fastRemove_1 10 rfl rfl)
theorem dJ2_fastRemove_35 : decode cJ2_fastRemove 35 = .ok (.aload_n 0, 1) := dk_42 (dk_at dksJ2_fastRemove_1 11 rfl rfl)
theorem dJ2_fastRemove_36 : decode cJ2_fastRemove 36 = .ok (.iload_n 3, 1) := dk_29 (dk_at dksJ2_fastRemove_1 12 rfl rfl)
theorem dJ2_fastRemove_37 : decode cJ2_fastRemove 37 = .ok (.dup_x1, 1) := dk_90 (dk_at dksJ2_fastRemove_1 13 rfl rfl)
theorem dJ2_fastRemove_38 : decode cJ2_fastRemove 38 = .ok (.putfield 48, 3) := dk_181 0 48 (dk_at dksJ2_fastRemove_1 14 rfl rfl)
theorem dJ2_fastRemove_41 : decode cJ2_fastRemove 41 = .ok (.aconst_null, 1) := dk_1 (dk_at dksJ2_fastRemove_1 17 rfl rfl)
theorem dJ2_fastRemove_42 : decode cJ2_fastRemove 42 = .ok (.aastore, 1) := dk_83 (dk_at dksJ2_fastRemove_1 18 rfl rfl)
theorem dJ2_fastRemove_43 : decode cJ2_fastRemove 43 = .ok (.return_, 1) := dk_177 (dk_at dksJ2_fastRemove_1 19 rfl rfl)
abbrev cJ2_indexOf : ByteArray := prog_47_method_11_code
def yJ2_indexOf : MethodName := ⟨RJ2, "indexOf", "(Ljava/lang/Object;)I"⟩
def dkwJ2_indexOf_0 : List UInt8 := [42, 43, 3, 42, 180, 0, 48, 182, 0, 89, 172]
abbrev dktJ2_indexOf_0 : List UInt8 := dkwJ2_indexOf_0 ++ []
theorem dksJ2_indexOf_0 : cJ2_indexOf.data.toList.drop 0 = dktJ2_indexOf_0 := by decide +kernel
theorem dJ2_indexOf_0 : decode cJ2_indexOf 0 = .ok (.aload_n 0, 1) := dk_42 (dk_at dksJ2_indexOf_0 0 rfl rfl)
theorem dJ2_indexOf_1 : decode cJ2_indexOf 1 = .ok (.aload_n 1, 1) := dk_43 (dk_at dksJ2_indexOf_0 1 rfl rfl)
theorem dJ2_indexOf_2 : decode cJ2_indexOf 2 = .ok (.iconst 0, 1) := dk_3 (dk_at dksJ2_indexOf_0 2 rfl rfl)
theorem dJ2_indexOf_3 : decode cJ2_indexOf 3 = .ok (.aload_n 0, 1) := dk_42 (dk_at dksJ2_indexOf_0 3 rfl rfl)
theorem dJ2_indexOf_4 : decode cJ2_indexOf 4 = .ok (.getfield 48, 3) := dk_180 0 48 (dk_at dksJ2_indexOf_0 4 rfl rfl)
theorem dJ2_indexOf_7 : decode cJ2_indexOf 7 = .ok (.invokevirtual 89, 3) := dk_182 0 89 (dk_at dksJ2_indexOf_0 7 rfl rfl)
theorem dJ2_indexOf_10 : decode cJ2_indexOf 10 = .ok (.ireturn, 1) := dk_172 (dk_at dksJ2_indexOf_0 10 rfl rfl)
abbrev cJ2_indexOfRange : ByteArray := prog_47_method_12_code
def yJ2_indexOfRange : MethodName := ⟨RJ2, "indexOfRange", "(Ljava/lang/Object;II)I"⟩
def dkwJ2_indexOfRange_2 : List UInt8 := [43, 25, 4, 21, 5, 50, 182, 0, 93, 153, 0, 6, 21, 5, 172, 132, 5, 1, 167, 255, 232, 2, 172]
abbrev dktJ2_indexOfRange_2 : List UInt8 := dkwJ2_indexOfRange_2 ++ []
def dkwJ2_indexOfRange_1 : List UInt8 := [199, 0, 6, 21, 5, 172, 132, 5, 1, 167, 255, 236, 167, 0, 33, 28, 54, 5, 21, 5, 29, 162, 0, 24]
abbrev dktJ2_indexOfRange_1 : List UInt8 := dkwJ2_indexOfRange_1 ++ dktJ2_indexOfRange_2
def dkwJ2_indexOfRange_0 : List UInt8 := [42, 180, 0, 9, 58, 4, 43, 199, 0, 32, 28, 54, 5, 21, 5, 29, 162, 0, 20, 25, 4, 21, 5, 50]
abbrev dktJ2_indexOfRange_0 : List UInt8 := dkwJ2_indexOfRange_0 ++ dktJ2_indexOfRange_1
theorem dksJ2_indexOfRange_0 : cJ2_indexOfRange.data.toList.drop 0 = dktJ2_indexOfRange_0 := by decide +kernel
theorem dksJ2_indexOfRange_1 : cJ2_indexOfRange.data.toList.drop 24 = dktJ2_indexOfRange_1 := dk_seg dksJ2_indexOfRange_0 24 rfl rfl
theorem dksJ2_indexOfRange_2 : cJ2_indexOfRange.data.toList.drop 48 = dktJ2_indexOfRange_2 := dk_seg dksJ2_indexOfRange_1 24 rfl rfl
theorem dJ2_indexOfRange_0 : decode cJ2_indexOfRange 0 = .ok (.aload_n 0, 1) := dk_42 (dk_at dksJ2_indexOfRange_0 0 rfl rfl)
theorem dJ2_indexOfRange_1 : decode cJ2_indexOfRange 1 = .ok (.getfield 9, 3) := dk_180 0 9 (dk_at dksJ2_indexOfRange_0 1 rfl rfl)
theorem dJ2_indexOfRange_4 : decode cJ2_indexOfRange 4 = .ok (.astore 4, 2) := dk_58 4 (dk_at dksJ2_indexOfRange_0 4 rfl rfl)
theorem dJ2_indexOfRange_6 : decode cJ2_indexOfRange 6 = .ok (.aload_n 1, 1) := dk_43 (dk_at dksJ2_indexOfRange_0 6 rfl rfl)
theorem dJ2_indexOfRange_7 : decode cJ2_indexOfRange 7 = .ok (.ifnonnull 32, 3) := dk_199 0 32 (dk_at dksJ2_indexOfRange_0 7 rfl rfl)
theorem dJ2_indexOfRange_10 : decode cJ2_indexOfRange 10 = .ok (.iload_n 2, 1) := dk_28 (dk_at dksJ2_indexOfRange_0 10 rfl rfl)
theorem dJ2_indexOfRange_11 : decode cJ2_indexOfRange 11 = .ok (.istore 5, 2) := dk_54 5 (dk_at dksJ2_indexOfRange_0 11 rfl rfl)
theorem dJ2_indexOfRange_13 : decode cJ2_indexOfRange 13 = .ok (.iload 5, 2) := dk_21 5 (dk_at dksJ2_indexOfRange_0 13 rfl rfl)
theorem dJ2_indexOfRange_15 : decode cJ2_indexOfRange 15 = .ok (.iload_n 3, 1) := dk_29 (dk_at dksJ2_indexOfRange_0 15 rfl rfl)
theorem dJ2_indexOfRange_16 : decode cJ2_indexOfRange 16 = .ok (.if_icmp .ge 20, 3) := dk_162 0 20 (dk_at dksJ2_indexOfRange_0 16 rfl rfl)
theorem dJ2_indexOfRange_19 : decode cJ2_indexOfRange 19 = .ok (.aload 4, 2) := dk_25 4 (dk_at dksJ2_indexOfRange_0 19 rfl rfl)
theorem dJ2_indexOfRange_21 : decode cJ2_indexOfRange 21 = .ok (.iload 5, 2) := dk_21 5 (dk_at dksJ2_indexOfRange_0 21 rfl rfl)
theorem dJ2_indexOfRange_23 : decode cJ2_indexOfRange 23 = .ok (.aaload, 1) := dk_50 (dk_at dksJ2_indexOfRange_0 23 rfl rfl)
theorem dJ2_indexOfRange_24 : decode cJ2_indexOfRange 24 = .ok (.ifnonnull 6, 3) := dk_199 0 6 (dk_at dksJ2_indexOfRange_1 0 rfl rfl)
theorem dJ2_indexOfRange_27 : decode cJ2_indexOfRange 27 = .ok (.iload 5, 2) := dk_21 5 (dk_at dksJ2_indexOfRange_1 3 rfl rfl)
theorem dJ2_indexOfRange_29 : decode cJ2_indexOfRange 29 = .ok (.ireturn, 1) := dk_172 (dk_at dksJ2_indexOfRange_1 5 rfl rfl)
theorem dJ2_indexOfRange_30 : decode cJ2_indexOfRange 30 = .ok (.iinc 5 1, 3) := dk_132 5 1 (dk_at dksJ2_indexOfRange_1 6 rfl rfl)
theorem dJ2_indexOfRange_33 : decode cJ2_indexOfRange 33 = .ok (.goto (-20), 3) := dk_167 255 236 (dk_at dksJ2_indexOfRange_1 9 rfl rfl)
theorem dJ2_indexOfRange_36 : decode cJ2_indexOfRange 36 = .ok (.goto 33, 3) := dk_167 0 33 (dk_at dksJ2_indexOfRange_1 12 rfl rfl)
theorem dJ2_indexOfRange_39 : decode cJ2_indexOfRange 39 = .ok (.iload_n 2, 1) := dk_28 (dk_at dksJ2_indexOfRange_1 15 rfl rfl)
theorem dJ2_indexOfRange_40 : decode cJ2_indexOfRange 40 = .ok (.istore 5, 2) := dk_54 5 (dk_at dksJ2_indexOfRange_1 16 rfl rfl)
theorem dJ2_indexOfRange_42 : decode cJ2_indexOfRange 42 = .ok (.iload 5, 2) := dk_21 5 (dk_at dksJ2_indexOfRange_1 18 rfl rfl)
theorem dJ2_indexOfRange_44 : decode cJ2_indexOfRange 44 = .ok (.iload_n 3, 1) := dk_29 (dk_at dksJ2_indexOfRange_1 20 rfl rfl)
theorem dJ2_indexOfRange_45 : decode cJ2_indexOfRange 45 = .ok (.if_icmp .ge 24, 3) := dk_162 0 24 (dk_at dksJ2_indexOfRange_1 21 rfl rfl)
theorem dJ2_indexOfRange_48 : decode cJ2_indexOfRange 48 = .ok (.aload_n 1, 1) := dk_43 (dk_at dksJ2_indexOfRange_2 0 rfl rfl)
theorem dJ2_indexOfRange_49 : decode cJ2_indexOfRange 49 = .ok (.aload 4, 2) := dk_25 4 (dk_at dksJ2_indexOfRange_2 1 rfl rfl)
theorem dJ2_indexOfRange_51 : decode cJ2_indexOfRange 51 = .ok (.iload 5, 2) := dk_21 5 (dk_at dksJ2_indexOfRange_2 3 rfl rfl)
theorem dJ2_indexOfRange_53 : decode cJ2_indexOfRange 53 = .ok (.aaload, 1) := dk_50 (dk_at dksJ2_indexOfRange_2 5 rfl rfl)
theorem dJ2_indexOfRange_54 : decode cJ2_indexOfRange 54 = .ok (.invokevirtual 93, 3) := dk_182 0 93 (dk_at dksJ2_indexOfRange_2 6 rfl rfl)
theorem dJ2_indexOfRange_57 : decode cJ2_indexOfRange 57 = .ok (.ifCond .eq 6, 3) := dk_153 0 6 (dk_at dksJ2_indexOfRange_2 9 rfl rfl)
theorem dJ2_indexOfRange_60 : decode cJ2_indexOfRange 60 = .ok (.iload 5, 2) := dk_21 5 (dk_at dksJ2_indexOfRange_2 12 rfl rfl)
theorem dJ2_indexOfRange_62 : decode cJ2_indexOfRange 62 = .ok (.ireturn, 1) := dk_172 (dk_at dksJ2_indexOfRange_2 14 rfl rfl)
theorem dJ2_indexOfRange_63 : decode cJ2_indexOfRange 63 = .ok (.iinc 5 1, 3) := dk_132 5 1 (dk_at dksJ2_indexOfRange_2 15 rfl rfl)
theorem dJ2_indexOfRange_66 : decode cJ2_indexOfRange 66 = .ok (.goto (-24), 3) := dk_167 255 232 (dk_at dksJ2_indexOfRange_2 18 rfl rfl)
theorem dJ2_indexOfRange_69 : decode cJ2_indexOfRange 69 = .ok (.iconst (-1), 1) := dk_2 (dk_at dksJ2_indexOfRange_2 21 rfl rfl)
theorem dJ2_indexOfRange_70 : decode cJ2_indexOfRange 70 = .ok (.ireturn, 1) := dk_172 (dk_at dksJ2_indexOfRange_2 22 rfl rfl)
abbrev cJ2_set : ByteArray := prog_47_method_23_code
def yJ2_set : MethodName := ⟨RJ2, "set", "(ILjava/lang/Object;)Ljava/lang/Object;"⟩
def dkwJ2_set_0 : List UInt8 := [27, 42, 180, 0, 48, 184, 0, 118, 87, 42, 27, 182, 0, 123, 78, 42, 180, 0, 9, 27, 44, 83, 45, 176]
abbrev dktJ2_set_0 : List UInt8 := dkwJ2_set_0 ++ []
theorem dksJ2_set_0 : cJ2_set.data.toList.drop 0 = dktJ2_set_0 := by decide +kernel
theorem dJ2_set_0 : decode cJ2_set 0 = .ok (.iload_n 1, 1) := dk_27 (dk_at dksJ2_set_0 0 rfl rfl)
theorem dJ2_set_1 : decode cJ2_set 1 = .ok (.aload_n 0, 1) := dk_42 (dk_at dksJ2_set_0 1 rfl rfl)
theorem dJ2_set_2 : decode cJ2_set 2 = .ok (.getfield 48, 3) := dk_180 0 48 (dk_at dksJ2_set_0 2 rfl rfl)
theorem dJ2_set_5 : decode cJ2_set 5 = .ok (.invokestatic 118, 3) := dk_184 0 118 (dk_at dksJ2_set_0 5 rfl rfl)
theorem dJ2_set_8 : decode cJ2_set 8 = .ok (.pop, 1) := dk_87 (dk_at dksJ2_set_0 8 rfl rfl)
theorem dJ2_set_9 : decode cJ2_set 9 = .ok (.aload_n 0, 1) := dk_42 (dk_at dksJ2_set_0 9 rfl rfl)
theorem dJ2_set_10 : decode cJ2_set 10 = .ok (.iload_n 1, 1) := dk_27 (dk_at dksJ2_set_0 10 rfl rfl)
theorem dJ2_set_11 : decode cJ2_set 11 = .ok (.invokevirtual 123, 3) := dk_182 0 123 (dk_at dksJ2_set_0 11 rfl rfl)
theorem dJ2_set_14 : decode cJ2_set 14 = .ok (.astore_n 3, 1) := dk_78 (dk_at dksJ2_set_0 14 rfl rfl)
theorem dJ2_set_15 : decode cJ2_set 15 = .ok (.aload_n 0, 1) := dk_42 (dk_at dksJ2_set_0 15 rfl rfl)
theorem dJ2_set_16 : decode cJ2_set 16 = .ok (.getfield 9, 3) := dk_180 0 9 (dk_at dksJ2_set_0 16 rfl rfl)
theorem dJ2_set_19 : decode cJ2_set 19 = .ok (.iload_n 1, 1) := dk_27 (dk_at dksJ2_set_0 19 rfl rfl)
theorem dJ2_set_20 : decode cJ2_set 20 = .ok (.aload_n 2, 1) := dk_44 (dk_at dksJ2_set_0 20 rfl rfl)
theorem dJ2_set_21 : decode cJ2_set 21 = .ok (.aastore, 1) := dk_83 (dk_at dksJ2_set_0 21 rfl rfl)
theorem dJ2_set_22 : decode cJ2_set 22 = .ok (.aload_n 3, 1) := dk_45 (dk_at dksJ2_set_0 22 rfl rfl)
theorem dJ2_set_23 : decode cJ2_set 23 = .ok (.areturn, 1) := dk_176 (dk_at dksJ2_set_0 23 rfl rfl)
abbrev MJ2_init : zM := (yJ2_init, cJ2_init, 1, (Option.none : Option Jvm.ClassFile.FieldType), [])
theorem kJ2_init : zMk MJ2_init := ⟨zt (lw_at lw_m1 62 rfl), zt (lw_at lw_m1 5 rfl), by decide +kernel, by decide, by decide +kernel⟩
abbrev MJ2_get : zM := (yJ2_get, cJ2_get, 2, (Option.some (Jvm.ClassFile.FieldType.object "java/lang/Object")), [])
theorem kJ2_get : zMk MJ2_get := ⟨zt (lw_at lw_m1 238 rfl), zt (lw_at lw_m1 5 rfl), by decide +kernel, by decide, by decide +kernel⟩
abbrev MJ2_elementData : zM := (yJ2_elementData, cJ2_elementData, 2, (Option.some (Jvm.ClassFile.FieldType.object "java/lang/Object")), [])
theorem kJ2_elementData : zMk MJ2_elementData := ⟨zt (lw_at lw_m2 8 rfl), zt (lw_at lw_m1 5 rfl), by decide +kernel, by decide, by decide +kernel⟩
abbrev MJ2_iterator : zM := (yJ2_iterator, cJ2_iterator, 1, (Option.some (Jvm.ClassFile.FieldType.object "java/util/Iterator")), [])
theorem kJ2_iterator : zMk MJ2_iterator := ⟨zt (lw_at lw_m2 17 rfl), zt (lw_at lw_m1 5 rfl), by decide +kernel, by decide, by decide +kernel⟩
abbrev MJ2_size : zM := (yJ2_size, cJ2_size, 1, (Option.some Jvm.ClassFile.FieldType.int), [])
theorem kJ2_size : zMk MJ2_size := ⟨zt (lw_at lw_m2 148 rfl), zt (lw_at lw_m1 5 rfl), by decide +kernel, by decide, by decide +kernel⟩
abbrev MJ2_add : zM := (yJ2_add, cJ2_add, 2, (Option.some Jvm.ClassFile.FieldType.boolean), [])
theorem kJ2_add : zMk MJ2_add := ⟨zt (lw_at lw_m5 221 rfl), zt (lw_at lw_m1 5 rfl), by decide +kernel, by decide, by decide +kernel⟩
abbrev MJ2_add_2 : zM := (yJ2_add_2, cJ2_add_2, 4, (Option.none : Option Jvm.ClassFile.FieldType), [])
theorem kJ2_add_2 : zMk MJ2_add_2 := ⟨zt (lw_at lw_m5 225 rfl), zt (lw_at lw_m1 5 rfl), by decide +kernel, by decide, by decide +kernel⟩
abbrev MJ2_grow : zM := (yJ2_grow, cJ2_grow, 1, (Option.some (Jvm.ClassFile.FieldType.array (Jvm.ClassFile.FieldType.object "java/lang/Object"))), [])
theorem kJ2_grow : zMk MJ2_grow := ⟨zt (lw_at lw_m5 229 rfl), zt (lw_at lw_m1 5 rfl), by decide +kernel, by decide, by decide +kernel⟩
abbrev MJ2_grow_2 : zM := (yJ2_grow_2, cJ2_grow_2, 4, (Option.some (Jvm.ClassFile.FieldType.array (Jvm.ClassFile.FieldType.object "java/lang/Object"))), [])
theorem kJ2_grow_2 : zMk MJ2_grow_2 := ⟨zt (lw_at lw_m5 233 rfl), zt (lw_at lw_m1 5 rfl), by decide +kernel, by decide, by decide +kernel⟩
abbrev MJ2_add_3 : zM := (yJ2_add_3, cJ2_add_3, 5, (Option.none : Option Jvm.ClassFile.FieldType), [])
theorem kJ2_add_3 : zMk MJ2_add_3 := ⟨zt (lw_at lw_m6 181 rfl), zt (lw_at lw_m1 5 rfl), by decide +kernel, by decide, by decide +kernel⟩
abbrev MJ2_rangeCheckForAdd : zM := (yJ2_rangeCheckForAdd, cJ2_rangeCheckForAdd, 2, (Option.none : Option Jvm.ClassFile.FieldType), [])
theorem kJ2_rangeCheckForAdd : zMk MJ2_rangeCheckForAdd := ⟨zt (lw_at lw_m6 185 rfl), zt (lw_at lw_m1 5 rfl), by decide +kernel, by decide, by decide +kernel⟩
abbrev MJ2_outOfBoundsMsg : zM := (yJ2_outOfBoundsMsg, cJ2_outOfBoundsMsg, 2, (Option.some (Jvm.ClassFile.FieldType.object "java/lang/String")), [])
theorem kJ2_outOfBoundsMsg : zMk MJ2_outOfBoundsMsg := ⟨zt (lw_at lw_m6 198 rfl), zt (lw_at lw_m1 5 rfl), by decide +kernel, by decide, by decide +kernel⟩
abbrev MJ2_isEmpty : zM := (yJ2_isEmpty, cJ2_isEmpty, 1, (Option.some Jvm.ClassFile.FieldType.boolean), [])
theorem kJ2_isEmpty : zMk MJ2_isEmpty := ⟨zt (lw_at lw_m6 217 rfl), zt (lw_at lw_m1 5 rfl), by decide +kernel, by decide, by decide +kernel⟩
abbrev MJ2_remove : zM := (yJ2_remove, cJ2_remove, 4, (Option.some (Jvm.ClassFile.FieldType.object "java/lang/Object")), [])
theorem kJ2_remove : zMk MJ2_remove := ⟨zt (lw_at lw_m7 60 rfl), zt (lw_at lw_m1 5 rfl), by decide +kernel, by decide, by decide +kernel⟩
abbrev MJ2_fastRemove : zM := (yJ2_fastRemove, cJ2_fastRemove, 4, (Option.none : Option Jvm.ClassFile.FieldType), [])
theorem kJ2_fastRemove : zMk MJ2_fastRemove := ⟨zt (lw_at lw_m7 64 rfl), zt (lw_at lw_m1 5 rfl), by decide +kernel, by decide, by decide +kernel⟩
abbrev MJ2_indexOf : zM := (yJ2_indexOf, cJ2_indexOf, 2, (Option.some Jvm.ClassFile.FieldType.int), [])
theorem kJ2_indexOf : zMk MJ2_indexOf := ⟨zt (lw_at lw_m7 133 rfl), zt (lw_at lw_m1 5 rfl), by decide +kernel, by decide, by decide +kernel⟩
abbrev MJ2_indexOfRange : zM := (yJ2_indexOfRange, cJ2_indexOfRange, 6, (Option.some Jvm.ClassFile.FieldType.int), [])
theorem kJ2_indexOfRange : zMk MJ2_indexOfRange := ⟨zt (lw_at lw_m7 137 rfl), zt (lw_at lw_m1 5 rfl), by decide +kernel, by decide, by decide +kernel⟩
abbrev MJ2_set : zM := (yJ2_set, cJ2_set, 4, (Option.some (Jvm.ClassFile.FieldType.object "java/lang/Object")), [])
theorem kJ2_set : zMk MJ2_set := ⟨zt (lw_at lw_m7 186 rfl), zt (lw_at lw_m1 5 rfl), by decide +kernel, by decide, by decide +kernel⟩
/-! java/util/ArrayDeque -/
set_option maxRecDepth 100000
abbrev cJ3_init : ByteArray := prog_46_method_3_code
def yJ3_init : MethodName := ⟨RJ3, "<init>", "()V"⟩
def dkwJ3_init_0 : List UInt8 := [42, 183, 0, 42, 42, 16, 17, 189, 0, 47, 181, 0, 3, 177]
abbrev dktJ3_init_0 : List UInt8 := dkwJ3_init_0 ++ []
theorem dksJ3_init_0 : cJ3_init.data.toList.drop 0 = dktJ3_init_0 := by decide +kernel
theorem dJ3_init_0 : decode cJ3_init 0 = .ok (.aload_n 0, 1) := dk_42 (dk_at dksJ3_init_0 0 rfl rfl)
theorem dJ3_init_1 : decode cJ3_init 1 = .ok (.invokespecial 42, 3) := dk_183 0 42 (dk_at dksJ3_init_0 1 rfl rfl)
theorem dJ3_init_4 : decode cJ3_init 4 = .ok (.aload_n 0, 1) := dk_42 (dk_at dksJ3_init_0 4 rfl rfl)
theorem dJ3_init_5 : decode cJ3_init 5 = .ok (.bipush 17, 2) := dk_16 17 (dk_at dksJ3_init_0 5 rfl rfl)
theorem dJ3_init_7 : decode cJ3_init 7 = .ok (.anewarray 47, 3) := dk_189 0 47 (dk_at dksJ3_init_0 7 rfl rfl)
theorem dJ3_init_10 : decode cJ3_init 10 = .ok (.putfield 3, 3) := dk_181 0 3 (dk_at dksJ3_init_0 10 rfl rfl)
theorem dJ3_init_13 : decode cJ3_init 13 = .ok (.return_, 1) := dk_177 (dk_at dksJ3_init_0 13 rfl rfl)
abbrev cJ3_addLast : ByteArray := prog_46_method_13_code
def yJ3_addLast : MethodName := ⟨RJ3, "addLast", "(Ljava/lang/Object;)V"⟩
def dkwJ3_addLast_2 : List UInt8 := [182, 0, 71, 177]
abbrev dktJ3_addLast_2 : List UInt8 := dkwJ3_addLast_2 ++ []
def dkwJ3_addLast_1 : List UInt8 := [42, 180, 0, 24, 42, 42, 180, 0, 20, 44, 190, 184, 0, 74, 90, 181, 0, 20, 160, 0, 8, 42, 4]
abbrev dktJ3_addLast_1 : List UInt8 := dkwJ3_addLast_1 ++ dktJ3_addLast_2
def dkwJ3_addLast_0 : List UInt8 := [43, 199, 0, 11, 187, 0, 65, 89, 183, 0, 67, 191, 42, 180, 0, 3, 77, 44, 42, 180, 0, 20, 43, 83]
abbrev dktJ3_addLast_0 : List UInt8 := dkwJ3_addLast_0 ++ dktJ3_addLast_1
theorem dksJ3_addLast_0 : cJ3_addLast.data.toList.drop 0 = dktJ3_addLast_0 := by decide +kernel
theorem dksJ3_addLast_1 : cJ3_addLast.data.toList.drop 24 = dktJ3_addLast_1 := dk_seg dksJ3_addLast_0 24 rfl rfl
theorem dksJ3_addLast_2 : cJ3_addLast.data.toList.drop 47 = dktJ3_addLast_2 := dk_seg dksJ3_addLast_1 23 rfl rfl
theorem dJ3_addLast_0 : decode cJ3_addLast 0 = .ok (.aload_n 1, 1) := dk_43 (dk_at dksJ3_addLast_0 0 rfl rfl)
theorem dJ3_addLast_1 : decode cJ3_addLast 1 = .ok (.ifnonnull 11, 3) := dk_199 0 11 (dk_at dksJ3_addLast_0 1 rfl rfl)
theorem dJ3_addLast_4 : decode cJ3_addLast 4 = .ok (.new 65, 3) := dk_187 0 65 (dk_at dksJ3_addLast_0 4 rfl rfl)
theorem dJ3_addLast_7 : decode cJ3_addLast 7 = .ok (.dup, 1) := dk_89 (dk_at dksJ3_addLast_0 7 rfl rfl)
theorem dJ3_addLast_8 : decode cJ3_addLast 8 = .ok (.invokespecial 67, 3) := dk_183 0 67 (dk_at dksJ3_addLast_0 8 rfl rfl)
theorem dJ3_addLast_11 : decode cJ3_addLast 11 = .ok (.athrow, 1) := dk_191 (dk_at dksJ3_addLast_0 11 rfl rfl)
theorem dJ3_addLast_12 : decode cJ3_addLast 12 = .ok (.aload_n 0, 1) := dk_42 (dk_at dksJ3_addLast_0 12 rfl rfl)
theorem dJ3_addLast_13 : decode cJ3_addLast 13 = .ok (.getfield 3, 3) := dk_180 0 3 (dk_at dksJ3_addLast_0 13 rfl rfl)
theorem dJ3_addLast_16 : decode cJ3_addLast 16 = .ok (.astore_n 2, 1) := dk_77 (dk_at dksJ3_addLast_0 16 rfl rfl)
theorem dJ3_addLast_17 : decode cJ3_addLast 17 = .ok (.aload_n 2, 1) := dk_44 (dk_at dksJ3_addLast_0 17 rfl rfl)
theorem dJ3_addLast_18 : decode cJ3_addLast 18 = .ok (.aload_n 0, 1) := dk_42 (dk_at dksJ3_addLast_0 18 rfl rfl)
theorem dJ3_addLast_19 : decode cJ3_addLast 19 = .ok (.getfield 20, 3) := dk_180 0 20 (dk_at dksJ3_addLast_0 19 rfl rfl)
theorem dJ3_addLast_22 : decode cJ3_addLast 22 = .ok (.aload_n 1, 1) := dk_43 (dk_at dksJ3_addLast_0 22 rfl rfl)
theorem dJ3_addLast_23 : decode cJ3_addLast 23 = .ok (.aastore, 1) := dk_83 (dk_at dksJ3_addLast_0 23 rfl rfl)
theorem dJ3_addLast_24 : decode cJ3_addLast 24 = .ok (.aload_n 0, 1) := dk_42 (dk_at dksJ3_addLast_1 0 rfl rfl)
theorem dJ3_addLast_25 : decode cJ3_addLast 25 = .ok (.getfield 24, 3) := dk_180 0 24 (dk_at dksJ3_addLast_1 1 rfl rfl)
theorem dJ3_addLast_28 : decode cJ3_addLast 28 = .ok (.aload_n 0, 1) := dk_42 (dk_at dksJ3_addLast_1 4 rfl rfl)
theorem dJ3_addLast_29 : decode cJ3_addLast 29 = .ok (.aload_n 0, 1) := dk_42 (dk_at dksJ3_addLast_1 5 rfl rfl)
theorem dJ3_addLast_30 : decode cJ3_addLast 30 = .ok (.getfield 20, 3) := dk_180 0 20 (dk_at dksJ3_addLast_1 6 rfl rfl)
theorem dJ3_addLast_33 : decode cJ3_addLast 33 = .ok (.aload_n 2, 1) := dk_44 (dk_at dksJ3_addLast_1 9 rfl rfl)
theorem dJ3_addLast_34 : decode cJ3_addLast 34 = .ok (.arraylength, 1) := dk_190 (dk_at dksJ3_addLast_1 10 rfl rfl)
theorem dJ3_addLast_35 : decode cJ3_addLast 35 = .ok (.invokestatic 74, 3) := dk_184 0 74 (dk_at dksJ3_addLast_1 11 rfl rfl)
theorem dJ3_addLast_38 : decode cJ3_addLast 38 = .ok (.dup_x1, 1) := dk_90 (dk_at dksJ3_addLast_1 14 rfl rfl)
theorem dJ3_addLast_39 : decode cJ3_addLast 39 = .ok (.putfield 20, 3) := dk_181 0 20 (dk_at dksJ3_addLast_1 15 rfl rfl)
theorem dJ3_addLast_42 : decode cJ3_addLast 42 = .ok (.if_icmp .ne 8, 3) := dk_160 0 8 (dk_at dksJ3_addLast_1 18 rfl rfl)
theorem dJ3_addLast_45 : decode cJ3_addLast 45 = .ok (.aload_n 0, 1) := dk_42 (dk_at dksJ3_addLast_1 21 rfl rfl)
theorem dJ3_addLast_46 : decode cJ3_addLast 46 = .ok (.iconst 1, 1) := dk_4 (dk_at dksJ3_addLast_1 22 rfl rfl)
theorem dJ3_addLast_47 : decode cJ3_addLast 47 = .ok (.invokevirtual 71, 3) := dk_182 0 71 (dk_at dksJ3_addLast_2 0 rfl rfl)
theorem dJ3_addLast_50 : decode cJ3_addLast 50 = .ok (.return_, 1) := dk_177 (dk_at dksJ3_addLast_2 3 rfl rfl)
abbrev cJ3_inc : ByteArray := prog_46_method_6_code
def yJ3_inc : MethodName := ⟨RJ3, "inc", "(II)I"⟩
def dkwJ3_inc_0 : List UInt8 := [132, 0, 1, 26, 27, 161, 0, 5, 3, 59, 26, 172]
abbrev dktJ3_inc_0 : List UInt8 := dkwJ3_inc_0 ++ []
theorem dksJ3_inc_0 : cJ3_inc.data.toList.drop 0 = dktJ3_inc_0 := by decide +kernel
theorem dJ3_inc_0 : decode cJ3_inc 0 = .ok (.iinc 0 1, 3) := dk_132 0 1 (dk_at dksJ3_inc_0 0 rfl rfl)
theorem dJ3_inc_3 : decode cJ3_inc 3 = .ok (.iload_n 0, 1) := dk_26 (dk_at dksJ3_inc_0 3 rfl rfl)
theorem dJ3_inc_4 : decode cJ3_inc 4 = .ok (.iload_n 1, 1) := dk_27 (dk_at dksJ3_inc_0 4 rfl rfl)
theorem dJ3_inc_5 : decode cJ3_inc 5 = .ok (.if_icmp .lt 5, 3) := dk_161 0 5 (dk_at dksJ3_inc_0 5 rfl rfl)
theorem dJ3_inc_8 : decode cJ3_inc 8 = .ok (.iconst 0, 1) := dk_3 (dk_at dksJ3_inc_0 8 rfl rfl)
theorem dJ3_inc_9 : decode cJ3_inc 9 = .ok (.istore_n 0, 1) := dk_59 (dk_at dksJ3_inc_0 9 rfl rfl)
theorem dJ3_inc_10 : decode cJ3_inc 10 = .ok (.iload_n 0, 1) := dk_26 (dk_at dksJ3_inc_0 10 rfl rfl)
theorem dJ3_inc_11 : decode cJ3_inc 11 = .ok (.ireturn, 1) := dk_172 (dk_at dksJ3_inc_0 11 rfl rfl)
abbrev cJ3_grow : ByteArray := prog_46_method_1_code
def yJ3_grow : MethodName := ⟨RJ3, "grow", "(I)V"⟩
def dkwJ3_grow_7 : List UInt8 := [177]
abbrev dktJ3_grow_7 : List UInt8 := dkwJ3_grow_7 ++ []
def dkwJ3_grow_6 : List UInt8 := [181, 0, 24, 54, 8, 21, 7, 21, 8, 162, 0, 15, 25, 5, 21, 7, 1, 83, 132, 7, 1, 167, 255, 240]
abbrev dktJ3_grow_6 : List UInt8 := dkwJ3_grow_6 ++ dktJ3_grow_7
def dkwJ3_grow_5 : List UInt8 := [42, 180, 0, 24, 100, 184, 0, 27, 42, 180, 0, 24, 54, 7, 42, 89, 180, 0, 24, 21, 6, 96, 90]
abbrev dktJ3_grow_5 : List UInt8 := dkwJ3_grow_5 ++ dktJ3_grow_6
def dkwJ3_grow_4 : List UInt8 := [198, 0, 71, 29, 28, 100, 54, 6, 25, 5, 42, 180, 0, 24, 25, 5, 42, 180, 0, 24, 21, 6, 96, 28]
abbrev dktJ3_grow_4 : List UInt8 := dkwJ3_grow_4 ++ dktJ3_grow_5
def dkwJ3_grow_3 : List UInt8 := [180, 0, 24, 161, 0, 24, 42, 180, 0, 20, 42, 180, 0, 24, 160, 0, 81, 25, 5, 42, 180, 0, 24, 50]
abbrev dktJ3_grow_3 : List UInt8 := dkwJ3_grow_3 ++ dktJ3_grow_4
def dkwJ3_grow_2 : List UInt8 := [182, 0, 10, 62, 42, 42, 180, 0, 3, 29, 184, 0, 14, 90, 181, 0, 3, 58, 5, 42, 180, 0, 20, 42]
abbrev dktJ3_grow_2 : List UInt8 := dkwJ3_grow_2 ++ dktJ3_grow_3
def dkwJ3_grow_1 : List UInt8 := [21, 4, 27, 161, 0, 15, 28, 21, 4, 96, 89, 62, 18, 9, 100, 158, 0, 11, 42, 27, 21, 4]
abbrev dktJ3_grow_1 : List UInt8 := dkwJ3_grow_1 ++ dktJ3_grow_2
def dkwJ3_grow_0 : List UInt8 := [42, 180, 0, 3, 190, 61, 28, 16, 64, 162, 0, 9, 28, 5, 96, 167, 0, 6, 28, 4, 122, 54, 4]
abbrev dktJ3_grow_0 : List UInt8 := dkwJ3_grow_0 ++ dktJ3_grow_1
theorem dksJ3_grow_0 : cJ3_grow.data.toList.drop 0 = dktJ3_grow_0 := by decide +kernel
theorem dksJ3_grow_1 : cJ3_grow.data.toList.drop 23 = dktJ3_grow_1 := dk_seg dksJ3_grow_0 23 rfl rfl
theorem dksJ3_grow_2 : cJ3_grow.data.toList.drop 45 = dktJ3_grow_2 := dk_seg dksJ3_grow_1 22 rfl rfl
theorem dksJ3_grow_3 : cJ3_grow.data.toList.drop 69 = dktJ3_grow_3 := dk_seg dksJ3_grow_2 24 rfl rfl
theorem dksJ3_grow_4 : cJ3_grow.data.toList.drop 93 = dktJ3_grow_4 := dk_seg dksJ3_grow_3 24 rfl rfl
theorem dksJ3_grow_5 : cJ3_grow.data.toList.drop 117 = dktJ3_grow_5 := dk_seg dksJ3_grow_4 24 rfl rfl
theorem dksJ3_grow_6 : cJ3_grow.data.toList.drop 140 = dktJ3_grow_6 := dk_seg dksJ3_grow_5 23 rfl rfl
theorem dksJ3_grow_7 : cJ3_grow.data.toList.drop 164 = dktJ3_grow_7 := dk_seg dksJ3_grow_6 24 rfl rfl
theorem dJ3_grow_0 : decode cJ3_grow 0 = .ok (.aload_n 0, 1) := dk_42 (dk_at dksJ3_grow_0 0 rfl rfl)
theorem dJ3_grow_1 : decode cJ3_grow 1 = .ok (.getfield 3, 3) := dk_180 0 3 (dk_at dksJ3_grow_0 1 rfl rfl)
theorem dJ3_grow_4 : decode cJ3_grow 4 = .ok (.arraylength, 1) := dk_190 (dk_at dksJ3_grow_0 4 rfl rfl)
theorem dJ3_grow_5 : decode cJ3_grow 5 = .ok (.istore_n 2, 1) := dk_61 (dk_at dksJ3_grow_0 5 rfl rfl)
theorem dJ3_grow_6 : decode cJ3_grow 6 = .ok (.iload_n 2, 1) := dk_28 (dk_at dksJ3_grow_0 6 rfl rfl)
theorem dJ3_grow_7 : decode cJ3_grow 7 = .ok (.bipush 64, 2) := dk_16 64 (dk_at dksJ3_grow_0 7 rfl rfl)
theorem dJ3_grow_9 : decode cJ3_grow 9 = .ok (.if_icmp .ge 9, 3) := dk_162 0 9 (dk_at dksJ3_grow_0 9 rfl rfl)
theorem dJ3_grow_12 : decode cJ3_grow 12 = .ok (.iload_n 2, 1) := dk_28 (dk_at dksJ3_grow_0 12 rfl rfl)
theorem dJ3_grow_13 : decode cJ3_grow 13 = .ok (.iconst 2, 1) := dk_5 (dk_at dksJ3_grow_0 13 rfl rfl)
theorem dJ3_grow_14 : decode cJ3_grow 14 = .ok (.iadd, 1) := dk_96 (dk_at dksJ3_grow_0 14 rfl rfl)
theorem dJ3_grow_15 : decode cJ3_grow 15 = .ok (.goto 6, 3) := dk_167 0 6 (dk_at dksJ3_grow_0 15 rfl rfl)
theorem dJ3_grow_18 : decode cJ3_grow 18 = .ok (.iload_n 2, 1) := dk_28 (dk_at dksJ3_grow_0 18 rfl rfl)
theorem dJ3_grow_19 : decode cJ3_grow 19 = .ok (.iconst 1, 1) := dk_4 (dk_at dksJ3_grow_0 19 rfl rfl)
theorem dJ3_grow_20 : decode cJ3_grow 20 = .ok (.ishr, 1) := dk_122 (dk_at dksJ3_grow_0 20 rfl rfl)
theorem dJ3_grow_21 : decode cJ3_grow 21 = .ok (.istore 4, 2) := dk_54 4 (dk_at dksJ3_grow_0 21 rfl rfl)
theorem dJ3_grow_23 : decode cJ3_grow 23 = .ok (.iload 4, 2) := dk_21 4 (dk_at dksJ3_grow_1 0 rfl rfl)
theorem dJ3_grow_25 : decode cJ3_grow 25 = .ok (.iload_n 1, 1) := dk_27 (dk_at dksJ3_grow_1 2 rfl rfl)
theorem dJ3_grow_26 : decode cJ3_grow 26 = .ok (.if_icmp .lt 15, 3) := dk_161 0 15 (dk_at dksJ3_grow_1 3 rfl rfl)
theorem dJ3_grow_29 : decode cJ3_grow 29 = .ok (.iload_n 2, 1) := dk_28 (dk_at dksJ3_grow_1 6 rfl rfl)
theorem dJ3_grow_30 : decode cJ3_grow 30 = .ok (.iload 4, 2) := dk_21 4 (dk_at dksJ3_grow_1 7 rfl rfl)
theorem dJ3_grow_32 : decode cJ3_grow 32 = .ok (.iadd, 1) := dk_96 (dk_at dksJ3_grow_1 9 rfl rfl)
theorem dJ3_grow_33 : decode cJ3_grow 33 = .ok (.dup, 1) := dk_89 (dk_at dksJ3_grow_1 10 rfl rfl)
theorem dJ3_grow_34 : decode cJ3_grow 34 = .ok (.istore_n 3, 1) := dk_62 (dk_at dksJ3_grow_1 11 rfl rfl)
theorem dJ3_grow_35 : decode cJ3_grow 35 = .ok (.ldc 9, 2) := dk_18 9 (dk_at dksJ3_grow_1 12 rfl rfl)
theorem dJ3_grow_37 : decode cJ3_grow 37 = .ok (.isub, 1) := dk_100 (dk_at dksJ3_grow_1 14 rfl rfl)
theorem dJ3_grow_38 : decode cJ3_grow 38 = .ok (.ifCond .le 11, 3) := dk_158 0 11 (dk_at dksJ3_grow_1 15 rfl rfl)
theorem dJ3_grow_41 : decode cJ3_grow 41 = .ok (.aload_n 0, 1) := dk_42 (dk_at dksJ3_grow_1 18 rfl rfl)
theorem dJ3_grow_42 : decode cJ3_grow 42 = .ok (.iload_n 1, 1) := dk_27 (dk_at dksJ3_grow_1 19 rfl rfl)
theorem dJ3_grow_43 : decode cJ3_grow 43 = .ok (.iload 4, 2) := dk_21 4 (dk_at dksJ3_grow_1 20 rfl rfl)
theorem dJ3_grow_45 : decode cJ3_grow 45 = .ok (.invokevirtual 10, 3) := dk_182 0 10 (dk_at dksJ3_grow_2 0 rfl rfl)
theorem dJ3_grow_48 : decode cJ3_grow 48 = .ok (.istore_n 3, 1) := dk_62 (dk_at dksJ3_grow_2 3 rfl rfl)
theorem dJ3_grow_49 : decode cJ3_grow 49 = .ok (.aload_n 0, 1) := dk_42 (dk_at dksJ3_grow_2 4 rfl rfl)
theorem dJ3_grow_50 : decode cJ3_grow 50 = .ok (.aload_n 0, 1) := dk_42 (dk_at dksJ3_grow_2 5 rfl rfl)
theorem dJ3_grow_51 : decode cJ3_grow 51 = .ok (.getfield 3, 3) := dk_180 0 3 (dk_at dksJ3_grow_2 6 rfl rfl)
theorem dJ3_grow_54 : decode cJ3_grow 54 = .ok (.iload_n 3, 1) := dk_29 (dk_at dksJ3_grow_2 9 rfl rfl)
theorem dJ3_grow_55 : decode cJ3_grow 55 = .ok (.invokestatic 14, 3) := dk_184 0 14 (dk_at dksJ3_grow_2 10 rfl rfl)
theorem dJ3_grow_58 : decode cJ3_grow 58 = .ok (.dup_x1, 1) := dk_90 (dk_at dksJ3_grow_2 13 rfl rfl)
theorem dJ3_grow_59 : decode cJ3_grow 59 = .ok (.putfield 3, 3) := dk_181 0 3 (dk_at dksJ3_grow_2 14 rfl rfl)
theorem dJ3_grow_62 : decode cJ3_grow 62 = .ok (.astore 5, 2) := dk_58 5 (dk_at dksJ3_grow_2 17 rfl rfl)
theorem dJ3_grow_64 : decode cJ3_grow 64 = .ok (.aload_n 0, 1) := dk_42 (dk_at dksJ3_grow_2 19 rfl rfl)
theorem dJ3_grow_65 : decode cJ3_grow 65 = .ok (.getfield 20, 3) := dk_180 0 20 (dk_at dksJ3_grow_2 20 rfl rfl)
theorem dJ3_grow_68 : decode cJ3_grow 68 = .ok (.aload_n 0, 1) := dk_42 (dk_at dksJ3_grow_2 23 rfl rfl)
theorem dJ3_grow_69 : decode cJ3_grow 69 = .ok (.getfield 24, 3) := dk_180 0 24 (dk_at dksJ3_grow_3 0 rfl rfl)
theorem dJ3_grow_72 : decode cJ3_grow 72 = .ok (.if_icmp .lt 24, 3) := dk_161 0 24 (dk_at dksJ3_grow_3 3 rfl rfl)
theorem dJ3_grow_75 : decode cJ3_grow 75 = .ok (.aload_n 0, 1) := dk_42 (dk_at dksJ3_grow_3 6 rfl rfl)
theorem dJ3_grow_76 : decode cJ3_grow 76 = .ok (.getfield 20, 3) := dk_180 0 20 (dk_at dksJ3_grow_3 7 rfl rfl)
theorem dJ3_grow_79 : decode cJ3_grow 79 = .ok (.aload_n 0, 1) := dk_42 (dk_at dksJ3_grow_3 10 rfl rfl)
theorem dJ3_grow_80 : decode cJ3_grow 80 = .ok (.getfield 24, 3) := dk_180 0 24 (dk_at dksJ3_grow_3 11 rfl rfl)
theorem dJ3_grow_83 : decode cJ3_grow 83 = .ok (.if_icmp .ne 81, 3) := dk_160 0 81 (dk_at dksJ3_grow_3 14 rfl rfl)
theorem dJ3_grow_86 : decode cJ3_grow 86 = .ok (.aload 5, 2) := dk_25 5 (dk_at dksJ3_grow_3 17 rfl rfl)
theorem dJ3_grow_88 : decode cJ3_grow 88 = .ok (.aload_n 0, 1) := dk_42 (dk_at dksJ3_grow_3 19 rfl rfl)
theorem dJ3_grow_89 : decode cJ3_grow 89 = .ok (.getfield 24, 3) := dk_180 0 24 (dk_at dksJ3_grow_3 20 rfl rfl)
theorem dJ3_grow_92 : decode cJ3_grow 92 = .ok (.aaload, 1) := dk_50 (dk_at dksJ3_grow_3 23 rfl rfl)
theorem dJ3_grow_93 : decode cJ3_grow 93 = .ok (.ifnull 71, 3) := dk_198 0 71 (dk_at dksJ3_grow_4 0 rfl rfl)
theorem dJ3_grow_96 : decode cJ3_grow 96 = .ok (.iload_n 3, 1) := dk_29 (dk_at dksJ3_grow_4 3 rfl rfl)
theorem dJ3_grow_97 : decode cJ3_grow 97 = .ok (.iload_n 2, 1) := dk_28 (dk_at dksJ3_grow_4 4 rfl rfl)
theorem dJ3_grow_98 : decode cJ3_grow 98 = .ok (.isub, 1) := dk_100 (dk_at dksJ3_grow_4 5 rfl rfl)
theorem dJ3_grow_99 : decode cJ3_grow 99 = .ok (.istore 6, 2) := dk_54 6 (dk_at dksJ3_grow_4 6 rfl rfl)
theorem dJ3_grow_101 : decode cJ3_grow 101 = .ok (.aload 5, 2) := dk_25 5 (dk_at dksJ3_grow_4 8 rfl rfl)
theorem dJ3_grow_103 : decode cJ3_grow 103 = .ok (.aload_n 0, 1) := dk_42 (dk_at dksJ3_grow_4 10 rfl rfl)
theorem dJ3_grow_104 : decode cJ3_grow 104 = .ok (.getfield 24, 3) := dk_180 0 24 (dk_at dksJ3_grow_4 11 rfl rfl)
theorem dJ3_grow_107 : decode cJ3_grow 107 = .ok (.aload 5, 2) := dk_25 5 (dk_at dksJ3_grow_4 14 rfl rfl)
theorem dJ3_grow_109 : decode cJ3_grow 109 = .ok (.aload_n 0, 1) := dk_42 (dk_at dksJ3_grow_4 16 rfl rfl)
theorem dJ3_grow_110 : decode cJ3_grow 110 = .ok (.getfield 24, 3) := dk_180 0 24 (dk_at dksJ3_grow_4 17 rfl rfl)
theorem dJ3_grow_113 : decode cJ3_grow 113 = .ok (.iload 6, 2) := dk_21 6 (dk_at dksJ3_grow_4 20 rfl rfl)
theorem dJ3_grow_115 : decode cJ3_grow 115 = .ok (.iadd, 1) := dk_96 (dk_at dksJ3_grow_4 22 rfl rfl)
theorem dJ3_grow_116 : decode cJ3_grow 116 = .ok (.iload_n 2, 1) := dk_28 (dk_at dksJ3_grow_4 23 rfl rfl)
theorem dJ3_grow_117 : decode cJ3_grow 117 = .ok (.aload_n 0, 1) := dk_42 (dk_at dksJ3_grow_5 0 rfl rfl)
theorem dJ3_grow_118 : decode cJ3_grow 118 = .ok (.getfield 24, 3) := dk_180 0 24 (dk_at dksJ3_grow_5 1 rfl rfl)
theorem dJ3_grow_121 : decode cJ3_grow 121 = .ok (.isub, 1) := dk_100 (dk_at dksJ3_grow_5 4 rfl rfl)
theorem dJ3_grow_122 : decode cJ3_grow 122 = .ok (.invokestatic 27, 3) := dk_184 0 27 (dk_at dksJ3_grow_5 5 rfl rfl)
theorem dJ3_grow_125 : decode cJ3_grow 125 = .ok (.aload_n 0, 1) := dk_42 (dk_at dksJ3_grow_5 8 rfl rfl)
theorem dJ3_grow_126 : decode cJ3_grow 126 = .ok (.getfield 24, 3) := dk_180 0 24 (dk_at dksJ3_grow_5 9 rfl rfl)
theorem dJ3_grow_129 : decode cJ3_grow 129 = .ok (.istore 7, 2) := dk_54 7 (dk_at dksJ3_grow_5 12 rfl rfl)
theorem dJ3_grow_131 : decode cJ3_grow 131 = .ok (.aload_n 0, 1) := dk_42 (dk_at dksJ3_grow_5 14 rfl rfl)
theorem dJ3_grow_132 : decode cJ3_grow 132 = .ok (.dup, 1) := dk_89 (dk_at dksJ3_grow_5 15 rfl rfl)
theorem dJ3_grow_133 : decode cJ3_grow 133 = .ok (.getfield 24, 3) := dk_180 0 24 (dk_at dksJ3_grow_5 16 rfl rfl)
theorem dJ3_grow_136 : decode cJ3_grow 136 = .ok (.iload 6, 2) := dk_21 6 (dk_at dksJ3_grow_5 19 rfl rfl)
theorem dJ3_grow_138 : decode cJ3_grow 138 = .ok (.iadd, 1) := dk_96 (dk_at dksJ3_grow_5 21 rfl rfl)
theorem dJ3_grow_139 : decode cJ3_grow 139 = .ok (.dup_x1, 1) := dk_90 (dk_at dksJ3_grow_5 22 rfl rfl)
theorem dJ3_grow_140 : decode cJ3_grow 140 = .ok (.putfield 24, 3) := dk_181 0 24 (dk_at dksJ3_grow_6 0 rfl rfl)
theorem dJ3_grow_143 : decode cJ3_grow 143 = .ok (.istore 8, 2) := dk_54 8 (dk_at dksJ3_grow_6 3 rfl rfl)
theorem dJ3_grow_145 : decode cJ3_grow 145 = .ok (.iload 7, 2) := dk_21 7 (dk_at dksJ3_grow_6 5 rfl rfl)
theorem dJ3_grow_147 : decode cJ3_grow 147 = .ok (.iload 8, 2) := dk_21 8 (dk_at dksJ3_grow_6 7 rfl rfl)
theorem dJ3_grow_149 : decode cJ3_grow 149 = .ok (.if_icmp .ge 15, 3) := dk_162 0 15 (dk_at dksJ3_grow_6 9 rfl rfl)
theorem dJ3_grow_152 : decode cJ3_grow 152 = .ok (.aload 5, 2) := dk_25 5 (dk_at dksJ3_grow_6 12 rfl rfl)
theorem dJ3_grow_154 : decode cJ3_grow 154 = .ok (.iload 7, 2) := dk_21 7 (dk_at dksJ3_grow_6 14 rfl rfl)
theorem dJ3_grow_156 : decode cJ3_grow 156 = .ok (.aconst_null, 1) := dk_1 (dk_at dksJ3_grow_6 16 rfl rfl)
theorem dJ3_grow_157 : decode cJ3_grow 157 = .ok (.aastore, 1) := dk_83 (dk_at dksJ3_grow_6 17 rfl rfl)
theorem dJ3_grow_158 : decode cJ3_grow 158 = .ok (.iinc 7 1, 3) := dk_132 7 1 (dk_at dksJ3_grow_6 18 rfl rfl)
theorem dJ3_grow_161 : decode cJ3_grow 161 = .ok (.goto (-16), 3) := dk_167 255 240 (dk_at dksJ3_grow_6 21 rfl rfl)
theorem dJ3_grow_164 : decode cJ3_grow 164 = .ok (.return_, 1) := dk_177 (dk_at dksJ3_grow_7 0 rfl rfl)
abbrev cJ3_newCapacity : ByteArray := prog_46_method_2_code
def yJ3_newCapacity : MethodName := ⟨RJ3, "newCapacity", "(II)I"⟩
def dkwJ3_newCapacity_2 : List UInt8 := [18, 9, 100, 156, 0, 9, 29, 28, 96, 167, 0, 5, 18, 9, 172]
abbrev dktJ3_newCapacity_2 : List UInt8 := dkwJ3_newCapacity_2 ++ []
def dkwJ3_newCapacity_1 : List UInt8 := [187, 0, 33, 89, 18, 35, 183, 0, 37, 191, 18, 41, 172, 27, 28, 164, 0, 6, 21, 4, 172, 29, 28, 96]
abbrev dktJ3_newCapacity_1 : List UInt8 := dkwJ3_newCapacity_1 ++ dktJ3_newCapacity_2
def dkwJ3_newCapacity_0 : List UInt8 := [42, 180, 0, 3, 190, 62, 29, 27, 96, 89, 54, 4, 18, 9, 100, 158, 0, 21, 21, 4, 156, 0, 13]
abbrev dktJ3_newCapacity_0 : List UInt8 := dkwJ3_newCapacity_0 ++ dktJ3_newCapacity_1
theorem dksJ3_newCapacity_0 : cJ3_newCapacity.data.toList.drop 0 = dktJ3_newCapacity_0 := by decide +kernel
theorem dksJ3_newCapacity_1 : cJ3_newCapacity.data.toList.drop 23 = dktJ3_newCapacity_1 := dk_seg dksJ3_newCapacity_0 23 rfl rfl
theorem dksJ3_newCapacity_2 : cJ3_newCapacity.data.toList.drop 47 = dktJ3_newCapacity_2 := dk_seg dksJ3_newCapacity_1 24 rfl rfl
theorem dJ3_newCapacity_0 : decode cJ3_newCapacity 0 = .ok (.aload_n 0, 1) := dk_42 (dk_at dksJ3_newCapacity_0 0 rfl rfl)
theorem dJ3_newCapacity_1 : decode cJ3_newCapacity 1 = .ok (.getfield 3, 3) := dk_180 0 3 (dk_at dksJ3_newCapacity_0 1 rfl rfl)
theorem dJ3_newCapacity_4 : decode cJ3_newCapacity 4 = .ok (.arraylength, 1) := dk_190 (dk_at dksJ3_newCapacity_0 4 rfl rfl)
theorem dJ3_newCapacity_5 : decode cJ3_newCapacity 5 = .ok (.istore_n 3, 1) := dk_62 (dk_at dksJ3_newCapacity_0 5 rfl rfl)
theorem dJ3_newCapacity_6 : decode cJ3_newCapacity 6 = .ok (.iload_n 3, 1) := dk_29 (dk_at dksJ3_newCapacity_0 6 rfl rfl)
theorem dJ3_newCapacity_7 : decode cJ3_newCapacity 7 = .ok (.iload_n 1, 1) := dk_27 (dk_at dksJ3_newCapacity_0 7 rfl rfl)
theorem dJ3_newCapacity_8 : decode cJ3_newCapacity 8 = .ok (.iadd, 1) := dk_96 (dk_at dksJ3_newCapacity_0 8 rfl rfl)
theorem dJ3_newCapacity_9 : decode cJ3_newCapacity 9 = .ok (.dup, 1) := dk_89 (dk_at dksJ3_newCapacity_0 9 rfl rfl)
theorem dJ3_newCapacity_10 : decode cJ3_newCapacity 10 = .ok (.istore 4, 2) := dk_54 4 (dk_at dksJ3_newCapacity_0 10 rfl rfl)
theorem dJ3_newCapacity_12 : decode cJ3_newCapacity 12 = .ok (.ldc 9, 2) := dk_18 9 (dk_at dksJ3_newCapacity_0 12 rfl rfl)
theorem dJ3_newCapacity_14 : decode cJ3_newCapacity 14 = .ok (.isub, 1) := dk_100 (dk_at dksJ3_newCapacity_0 14 rfl rfl)
theorem dJ3_newCapacity_15 : decode cJ3_newCapacity 15 = .ok (.ifCond .le 21, 3) := dk_158 0 21 (dk_at dksJ3_newCapacity_0 15 rfl rfl)
theorem dJ3_newCapacity_18 : decode cJ3_newCapacity 18 = .ok (.iload 4, 2) := dk_21 4 (dk_at dksJ3_newCapacity_0 18 rfl rfl)
theorem dJ3_newCapacity_20 : decode cJ3_newCapacity 20 = .ok (.ifCond .ge 13, 3) := dk_156 0 13 (dk_at dksJ3_newCapacity_0 20 rfl rfl)
theorem dJ3_newCapacity_23 : decode cJ3_newCapacity 23 = .ok (.new 33, 3) := dk_187 0 33 (dk_at dksJ3_newCapacity_1 0 rfl rfl)
theorem dJ3_newCapacity_26 : decode cJ3_newCapacity 26 = .ok (.dup, 1) := dk_89 (dk_at dksJ3_newCapacity_1 3 rfl rfl)
theorem dJ3_newCapacity_27 : decode cJ3_newCapacity 27 = .ok (.ldc 35, 2) := dk_18 35 (dk_at dksJ3_newCapacity_1 4 rfl rfl)
theorem dJ3_newCapacity_29 : decode cJ3_newCapacity 29 = .ok (.invokespecial 37, 3) := dk_183 0 37 (dk_at dksJ3_newCapacity_1 6 rfl rfl)
theorem dJ3_newCapacity_32 : decode cJ3_newCapacity 32 = .ok (.athrow, 1) := dk_191 (dk_at dksJ3_newCapacity_1 9 rfl rfl)
theorem dJ3_newCapacity_33 : decode cJ3_newCapacity 33 = .ok (.ldc 41, 2) := dk_18 41 (dk_at dksJ3_newCapacity_1 10 rfl rfl)
theorem dJ3_newCapacity_35 : decode cJ3_newCapacity 35 = .ok (.ireturn, 1) := dk_172 (dk_at dksJ3_newCapacity_1 12 rfl rfl)
theorem dJ3_newCapacity_36 : decode cJ3_newCapacity 36 = .ok (.iload_n 1, 1) := dk_27 (dk_at dksJ3_newCapacity_1 13 rfl rfl)
theorem dJ3_newCapacity_37 : decode cJ3_newCapacity 37 = .ok (.iload_n 2, 1) := dk_28 (dk_at dksJ3_newCapacity_1 14 rfl rfl)
theorem dJ3_newCapacity_38 : decode cJ3_newCapacity 38 = .ok (.if_icmp .le 6, 3) := dk_164 0 6 (dk_at dksJ3_newCapacity_1 15 rfl rfl)
theorem dJ3_newCapacity_41 : decode cJ3_newCapacity 41 = .ok (.iload 4, 2) := dk_21 4 (dk_at dksJ3_newCapacity_1 18 rfl rfl)
theorem dJ3_newCapacity_43 : decode cJ3_newCapacity 43 = .ok (.ireturn, 1) := dk_172 (dk_at dksJ3_newCapacity_1 20 rfl rfl)
theorem dJ3_newCapacity_44 : decode cJ3_newCapacity 44 = .ok (.iload_n 3, 1) := dk_29 (dk_at dksJ3_newCapacity_1 21 rfl rfl)
theorem dJ3_newCapacity_45 : decode cJ3_newCapacity 45 = .ok (.iload_n 2, 1) := dk_28 (dk_at dksJ3_newCapacity_1 22 rfl rfl)
theorem dJ3_newCapacity_46 : decode cJ3_newCapacity 46 = .ok (.iadd, 1) := dk_96 (dk_at dksJ3_newCapacity_1 23 rfl rfl)
theorem dJ3_newCapacity_47 : decode cJ3_newCapacity 47 = .ok (.ldc 9, 2) := dk_18 9 (dk_at dksJ3_newCapacity_2 0 rfl rfl)
theorem dJ3_newCapacity_49 : decode cJ3_newCapacity 49 = .ok (.isub, 1) := dk_100 (dk_at dksJ3_newCapacity_2 2 rfl rfl)
theorem dJ3_newCapacity_50 : decode cJ3_newCapacity 50 = .ok (.ifCond .ge 9, 3) := dk_156 0 9 (dk_at dksJ3_newCapacity_2 3 rfl rfl)
theorem dJ3_newCapacity_53 : decode cJ3_newCapacity 53 = .ok (.iload_n 3, 1) := dk_29 (dk_at dksJ3_newCapacity_2 6 rfl rfl)
theorem dJ3_newCapacity_54 : decode cJ3_newCapacity 54 = .ok (.iload_n 2, 1) := dk_28 (dk_at dksJ3_newCapacity_2 7 rfl rfl)
theorem dJ3_newCapacity_55 : decode cJ3_newCapacity 55 = .ok (.iadd, 1) := dk_96 (dk_at dksJ3_newCapacity_2 8 rfl rfl)
theorem dJ3_newCapacity_56 : decode cJ3_newCapacity 56 = .ok (.goto 5, 3) := dk_167 0 5 (dk_at dksJ3_newCapacity_2 9 rfl rfl)
theorem dJ3_newCapacity_59 : decode cJ3_newCapacity 59 = .ok (.ldc 9, 2) := dk_18 9 (dk_at dksJ3_newCapacity_2 12 rfl rfl)
theorem dJ3_newCapacity_61 : decode cJ3_newCapacity 61 = .ok (.ireturn, 1) := dk_172 (dk_at dksJ3_newCapacity_2 14 rfl rfl)
abbrev cJ3_size : ByteArray := prog_46_method_37_code
def yJ3_size : MethodName := ⟨RJ3, "size", "()I"⟩
def dkwJ3_size_0 : List UInt8 := [42, 180, 0, 20, 42, 180, 0, 24, 42, 180, 0, 3, 190, 184, 0, 127, 172]
abbrev dktJ3_size_0 : List UInt8 := dkwJ3_size_0 ++ []
theorem dksJ3_size_0 : cJ3_size.data.toList.drop 0 = dktJ3_size_0 := by decide +kernel
theorem dJ3_size_0 : decode cJ3_size 0 = .ok (.aload_n 0, 1) := dk_42 (dk_at dksJ3_size_0 0 rfl rfl)
theorem dJ3_size_1 : decode cJ3_size 1 = .ok (.getfield 20, 3) := dk_180 0 20 (dk_at dksJ3_size_0 1 rfl rfl)
theorem dJ3_size_4 : decode cJ3_size 4 = .ok (.aload_n 0, 1) := dk_42 (dk_at dksJ3_size_0 4 rfl rfl)
theorem dJ3_size_5 : decode cJ3_size 5 = .ok (.getfield 24, 3) := dk_180 0 24 (dk_at dksJ3_size_0 5 rfl rfl)
theorem dJ3_size_8 : decode cJ3_size 8 = .ok (.aload_n 0, 1) := dk_42 (dk_at dksJ3_size_0 8 rfl rfl)
theorem dJ3_size_9 : decode cJ3_size 9 = .ok (.getfield 3, 3) := dk_180 0 3 (dk_at dksJ3_size_0 9 rfl rfl)
theorem dJ3_size_12 : decode cJ3_size 12 = .ok (.arraylength, 1) := dk_190 (dk_at dksJ3_size_0 12 rfl rfl)
theorem dJ3_size_13 : decode cJ3_size 13 = .ok (.invokestatic 127, 3) := dk_184 0 127 (dk_at dksJ3_size_0 13 rfl rfl)
theorem dJ3_size_16 : decode cJ3_size 16 = .ok (.ireturn, 1) := dk_172 (dk_at dksJ3_size_0 16 rfl rfl)
abbrev cJ3_sub : ByteArray := prog_46_method_9_code
def yJ3_sub : MethodName := ⟨RJ3, "sub", "(III)I"⟩
def dkwJ3_sub_0 : List UInt8 := [26, 27, 100, 89, 59, 156, 0, 7, 26, 28, 96, 59, 26, 172]
abbrev dktJ3_sub_0 : List UInt8 := dkwJ3_sub_0 ++ []
theorem dksJ3_sub_0 : cJ3_sub.data.toList.drop 0 = dktJ3_sub_0 := by decide +kernel
theorem dJ3_sub_0 : decode cJ3_sub 0 = .ok (.iload_n 0, 1) := dk_26 (dk_at dksJ3_sub_0 0 rfl rfl)
theorem dJ3_sub_1 : decode cJ3_sub 1 = .ok (.iload_n 1, 1) := dk_27 (dk_at dksJ3_sub_0 1 rfl rfl)
theorem dJ3_sub_2 : decode cJ3_sub 2 = .ok (.isub, 1) := dk_100 (dk_at dksJ3_sub_0 2 rfl rfl)
theorem dJ3_sub_3 : decode cJ3_sub 3 = .ok (.dup, 1) := dk_89 (dk_at dksJ3_sub_0 3 rfl rfl)
theorem dJ3_sub_4 : decode cJ3_sub 4 = .ok (.istore_n 0, 1) := dk_59 (dk_at dksJ3_sub_0 4 rfl rfl)
theorem dJ3_sub_5 : decode cJ3_sub 5 = .ok (.ifCond .ge 7, 3) := dk_156 0 7 (dk_at dksJ3_sub_0 5 rfl rfl)
theorem dJ3_sub_8 : decode cJ3_sub 8 = .ok (.iload_n 0, 1) := dk_26 (dk_at dksJ3_sub_0 8 rfl rfl)
theorem dJ3_sub_9 : decode cJ3_sub 9 = .ok (.iload_n 2, 1) := dk_28 (dk_at dksJ3_sub_0 9 rfl rfl)
theorem dJ3_sub_10 : decode cJ3_sub 10 = .ok (.iadd, 1) := dk_96 (dk_at dksJ3_sub_0 10 rfl rfl)
theorem dJ3_sub_11 : decode cJ3_sub 11 = .ok (.istore_n 0, 1) := dk_59 (dk_at dksJ3_sub_0 11 rfl rfl)
theorem dJ3_sub_12 : decode cJ3_sub 12 = .ok (.iload_n 0, 1) := dk_26 (dk_at dksJ3_sub_0 12 rfl rfl)
theorem dJ3_sub_13 : decode cJ3_sub 13 = .ok (.ireturn, 1) := dk_172 (dk_at dksJ3_sub_0 13 rfl rfl)
abbrev cJ3_removeFirst : ByteArray := prog_46_method_18_code
def yJ3_removeFirst : MethodName := ⟨RJ3, "removeFirst", "()Ljava/lang/Object;"⟩
def dkwJ3_removeFirst_0 : List UInt8 := [42, 182, 0, 93, 76, 43, 199, 0, 11, 187, 0, 97, 89, 183, 0, 99, 191, 43, 176]
abbrev dktJ3_removeFirst_0 : List UInt8 := dkwJ3_removeFirst_0 ++ []
theorem dksJ3_removeFirst_0 : cJ3_removeFirst.data.toList.drop 0 = dktJ3_removeFirst_0 := by decide +kernel
theorem dJ3_removeFirst_0 : decode cJ3_removeFirst 0 = .ok (.aload_n 0, 1) := dk_42 (dk_at dksJ3_removeFirst_0 0 rfl rfl)
theorem dJ3_removeFirst_1 : decode cJ3_removeFirst 1 = .ok (.invokevirtual 93, 3) := dk_182 0 93 (dk_at dksJ3_removeFirst_0 1 rfl rfl)
theorem dJ3_removeFirst_4 : decode cJ3_removeFirst 4 = .ok (.astore_n 1, 1) := dk_76 (dk_at dksJ3_removeFirst_0 4 rfl rfl)
theorem dJ3_removeFirst_5 : decode cJ3_removeFirst 5 = .ok (.aload_n 1, 1) := dk_43 (dk_at dksJ3_removeFirst_0 5 rfl rfl)
theorem dJ3_removeFirst_6 : decode cJ3_removeFirst 6 = .ok (.ifnonnull 11, 3) := dk_199 0 11 (dk_at dksJ3_removeFirst_0 6 rfl rfl)
theorem dJ3_removeFirst_9 : decode cJ3_removeFirst 9 = .ok (.new 97, 3) := dk_187 0 97 (dk_at dksJ3_removeFirst_0 9 rfl rfl)
theorem dJ3_removeFirst_12 : decode cJ3_removeFirst 12 = .ok (.dup, 1) := dk_89 (dk_at dksJ3_removeFirst_0 12 rfl rfl)
theorem dJ3_removeFirst_13 : decode cJ3_removeFirst 13 = .ok (.invokespecial 99, 3) := dk_183 0 99 (dk_at dksJ3_removeFirst_0 13 rfl rfl)
theorem dJ3_removeFirst_16 : decode cJ3_removeFirst 16 = .ok (.athrow, 1) := dk_191 (dk_at dksJ3_removeFirst_0 16 rfl rfl)
theorem dJ3_removeFirst_17 : decode cJ3_removeFirst 17 = .ok (.aload_n 1, 1) := dk_43 (dk_at dksJ3_removeFirst_0 17 rfl rfl)
theorem dJ3_removeFirst_18 : decode cJ3_removeFirst 18 = .ok (.areturn, 1) := dk_176 (dk_at dksJ3_removeFirst_0 18 rfl rfl)
abbrev cJ3_pollFirst : ByteArray := prog_46_method_20_code
def yJ3_pollFirst : MethodName := ⟨RJ3, "pollFirst", "()Ljava/lang/Object;"⟩
def dkwJ3_pollFirst_1 : List UInt8 := [42, 28, 43, 190, 184, 0, 74, 181, 0, 24, 45, 176]
abbrev dktJ3_pollFirst_1 : List UInt8 := dkwJ3_pollFirst_1 ++ []
def dkwJ3_pollFirst_0 : List UInt8 := [42, 180, 0, 3, 89, 76, 42, 180, 0, 24, 89, 61, 184, 0, 103, 78, 45, 198, 0, 17, 43, 28, 1, 83]
abbrev dktJ3_pollFirst_0 : List UInt8 := dkwJ3_pollFirst_0 ++ dktJ3_pollFirst_1
theorem dksJ3_pollFirst_0 : cJ3_pollFirst.data.toList.drop 0 = dktJ3_pollFirst_0 := by decide +kernel
theorem dksJ3_pollFirst_1 : cJ3_pollFirst.data.toList.drop 24 = dktJ3_pollFirst_1 := dk_seg dksJ3_pollFirst_0 24 rfl rfl
theorem dJ3_pollFirst_0 : decode cJ3_pollFirst 0 = .ok (.aload_n 0, 1) := dk_42 (dk_at dksJ3_pollFirst_0 0 rfl rfl)
theorem dJ3_pollFirst_1 : decode cJ3_pollFirst 1 = .ok (.getfield 3, 3) := dk_180 0 3 (dk_at dksJ3_pollFirst_0 1 rfl rfl)
theorem dJ3_pollFirst_4 : decode cJ3_pollFirst 4 = .ok (.dup, 1) := dk_89 (dk_at dksJ3_pollFirst_0 4 rfl rfl)
theorem dJ3_pollFirst_5 : decode cJ3_pollFirst 5 = .ok (.astore_n 1, 1) := dk_76 (dk_at dksJ3_pollFirst_0 5 rfl rfl)
theorem dJ3_pollFirst_6 : decode cJ3_pollFirst 6 = .ok (.aload_n 0, 1) := dk_42 (dk_at dksJ3_pollFirst_0 6 rfl rfl)
theorem dJ3_pollFirst_7 : decode cJ3_pollFirst 7 = .ok (.getfield 24, 3) := dk_180 0 24 (dk_at dksJ3_pollFirst_0 7 rfl rfl)
theorem dJ3_pollFirst_10 : decode cJ3_pollFirst 10 = .ok (.dup, 1) := dk_89 (dk_at dksJ3_pollFirst_0 10 rfl rfl)
theorem dJ3_pollFirst_11 : decode cJ3_pollFirst 11 = .ok (.istore_n 2, 1) := dk_61 (dk_at dksJ3_pollFirst_0 11 rfl rfl)
theorem dJ3_pollFirst_12 : decode cJ3_pollFirst 12 = .ok (.invokestatic 103, 3) := dk_184 0 103 (dk_at dksJ3_pollFirst_0 12 rfl rfl)
theorem dJ3_pollFirst_15 : decode cJ3_pollFirst 15 = .ok (.astore_n 3, 1) := dk_78 (dk_at dksJ3_pollFirst_0 15 rfl rfl)
theorem dJ3_pollFirst_16 : decode cJ3_pollFirst 16 = .ok (.aload_n 3, 1) := dk_45 (dk_at dksJ3_pollFirst_0 16 rfl rfl)
theorem dJ3_pollFirst_17 : decode cJ3_pollFirst 17 = .ok (.ifnull 17, 3) := dk_198 0 17 (dk_at dksJ3_pollFirst_0 17 rfl rfl)
theorem dJ3_pollFirst_20 : decode cJ3_pollFirst 20 = .ok (.aload_n 1, 1) := dk_43 (dk_at dksJ3_pollFirst_0 20 rfl rfl)
theorem dJ3_pollFirst_21 : decode cJ3_pollFirst 21 = .ok (.iload_n 2, 1) := dk_28 (dk_at dksJ3_pollFirst_0 21 rfl rfl)
theorem dJ3_pollFirst_22 : decode cJ3_pollFirst 22 = .ok (.aconst_null, 1) := dk_1 (dk_at dksJ3_pollFirst_0 22 rfl rfl)
theorem dJ3_pollFirst_23 : decode cJ3_pollFirst 23 = .ok (.aastore, 1) := dk_83 (dk_at dksJ3_pollFirst_0 23 rfl rfl)
theorem dJ3_pollFirst_24 : decode cJ3_pollFirst 24 = .ok (.aload_n 0, 1) := dk_42 (dk_at dksJ3_pollFirst_1 0 rfl rfl)
theorem dJ3_pollFirst_25 : decode cJ3_pollFirst 25 = .ok (.iload_n 2, 1) := dk_28 (dk_at dksJ3_pollFirst_1 1 rfl rfl)
theorem dJ3_pollFirst_26 : decode cJ3_pollFirst 26 = .ok (.aload_n 1, 1) := dk_43 (dk_at dksJ3_pollFirst_1 2 rfl rfl)
theorem dJ3_pollFirst_27 : decode cJ3_pollFirst 27 = .ok (.arraylength, 1) := dk_190 (dk_at dksJ3_pollFirst_1 3 rfl rfl)
theorem dJ3_pollFirst_28 : decode cJ3_pollFirst 28 = .ok (.invokestatic 74, 3) := dk_184 0 74 (dk_at dksJ3_pollFirst_1 4 rfl rfl)
theorem dJ3_pollFirst_31 : decode cJ3_pollFirst 31 = .ok (.putfield 24, 3) := dk_181 0 24 (dk_at dksJ3_pollFirst_1 7 rfl rfl)
theorem dJ3_pollFirst_34 : decode cJ3_pollFirst 34 = .ok (.aload_n 3, 1) := dk_45 (dk_at dksJ3_pollFirst_1 10 rfl rfl)
theorem dJ3_pollFirst_35 : decode cJ3_pollFirst 35 = .ok (.areturn, 1) := dk_176 (dk_at dksJ3_pollFirst_1 11 rfl rfl)
abbrev cJ3_elementAt : ByteArray := prog_46_method_10_code
def yJ3_elementAt : MethodName := ⟨RJ3, "elementAt", "([Ljava/lang/Object;I)Ljava/lang/Object;"⟩
def dkwJ3_elementAt_0 : List UInt8 := [42, 27, 50, 176]
abbrev dktJ3_elementAt_0 : List UInt8 := dkwJ3_elementAt_0 ++ []
theorem dksJ3_elementAt_0 : cJ3_elementAt.data.toList.drop 0 = dktJ3_elementAt_0 := by decide +kernel
theorem dJ3_elementAt_0 : decode cJ3_elementAt 0 = .ok (.aload_n 0, 1) := dk_42 (dk_at dksJ3_elementAt_0 0 rfl rfl)
theorem dJ3_elementAt_1 : decode cJ3_elementAt 1 = .ok (.iload_n 1, 1) := dk_27 (dk_at dksJ3_elementAt_0 1 rfl rfl)
theorem dJ3_elementAt_2 : decode cJ3_elementAt 2 = .ok (.aaload, 1) := dk_50 (dk_at dksJ3_elementAt_0 2 rfl rfl)
theorem dJ3_elementAt_3 : decode cJ3_elementAt 3 = .ok (.areturn, 1) := dk_176 (dk_at dksJ3_elementAt_0 3 rfl rfl)
abbrev cJ3_isEmpty : ByteArray := prog_46_method_38_code
def yJ3_isEmpty : MethodName := ⟨RJ3, "isEmpty", "()Z"⟩
def dkwJ3_isEmpty_0 : List UInt8 := [42, 180, 0, 24, 42, 180, 0, 20, 160, 0, 7, 4, 167, 0, 4, 3, 172]
abbrev dktJ3_isEmpty_0 : List UInt8 := dkwJ3_isEmpty_0 ++ []
theorem dksJ3_isEmpty_0 : cJ3_isEmpty.data.toList.drop 0 = dktJ3_isEmpty_0 := by decide +kernel
theorem dJ3_isEmpty_0 : decode cJ3_isEmpty 0 = .ok (.aload_n 0, 1) := dk_42 (dk_at dksJ3_isEmpty_0 0 rfl rfl)
theorem dJ3_isEmpty_1 : decode cJ3_isEmpty 1 = .ok (.getfield 24, 3) := dk_180 0 24 (dk_at dksJ3_isEmpty_0 1 rfl rfl)
theorem dJ3_isEmpty_4 : decode cJ3_isEmpty 4 = .ok (.aload_n 0, 1) := dk_42 (dk_at dksJ3_isEmpty_0 4 rfl rfl)
theorem dJ3_isEmpty_5 : decode cJ3_isEmpty 5 = .ok (.getfield 20, 3) := dk_180 0 20 (dk_at dksJ3_isEmpty_0 5 rfl rfl)
theorem dJ3_isEmpty_8 : decode cJ3_isEmpty 8 = .ok (.if_icmp .ne 7, 3) := dk_160 0 7 (dk_at dksJ3_isEmpty_0 8 rfl rfl)
theorem dJ3_isEmpty_11 : decode cJ3_isEmpty 11 = .ok (.iconst 1, 1) := dk_4 (dk_at dksJ3_isEmpty_0 11 rfl rfl)
theorem dJ3_isEmpty_12 : decode cJ3_isEmpty 12 = .ok (.goto 4, 3) := dk_167 0 4 (dk_at dksJ3_isEmpty_0 12 rfl rfl)
theorem dJ3_isEmpty_15 : decode cJ3_isEmpty 15 = .ok (.iconst 0, 1) := dk_3 (dk_at dksJ3_isEmpty_0 15 rfl rfl)
theorem dJ3_isEmpty_16 : decode cJ3_isEmpty 16 = .ok (.ireturn, 1) := dk_172 (dk_at dksJ3_isEmpty_0 16 rfl rfl)
abbrev cJ3_removeLast : ByteArray := prog_46_method_19_code
def yJ3_removeLast : MethodName := ⟨RJ3, "removeLast", "()Ljava/lang/Object;"⟩
def dkwJ3_removeLast_0 : List UInt8 := [42, 182, 0, 100, 76, 43, 199, 0, 11, 187, 0, 97, 89, 183, 0, 99, 191, 43, 176]
abbrev dktJ3_removeLast_0 : List UInt8 := dkwJ3_removeLast_0 ++ []
theorem dksJ3_removeLast_0 : cJ3_removeLast.data.toList.drop 0 = dktJ3_removeLast_0 := by decide +kernel
theorem dJ3_removeLast_0 : decode cJ3_removeLast 0 = .ok (.aload_n 0, 1) := dk_42 (dk_at dksJ3_removeLast_0 0 rfl rfl)
theorem dJ3_removeLast_1 : decode cJ3_removeLast 1 = .ok (.invokevirtual 100, 3) := dk_182 0 100 (dk_at dksJ3_removeLast_0 1 rfl rfl)
theorem dJ3_removeLast_4 : decode cJ3_removeLast 4 = .ok (.astore_n 1, 1) := dk_76 (dk_at dksJ3_removeLast_0 4 rfl rfl)
theorem dJ3_removeLast_5 : decode cJ3_removeLast 5 = .ok (.aload_n 1, 1) := dk_43 (dk_at dksJ3_removeLast_0 5 rfl rfl)
theorem dJ3_removeLast_6 : decode cJ3_removeLast 6 = .ok (.ifnonnull 11, 3) := dk_199 0 11 (dk_at dksJ3_removeLast_0 6 rfl rfl)
theorem dJ3_removeLast_9 : decode cJ3_removeLast 9 = .ok (.new 97, 3) := dk_187 0 97 (dk_at dksJ3_removeLast_0 9 rfl rfl)
theorem dJ3_removeLast_12 : decode cJ3_removeLast 12 = .ok (.dup, 1) := dk_89 (dk_at dksJ3_removeLast_0 12 rfl rfl)
theorem dJ3_removeLast_13 : decode cJ3_removeLast 13 = .ok (.invokespecial 99, 3) := dk_183 0 99 (dk_at dksJ3_removeLast_0 13 rfl rfl)
theorem dJ3_removeLast_16 : decode cJ3_removeLast 16 = .ok (.athrow, 1) := dk_191 (dk_at dksJ3_removeLast_0 16 rfl rfl)
theorem dJ3_removeLast_17 : decode cJ3_removeLast 17 = .ok (.aload_n 1, 1) := dk_43 (dk_at dksJ3_removeLast_0 17 rfl rfl)
theorem dJ3_removeLast_18 : decode cJ3_removeLast 18 = .ok (.areturn, 1) := dk_176 (dk_at dksJ3_removeLast_0 18 rfl rfl)
abbrev cJ3_pollLast : ByteArray := prog_46_method_21_code
def yJ3_pollLast : MethodName := ⟨RJ3, "pollLast", "()Ljava/lang/Object;"⟩
def dkwJ3_pollLast_1 : List UInt8 := [198, 0, 12, 43, 42, 28, 90, 181, 0, 20, 1, 83, 45, 176]
abbrev dktJ3_pollLast_1 : List UInt8 := dkwJ3_pollLast_1 ++ []
def dkwJ3_pollLast_0 : List UInt8 := [42, 180, 0, 3, 89, 76, 42, 180, 0, 20, 43, 190, 184, 0, 68, 89, 61, 184, 0, 103, 78, 45]
abbrev dktJ3_pollLast_0 : List UInt8 := dkwJ3_pollLast_0 ++ dktJ3_pollLast_1
theorem dksJ3_pollLast_0 : cJ3_pollLast.data.toList.drop 0 = dktJ3_pollLast_0 := by decide +kernel
theorem dksJ3_pollLast_1 : cJ3_pollLast.data.toList.drop 22 = dktJ3_pollLast_1 := dk_seg dksJ3_pollLast_0 22 rfl rfl
theorem dJ3_pollLast_0 : decode cJ3_pollLast 0 = .ok (.aload_n 0, 1) := dk_42 (dk_at dksJ3_pollLast_0 0 rfl rfl)
theorem dJ3_pollLast_1 : decode cJ3_pollLast 1 = .ok (.getfield 3, 3) := dk_180 0 3 (dk_at dksJ3_pollLast_0 1 rfl rfl)
theorem dJ3_pollLast_4 : decode cJ3_pollLast 4 = .ok (.dup, 1) := dk_89 (dk_at dksJ3_pollLast_0 4 rfl rfl)
theorem dJ3_pollLast_5 : decode cJ3_pollLast 5 = .ok (.astore_n 1, 1) := dk_76 (dk_at dksJ3_pollLast_0 5 rfl rfl)
theorem dJ3_pollLast_6 : decode cJ3_pollLast 6 = .ok (.aload_n 0, 1) := dk_42 (dk_at dksJ3_pollLast_0 6 rfl rfl)
theorem dJ3_pollLast_7 : decode cJ3_pollLast 7 = .ok (.getfield 20, 3) := dk_180 0 20 (dk_at dksJ3_pollLast_0 7 rfl rfl)
theorem dJ3_pollLast_10 : decode cJ3_pollLast 10 = .ok (.aload_n 1, 1) := dk_43 (dk_at dksJ3_pollLast_0 10 rfl rfl)
theorem dJ3_pollLast_11 : decode cJ3_pollLast 11 = .ok (.arraylength, 1) := dk_190 (dk_at dksJ3_pollLast_0 11 rfl rfl)
theorem dJ3_pollLast_12 : decode cJ3_pollLast 12 = .ok (.invokestatic 68, 3) := dk_184 0 68 (dk_at dksJ3_pollLast_0 12 rfl rfl)
theorem dJ3_pollLast_15 : decode cJ3_pollLast 15 = .ok (.dup, 1) := dk_89 (dk_at dksJ3_pollLast_0 15 rfl rfl)
theorem dJ3_pollLast_16 : decode cJ3_pollLast 16 = .ok (.istore_n 2, 1) := dk_61 (dk_at dksJ3_pollLast_0 16 rfl rfl)
theorem dJ3_pollLast_17 : decode cJ3_pollLast 17 = .ok (.invokestatic 103, 3) := dk_184 0 103 (dk_at dksJ3_pollLast_0 17 rfl rfl)
theorem dJ3_pollLast_20 : decode cJ3_pollLast 20 = .ok (.astore_n 3, 1) := dk_78 (dk_at dksJ3_pollLast_0 20 rfl rfl)
theorem dJ3_pollLast_21 : decode cJ3_pollLast 21 = .ok (.aload_n 3, 1) := dk_45 (dk_at dksJ3_pollLast_0 21 rfl rfl)
theorem dJ3_pollLast_22 : decode cJ3_pollLast 22 = .ok (.ifnull 12, 3) := dk_198 0 12 (dk_at dksJ3_pollLast_1 0 rfl rfl)
theorem dJ3_pollLast_25 : decode cJ3_pollLast 25 = .ok (.aload_n 1, 1) := dk_43 (dk_at dksJ3_pollLast_1 3 rfl rfl)
theorem dJ3_pollLast_26 : decode cJ3_pollLast 26 = .ok (.aload_n 0, 1) := dk_42 (dk_at dksJ3_pollLast_1 4 rfl rfl)
theorem dJ3_pollLast_27 : decode cJ3_pollLast 27 = .ok (.iload_n 2, 1) := dk_28 (dk_at dksJ3_pollLast_1 5 rfl rfl)
theorem dJ3_pollLast_28 : decode cJ3_pollLast 28 = .ok (.dup_x1, 1) := dk_90 (dk_at dksJ3_pollLast_1 6 rfl rfl)
theorem dJ3_pollLast_29 : decode cJ3_pollLast 29 = .ok (.putfield 20, 3) := dk_181 0 20 (dk_at dksJ3_pollLast_1 7 rfl rfl)
theorem dJ3_pollLast_32 : decode cJ3_pollLast 32 = .ok (.aconst_null, 1) := dk_1 (dk_at dksJ3_pollLast_1 10 rfl rfl)
theorem dJ3_pollLast_33 : decode cJ3_pollLast 33 = .ok (.aastore, 1) := dk_83 (dk_at dksJ3_pollLast_1 11 rfl rfl)
theorem dJ3_pollLast_34 : decode cJ3_pollLast 34 = .ok (.aload_n 3, 1) := dk_45 (dk_at dksJ3_pollLast_1 12 rfl rfl)
theorem dJ3_pollLast_35 : decode cJ3_pollLast 35 = .ok (.areturn, 1) := dk_176 (dk_at dksJ3_pollLast_1 13 rfl rfl)
abbrev cJ3_dec : ByteArray := prog_46_method_7_code
def yJ3_dec : MethodName := ⟨RJ3, "dec", "(II)I"⟩
def dkwJ3_dec_0 : List UInt8 := [132, 0, 255, 26, 156, 0, 7, 27, 4, 100, 59, 26, 172]
abbrev dktJ3_dec_0 : List UInt8 := dkwJ3_dec_0 ++ []
theorem dksJ3_dec_0 : cJ3_dec.data.toList.drop 0 = dktJ3_dec_0 := by decide +kernel
theorem dJ3_dec_0 : decode cJ3_dec 0 = .ok (.iinc 0 (-1), 3) := dk_132 0 255 (dk_at dksJ3_dec_0 0 rfl rfl)
theorem dJ3_dec_3 : decode cJ3_dec 3 = .ok (.iload_n 0, 1) := dk_26 (dk_at dksJ3_dec_0 3 rfl rfl)
theorem dJ3_dec_4 : decode cJ3_dec 4 = .ok (.ifCond .ge 7, 3) := dk_156 0 7 (dk_at dksJ3_dec_0 4 rfl rfl)
theorem dJ3_dec_7 : decode cJ3_dec 7 = .ok (.iload_n 1, 1) := dk_27 (dk_at dksJ3_dec_0 7 rfl rfl)
theorem dJ3_dec_8 : decode cJ3_dec 8 = .ok (.iconst 1, 1) := dk_4 (dk_at dksJ3_dec_0 8 rfl rfl)
theorem dJ3_dec_9 : decode cJ3_dec 9 = .ok (.isub, 1) := dk_100 (dk_at dksJ3_dec_0 9 rfl rfl)
theorem dJ3_dec_10 : decode cJ3_dec 10 = .ok (.istore_n 0, 1) := dk_59 (dk_at dksJ3_dec_0 10 rfl rfl)
theorem dJ3_dec_11 : decode cJ3_dec 11 = .ok (.iload_n 0, 1) := dk_26 (dk_at dksJ3_dec_0 11 rfl rfl)
theorem dJ3_dec_12 : decode cJ3_dec 12 = .ok (.ireturn, 1) := dk_172 (dk_at dksJ3_dec_0 12 rfl rfl)
abbrev cJ3_clear : ByteArray := prog_46_method_53_code
def yJ3_clear : MethodName := ⟨RJ3, "clear", "()V"⟩
def dkwJ3_clear_1 : List UInt8 := [181, 0, 24, 177]
abbrev dktJ3_clear_1 : List UInt8 := dkwJ3_clear_1 ++ []
def dkwJ3_clear_0 : List UInt8 := [42, 180, 0, 3, 42, 180, 0, 24, 42, 180, 0, 20, 184, 0, 181, 42, 42, 3, 90, 181, 0, 20]
abbrev dktJ3_clear_0 : List UInt8 := dkwJ3_clear_0 ++ dktJ3_clear_1
theorem dksJ3_clear_0 : cJ3_clear.data.toList.drop 0 = dktJ3_clear_0 := by decide +kernel
theorem dksJ3_clear_1 : cJ3_clear.data.toList.drop 22 = dktJ3_clear_1 := dk_seg dksJ3_clear_0 22 rfl rfl
theorem dJ3_clear_0 : decode cJ3_clear 0 = .ok (.aload_n 0, 1) := dk_42 (dk_at dksJ3_clear_0 0 rfl rfl)
theorem dJ3_clear_1 : decode cJ3_clear 1 = .ok (.getfield 3, 3) := dk_180 0 3 (dk_at dksJ3_clear_0 1 rfl rfl)
theorem dJ3_clear_4 : decode cJ3_clear 4 = .ok (.aload_n 0, 1) := dk_42 (dk_at dksJ3_clear_0 4 rfl rfl)
theorem dJ3_clear_5 : decode cJ3_clear 5 = .ok (.getfield 24, 3) := dk_180 0 24 (dk_at dksJ3_clear_0 5 rfl rfl)
theorem dJ3_clear_8 : decode cJ3_clear 8 = .ok (.aload_n 0, 1) := dk_42 (dk_at dksJ3_clear_0 8 rfl rfl)
theorem dJ3_clear_9 : decode cJ3_clear 9 = .ok (.getfield 20, 3) := dk_180 0 20 (dk_at dksJ3_clear_0 9 rfl rfl)
theorem dJ3_clear_12 : decode cJ3_clear 12 = .ok (.invokestatic 181, 3) := dk_184 0 181 (dk_at dksJ3_clear_0 12 rfl rfl)
theorem dJ3_clear_15 : decode cJ3_clear 15 = .ok (.aload_n 0, 1) := dk_42 (dk_at dksJ3_clear_0 15 rfl rfl)
theorem dJ3_clear_16 : decode cJ3_clear 16 = .ok (.aload_n 0, 1) := dk_42 (dk_at dksJ3_clear_0 16 rfl rfl)
theorem dJ3_clear_17 : decode cJ3_clear 17 = .ok (.iconst 0, 1) := dk_3 (dk_at dksJ3_clear_0 17 rfl rfl)
theorem dJ3_clear_18 : decode cJ3_clear 18 = .ok (.dup_x1, 1) := dk_90 (dk_at dksJ3_clear_0 18 rfl rfl)
theorem dJ3_clear_19 : decode cJ3_clear 19 = .ok (.putfield 20, 3) := dk_181 0 20 (dk_at dksJ3_clear_0 19 rfl rfl)
theorem dJ3_clear_22 : decode cJ3_clear 22 = .ok (.putfield 24, 3) := dk_181 0 24 (dk_at dksJ3_clear_1 0 rfl rfl)
theorem dJ3_clear_25 : decode cJ3_clear 25 = .ok (.return_, 1) := dk_177 (dk_at dksJ3_clear_1 3 rfl rfl)
abbrev cJ3_circularClear : ByteArray := prog_46_method_54_code
def yJ3_circularClear : MethodName := ⟨RJ3, "circularClear", "([Ljava/lang/Object;II)V"⟩
def dkwJ3_circularClear_1 : List UInt8 := [167, 255, 244, 29, 28, 160, 0, 6, 167, 0, 10, 3, 60, 28, 62, 167, 255, 229, 177]
abbrev dktJ3_circularClear_1 : List UInt8 := dkwJ3_circularClear_1 ++ []
def dkwJ3_circularClear_0 : List UInt8 := [27, 28, 163, 0, 7, 28, 167, 0, 5, 42, 190, 62, 27, 29, 162, 0, 13, 42, 27, 1, 83, 132, 1, 1]
abbrev dktJ3_circularClear_0 : List UInt8 := dkwJ3_circularClear_0 ++ dktJ3_circularClear_1
theorem dksJ3_circularClear_0 : cJ3_circularClear.data.toList.drop 0 = dktJ3_circularClear_0 := by decide +kernel
theorem dksJ3_circularClear_1 : cJ3_circularClear.data.toList.drop 24 = dktJ3_circularClear_1 := dk_seg dksJ3_circularClear_0 24 rfl rfl
theorem dJ3_circularClear_0 : decode cJ3_circularClear 0 = .ok (.iload_n 1, 1) := dk_27 (dk_at dksJ3_circularClear_0 0 rfl rfl)
theorem dJ3_circularClear_1 : decode cJ3_circularClear 1 = .ok (.iload_n 2, 1) := dk_28 (dk_at dksJ3_circularClear_0 1 rfl rfl)
theorem dJ3_circularClear_2 : decode cJ3_circularClear 2 = .ok (.if_icmp .gt 7, 3) := dk_163 0 7 (dk_at dksJ3_circularClear_0 2 rfl rfl)
theorem dJ3_circularClear_5 : decode cJ3_circularClear 5 = .ok (.iload_n 2, 1) := dk_28 (dk_at dksJ3_circularClear_0 5 rfl rfl)
theorem dJ3_circularClear_6 : decode cJ3_circularClear 6 = .ok (.goto 5, 3) := dk_167 0 5 (dk_at dksJ3_circularClear_0 6 rfl rfl)
theorem dJ3_circularClear_9 : decode cJ3_circularClear 9 = .ok (.aload_n 0, 1) := dk_42 (dk_at dksJ3_circularClear_0 9 rfl rfl)
theorem dJ3_circularClear_10 : decode cJ3_circularClear 10 = .ok (.arraylength, 1) := dk_190 (dk_at dksJ3_circularClear_0 10 rfl rfl)
theorem dJ3_circularClear_11 : decode cJ3_circularClear 11 = .ok (.istore_n 3, 1) := dk_62 (dk_at dksJ3_circularClear_0 11 rfl rfl)
theorem dJ3_circularClear_12 : decode cJ3_circularClear 12 = .ok (.iload_n 1, 1) := dk_27 (dk_at dksJ3_circularClear_0 12 rfl rfl)
theorem dJ3_circularClear_13 : decode cJ3_circularClear 13 = .ok (.iload_n 3, 1) := dk_29 (dk_at dksJ3_circularClear_0 13 rfl rfl)
theorem dJ3_circularClear_14 : decode cJ3_circularClear 14 = .ok (.if_icmp .ge 13, 3) := dk_162 0 13 (dk_at dksJ3_circularClear_0 14 rfl rfl)
theorem dJ3_circularClear_17 : decode cJ3_circularClear 17 = .ok (.aload_n 0, 1) := dk_42 (dk_at dksJ3_circularClear_0 17 rfl rfl)
theorem dJ3_circularClear_18 : decode cJ3_circularClear 18 = .ok (.iload_n 1, 1) := dk_27 (dk_at dksJ3_circularClear_0 18 rfl rfl)
theorem dJ3_circularClear_19 : decode cJ3_circularClear 19 = .ok (.aconst_null, 1) := dk_1 (dk_at dksJ3_circularClear_0 19 rfl rfl)
theorem dJ3_circularClear_20 : decode cJ3_circularClear 20 = .ok (.aastore, 1) := dk_83 (dk_at dksJ3_circularClear_0 20 rfl rfl)
theorem dJ3_circularClear_21 : decode cJ3_circularClear 21 = .ok (.iinc 1 1, 3) := dk_132 1 1 (dk_at dksJ3_circularClear_0 21 rfl rfl)
theorem dJ3_circularClear_24 : decode cJ3_circularClear 24 = .ok (.goto (-12), 3) := dk_167 255 244 (dk_at dksJ3_circularClear_1 0 rfl rfl)
theorem dJ3_circularClear_27 : decode cJ3_circularClear 27 = .ok (.iload_n 3, 1) := dk_29 (dk_at dksJ3_circularClear_1 3 rfl rfl)
theorem dJ3_circularClear_28 : decode cJ3_circularClear 28 = .ok (.iload_n 2, 1) := dk_28 (dk_at dksJ3_circularClear_1 4 rfl rfl)
theorem dJ3_circularClear_29 : decode cJ3_circularClear 29 = .ok (.if_icmp .ne 6, 3) := dk_160 0 6 (dk_at dksJ3_circularClear_1 5 rfl rfl)
theorem dJ3_circularClear_32 : decode cJ3_circularClear 32 = .ok (.goto 10, 3) := dk_167 0 10 (dk_at dksJ3_circularClear_1 8 rfl rfl)
theorem dJ3_circularClear_35 : decode cJ3_circularClear 35 = .ok (.iconst 0, 1) := dk_3 (dk_at dksJ3_circularClear_1 11 rfl rfl)
theorem dJ3_circularClear_36 : decode cJ3_circularClear 36 = .ok (.istore_n 1, 1) := dk_60 (dk_at dksJ3_circularClear_1 12 rfl rfl)
theorem dJ3_circularClear_37 : decode cJ3_circularClear 37 = .ok (.iload_n 2, 1) := dk_28 (dk_at dksJ3_circularClear_1 13 rfl rfl)
theorem dJ3_circularClear_38 : decode cJ3_circularClear 38 = .ok (.istore_n 3, 1) := dk_62 (dk_at dksJ3_circularClear_1 14 rfl rfl)
theorem dJ3_circularClear_39 : decode cJ3_circularClear 39 = .ok (.goto (-27), 3) := dk_167 255 229 (dk_at dksJ3_circularClear_1 15 rfl rfl)
theorem dJ3_circularClear_42 : decode cJ3_circularClear 42 = .ok (.return_, 1) := dk_177 (dk_at dksJ3_circularClear_1 18 rfl rfl)
abbrev MJ3_init : zM := (yJ3_init, cJ3_init, 1, (Option.none : Option Jvm.ClassFile.FieldType), [])
theorem kJ3_init : zMk MJ3_init := ⟨zt (lw_at lw_m1 148 rfl), zt (lw_at lw_m1 6 rfl), by decide +kernel, by decide, by decide +kernel⟩
abbrev MJ3_addLast : zM := (yJ3_addLast, cJ3_addLast, 3, (Option.none : Option Jvm.ClassFile.FieldType), [])
theorem kJ3_addLast : zMk MJ3_addLast := ⟨zt (lw_at lw_m6 90 rfl), zt (lw_at lw_m1 6 rfl), by decide +kernel, by decide, by decide +kernel⟩
abbrev MJ3_inc : zM := (yJ3_inc, cJ3_inc, 2, (Option.some Jvm.ClassFile.FieldType.int), [])
theorem kJ3_inc : zMk MJ3_inc := ⟨zt (lw_at lw_m6 93 rfl), zt (lw_at lw_m1 6 rfl), by decide +kernel, by decide, by decide +kernel⟩
abbrev MJ3_grow : zM := (yJ3_grow, cJ3_grow, 9, (Option.none : Option Jvm.ClassFile.FieldType), [])
theorem kJ3_grow : zMk MJ3_grow := ⟨zt (lw_at lw_m6 97 rfl), zt (lw_at lw_m1 6 rfl), by decide +kernel, by decide, by decide +kernel⟩
abbrev MJ3_newCapacity : zM := (yJ3_newCapacity, cJ3_newCapacity, 5, (Option.some Jvm.ClassFile.FieldType.int), [])
theorem kJ3_newCapacity : zMk MJ3_newCapacity := ⟨zt (lw_at lw_m6 102 rfl), zt (lw_at lw_m1 6 rfl), by decide +kernel, by decide, by decide +kernel⟩
abbrev MJ3_size : zM := (yJ3_size, cJ3_size, 1, (Option.some Jvm.ClassFile.FieldType.int), [])
theorem kJ3_size : zMk MJ3_size := ⟨zt (lw_at lw_m6 125 rfl), zt (lw_at lw_m1 6 rfl), by decide +kernel, by decide, by decide +kernel⟩
abbrev MJ3_sub : zM := (yJ3_sub, cJ3_sub, 3, (Option.some Jvm.ClassFile.FieldType.int), [])
theorem kJ3_sub : zMk MJ3_sub := ⟨zt (lw_at lw_m6 128 rfl), zt (lw_at lw_m1 6 rfl), by decide +kernel, by decide, by decide +kernel⟩
abbrev MJ3_removeFirst : zM := (yJ3_removeFirst, cJ3_removeFirst, 2, (Option.some (Jvm.ClassFile.FieldType.object "java/lang/Object")), [])
theorem kJ3_removeFirst : zMk MJ3_removeFirst := ⟨zt (lw_at lw_m6 132 rfl), zt (lw_at lw_m1 6 rfl), by decide +kernel, by decide, by decide +kernel⟩
abbrev MJ3_pollFirst : zM := (yJ3_pollFirst, cJ3_pollFirst, 4, (Option.some (Jvm.ClassFile.FieldType.object "java/lang/Object")), [])
theorem kJ3_pollFirst : zMk MJ3_pollFirst := ⟨zt (lw_at lw_m6 136 rfl), zt (lw_at lw_m1 6 rfl), by decide +kernel, by decide, by decide +kernel⟩
abbrev MJ3_elementAt : zM := (yJ3_elementAt, cJ3_elementAt, 2, (Option.some (Jvm.ClassFile.FieldType.object "java/lang/Object")), [])
theorem kJ3_elementAt : zMk MJ3_elementAt := ⟨zt (lw_at lw_m6 139 rfl), zt (lw_at lw_m1 6 rfl), by decide +kernel, by decide, by decide +kernel⟩
abbrev MJ3_isEmpty : zM := (yJ3_isEmpty, cJ3_isEmpty, 1, (Option.some Jvm.ClassFile.FieldType.boolean), [])
theorem kJ3_isEmpty : zMk MJ3_isEmpty := ⟨zt (lw_at lw_m9 216 rfl), zt (lw_at lw_m1 6 rfl), by decide +kernel, by decide, by decide +kernel⟩
abbrev MJ3_removeLast : zM := (yJ3_removeLast, cJ3_removeLast, 2, (Option.some (Jvm.ClassFile.FieldType.object "java/lang/Object")), [])
theorem kJ3_removeLast : zMk MJ3_removeLast := ⟨zt (lw_at lw_m9 220 rfl), zt (lw_at lw_m1 6 rfl), by decide +kernel, by decide, by decide +kernel⟩
abbrev MJ3_pollLast : zM := (yJ3_pollLast, cJ3_pollLast, 4, (Option.some (Jvm.ClassFile.FieldType.object "java/lang/Object")), [])
theorem kJ3_pollLast : zMk MJ3_pollLast := ⟨zt (lw_at lw_m9 224 rfl), zt (lw_at lw_m1 6 rfl), by decide +kernel, by decide, by decide +kernel⟩
abbrev MJ3_dec : zM := (yJ3_dec, cJ3_dec, 2, (Option.some Jvm.ClassFile.FieldType.int), [])
theorem kJ3_dec : zMk MJ3_dec := ⟨zt (lw_at lw_m9 227 rfl), zt (lw_at lw_m1 6 rfl), by decide +kernel, by decide, by decide +kernel⟩
abbrev MJ3_clear : zM := (yJ3_clear, cJ3_clear, 1, (Option.none : Option Jvm.ClassFile.FieldType), [])
theorem kJ3_clear : zMk MJ3_clear := ⟨zt (lw_at lw_m9 238 rfl), zt (lw_at lw_m1 6 rfl), by decide +kernel, by decide, by decide +kernel⟩
abbrev MJ3_circularClear : zM := (yJ3_circularClear, cJ3_circularClear, 4, (Option.none : Option Jvm.ClassFile.FieldType), [])
theorem kJ3_circularClear : zMk MJ3_circularClear := ⟨zt (lw_at lw_m10 1 rfl), zt (lw_at lw_m1 6 rfl), by decide +kernel, by decide, by decide +kernel⟩
/-! java/lang/AbstractStringBuilder -/
set_option maxRecDepth 100000
abbrev cJ4_init : ByteArray := prog_16_method_2_code
def yJ4_init : MethodName := ⟨RJ4, "<init>", "(I)V"⟩
def dkwJ4_init_1 : List UInt8 := [167, 0, 16, 42, 27, 184, 0, 26, 181, 0, 15, 42, 4, 181, 0, 22, 177]
abbrev dktJ4_init_1 : List UInt8 := dkwJ4_init_1 ++ []
def dkwJ4_init_0 : List UInt8 := [42, 183, 0, 3, 178, 0, 18, 153, 0, 18, 42, 27, 188, 8, 181, 0, 15, 42, 3, 181, 0, 22]
abbrev dktJ4_init_0 : List UInt8 := dkwJ4_init_0 ++ dktJ4_init_1
theorem dksJ4_init_0 : cJ4_init.data.toList.drop 0 = dktJ4_init_0 := by decide +kernel
theorem dksJ4_init_1 : cJ4_init.data.toList.drop 22 = dktJ4_init_1 := dk_seg dksJ4_init_0 22 rfl rfl
theorem dJ4_init_0 : decode cJ4_init 0 = .ok (.aload_n 0, 1) := dk_42 (dk_at dksJ4_init_0 0 rfl rfl)
theorem dJ4_init_1 : decode cJ4_init 1 = .ok (.invokespecial 3, 3) := dk_183 0 3 (dk_at dksJ4_init_0 1 rfl rfl)
theorem dJ4_init_4 : decode cJ4_init 4 = .ok (.getstatic 18, 3) := dk_178 0 18 (dk_at dksJ4_init_0 4 rfl rfl)
theorem dJ4_init_7 : decode cJ4_init 7 = .ok (.ifCond .eq 18, 3) := dk_153 0 18 (dk_at dksJ4_init_0 7 rfl rfl)
theorem dJ4_init_10 : decode cJ4_init 10 = .ok (.aload_n 0, 1) := dk_42 (dk_at dksJ4_init_0 10 rfl rfl)
theorem dJ4_init_11 : decode cJ4_init 11 = .ok (.iload_n 1, 1) := dk_27 (dk_at dksJ4_init_0 11 rfl rfl)
theorem dJ4_init_12 : decode cJ4_init 12 = .ok (.newarray .byte, 2) := dk_188_8 (dk_at dksJ4_init_0 12 rfl rfl)
theorem dJ4_init_14 : decode cJ4_init 14 = .ok (.putfield 15, 3) := dk_181 0 15 (dk_at dksJ4_init_0 14 rfl rfl)
theorem dJ4_init_17 : decode cJ4_init 17 = .ok (.aload_n 0, 1) := dk_42 (dk_at dksJ4_init_0 17 rfl rfl)
theorem dJ4_init_18 : decode cJ4_init 18 = .ok (.iconst 0, 1) := dk_3 (dk_at dksJ4_init_0 18 rfl rfl)
theorem dJ4_init_19 : decode cJ4_init 19 = .ok (.putfield 22, 3) := dk_181 0 22 (dk_at dksJ4_init_0 19 rfl rfl)
theorem dJ4_init_22 : decode cJ4_init 22 = .ok (.goto 16, 3) := dk_167 0 16 (dk_at dksJ4_init_1 0 rfl rfl)
theorem dJ4_init_25 : decode cJ4_init 25 = .ok (.aload_n 0, 1) := dk_42 (dk_at dksJ4_init_1 3 rfl rfl)
theorem dJ4_init_26 : decode cJ4_init 26 = .ok (.iload_n 1, 1) := dk_27 (dk_at dksJ4_init_1 4 rfl rfl)
theorem dJ4_init_27 : decode cJ4_init 27 = .ok (.invokestatic 26, 3) := dk_184 0 26 (dk_at dksJ4_init_1 5 rfl rfl)
theorem dJ4_init_30 : decode cJ4_init 30 = .ok (.putfield 15, 3) := dk_181 0 15 (dk_at dksJ4_init_1 8 rfl rfl)
theorem dJ4_init_33 : decode cJ4_init 33 = .ok (.aload_n 0, 1) := dk_42 (dk_at dksJ4_init_1 11 rfl rfl)
theorem dJ4_init_34 : decode cJ4_init 34 = .ok (.iconst 1, 1) := dk_4 (dk_at dksJ4_init_1 12 rfl rfl)
theorem dJ4_init_35 : decode cJ4_init 35 = .ok (.putfield 22, 3) := dk_181 0 22 (dk_at dksJ4_init_1 13 rfl rfl)
theorem dJ4_init_38 : decode cJ4_init 38 = .ok (.return_, 1) := dk_177 (dk_at dksJ4_init_1 16 rfl rfl)
abbrev cJ4_setLength : ByteArray := prog_16_method_13_code
def yJ4_setLength : MethodName := ⟨RJ4, "setLength", "(I)V"⟩
def dkwJ4_setLength_3 : List UInt8 := [164, 0, 8, 42, 4, 181, 0, 73, 42, 27, 181, 0, 79, 177]
abbrev dktJ4_setLength_3 : List UInt8 := dkwJ4_setLength_3 ++ []
def dkwJ4_setLength_2 : List UInt8 := [167, 0, 31, 42, 180, 0, 15, 42, 180, 0, 79, 27, 184, 0, 137, 167, 0, 16, 42, 180, 0, 79, 27]
abbrev dktJ4_setLength_2 : List UInt8 := dkwJ4_setLength_2 ++ dktJ4_setLength_3
def dkwJ4_setLength_1 : List UInt8 := [162, 0, 40, 42, 182, 0, 83, 153, 0, 18, 42, 180, 0, 15, 42, 180, 0, 79, 27, 184, 0, 133]
abbrev dktJ4_setLength_1 : List UInt8 := dkwJ4_setLength_1 ++ dktJ4_setLength_2
def dkwJ4_setLength_0 : List UInt8 := [27, 156, 0, 12, 187, 0, 129, 89, 27, 183, 0, 131, 191, 42, 27, 182, 0, 100, 42, 180, 0, 79, 27]
abbrev dktJ4_setLength_0 : List UInt8 := dkwJ4_setLength_0 ++ dktJ4_setLength_1
theorem dksJ4_setLength_0 : cJ4_setLength.data.toList.drop 0 = dktJ4_setLength_0 := by decide +kernel
theorem dksJ4_setLength_1 : cJ4_setLength.data.toList.drop 23 = dktJ4_setLength_1 := dk_seg dksJ4_setLength_0 23 rfl rfl
theorem dksJ4_setLength_2 : cJ4_setLength.data.toList.drop 45 = dktJ4_setLength_2 := dk_seg dksJ4_setLength_1 22 rfl rfl
theorem dksJ4_setLength_3 : cJ4_setLength.data.toList.drop 68 = dktJ4_setLength_3 := dk_seg dksJ4_setLength_2 23 rfl rfl
theorem dJ4_setLength_0 : decode cJ4_setLength 0 = .ok (.iload_n 1, 1) := dk_27 (dk_at dksJ4_setLength_0 0 rfl rfl)
theorem dJ4_setLength_1 : decode cJ4_setLength 1 = .ok (.ifCond .ge 12, 3) := dk_156 0 12 (dk_at dksJ4_setLength_0 1 rfl rfl)
theorem dJ4_setLength_4 : decode cJ4_setLength 4 = .ok (.new 129, 3) := dk_187 0 129 (dk_at dksJ4_setLength_0 4 rfl rfl)
theorem dJ4_setLength_7 : decode cJ4_setLength 7 = .ok (.dup, 1) := dk_89 (dk_at dksJ4_setLength_0 7 rfl rfl)
theorem dJ4_setLength_8 : decode cJ4_setLength 8 = .ok (.iload_n 1, 1) := dk_27 (dk_at dksJ4_setLength_0 8 rfl rfl)
theorem dJ4_setLength_9 : decode cJ4_setLength 9 = .ok (.invokespecial 131, 3) := dk_183 0 131 (dk_at dksJ4_setLength_0 9 rfl rfl)
theorem dJ4_setLength_12 : decode cJ4_setLength 12 = .ok (.athrow, 1) := dk_191 (dk_at dksJ4_setLength_0 12 rfl rfl)
theorem dJ4_setLength_13 : decode cJ4_setLength 13 = .ok (.aload_n 0, 1) := dk_42 (dk_at dksJ4_setLength_0 13 rfl rfl)
theorem dJ4_setLength_14 : decode cJ4_setLength 14 = .ok (.iload_n 1, 1) := dk_27 (dk_at dksJ4_setLength_0 14 rfl rfl)
theorem dJ4_setLength_15 : decode cJ4_setLength 15 = .ok (.invokevirtual 100, 3) := dk_182 0 100 (dk_at dksJ4_setLength_0 15 rfl rfl)
theorem dJ4_setLength_18 : decode cJ4_setLength 18 = .ok (.aload_n 0, 1) := dk_42 (dk_at dksJ4_setLength_0 18 rfl rfl)
theorem dJ4_setLength_19 : decode cJ4_setLength 19 = .ok (.getfield 79, 3) := dk_180 0 79 (dk_at dksJ4_setLength_0 19 rfl rfl)
theorem dJ4_setLength_22 : decode cJ4_setLength 22 = .ok (.iload_n 1, 1) := dk_27 (dk_at dksJ4_setLength_0 22 rfl rfl)
theorem dJ4_setLength_23 : decode cJ4_setLength 23 = .ok (.if_icmp .ge 40, 3) := dk_162 0 40 (dk_at dksJ4_setLength_1 0 rfl rfl)
theorem dJ4_setLength_26 : decode cJ4_setLength 26 = .ok (.aload_n 0, 1) := dk_42 (dk_at dksJ4_setLength_1 3 rfl rfl)
theorem dJ4_setLength_27 : decode cJ4_setLength 27 = .ok (.invokevirtual 83, 3) := dk_182 0 83 (dk_at dksJ4_setLength_1 4 rfl rfl)
theorem dJ4_setLength_30 : decode cJ4_setLength 30 = .ok (.ifCond .eq 18, 3) := dk_153 0 18 (dk_at dksJ4_setLength_1 7 rfl rfl)
theorem dJ4_setLength_33 : decode cJ4_setLength 33 = .ok (.aload_n 0, 1) := dk_42 (dk_at dksJ4_setLength_1 10 rfl rfl)
theorem dJ4_setLength_34 : decode cJ4_setLength 34 = .ok (.getfield 15, 3) := dk_180 0 15 (dk_at dksJ4_setLength_1 11 rfl rfl)
theorem dJ4_setLength_37 : decode cJ4_setLength 37 = .ok (.aload_n 0, 1) := dk_42 (dk_at dksJ4_setLength_1 14 rfl rfl)
theorem dJ4_setLength_38 : decode cJ4_setLength 38 = .ok (.getfield 79, 3) := dk_180 0 79 (dk_at dksJ4_setLength_1 15 rfl rfl)
theorem dJ4_setLength_41 : decode cJ4_setLength 41 = .ok (.iload_n 1, 1) := dk_27 (dk_at dksJ4_setLength_1 18 rfl rfl)
theorem dJ4_setLength_42 : decode cJ4_setLength 42 = .ok (.invokestatic 133, 3) := dk_184 0 133 (dk_at dksJ4_setLength_1 19 rfl rfl)
theorem dJ4_setLength_45 : decode cJ4_setLength 45 = .ok (.goto 31, 3) := dk_167 0 31 (dk_at dksJ4_setLength_2 0 rfl rfl)
theorem dJ4_setLength_48 : decode cJ4_setLength 48 = .ok (.aload_n 0, 1) := dk_42 (dk_at dksJ4_setLength_2 3 rfl rfl)
theorem dJ4_setLength_49 : decode cJ4_setLength 49 = .ok (.getfield 15, 3) := dk_180 0 15 (dk_at dksJ4_setLength_2 4 rfl rfl)
theorem dJ4_setLength_52 : decode cJ4_setLength 52 = .ok (.aload_n 0, 1) := dk_42 (dk_at dksJ4_setLength_2 7 rfl rfl)
theorem dJ4_setLength_53 : decode cJ4_setLength 53 = .ok (.getfield 79, 3) := dk_180 0 79 (dk_at dksJ4_setLength_2 8 rfl rfl)
theorem dJ4_setLength_56 : decode cJ4_setLength 56 = .ok (.iload_n 1, 1) := dk_27 (dk_at dksJ4_setLength_2 11 rfl rfl)
theorem dJ4_setLength_57 : decode cJ4_setLength 57 = .ok (.invokestatic 137, 3) := dk_184 0 137 (dk_at dksJ4_setLength_2 12 rfl rfl)
theorem dJ4_setLength_60 : decode cJ4_setLength 60 = .ok (.goto 16, 3) := dk_167 0 16 (dk_at dksJ4_setLength_2 15 rfl rfl)
theorem dJ4_setLength_63 : decode cJ4_setLength 63 = .ok (.aload_n 0, 1) := dk_42 (dk_at dksJ4_setLength_2 18 rfl rfl)
theorem dJ4_setLength_64 : decode cJ4_setLength 64 = .ok (.getfield 79, 3) := dk_180 0 79 (dk_at dksJ4_setLength_2 19 rfl rfl)
theorem dJ4_setLength_67 : decode cJ4_setLength 67 = .ok (.iload_n 1, 1) := dk_27 (dk_at dksJ4_setLength_2 22 rfl rfl)
theorem dJ4_setLength_68 : decode cJ4_setLength 68 = .ok (.if_icmp .le 8, 3) := dk_164 0 8 (dk_at dksJ4_setLength_3 0 rfl rfl)
theorem dJ4_setLength_71 : decode cJ4_setLength 71 = .ok (.aload_n 0, 1) := dk_42 (dk_at dksJ4_setLength_3 3 rfl rfl)
theorem dJ4_setLength_72 : decode cJ4_setLength 72 = .ok (.iconst 1, 1) := dk_4 (dk_at dksJ4_setLength_3 4 rfl rfl)
theorem dJ4_setLength_73 : decode cJ4_setLength 73 = .ok (.putfield 73, 3) := dk_181 0 73 (dk_at dksJ4_setLength_3 5 rfl rfl)
theorem dJ4_setLength_76 : decode cJ4_setLength 76 = .ok (.aload_n 0, 1) := dk_42 (dk_at dksJ4_setLength_3 8 rfl rfl)
theorem dJ4_setLength_77 : decode cJ4_setLength 77 = .ok (.iload_n 1, 1) := dk_27 (dk_at dksJ4_setLength_3 9 rfl rfl)
theorem dJ4_setLength_78 : decode cJ4_setLength 78 = .ok (.putfield 79, 3) := dk_181 0 79 (dk_at dksJ4_setLength_3 10 rfl rfl)
theorem dJ4_setLength_81 : decode cJ4_setLength 81 = .ok (.return_, 1) := dk_177 (dk_at dksJ4_setLength_3 13 rfl rfl)
abbrev cJ4_append : ByteArray := prog_16_method_22_code
def yJ4_append : MethodName := ⟨RJ4, "append", "(Ljava/lang/String;)Ljava/lang/AbstractStringBuilder;"⟩
def dkwJ4_append_1 : List UInt8 := [42, 42, 180, 0, 79, 43, 182, 0, 208, 42, 89, 180, 0, 79, 28, 96, 181, 0, 79, 42, 176]
abbrev dktJ4_append_1 : List UInt8 := dkwJ4_append_1 ++ []
def dkwJ4_append_0 : List UInt8 := [43, 199, 0, 8, 42, 182, 0, 204, 176, 43, 182, 0, 32, 61, 42, 42, 180, 0, 79, 28, 96, 182, 0, 100]
abbrev dktJ4_append_0 : List UInt8 := dkwJ4_append_0 ++ dktJ4_append_1
theorem dksJ4_append_0 : cJ4_append.data.toList.drop 0 = dktJ4_append_0 := by decide +kernel
theorem dksJ4_append_1 : cJ4_append.data.toList.drop 24 = dktJ4_append_1 := dk_seg dksJ4_append_0 24 rfl rfl
theorem dJ4_append_0 : decode cJ4_append 0 = .ok (.aload_n 1, 1) := dk_43 (dk_at dksJ4_append_0 0 rfl rfl)
theorem dJ4_append_1 : decode cJ4_append 1 = .ok (.ifnonnull 8, 3) := dk_199 0 8 (dk_at dksJ4_append_0 1 rfl rfl)
theorem dJ4_append_4 : decode cJ4_append 4 = .ok (.aload_n 0, 1) := dk_42 (dk_at dksJ4_append_0 4 rfl rfl)
theorem dJ4_append_5 : decode cJ4_append 5 = .ok (.invokevirtual 204, 3) := dk_182 0 204 (dk_at dksJ4_append_0 5 rfl rfl)
theorem dJ4_append_8 : decode cJ4_append 8 = .ok (.areturn, 1) := dk_176 (dk_at dksJ4_append_0 8 rfl rfl)
theorem dJ4_append_9 : decode cJ4_append 9 = .ok (.aload_n 1, 1) := dk_43 (dk_at dksJ4_append_0 9 rfl rfl)
theorem dJ4_append_10 : decode cJ4_append 10 = .ok (.invokevirtual 32, 3) := dk_182 0 32 (dk_at dksJ4_append_0 10 rfl rfl)
theorem dJ4_append_13 : decode cJ4_append 13 = .ok (.istore_n 2, 1) := dk_61 (dk_at dksJ4_append_0 13 rfl rfl)
theorem dJ4_append_14 : decode cJ4_append 14 = .ok (.aload_n 0, 1) := dk_42 (dk_at dksJ4_append_0 14 rfl rfl)
theorem dJ4_append_15 : decode cJ4_append 15 = .ok (.aload_n 0, 1) := dk_42 (dk_at dksJ4_append_0 15 rfl rfl)
theorem dJ4_append_16 : decode cJ4_append 16 = .ok (.getfield 79, 3) := dk_180 0 79 (dk_at dksJ4_append_0 16 rfl rfl)
theorem dJ4_append_19 : decode cJ4_append 19 = .ok (.iload_n 2, 1) := dk_28 (dk_at dksJ4_append_0 19 rfl rfl)
theorem dJ4_append_20 : decode cJ4_append 20 = .ok (.iadd, 1) := dk_96 (dk_at dksJ4_append_0 20 rfl rfl)
theorem dJ4_append_21 : decode cJ4_append 21 = .ok (.invokevirtual 100, 3) := dk_182 0 100 (dk_at dksJ4_append_0 21 rfl rfl)
theorem dJ4_append_24 : decode cJ4_append 24 = .ok (.aload_n 0, 1) := dk_42 (dk_at dksJ4_append_1 0 rfl rfl)
theorem dJ4_append_25 : decode cJ4_append 25 = .ok (.aload_n 0, 1) := dk_42 (dk_at dksJ4_append_1 1 rfl rfl)
theorem dJ4_append_26 : decode cJ4_append 26 = .ok (.getfield 79, 3) := dk_180 0 79 (dk_at dksJ4_append_1 2 rfl rfl)
theorem dJ4_append_29 : decode cJ4_append 29 = .ok (.aload_n 1, 1) := dk_43 (dk_at dksJ4_append_1 5 rfl rfl)
theorem dJ4_append_30 : decode cJ4_append 30 = .ok (.invokevirtual 208, 3) := dk_182 0 208 (dk_at dksJ4_append_1 6 rfl rfl)
theorem dJ4_append_33 : decode cJ4_append 33 = .ok (.aload_n 0, 1) := dk_42 (dk_at dksJ4_append_1 9 rfl rfl)
theorem dJ4_append_34 : decode cJ4_append 34 = .ok (.dup, 1) := dk_89 (dk_at dksJ4_append_1 10 rfl rfl)
theorem dJ4_append_35 : decode cJ4_append 35 = .ok (.getfield 79, 3) := dk_180 0 79 (dk_at dksJ4_append_1 11 rfl rfl)
theorem dJ4_append_38 : decode cJ4_append 38 = .ok (.iload_n 2, 1) := dk_28 (dk_at dksJ4_append_1 14 rfl rfl)
theorem dJ4_append_39 : decode cJ4_append 39 = .ok (.iadd, 1) := dk_96 (dk_at dksJ4_append_1 15 rfl rfl)
theorem dJ4_append_40 : decode cJ4_append 40 = .ok (.putfield 79, 3) := dk_181 0 79 (dk_at dksJ4_append_1 16 rfl rfl)
theorem dJ4_append_43 : decode cJ4_append 43 = .ok (.aload_n 0, 1) := dk_42 (dk_at dksJ4_append_1 19 rfl rfl)
theorem dJ4_append_44 : decode cJ4_append 44 = .ok (.areturn, 1) := dk_176 (dk_at dksJ4_append_1 20 rfl rfl)
abbrev cJ4_appendNull : ByteArray := prog_16_method_26_code
def yJ4_appendNull : MethodName := ⟨RJ4, "appendNull", "()Ljava/lang/AbstractStringBuilder;"⟩
def dkwJ4_appendNull_3 : List UInt8 := [184, 0, 226, 60, 42, 27, 181, 0, 79, 42, 176]
abbrev dktJ4_appendNull_3 : List UInt8 := dkwJ4_appendNull_3 ++ []
def dkwJ4_appendNull_2 : List UInt8 := [16, 108, 84, 44, 27, 132, 1, 1, 16, 108, 84, 167, 0, 17, 44, 27, 16, 110, 16, 117, 16, 108, 16, 108]
abbrev dktJ4_appendNull_2 : List UInt8 := dkwJ4_appendNull_2 ++ dktJ4_appendNull_3
def dkwJ4_appendNull_1 : List UInt8 := [153, 0, 38, 44, 27, 132, 1, 1, 16, 110, 84, 44, 27, 132, 1, 1, 16, 117, 84, 44, 27, 132, 1, 1]
abbrev dktJ4_appendNull_1 : List UInt8 := dkwJ4_appendNull_1 ++ dktJ4_appendNull_2
def dkwJ4_appendNull_0 : List UInt8 := [42, 42, 180, 0, 79, 7, 96, 182, 0, 100, 42, 180, 0, 79, 60, 42, 180, 0, 15, 77, 42, 182, 0, 83]
abbrev dktJ4_appendNull_0 : List UInt8 := dkwJ4_appendNull_0 ++ dktJ4_appendNull_1
theorem dksJ4_appendNull_0 : cJ4_appendNull.data.toList.drop 0 = dktJ4_appendNull_0 := by decide +kernel
theorem dksJ4_appendNull_1 : cJ4_appendNull.data.toList.drop 24 = dktJ4_appendNull_1 := dk_seg dksJ4_appendNull_0 24 rfl rfl
theorem dksJ4_appendNull_2 : cJ4_appendNull.data.toList.drop 48 = dktJ4_appendNull_2 := dk_seg dksJ4_appendNull_1 24 rfl rfl
theorem dksJ4_appendNull_3 : cJ4_appendNull.data.toList.drop 72 = dktJ4_appendNull_3 := dk_seg dksJ4_appendNull_2 24 rfl rfl
theorem dJ4_appendNull_0 : decode cJ4_appendNull 0 = .ok (.aload_n 0, 1) := dk_42 (dk_at dksJ4_appendNull_0 0 rfl rfl)
theorem dJ4_appendNull_1 : decode cJ4_appendNull 1 = .ok (.aload_n 0, 1) := dk_42 (dk_at dksJ4_appendNull_0 1 rfl rfl)
theorem dJ4_appendNull_2 : decode cJ4_appendNull 2 = .ok (.getfield 79, 3) := dk_180 0 79 (dk_at dksJ4_appendNull_0 2 rfl rfl)
theorem dJ4_appendNull_5 : decode cJ4_appendNull 5 = .ok (.iconst 4, 1) := dk_7 (dk_at dksJ4_appendNull_0 5 rfl rfl)
theorem dJ4_appendNull_6 : decode cJ4_appendNull 6 = .ok (.iadd, 1) := dk_96 (dk_at dksJ4_appendNull_0 6 rfl rfl)
theorem dJ4_appendNull_7 : decode cJ4_appendNull 7 = .ok (.invokevirtual 100, 3) := dk_182 0 100 (dk_at dksJ4_appendNull_0 7 rfl rfl)
theorem dJ4_appendNull_10 : decode cJ4_appendNull 10 = .ok (.aload_n 0, 1) := dk_42 (dk_at dksJ4_appendNull_0 10 rfl rfl)
theorem dJ4_appendNull_11 : decode cJ4_appendNull 11 = .ok (.getfield 79, 3) := dk_180 0 79 (dk_at dksJ4_appendNull_0 11 rfl rfl)
theorem dJ4_appendNull_14 : decode cJ4_appendNull 14 = .ok (.istore_n 1, 1) := dk_60 (dk_at dksJ4_appendNull_0 14 rfl rfl)
theorem dJ4_appendNull_15 : decode cJ4_appendNull 15 = .ok (.aload_n 0, 1) := dk_42 (dk_at dksJ4_appendNull_0 15 rfl rfl)
theorem dJ4_appendNull_16 : decode cJ4_appendNull 16 = .ok (.getfield 15, 3) := dk_180 0 15 (dk_at dksJ4_appendNull_0 16 rfl rfl)
theorem dJ4_appendNull_19 : decode cJ4_appendNull 19 = .ok (.astore_n 2, 1) := dk_77 (dk_at dksJ4_appendNull_0 19 rfl rfl)
theorem dJ4_appendNull_20 : decode cJ4_appendNull 20 = .ok (.aload_n 0, 1) := dk_42 (dk_at dksJ4_appendNull_0 20 rfl rfl)
theorem dJ4_appendNull_21 : decode cJ4_appendNull 21 = .ok (.invokevirtual 83, 3) := dk_182 0 83 (dk_at dksJ4_appendNull_0 21 rfl rfl)
theorem dJ4_appendNull_24 : decode cJ4_appendNull 24 = .ok (.ifCond .eq 38, 3) := dk_153 0 38 (dk_at dksJ4_appendNull_1 0 rfl rfl)
theorem dJ4_appendNull_27 : decode cJ4_appendNull 27 = .ok (.aload_n 2, 1) := dk_44 (dk_at dksJ4_appendNull_1 3 rfl rfl)
theorem dJ4_appendNull_28 : decode cJ4_appendNull 28 = .ok (.iload_n 1, 1) := dk_27 (dk_at dksJ4_appendNull_1 4 rfl rfl)
theorem dJ4_appendNull_29 : decode cJ4_appendNull 29 = .ok (.iinc 1 1, 3) := dk_132 1 1 (dk_at dksJ4_appendNull_1 5 rfl rfl)
theorem dJ4_appendNull_32 : decode cJ4_appendNull 32 = .ok (.bipush 110, 2) := dk_16 110 (dk_at dksJ4_appendNull_1 8 rfl rfl)
theorem dJ4_appendNull_34 : decode cJ4_appendNull 34 = .ok (.bastore, 1) := dk_84 (dk_at dksJ4_appendNull_1 10 rfl rfl)
theorem dJ4_appendNull_35 : decode cJ4_appendNull 35 = .ok (.aload_n 2, 1) := dk_44 (dk_at dksJ4_appendNull_1 11 rfl rfl)
theorem dJ4_appendNull_36 : decode cJ4_appendNull 36 = .ok (.iload_n 1, 1) := dk_27 (dk_at dksJ4_appendNull_1 12 rfl rfl)
theorem dJ4_appendNull_37 : decode cJ4_appendNull 37 = .ok (.iinc 1 1, 3) := dk_132 1 1 (dk_at dksJ4_appendNull_1 13 rfl rfl)
theorem dJ4_appendNull_40 : decode cJ4_appendNull 40 = .ok (.bipush 117, 2) := dk_16 117 (dk_at dksJ4_appendNull_1 16 rfl rfl)
theorem dJ4_appendNull_42 : decode cJ4_appendNull 42 = .ok (.bastore, 1) := dk_84 (dk_at dksJ4_appendNull_1 18 rfl rfl)
theorem dJ4_appendNull_43 : decode cJ4_appendNull 43 = .ok (.aload_n 2, 1) := dk_44 (dk_at dksJ4_appendNull_1 19 rfl rfl)
theorem dJ4_appendNull_44 : decode cJ4_appendNull 44 = .ok (.iload_n 1, 1) := dk_27 (dk_at dksJ4_appendNull_1 20 rfl rfl)
theorem dJ4_appendNull_45 : decode cJ4_appendNull 45 = .ok (.iinc 1 1, 3) := dk_132 1 1 (dk_at dksJ4_appendNull_1 21 rfl rfl)
theorem dJ4_appendNull_48 : decode cJ4_appendNull 48 = .ok (.bipush 108, 2) := dk_16 108 (dk_at dksJ4_appendNull_2 0 rfl rfl)
theorem dJ4_appendNull_50 : decode cJ4_appendNull 50 = .ok (.bastore, 1) := dk_84 (dk_at dksJ4_appendNull_2 2 rfl rfl)
theorem dJ4_appendNull_51 : decode cJ4_appendNull 51 = .ok (.aload_n 2, 1) := dk_44 (dk_at dksJ4_appendNull_2 3 rfl rfl)
theorem dJ4_appendNull_52 : decode cJ4_appendNull 52 = .ok (.iload_n 1, 1) := dk_27 (dk_at dksJ4_appendNull_2 4 rfl rfl)
theorem dJ4_appendNull_53 : decode cJ4_appendNull 53 = .ok (.iinc 1 1, 3) := dk_132 1 1 (dk_at dksJ4_appendNull_2 5 rfl rfl)
theorem dJ4_appendNull_56 : decode cJ4_appendNull 56 = .ok (.bipush 108, 2) := dk_16 108 (dk_at dksJ4_appendNull_2 8 rfl rfl)
theorem dJ4_appendNull_58 : decode cJ4_appendNull 58 = .ok (.bastore, 1) := dk_84 (dk_at dksJ4_appendNull_2 10 rfl rfl)
theorem dJ4_appendNull_59 : decode cJ4_appendNull 59 = .ok (.goto 17, 3) := dk_167 0 17 (dk_at dksJ4_appendNull_2 11 rfl rfl)
theorem dJ4_appendNull_62 : decode cJ4_appendNull 62 = .ok (.aload_n 2, 1) := dk_44 (dk_at dksJ4_appendNull_2 14 rfl rfl)
theorem dJ4_appendNull_63 : decode cJ4_appendNull 63 = .ok (.iload_n 1, 1) := dk_27 (dk_at dksJ4_appendNull_2 15 rfl rfl)
theorem dJ4_appendNull_64 : decode cJ4_appendNull 64 = .ok (.bipush 110, 2) := dk_16 110 (dk_at dksJ4_appendNull_2 16 rfl rfl)
theorem dJ4_appendNull_66 : decode cJ4_appendNull 66 = .ok (.bipush 117, 2) := dk_16 117 (dk_at dksJ4_appendNull_2 18 rfl rfl)
theorem dJ4_appendNull_68 : decode cJ4_appendNull 68 = .ok (.bipush 108, 2) := dk_16 108 (dk_at dksJ4_appendNull_2 20 rfl rfl)
theorem dJ4_appendNull_70 : decode cJ4_appendNull 70 = .ok (.bipush 108, 2) := dk_16 108 (dk_at dksJ4_appendNull_2 22 rfl rfl)
theorem dJ4_appendNull_72 : decode cJ4_appendNull 72 = .ok (.invokestatic 226, 3) := dk_184 0 226 (dk_at dksJ4_appendNull_3 0 rfl rfl)
theorem dJ4_appendNull_75 : decode cJ4_appendNull 75 = .ok (.istore_n 1, 1) := dk_60 (dk_at dksJ4_appendNull_3 3 rfl rfl)
theorem dJ4_appendNull_76 : decode cJ4_appendNull 76 = .ok (.aload_n 0, 1) := dk_42 (dk_at dksJ4_appendNull_3 4 rfl rfl)
theorem dJ4_appendNull_77 : decode cJ4_appendNull 77 = .ok (.iload_n 1, 1) := dk_27 (dk_at dksJ4_appendNull_3 5 rfl rfl)
theorem dJ4_appendNull_78 : decode cJ4_appendNull 78 = .ok (.putfield 79, 3) := dk_181 0 79 (dk_at dksJ4_appendNull_3 6 rfl rfl)
theorem dJ4_appendNull_81 : decode cJ4_appendNull 81 = .ok (.aload_n 0, 1) := dk_42 (dk_at dksJ4_appendNull_3 9 rfl rfl)
theorem dJ4_appendNull_82 : decode cJ4_appendNull 82 = .ok (.areturn, 1) := dk_176 (dk_at dksJ4_appendNull_3 10 rfl rfl)
abbrev cJ4_ensureCapacityInternal : ByteArray := prog_16_method_9_code
def yJ4_ensureCapacityInternal : MethodName := ⟨RJ4, "ensureCapacityInternal", "(I)V"⟩
def dkwJ4_ensureCapacityInternal_1 : List UInt8 := [182, 0, 104, 42, 180, 0, 22, 120, 184, 0, 108, 181, 0, 15, 177]
abbrev dktJ4_ensureCapacityInternal_1 : List UInt8 := dkwJ4_ensureCapacityInternal_1 ++ []
def dkwJ4_ensureCapacityInternal_0 : List UInt8 := [42, 180, 0, 15, 190, 42, 180, 0, 22, 122, 61, 27, 28, 100, 158, 0, 24, 42, 42, 180, 0, 15, 42, 27]
abbrev dktJ4_ensureCapacityInternal_0 : List UInt8 := dkwJ4_ensureCapacityInternal_0 ++ dktJ4_ensureCapacityInternal_1
theorem dksJ4_ensureCapacityInternal_0 : cJ4_ensureCapacityInternal.data.toList.drop 0 = dktJ4_ensureCapacityInternal_0 := by decide +kernel
theorem dksJ4_ensureCapacityInternal_1 : cJ4_ensureCapacityInternal.data.toList.drop 24 = dktJ4_ensureCapacityInternal_1 := dk_seg dksJ4_ensureCapacityInternal_0 24 rfl rfl
theorem dJ4_ensureCapacityInternal_0 : decode cJ4_ensureCapacityInternal 0 = .ok (.aload_n 0, 1) := dk_42 (dk_at dksJ4_ensureCapacityInternal_0 0 rfl rfl)
theorem dJ4_ensureCapacityInternal_1 : decode cJ4_ensureCapacityInternal 1 = .ok (.getfield 15, 3) := dk_180 0 15 (dk_at dksJ4_ensureCapacityInternal_0 1 rfl rfl)
theorem dJ4_ensureCapacityInternal_4 : decode cJ4_ensureCapacityInternal 4 = .ok (.arraylength, 1) := dk_190 (dk_at dksJ4_ensureCapacityInternal_0 4 rfl rfl)
theorem dJ4_ensureCapacityInternal_5 : decode cJ4_ensureCapacityInternal 5 = .ok (.aload_n 0, 1) := dk_42 (dk_at dksJ4_ensureCapacityInternal_0 5 rfl rfl)
theorem dJ4_ensureCapacityInternal_6 : decode cJ4_ensureCapacityInternal 6 = .ok (.getfield 22, 3) := dk_180 0 22 (dk_at dksJ4_ensureCapacityInternal_0 6 rfl rfl)
theorem dJ4_ensureCapacityInternal_9 : decode cJ4_ensureCapacityInternal 9 = .ok (.ishr, 1) := dk_122 (dk_at dksJ4_ensureCapacityInternal_0 9 rfl rfl)
theorem dJ4_ensureCapacityInternal_10 : decode cJ4_ensureCapacityInternal 10 = .ok (.istore_n 2, 1) := dk_61 (dk_at dksJ4_ensureCapacityInternal_0 10 rfl rfl)
theorem dJ4_ensureCapacityInternal_11 : decode cJ4_ensureCapacityInternal 11 = .ok (.iload_n 1, 1) := dk_27 (dk_at dksJ4_ensureCapacityInternal_0 11 rfl rfl)
theorem dJ4_ensureCapacityInternal_12 : decode cJ4_ensureCapacityInternal 12 = .ok (.iload_n 2, 1) := dk_28 (dk_at dksJ4_ensureCapacityInternal_0 12 rfl rfl)
theorem dJ4_ensureCapacityInternal_13 : decode cJ4_ensureCapacityInternal 13 = .ok (.isub, 1) := dk_100 (dk_at dksJ4_ensureCapacityInternal_0 13 rfl rfl)
theorem dJ4_ensureCapacityInternal_14 : decode cJ4_ensureCapacityInternal 14 = .ok (.ifCond .le 24, 3) := dk_158 0 24 (dk_at dksJ4_ensureCapacityInternal_0 14 rfl rfl)
theorem dJ4_ensureCapacityInternal_17 : decode cJ4_ensureCapacityInternal 17 = .ok (.aload_n 0, 1) := dk_42 (dk_at dksJ4_ensureCapacityInternal_0 17 rfl rfl)
theorem dJ4_ensureCapacityInternal_18 : decode cJ4_ensureCapacityInternal 18 = .ok (.aload_n 0, 1) := dk_42 (dk_at dksJ4_ensureCapacityInternal_0 18 rfl rfl)
theorem dJ4_ensureCapacityInternal_19 : decode cJ4_ensureCapacityInternal 19 = .ok (.getfield 15, 3) := dk_180 0 15 (dk_at dksJ4_ensureCapacityInternal_0 19 rfl rfl)
theorem dJ4_ensureCapacityInternal_22 : decode cJ4_ensureCapacityInternal 22 = .ok (.aload_n 0, 1) := dk_42 (dk_at dksJ4_ensureCapacityInternal_0 22 rfl rfl)
theorem dJ4_ensureCapacityInternal_23 : decode cJ4_ensureCapacityInternal 23 = .ok (.iload_n 1, 1) := dk_27 (dk_at dksJ4_ensureCapacityInternal_0 23 rfl rfl)
theorem dJ4_ensureCapacityInternal_24 : decode cJ4_ensureCapacityInternal 24 = .ok (.invokevirtual 104, 3) := dk_182 0 104 (dk_at dksJ4_ensureCapacityInternal_1 0 rfl rfl)
theorem dJ4_ensureCapacityInternal_27 : decode cJ4_ensureCapacityInternal 27 = .ok (.aload_n 0, 1) := dk_42 (dk_at dksJ4_ensureCapacityInternal_1 3 rfl rfl)
theorem dJ4_ensureCapacityInternal_28 : decode cJ4_ensureCapacityInternal 28 = .ok (.getfield 22, 3) := dk_180 0 22 (dk_at dksJ4_ensureCapacityInternal_1 4 rfl rfl)
theorem dJ4_ensureCapacityInternal_31 : decode cJ4_ensureCapacityInternal 31 = .ok (.ishl, 1) := dk_120 (dk_at dksJ4_ensureCapacityInternal_1 7 rfl rfl)
theorem dJ4_ensureCapacityInternal_32 : decode cJ4_ensureCapacityInternal 32 = .ok (.invokestatic 108, 3) := dk_184 0 108 (dk_at dksJ4_ensureCapacityInternal_1 8 rfl rfl)
theorem dJ4_ensureCapacityInternal_35 : decode cJ4_ensureCapacityInternal 35 = .ok (.putfield 15, 3) := dk_181 0 15 (dk_at dksJ4_ensureCapacityInternal_1 11 rfl rfl)
theorem dJ4_ensureCapacityInternal_38 : decode cJ4_ensureCapacityInternal 38 = .ok (.return_, 1) := dk_177 (dk_at dksJ4_ensureCapacityInternal_1 14 rfl rfl)
abbrev cJ4_newCapacity : ByteArray := prog_16_method_10_code
def yJ4_newCapacity : MethodName := ⟨RJ4, "newCapacity", "(I)I"⟩
def dkwJ4_newCapacity_2 : List UInt8 := [183, 0, 124, 191, 21, 5, 42, 180, 0, 22, 122, 172]
abbrev dktJ4_newCapacity_2 : List UInt8 := dkwJ4_newCapacity_2 ++ []
def dkwJ4_newCapacity_1 : List UInt8 := [180, 0, 22, 120, 96, 184, 0, 114, 54, 5, 21, 5, 18, 39, 160, 0, 13, 187, 0, 120, 89, 18, 122]
abbrev dktJ4_newCapacity_1 : List UInt8 := dkwJ4_newCapacity_1 ++ dktJ4_newCapacity_2
def dkwJ4_newCapacity_0 : List UInt8 := [42, 180, 0, 15, 190, 61, 27, 42, 180, 0, 22, 120, 62, 29, 28, 100, 54, 4, 28, 21, 4, 28, 5, 42]
abbrev dktJ4_newCapacity_0 : List UInt8 := dkwJ4_newCapacity_0 ++ dktJ4_newCapacity_1
theorem dksJ4_newCapacity_0 : cJ4_newCapacity.data.toList.drop 0 = dktJ4_newCapacity_0 := by decide +kernel
theorem dksJ4_newCapacity_1 : cJ4_newCapacity.data.toList.drop 24 = dktJ4_newCapacity_1 := dk_seg dksJ4_newCapacity_0 24 rfl rfl
theorem dksJ4_newCapacity_2 : cJ4_newCapacity.data.toList.drop 47 = dktJ4_newCapacity_2 := dk_seg dksJ4_newCapacity_1 23 rfl rfl
theorem dJ4_newCapacity_0 : decode cJ4_newCapacity 0 = .ok (.aload_n 0, 1) := dk_42 (dk_at dksJ4_newCapacity_0 0 rfl rfl)
theorem dJ4_newCapacity_1 : decode cJ4_newCapacity 1 = .ok (.getfield 15, 3) := dk_180 0 15 (dk_at dksJ4_newCapacity_0 1 rfl rfl)
theorem dJ4_newCapacity_4 : decode cJ4_newCapacity 4 = .ok (.arraylength, 1) := dk_190 (dk_at dksJ4_newCapacity_0 4 rfl rfl)
theorem dJ4_newCapacity_5 : decode cJ4_newCapacity 5 = .ok (.istore_n 2, 1) := dk_61 (dk_at dksJ4_newCapacity_0 5 rfl rfl)
theorem dJ4_newCapacity_6 : decode cJ4_newCapacity 6 = .ok (.iload_n 1, 1) := dk_27 (dk_at dksJ4_newCapacity_0 6 rfl rfl)
theorem dJ4_newCapacity_7 : decode cJ4_newCapacity 7 = .ok (.aload_n 0, 1) := dk_42 (dk_at dksJ4_newCapacity_0 7 rfl rfl)
theorem dJ4_newCapacity_8 : decode cJ4_newCapacity 8 = .ok (.getfield 22, 3) := dk_180 0 22 (dk_at dksJ4_newCapacity_0 8 rfl rfl)
theorem dJ4_newCapacity_11 : decode cJ4_newCapacity 11 = .ok (.ishl, 1) := dk_120 (dk_at dksJ4_newCapacity_0 11 rfl rfl)
theorem dJ4_newCapacity_12 : decode cJ4_newCapacity 12 = .ok (.istore_n 3, 1) := dk_62 (dk_at dksJ4_newCapacity_0 12 rfl rfl)
theorem dJ4_newCapacity_13 : decode cJ4_newCapacity 13 = .ok (.iload_n 3, 1) := dk_29 (dk_at dksJ4_newCapacity_0 13 rfl rfl)
theorem dJ4_newCapacity_14 : decode cJ4_newCapacity 14 = .ok (.iload_n 2, 1) := dk_28 (dk_at dksJ4_newCapacity_0 14 rfl rfl)
theorem dJ4_newCapacity_15 : decode cJ4_newCapacity 15 = .ok (.isub, 1) := dk_100 (dk_at dksJ4_newCapacity_0 15 rfl rfl)
theorem dJ4_newCapacity_16 : decode cJ4_newCapacity 16 = .ok (.istore 4, 2) := dk_54 4 (dk_at dksJ4_newCapacity_0 16 rfl rfl)
theorem dJ4_newCapacity_18 : decode cJ4_newCapacity 18 = .ok (.iload_n 2, 1) := dk_28 (dk_at dksJ4_newCapacity_0 18 rfl rfl)
theorem dJ4_newCapacity_19 : decode cJ4_newCapacity 19 = .ok (.iload 4, 2) := dk_21 4 (dk_at dksJ4_newCapacity_0 19 rfl rfl)
theorem dJ4_newCapacity_21 : decode cJ4_newCapacity 21 = .ok (.iload_n 2, 1) := dk_28 (dk_at dksJ4_newCapacity_0 21 rfl rfl)
theorem dJ4_newCapacity_22 : decode cJ4_newCapacity 22 = .ok (.iconst 2, 1) := dk_5 (dk_at dksJ4_newCapacity_0 22 rfl rfl)
theorem dJ4_newCapacity_23 : decode cJ4_newCapacity 23 = .ok (.aload_n 0, 1) := dk_42 (dk_at dksJ4_newCapacity_0 23 rfl rfl)
theorem dJ4_newCapacity_24 : decode cJ4_newCapacity 24 = .ok (.getfield 22, 3) := dk_180 0 22 (dk_at dksJ4_newCapacity_1 0 rfl rfl)
theorem dJ4_newCapacity_27 : decode cJ4_newCapacity 27 = .ok (.ishl, 1) := dk_120 (dk_at dksJ4_newCapacity_1 3 rfl rfl)
theorem dJ4_newCapacity_28 : decode cJ4_newCapacity 28 = .ok (.iadd, 1) := dk_96 (dk_at dksJ4_newCapacity_1 4 rfl rfl)
theorem dJ4_newCapacity_29 : decode cJ4_newCapacity 29 = .ok (.invokestatic 114, 3) := dk_184 0 114 (dk_at dksJ4_newCapacity_1 5 rfl rfl)
theorem dJ4_newCapacity_32 : decode cJ4_newCapacity 32 = .ok (.istore 5, 2) := dk_54 5 (dk_at dksJ4_newCapacity_1 8 rfl rfl)
theorem dJ4_newCapacity_34 : decode cJ4_newCapacity 34 = .ok (.iload 5, 2) := dk_21 5 (dk_at dksJ4_newCapacity_1 10 rfl rfl)
theorem dJ4_newCapacity_36 : decode cJ4_newCapacity 36 = .ok (.ldc 39, 2) := dk_18 39 (dk_at dksJ4_newCapacity_1 12 rfl rfl)
theorem dJ4_newCapacity_38 : decode cJ4_newCapacity 38 = .ok (.if_icmp .ne 13, 3) := dk_160 0 13 (dk_at dksJ4_newCapacity_1 14 rfl rfl)
theorem dJ4_newCapacity_41 : decode cJ4_newCapacity 41 = .ok (.new 120, 3) := dk_187 0 120 (dk_at dksJ4_newCapacity_1 17 rfl rfl)
theorem dJ4_newCapacity_44 : decode cJ4_newCapacity 44 = .ok (.dup, 1) := dk_89 (dk_at dksJ4_newCapacity_1 20 rfl rfl)
theorem dJ4_newCapacity_45 : decode cJ4_newCapacity 45 = .ok (.ldc 122, 2) := dk_18 122 (dk_at dksJ4_newCapacity_1 21 rfl rfl)
theorem dJ4_newCapacity_47 : decode cJ4_newCapacity 47 = .ok (.invokespecial 124, 3) := dk_183 0 124 (dk_at dksJ4_newCapacity_2 0 rfl rfl)
theorem dJ4_newCapacity_50 : decode cJ4_newCapacity 50 = .ok (.athrow, 1) := dk_191 (dk_at dksJ4_newCapacity_2 3 rfl rfl)
theorem dJ4_newCapacity_51 : decode cJ4_newCapacity 51 = .ok (.iload 5, 2) := dk_21 5 (dk_at dksJ4_newCapacity_2 4 rfl rfl)
theorem dJ4_newCapacity_53 : decode cJ4_newCapacity 53 = .ok (.aload_n 0, 1) := dk_42 (dk_at dksJ4_newCapacity_2 6 rfl rfl)
theorem dJ4_newCapacity_54 : decode cJ4_newCapacity 54 = .ok (.getfield 22, 3) := dk_180 0 22 (dk_at dksJ4_newCapacity_2 7 rfl rfl)
theorem dJ4_newCapacity_57 : decode cJ4_newCapacity 57 = .ok (.ishr, 1) := dk_122 (dk_at dksJ4_newCapacity_2 10 rfl rfl)
theorem dJ4_newCapacity_58 : decode cJ4_newCapacity 58 = .ok (.ireturn, 1) := dk_172 (dk_at dksJ4_newCapacity_2 11 rfl rfl)
abbrev cJ4_isLatin1 : ByteArray := prog_16_method_68_code
def yJ4_isLatin1 : MethodName := ⟨RJ4, "isLatin1", "()Z"⟩
def dkwJ4_isLatin1_0 : List UInt8 := [178, 0, 18, 153, 0, 14, 42, 180, 0, 22, 154, 0, 7, 4, 167, 0, 4, 3, 172]
abbrev dktJ4_isLatin1_0 : List UInt8 := dkwJ4_isLatin1_0 ++ []
theorem dksJ4_isLatin1_0 : cJ4_isLatin1.data.toList.drop 0 = dktJ4_isLatin1_0 := by decide +kernel
theorem dJ4_isLatin1_0 : decode cJ4_isLatin1 0 = .ok (.getstatic 18, 3) := dk_178 0 18 (dk_at dksJ4_isLatin1_0 0 rfl rfl)
theorem dJ4_isLatin1_3 : decode cJ4_isLatin1 3 = .ok (.ifCond .eq 14, 3) := dk_153 0 14 (dk_at dksJ4_isLatin1_0 3 rfl rfl)
theorem dJ4_isLatin1_6 : decode cJ4_isLatin1 6 = .ok (.aload_n 0, 1) := dk_42 (dk_at dksJ4_isLatin1_0 6 rfl rfl)
theorem dJ4_isLatin1_7 : decode cJ4_isLatin1 7 = .ok (.getfield 22, 3) := dk_180 0 22 (dk_at dksJ4_isLatin1_0 7 rfl rfl)
theorem dJ4_isLatin1_10 : decode cJ4_isLatin1 10 = .ok (.ifCond .ne 7, 3) := dk_154 0 7 (dk_at dksJ4_isLatin1_0 10 rfl rfl)
theorem dJ4_isLatin1_13 : decode cJ4_isLatin1 13 = .ok (.iconst 1, 1) := dk_4 (dk_at dksJ4_isLatin1_0 13 rfl rfl)
theorem dJ4_isLatin1_14 : decode cJ4_isLatin1 14 = .ok (.goto 4, 3) := dk_167 0 4 (dk_at dksJ4_isLatin1_0 14 rfl rfl)
theorem dJ4_isLatin1_17 : decode cJ4_isLatin1 17 = .ok (.iconst 0, 1) := dk_3 (dk_at dksJ4_isLatin1_0 17 rfl rfl)
theorem dJ4_isLatin1_18 : decode cJ4_isLatin1 18 = .ok (.ireturn, 1) := dk_172 (dk_at dksJ4_isLatin1_0 18 rfl rfl)
abbrev cJ4_putStringAt : ByteArray := prog_16_method_73_code
def yJ4_putStringAt : MethodName := ⟨RJ4, "putStringAt", "(ILjava/lang/String;)V"⟩
def dkwJ4_putStringAt_0 : List UInt8 := [42, 44, 182, 1, 141, 44, 42, 180, 0, 15, 27, 42, 180, 0, 22, 182, 1, 143, 177]
abbrev dktJ4_putStringAt_0 : List UInt8 := dkwJ4_putStringAt_0 ++ []
theorem dksJ4_putStringAt_0 : cJ4_putStringAt.data.toList.drop 0 = dktJ4_putStringAt_0 := by decide +kernel
theorem dJ4_putStringAt_0 : decode cJ4_putStringAt 0 = .ok (.aload_n 0, 1) := dk_42 (dk_at dksJ4_putStringAt_0 0 rfl rfl)
theorem dJ4_putStringAt_1 : decode cJ4_putStringAt 1 = .ok (.aload_n 2, 1) := dk_44 (dk_at dksJ4_putStringAt_0 1 rfl rfl)
theorem dJ4_putStringAt_2 : decode cJ4_putStringAt 2 = .ok (.invokevirtual 397, 3) := dk_182 1 141 (dk_at dksJ4_putStringAt_0 2 rfl rfl)
theorem dJ4_putStringAt_5 : decode cJ4_putStringAt 5 = .ok (.aload_n 2, 1) := dk_44 (dk_at dksJ4_putStringAt_0 5 rfl rfl)
theorem dJ4_putStringAt_6 : decode cJ4_putStringAt 6 = .ok (.aload_n 0, 1) := dk_42 (dk_at dksJ4_putStringAt_0 6 rfl rfl)
theorem dJ4_putStringAt_7 : decode cJ4_putStringAt 7 = .ok (.getfield 15, 3) := dk_180 0 15 (dk_at dksJ4_putStringAt_0 7 rfl rfl)
theorem dJ4_putStringAt_10 : decode cJ4_putStringAt 10 = .ok (.iload_n 1, 1) := dk_27 (dk_at dksJ4_putStringAt_0 10 rfl rfl)
theorem dJ4_putStringAt_11 : decode cJ4_putStringAt 11 = .ok (.aload_n 0, 1) := dk_42 (dk_at dksJ4_putStringAt_0 11 rfl rfl)
theorem dJ4_putStringAt_12 : decode cJ4_putStringAt 12 = .ok (.getfield 22, 3) := dk_180 0 22 (dk_at dksJ4_putStringAt_0 12 rfl rfl)
theorem dJ4_putStringAt_15 : decode cJ4_putStringAt 15 = .ok (.invokevirtual 399, 3) := dk_182 1 143 (dk_at dksJ4_putStringAt_0 15 rfl rfl)
theorem dJ4_putStringAt_18 : decode cJ4_putStringAt 18 = .ok (.return_, 1) := dk_177 (dk_at dksJ4_putStringAt_0 18 rfl rfl)
abbrev cJ4_inflateIfNeededFor : ByteArray := prog_16_method_71_code
def yJ4_inflateIfNeededFor : MethodName := ⟨RJ4, "inflateIfNeededFor", "(Ljava/lang/String;)V"⟩
def dkwJ4_inflateIfNeededFor_0 : List UInt8 := [178, 0, 18, 153, 0, 18, 42, 180, 0, 22, 43, 182, 0, 40, 159, 0, 7, 42, 182, 0, 195, 177]
abbrev dktJ4_inflateIfNeededFor_0 : List UInt8 := dkwJ4_inflateIfNeededFor_0 ++ []
theorem dksJ4_inflateIfNeededFor_0 : cJ4_inflateIfNeededFor.data.toList.drop 0 = dktJ4_inflateIfNeededFor_0 := by decide +kernel
theorem dJ4_inflateIfNeededFor_0 : decode cJ4_inflateIfNeededFor 0 = .ok (.getstatic 18, 3) := dk_178 0 18 (dk_at dksJ4_inflateIfNeededFor_0 0 rfl rfl)
theorem dJ4_inflateIfNeededFor_3 : decode cJ4_inflateIfNeededFor 3 = .ok (.ifCond .eq 18, 3) := dk_153 0 18 (dk_at dksJ4_inflateIfNeededFor_0 3 rfl rfl)
theorem dJ4_inflateIfNeededFor_6 : decode cJ4_inflateIfNeededFor 6 = .ok (.aload_n 0, 1) := dk_42 (dk_at dksJ4_inflateIfNeededFor_0 6 rfl rfl)
theorem dJ4_inflateIfNeededFor_7 : decode cJ4_inflateIfNeededFor 7 = .ok (.getfield 22, 3) := dk_180 0 22 (dk_at dksJ4_inflateIfNeededFor_0 7 rfl rfl)
theorem dJ4_inflateIfNeededFor_10 : decode cJ4_inflateIfNeededFor 10 = .ok (.aload_n 1, 1) := dk_43 (dk_at dksJ4_inflateIfNeededFor_0 10 rfl rfl)
theorem dJ4_inflateIfNeededFor_11 : decode cJ4_inflateIfNeededFor 11 = .ok (.invokevirtual 40, 3) := dk_182 0 40 (dk_at dksJ4_inflateIfNeededFor_0 11 rfl rfl)
theorem dJ4_inflateIfNeededFor_14 : decode cJ4_inflateIfNeededFor 14 = .ok (.if_icmp .eq 7, 3) := dk_159 0 7 (dk_at dksJ4_inflateIfNeededFor_0 14 rfl rfl)
theorem dJ4_inflateIfNeededFor_17 : decode cJ4_inflateIfNeededFor 17 = .ok (.aload_n 0, 1) := dk_42 (dk_at dksJ4_inflateIfNeededFor_0 17 rfl rfl)
theorem dJ4_inflateIfNeededFor_18 : decode cJ4_inflateIfNeededFor 18 = .ok (.invokevirtual 195, 3) := dk_182 0 195 (dk_at dksJ4_inflateIfNeededFor_0 18 rfl rfl)
theorem dJ4_inflateIfNeededFor_21 : decode cJ4_inflateIfNeededFor 21 = .ok (.return_, 1) := dk_177 (dk_at dksJ4_inflateIfNeededFor_0 21 rfl rfl)
abbrev cJ4_inflate : ByteArray := prog_16_method_11_code
def yJ4_inflate : MethodName := ⟨RJ4, "inflate", "()V"⟩
def dkwJ4_inflate_1 : List UInt8 := [42, 180, 0, 79, 184, 0, 125, 42, 43, 181, 0, 15, 42, 4, 181, 0, 22, 177]
abbrev dktJ4_inflate_1 : List UInt8 := dkwJ4_inflate_1 ++ []
def dkwJ4_inflate_0 : List UInt8 := [42, 182, 0, 83, 154, 0, 4, 177, 42, 180, 0, 15, 190, 184, 0, 26, 76, 42, 180, 0, 15, 3, 43, 3]
abbrev dktJ4_inflate_0 : List UInt8 := dkwJ4_inflate_0 ++ dktJ4_inflate_1
theorem dksJ4_inflate_0 : cJ4_inflate.data.toList.drop 0 = dktJ4_inflate_0 := by decide +kernel
theorem dksJ4_inflate_1 : cJ4_inflate.data.toList.drop 24 = dktJ4_inflate_1 := dk_seg dksJ4_inflate_0 24 rfl rfl
theorem dJ4_inflate_0 : decode cJ4_inflate 0 = .ok (.aload_n 0, 1) := dk_42 (dk_at dksJ4_inflate_0 0 rfl rfl)
theorem dJ4_inflate_1 : decode cJ4_inflate 1 = .ok (.invokevirtual 83, 3) := dk_182 0 83 (dk_at dksJ4_inflate_0 1 rfl rfl)
theorem dJ4_inflate_4 : decode cJ4_inflate 4 = .ok (.ifCond .ne 4, 3) := dk_154 0 4 (dk_at dksJ4_inflate_0 4 rfl rfl)
theorem dJ4_inflate_7 : decode cJ4_inflate 7 = .ok (.return_, 1) := dk_177 (dk_at dksJ4_inflate_0 7 rfl rfl)
theorem dJ4_inflate_8 : decode cJ4_inflate 8 = .ok (.aload_n 0, 1) := dk_42 (dk_at dksJ4_inflate_0 8 rfl rfl)
theorem dJ4_inflate_9 : decode cJ4_inflate 9 = .ok (.getfield 15, 3) := dk_180 0 15 (dk_at dksJ4_inflate_0 9 rfl rfl)
theorem dJ4_inflate_12 : decode cJ4_inflate 12 = .ok (.arraylength, 1) := dk_190 (dk_at dksJ4_inflate_0 12 rfl rfl)
theorem dJ4_inflate_13 : decode cJ4_inflate 13 = .ok (.invokestatic 26, 3) := dk_184 0 26 (dk_at dksJ4_inflate_0 13 rfl rfl)
theorem dJ4_inflate_16 : decode cJ4_inflate 16 = .ok (.astore_n 1, 1) := dk_76 (dk_at dksJ4_inflate_0 16 rfl rfl)
theorem dJ4_inflate_17 : decode cJ4_inflate 17 = .ok (.aload_n 0, 1) := dk_42 (dk_at dksJ4_inflate_0 17 rfl rfl)
theorem dJ4_inflate_18 : decode cJ4_inflate 18 = .ok (.getfield 15, 3) := dk_180 0 15 (dk_at dksJ4_inflate_0 18 rfl rfl)
theorem dJ4_inflate_21 : decode cJ4_inflate 21 = .ok (.iconst 0, 1) := dk_3 (dk_at dksJ4_inflate_0 21 rfl rfl)
theorem dJ4_inflate_22 : decode cJ4_inflate 22 = .ok (.aload_n 1, 1) := dk_43 (dk_at dksJ4_inflate_0 22 rfl rfl)
theorem dJ4_inflate_23 : decode cJ4_inflate 23 = .ok (.iconst 0, 1) := dk_3 (dk_at dksJ4_inflate_0 23 rfl rfl)
theorem dJ4_inflate_24 : decode cJ4_inflate 24 = .ok (.aload_n 0, 1) := dk_42 (dk_at dksJ4_inflate_1 0 rfl rfl)
theorem dJ4_inflate_25 : decode cJ4_inflate 25 = .ok (.getfield 79, 3) := dk_180 0 79 (dk_at dksJ4_inflate_1 1 rfl rfl)
theorem dJ4_inflate_28 : decode cJ4_inflate 28 = .ok (.invokestatic 125, 3) := dk_184 0 125 (dk_at dksJ4_inflate_1 4 rfl rfl)
theorem dJ4_inflate_31 : decode cJ4_inflate 31 = .ok (.aload_n 0, 1) := dk_42 (dk_at dksJ4_inflate_1 7 rfl rfl)
theorem dJ4_inflate_32 : decode cJ4_inflate 32 = .ok (.aload_n 1, 1) := dk_43 (dk_at dksJ4_inflate_1 8 rfl rfl)
theorem dJ4_inflate_33 : decode cJ4_inflate 33 = .ok (.putfield 15, 3) := dk_181 0 15 (dk_at dksJ4_inflate_1 9 rfl rfl)
theorem dJ4_inflate_36 : decode cJ4_inflate 36 = .ok (.aload_n 0, 1) := dk_42 (dk_at dksJ4_inflate_1 12 rfl rfl)
theorem dJ4_inflate_37 : decode cJ4_inflate 37 = .ok (.iconst 1, 1) := dk_4 (dk_at dksJ4_inflate_1 13 rfl rfl)
theorem dJ4_inflate_38 : decode cJ4_inflate 38 = .ok (.putfield 22, 3) := dk_181 0 22 (dk_at dksJ4_inflate_1 14 rfl rfl)
theorem dJ4_inflate_41 : decode cJ4_inflate 41 = .ok (.return_, 1) := dk_177 (dk_at dksJ4_inflate_1 17 rfl rfl)
abbrev cJ4_append_2 : ByteArray := prog_16_method_32_code
def yJ4_append_2 : MethodName := ⟨RJ4, "append", "(I)Ljava/lang/AbstractStringBuilder;"⟩
def dkwJ4_append_2_2 : List UInt8 := [42, 29, 181, 0, 79, 42, 176]
abbrev dktJ4_append_2_2 : List UInt8 := dkwJ4_append_2_2 ++ []
def dkwJ4_append_2_1 : List UInt8 := [27, 29, 42, 180, 0, 15, 184, 0, 248, 87, 167, 0, 14, 27, 28, 29, 42, 180, 0, 15, 184, 0, 251, 87]
abbrev dktJ4_append_2_1 : List UInt8 := dkwJ4_append_2_1 ++ dktJ4_append_2_2
def dkwJ4_append_2_0 : List UInt8 := [42, 180, 0, 79, 61, 28, 27, 184, 0, 245, 96, 62, 42, 29, 182, 0, 100, 42, 182, 0, 83, 153, 0, 16]
abbrev dktJ4_append_2_0 : List UInt8 := dkwJ4_append_2_0 ++ dktJ4_append_2_1
theorem dksJ4_append_2_0 : cJ4_append_2.data.toList.drop 0 = dktJ4_append_2_0 := by decide +kernel
theorem dksJ4_append_2_1 : cJ4_append_2.data.toList.drop 24 = dktJ4_append_2_1 := dk_seg dksJ4_append_2_0 24 rfl rfl
theorem dksJ4_append_2_2 : cJ4_append_2.data.toList.drop 48 = dktJ4_append_2_2 := dk_seg dksJ4_append_2_1 24 rfl rfl
theorem dJ4_append_2_0 : decode cJ4_append_2 0 = .ok (.aload_n 0, 1) := dk_42 (dk_at dksJ4_append_2_0 0 rfl rfl)
theorem dJ4_append_2_1 : decode cJ4_append_2 1 = .ok (.getfield 79, 3) := dk_180 0 79 (dk_at dksJ4_append_2_0 1 rfl rfl)
theorem dJ4_append_2_4 : decode cJ4_append_2 4 = .ok (.istore_n 2, 1) := dk_61 (dk_at dksJ4_append_2_0 4 rfl rfl)
theorem dJ4_append_2_5 : decode cJ4_append_2 5 = .ok (.iload_n 2, 1) := dk_28 (dk_at dksJ4_append_2_0 5 rfl rfl)
theorem dJ4_append_2_6 : decode cJ4_append_2 6 = .ok (.iload_n 1, 1) := dk_27 (dk_at dksJ4_append_2_0 6 rfl rfl)
theorem dJ4_append_2_7 : decode cJ4_append_2 7 = .ok (.invokestatic 245, 3) := dk_184 0 245 (dk_at dksJ4_append_2_0 7 rfl rfl)
theorem dJ4_append_2_10 : decode cJ4_append_2 10 = .ok (.iadd, 1) := dk_96 (dk_at dksJ4_append_2_0 10 rfl rfl)
theorem dJ4_append_2_11 : decode cJ4_append_2 11 = .ok (.istore_n 3, 1) := dk_62 (dk_at dksJ4_append_2_0 11 rfl rfl)
theorem dJ4_append_2_12 : decode cJ4_append_2 12 = .ok (.aload_n 0, 1) := dk_42 (dk_at dksJ4_append_2_0 12 rfl rfl)
theorem dJ4_append_2_13 : decode cJ4_append_2 13 = .ok (.iload_n 3, 1) := dk_29 (dk_at dksJ4_append_2_0 13 rfl rfl)
theorem dJ4_append_2_14 : decode cJ4_append_2 14 = .ok (.invokevirtual 100, 3) := dk_182 0 100 (dk_at dksJ4_append_2_0 14 rfl rfl)
theorem dJ4_append_2_17 : decode cJ4_append_2 17 = .ok (.aload_n 0, 1) := dk_42 (dk_at dksJ4_append_2_0 17 rfl rfl)
theorem dJ4_append_2_18 : decode cJ4_append_2 18 = .ok (.invokevirtual 83, 3) := dk_182 0 83 (dk_at dksJ4_append_2_0 18 rfl rfl)
theorem dJ4_append_2_21 : decode cJ4_append_2 21 = .ok (.ifCond .eq 16, 3) := dk_153 0 16 (dk_at dksJ4_append_2_0 21 rfl rfl)
theorem dJ4_append_2_24 : decode cJ4_append_2 24 = .ok (.iload_n 1, 1) := dk_27 (dk_at dksJ4_append_2_1 0 rfl rfl)
theorem dJ4_append_2_25 : decode cJ4_append_2 25 = .ok (.iload_n 3, 1) := dk_29 (dk_at dksJ4_append_2_1 1 rfl rfl)
theorem dJ4_append_2_26 : decode cJ4_append_2 26 = .ok (.aload_n 0, 1) := dk_42 (dk_at dksJ4_append_2_1 2 rfl rfl)
theorem dJ4_append_2_27 : decode cJ4_append_2 27 = .ok (.getfield 15, 3) := dk_180 0 15 (dk_at dksJ4_append_2_1 3 rfl rfl)
theorem dJ4_append_2_30 : decode cJ4_append_2 30 = .ok (.invokestatic 248, 3) := dk_184 0 248 (dk_at dksJ4_append_2_1 6 rfl rfl)
theorem dJ4_append_2_33 : decode cJ4_append_2 33 = .ok (.pop, 1) := dk_87 (dk_at dksJ4_append_2_1 9 rfl rfl)
theorem dJ4_append_2_34 : decode cJ4_append_2 34 = .ok (.goto 14, 3) := dk_167 0 14 (dk_at dksJ4_append_2_1 10 rfl rfl)
theorem dJ4_append_2_37 : decode cJ4_append_2 37 = .ok (.iload_n 1, 1) := dk_27 (dk_at dksJ4_append_2_1 13 rfl rfl)
theorem dJ4_append_2_38 : decode cJ4_append_2 38 = .ok (.iload_n 2, 1) := dk_28 (dk_at dksJ4_append_2_1 14 rfl rfl)
theorem dJ4_append_2_39 : decode cJ4_append_2 39 = .ok (.iload_n 3, 1) := dk_29 (dk_at dksJ4_append_2_1 15 rfl rfl)
theorem dJ4_append_2_40 : decode cJ4_append_2 40 = .ok (.aload_n 0, 1) := dk_42 (dk_at dksJ4_append_2_1 16 rfl rfl)
theorem dJ4_append_2_41 : decode cJ4_append_2 41 = .ok (.getfield 15, 3) := dk_180 0 15 (dk_at dksJ4_append_2_1 17 rfl rfl)
theorem dJ4_append_2_44 : decode cJ4_append_2 44 = .ok (.invokestatic 251, 3) := dk_184 0 251 (dk_at dksJ4_append_2_1 20 rfl rfl)
theorem dJ4_append_2_47 : decode cJ4_append_2 47 = .ok (.pop, 1) := dk_87 (dk_at dksJ4_append_2_1 23 rfl rfl)
theorem dJ4_append_2_48 : decode cJ4_append_2 48 = .ok (.aload_n 0, 1) := dk_42 (dk_at dksJ4_append_2_2 0 rfl rfl)
theorem dJ4_append_2_49 : decode cJ4_append_2 49 = .ok (.iload_n 3, 1) := dk_29 (dk_at dksJ4_append_2_2 1 rfl rfl)
theorem dJ4_append_2_50 : decode cJ4_append_2 50 = .ok (.putfield 79, 3) := dk_181 0 79 (dk_at dksJ4_append_2_2 2 rfl rfl)
theorem dJ4_append_2_53 : decode cJ4_append_2 53 = .ok (.aload_n 0, 1) := dk_42 (dk_at dksJ4_append_2_2 5 rfl rfl)
theorem dJ4_append_2_54 : decode cJ4_append_2 54 = .ok (.areturn, 1) := dk_176 (dk_at dksJ4_append_2_2 6 rfl rfl)
abbrev cJ4_getValue : ByteArray := prog_16_method_64_code
def yJ4_getValue : MethodName := ⟨RJ4, "getValue", "()[B"⟩
theorem dJ4_getValue_0 : decode cJ4_getValue 0 = .ok (.aload_n 0, 1) := by decide +kernel
theorem dJ4_getValue_1 : decode cJ4_getValue 1 = .ok (.getfield 15, 3) := by decide +kernel
theorem dJ4_getValue_4 : decode cJ4_getValue 4 = .ok (.areturn, 1) := by decide +kernel
abbrev cJ4_length : ByteArray := prog_16_method_6_code
def yJ4_length : MethodName := ⟨RJ4, "length", "()I"⟩
theorem dJ4_length_0 : decode cJ4_length 0 = .ok (.aload_n 0, 1) := by decide +kernel
theorem dJ4_length_1 : decode cJ4_length 1 = .ok (.getfield 79, 3) := by decide +kernel
theorem dJ4_length_4 : decode cJ4_length 4 = .ok (.ireturn, 1) := by decide +kernel
abbrev cJ4_append_3 : ByteArray := prog_16_method_25_code
def yJ4_append_3 : MethodName := ⟨RJ4, "append", "(Ljava/lang/CharSequence;)Ljava/lang/AbstractStringBuilder;"⟩
def dkwJ4_append_3_2 : List UInt8 := [185, 0, 47, 1, 0, 182, 0, 223, 176]
abbrev dktJ4_append_3_2 : List UInt8 := dkwJ4_append_3_2 ++ []
def dkwJ4_append_3_1 : List UInt8 := [176, 43, 193, 0, 10, 153, 0, 12, 42, 43, 192, 0, 10, 182, 0, 212, 176, 42, 43, 3, 43]
abbrev dktJ4_append_3_1 : List UInt8 := dkwJ4_append_3_1 ++ dktJ4_append_3_2
def dkwJ4_append_3_0 : List UInt8 := [43, 199, 0, 8, 42, 182, 0, 204, 176, 43, 193, 0, 1, 153, 0, 12, 42, 43, 192, 0, 1, 182, 0, 43]
abbrev dktJ4_append_3_0 : List UInt8 := dkwJ4_append_3_0 ++ dktJ4_append_3_1
theorem dksJ4_append_3_0 : cJ4_append_3.data.toList.drop 0 = dktJ4_append_3_0 := by decide +kernel
theorem dksJ4_append_3_1 : cJ4_append_3.data.toList.drop 24 = dktJ4_append_3_1 := dk_seg dksJ4_append_3_0 24 rfl rfl
theorem dksJ4_append_3_2 : cJ4_append_3.data.toList.drop 45 = dktJ4_append_3_2 := dk_seg dksJ4_append_3_1 21 rfl rfl
theorem dJ4_append_3_0 : decode cJ4_append_3 0 = .ok (.aload_n 1, 1) := dk_43 (dk_at dksJ4_append_3_0 0 rfl rfl)
theorem dJ4_append_3_1 : decode cJ4_append_3 1 = .ok (.ifnonnull 8, 3) := dk_199 0 8 (dk_at dksJ4_append_3_0 1 rfl rfl)
theorem dJ4_append_3_4 : decode cJ4_append_3 4 = .ok (.aload_n 0, 1) := dk_42 (dk_at dksJ4_append_3_0 4 rfl rfl)
theorem dJ4_append_3_5 : decode cJ4_append_3 5 = .ok (.invokevirtual 204, 3) := dk_182 0 204 (dk_at dksJ4_append_3_0 5 rfl rfl)
theorem dJ4_append_3_8 : decode cJ4_append_3 8 = .ok (.areturn, 1) := dk_176 (dk_at dksJ4_append_3_0 8 rfl rfl)
theorem dJ4_append_3_9 : decode cJ4_append_3 9 = .ok (.aload_n 1, 1) := dk_43 (dk_at dksJ4_append_3_0 9 rfl rfl)
theorem dJ4_append_3_10 : decode cJ4_append_3 10 = .ok (.instanceof 1, 3) := dk_193 0 1 (dk_at dksJ4_append_3_0 10 rfl rfl)
theorem dJ4_append_3_13 : decode cJ4_append_3 13 = .ok (.ifCond .eq 12, 3) := dk_153 0 12 (dk_at dksJ4_append_3_0 13 rfl rfl)
theorem dJ4_append_3_16 : decode cJ4_append_3 16 = .ok (.aload_n 0, 1) := dk_42 (dk_at dksJ4_append_3_0 16 rfl rfl)
theorem dJ4_append_3_17 : decode cJ4_append_3 17 = .ok (.aload_n 1, 1) := dk_43 (dk_at dksJ4_append_3_0 17 rfl rfl)
theorem dJ4_append_3_18 : decode cJ4_append_3 18 = .ok (.checkcast 1, 3) := dk_192 0 1 (dk_at dksJ4_append_3_0 18 rfl rfl)
theorem dJ4_append_3_21 : decode cJ4_append_3 21 = .ok (.invokevirtual 43, 3) := dk_182 0 43 (dk_at dksJ4_append_3_0 21 rfl rfl)
theorem dJ4_append_3_24 : decode cJ4_append_3 24 = .ok (.areturn, 1) := dk_176 (dk_at dksJ4_append_3_1 0 rfl rfl)
theorem dJ4_append_3_25 : decode cJ4_append_3 25 = .ok (.aload_n 1, 1) := dk_43 (dk_at dksJ4_append_3_1 1 rfl rfl)
theorem dJ4_append_3_26 : decode cJ4_append_3 26 = .ok (.instanceof 10, 3) := dk_193 0 10 (dk_at dksJ4_append_3_1 2 rfl rfl)
theorem dJ4_append_3_29 : decode cJ4_append_3 29 = .ok (.ifCond .eq 12, 3) := dk_153 0 12 (dk_at dksJ4_append_3_1 5 rfl rfl)
theorem dJ4_append_3_32 : decode cJ4_append_3 32 = .ok (.aload_n 0, 1) := dk_42 (dk_at dksJ4_append_3_1 8 rfl rfl)
theorem dJ4_append_3_33 : decode cJ4_append_3 33 = .ok (.aload_n 1, 1) := dk_43 (dk_at dksJ4_append_3_1 9 rfl rfl)
theorem dJ4_append_3_34 : decode cJ4_append_3 34 = .ok (.checkcast 10, 3) := dk_192 0 10 (dk_at dksJ4_append_3_1 10 rfl rfl)
theorem dJ4_append_3_37 : decode cJ4_append_3 37 = .ok (.invokevirtual 212, 3) := dk_182 0 212 (dk_at dksJ4_append_3_1 13 rfl rfl)
theorem dJ4_append_3_40 : decode cJ4_append_3 40 = .ok (.areturn, 1) := dk_176 (dk_at dksJ4_append_3_1 16 rfl rfl)
theorem dJ4_append_3_41 : decode cJ4_append_3 41 = .ok (.aload_n 0, 1) := dk_42 (dk_at dksJ4_append_3_1 17 rfl rfl)
theorem dJ4_append_3_42 : decode cJ4_append_3 42 = .ok (.aload_n 1, 1) := dk_43 (dk_at dksJ4_append_3_1 18 rfl rfl)
theorem dJ4_append_3_43 : decode cJ4_append_3 43 = .ok (.iconst 0, 1) := dk_3 (dk_at dksJ4_append_3_1 19 rfl rfl)
theorem dJ4_append_3_44 : decode cJ4_append_3 44 = .ok (.aload_n 1, 1) := dk_43 (dk_at dksJ4_append_3_1 20 rfl rfl)
theorem dJ4_append_3_45 : decode cJ4_append_3 45 = .ok (.invokeinterface 47 1, 5) := by decide +kernel
theorem dJ4_append_3_50 : decode cJ4_append_3 50 = .ok (.invokevirtual 223, 3) := dk_182 0 223 (dk_at dksJ4_append_3_2 5 rfl rfl)
theorem dJ4_append_3_53 : decode cJ4_append_3 53 = .ok (.areturn, 1) := dk_176 (dk_at dksJ4_append_3_2 8 rfl rfl)
abbrev cJ4_append_4 : ByteArray := prog_16_method_24_code
def yJ4_append_4 : MethodName := ⟨RJ4, "append", "(Ljava/lang/AbstractStringBuilder;)Ljava/lang/AbstractStringBuilder;"⟩
def dkwJ4_append_4_2 : List UInt8 := [180, 0, 79, 28, 96, 181, 0, 79, 42, 89, 180, 0, 73, 43, 180, 0, 73, 128, 181, 0, 73, 42, 176]
abbrev dktJ4_append_4_2 : List UInt8 := dkwJ4_append_4_2 ++ []
def dkwJ4_append_4_1 : List UInt8 := [42, 43, 182, 0, 215, 43, 42, 180, 0, 15, 42, 180, 0, 79, 42, 180, 0, 22, 182, 0, 219, 42, 89]
abbrev dktJ4_append_4_1 : List UInt8 := dkwJ4_append_4_1 ++ dktJ4_append_4_2
def dkwJ4_append_4_0 : List UInt8 := [43, 199, 0, 8, 42, 182, 0, 204, 176, 43, 182, 0, 160, 61, 42, 42, 180, 0, 79, 28, 96, 182, 0, 100]
abbrev dktJ4_append_4_0 : List UInt8 := dkwJ4_append_4_0 ++ dktJ4_append_4_1
theorem dksJ4_append_4_0 : cJ4_append_4.data.toList.drop 0 = dktJ4_append_4_0 := by decide +kernel
theorem dksJ4_append_4_1 : cJ4_append_4.data.toList.drop 24 = dktJ4_append_4_1 := dk_seg dksJ4_append_4_0 24 rfl rfl
theorem dksJ4_append_4_2 : cJ4_append_4.data.toList.drop 47 = dktJ4_append_4_2 := dk_seg dksJ4_append_4_1 23 rfl rfl
theorem dJ4_append_4_0 : decode cJ4_append_4 0 = .ok (.aload_n 1, 1) := dk_43 (dk_at dksJ4_append_4_0 0 rfl rfl)
theorem dJ4_append_4_1 : decode cJ4_append_4 1 = .ok (.ifnonnull 8, 3) := dk_199 0 8 (dk_at dksJ4_append_4_0 1 rfl rfl)
theorem dJ4_append_4_4 : decode cJ4_append_4 4 = .ok (.aload_n 0, 1) := dk_42 (dk_at dksJ4_append_4_0 4 rfl rfl)
theorem dJ4_append_4_5 : decode cJ4_append_4 5 = .ok (.invokevirtual 204, 3) := dk_182 0 204 (dk_at dksJ4_append_4_0 5 rfl rfl)
theorem dJ4_append_4_8 : decode cJ4_append_4 8 = .ok (.areturn, 1) := dk_176 (dk_at dksJ4_append_4_0 8 rfl rfl)
theorem dJ4_append_4_9 : decode cJ4_append_4 9 = .ok (.aload_n 1, 1) := dk_43 (dk_at dksJ4_append_4_0 9 rfl rfl)
theorem dJ4_append_4_10 : decode cJ4_append_4 10 = .ok (.invokevirtual 160, 3) := dk_182 0 160 (dk_at dksJ4_append_4_0 10 rfl rfl)
theorem dJ4_append_4_13 : decode cJ4_append_4 13 = .ok (.istore_n 2, 1) := dk_61 (dk_at dksJ4_append_4_0 13 rfl rfl)
theorem dJ4_append_4_14 : decode cJ4_append_4 14 = .ok (.aload_n 0, 1) := dk_42 (dk_at dksJ4_append_4_0 14 rfl rfl)
theorem dJ4_append_4_15 : decode cJ4_append_4 15 = .ok (.aload_n 0, 1) := dk_42 (dk_at dksJ4_append_4_0 15 rfl rfl)
theorem dJ4_append_4_16 : decode cJ4_append_4 16 = .ok (.getfield 79, 3) := dk_180 0 79 (dk_at dksJ4_append_4_0 16 rfl rfl)
theorem dJ4_append_4_19 : decode cJ4_append_4 19 = .ok (.iload_n 2, 1) := dk_28 (dk_at dksJ4_append_4_0 19 rfl rfl)
theorem dJ4_append_4_20 : decode cJ4_append_4 20 = .ok (.iadd, 1) := dk_96 (dk_at dksJ4_append_4_0 20 rfl rfl)
theorem dJ4_append_4_21 : decode cJ4_append_4 21 = .ok (.invokevirtual 100, 3) := dk_182 0 100 (dk_at dksJ4_append_4_0 21 rfl rfl)
theorem dJ4_append_4_24 : decode cJ4_append_4 24 = .ok (.aload_n 0, 1) := dk_42 (dk_at dksJ4_append_4_1 0 rfl rfl)
theorem dJ4_append_4_25 : decode cJ4_append_4 25 = .ok (.aload_n 1, 1) := dk_43 (dk_at dksJ4_append_4_1 1 rfl rfl)
theorem dJ4_append_4_26 : decode cJ4_append_4 26 = .ok (.invokevirtual 215, 3) := dk_182 0 215 (dk_at dksJ4_append_4_1 2 rfl rfl)
theorem dJ4_append_4_29 : decode cJ4_append_4 29 = .ok (.aload_n 1, 1) := dk_43 (dk_at dksJ4_append_4_1 5 rfl rfl)
theorem dJ4_append_4_30 : decode cJ4_append_4 30 = .ok (.aload_n 0, 1) := dk_42 (dk_at dksJ4_append_4_1 6 rfl rfl)
theorem dJ4_append_4_31 : decode cJ4_append_4 31 = .ok (.getfield 15, 3) := dk_180 0 15 (dk_at dksJ4_append_4_1 7 rfl rfl)
theorem dJ4_append_4_34 : decode cJ4_append_4 34 = .ok (.aload_n 0, 1) := dk_42 (dk_at dksJ4_append_4_1 10 rfl rfl)
theorem dJ4_append_4_35 : decode cJ4_append_4 35 = .ok (.getfield 79, 3) := dk_180 0 79 (dk_at dksJ4_append_4_1 11 rfl rfl)
theorem dJ4_append_4_38 : decode cJ4_append_4 38 = .ok (.aload_n 0, 1) := dk_42 (dk_at dksJ4_append_4_1 14 rfl rfl)
theorem dJ4_append_4_39 : decode cJ4_append_4 39 = .ok (.getfield 22, 3) := dk_180 0 22 (dk_at dksJ4_append_4_1 15 rfl rfl)
theorem dJ4_append_4_42 : decode cJ4_append_4 42 = .ok (.invokevirtual 219, 3) := dk_182 0 219 (dk_at dksJ4_append_4_1 18 rfl rfl)
theorem dJ4_append_4_45 : decode cJ4_append_4 45 = .ok (.aload_n 0, 1) := dk_42 (dk_at dksJ4_append_4_1 21 rfl rfl)
theorem dJ4_append_4_46 : decode cJ4_append_4 46 = .ok (.dup, 1) := dk_89 (dk_at dksJ4_append_4_1 22 rfl rfl)
theorem dJ4_append_4_47 : decode cJ4_append_4 47 = .ok (.getfield 79, 3) := dk_180 0 79 (dk_at dksJ4_append_4_2 0 rfl rfl)
theorem dJ4_append_4_50 : decode cJ4_append_4 50 = .ok (.iload_n 2, 1) := dk_28 (dk_at dksJ4_append_4_2 3 rfl rfl)
theorem dJ4_append_4_51 : decode cJ4_append_4 51 = .ok (.iadd, 1) := dk_96 (dk_at dksJ4_append_4_2 4 rfl rfl)
theorem dJ4_append_4_52 : decode cJ4_append_4 52 = .ok (.putfield 79, 3) := dk_181 0 79 (dk_at dksJ4_append_4_2 5 rfl rfl)
theorem dJ4_append_4_55 : decode cJ4_append_4 55 = .ok (.aload_n 0, 1) := dk_42 (dk_at dksJ4_append_4_2 8 rfl rfl)
theorem dJ4_append_4_56 : decode cJ4_append_4 56 = .ok (.dup, 1) := dk_89 (dk_at dksJ4_append_4_2 9 rfl rfl)
theorem dJ4_append_4_57 : decode cJ4_append_4 57 = .ok (.getfield 73, 3) := dk_180 0 73 (dk_at dksJ4_append_4_2 10 rfl rfl)
theorem dJ4_append_4_60 : decode cJ4_append_4 60 = .ok (.aload_n 1, 1) := dk_43 (dk_at dksJ4_append_4_2 13 rfl rfl)
theorem dJ4_append_4_61 : decode cJ4_append_4 61 = .ok (.getfield 73, 3) := dk_180 0 73 (dk_at dksJ4_append_4_2 14 rfl rfl)
theorem dJ4_append_4_64 : decode cJ4_append_4 64 = .ok (.ior, 1) := dk_128 (dk_at dksJ4_append_4_2 17 rfl rfl)
theorem dJ4_append_4_65 : decode cJ4_append_4 65 = .ok (.putfield 73, 3) := dk_181 0 73 (dk_at dksJ4_append_4_2 18 rfl rfl)
theorem dJ4_append_4_68 : decode cJ4_append_4 68 = .ok (.aload_n 0, 1) := dk_42 (dk_at dksJ4_append_4_2 21 rfl rfl)
theorem dJ4_append_4_69 : decode cJ4_append_4 69 = .ok (.areturn, 1) := dk_176 (dk_at dksJ4_append_4_2 22 rfl rfl)
abbrev cJ4_inflateIfNeededFor_2 : ByteArray := prog_16_method_72_code
def yJ4_inflateIfNeededFor_2 : MethodName := ⟨RJ4, "inflateIfNeededFor", "(Ljava/lang/AbstractStringBuilder;)V"⟩
def dkwJ4_inflateIfNeededFor_2_0 : List UInt8 := [178, 0, 18, 153, 0, 18, 42, 180, 0, 22, 43, 182, 0, 70, 159, 0, 7, 42, 182, 0, 195, 177]
abbrev dktJ4_inflateIfNeededFor_2_0 : List UInt8 := dkwJ4_inflateIfNeededFor_2_0 ++ []
theorem dksJ4_inflateIfNeededFor_2_0 : cJ4_inflateIfNeededFor_2.data.toList.drop 0 = dktJ4_inflateIfNeededFor_2_0 := by decide +kernel
theorem dJ4_inflateIfNeededFor_2_0 : decode cJ4_inflateIfNeededFor_2 0 = .ok (.getstatic 18, 3) := dk_178 0 18 (dk_at dksJ4_inflateIfNeededFor_2_0 0 rfl rfl)
theorem dJ4_inflateIfNeededFor_2_3 : decode cJ4_inflateIfNeededFor_2 3 = .ok (.ifCond .eq 18, 3) := dk_153 0 18 (dk_at dksJ4_inflateIfNeededFor_2_0 3 rfl rfl)
theorem dJ4_inflateIfNeededFor_2_6 : decode cJ4_inflateIfNeededFor_2 6 = .ok (.aload_n 0, 1) := dk_42 (dk_at dksJ4_inflateIfNeededFor_2_0 6 rfl rfl)
theorem dJ4_inflateIfNeededFor_2_7 : decode cJ4_inflateIfNeededFor_2 7 = .ok (.getfield 22, 3) := dk_180 0 22 (dk_at dksJ4_inflateIfNeededFor_2_0 7 rfl rfl)
theorem dJ4_inflateIfNeededFor_2_10 : decode cJ4_inflateIfNeededFor_2 10 = .ok (.aload_n 1, 1) := dk_43 (dk_at dksJ4_inflateIfNeededFor_2_0 10 rfl rfl)
theorem dJ4_inflateIfNeededFor_2_11 : decode cJ4_inflateIfNeededFor_2 11 = .ok (.invokevirtual 70, 3) := dk_182 0 70 (dk_at dksJ4_inflateIfNeededFor_2_0 11 rfl rfl)
theorem dJ4_inflateIfNeededFor_2_14 : decode cJ4_inflateIfNeededFor_2 14 = .ok (.if_icmp .eq 7, 3) := dk_159 0 7 (dk_at dksJ4_inflateIfNeededFor_2_0 14 rfl rfl)
theorem dJ4_inflateIfNeededFor_2_17 : decode cJ4_inflateIfNeededFor_2 17 = .ok (.aload_n 0, 1) := dk_42 (dk_at dksJ4_inflateIfNeededFor_2_0 17 rfl rfl)
theorem dJ4_inflateIfNeededFor_2_18 : decode cJ4_inflateIfNeededFor_2 18 = .ok (.invokevirtual 195, 3) := dk_182 0 195 (dk_at dksJ4_inflateIfNeededFor_2_0 18 rfl rfl)
theorem dJ4_inflateIfNeededFor_2_21 : decode cJ4_inflateIfNeededFor_2 21 = .ok (.return_, 1) := dk_177 (dk_at dksJ4_inflateIfNeededFor_2_0 21 rfl rfl)
abbrev cJ4_getCoder : ByteArray := prog_16_method_67_code
def yJ4_getCoder : MethodName := ⟨RJ4, "getCoder", "()B"⟩
def dkwJ4_getCoder_0 : List UInt8 := [178, 0, 18, 153, 0, 10, 42, 180, 0, 22, 167, 0, 4, 4, 172]
abbrev dktJ4_getCoder_0 : List UInt8 := dkwJ4_getCoder_0 ++ []
theorem dksJ4_getCoder_0 : cJ4_getCoder.data.toList.drop 0 = dktJ4_getCoder_0 := by decide +kernel
theorem dJ4_getCoder_0 : decode cJ4_getCoder 0 = .ok (.getstatic 18, 3) := dk_178 0 18 (dk_at dksJ4_getCoder_0 0 rfl rfl)
theorem dJ4_getCoder_3 : decode cJ4_getCoder 3 = .ok (.ifCond .eq 10, 3) := dk_153 0 10 (dk_at dksJ4_getCoder_0 3 rfl rfl)
theorem dJ4_getCoder_6 : decode cJ4_getCoder 6 = .ok (.aload_n 0, 1) := dk_42 (dk_at dksJ4_getCoder_0 6 rfl rfl)
theorem dJ4_getCoder_7 : decode cJ4_getCoder 7 = .ok (.getfield 22, 3) := dk_180 0 22 (dk_at dksJ4_getCoder_0 7 rfl rfl)
theorem dJ4_getCoder_10 : decode cJ4_getCoder 10 = .ok (.goto 4, 3) := dk_167 0 4 (dk_at dksJ4_getCoder_0 10 rfl rfl)
theorem dJ4_getCoder_13 : decode cJ4_getCoder 13 = .ok (.iconst 1, 1) := dk_4 (dk_at dksJ4_getCoder_0 13 rfl rfl)
theorem dJ4_getCoder_14 : decode cJ4_getCoder 14 = .ok (.ireturn, 1) := dk_172 (dk_at dksJ4_getCoder_0 14 rfl rfl)
abbrev cJ4_getBytes : ByteArray := prog_16_method_65_code
def yJ4_getBytes : MethodName := ⟨RJ4, "getBytes", "([BIB)V"⟩
def dkwJ4_getBytes_1 : List UInt8 := [184, 1, 53, 167, 0, 17, 42, 180, 0, 15, 3, 43, 28, 42, 180, 0, 79, 184, 0, 125, 177]
abbrev dktJ4_getBytes_1 : List UInt8 := dkwJ4_getBytes_1 ++ []
def dkwJ4_getBytes_0 : List UInt8 := [42, 180, 0, 22, 29, 160, 0, 24, 42, 180, 0, 15, 3, 43, 28, 29, 120, 42, 180, 0, 79, 29, 120]
abbrev dktJ4_getBytes_0 : List UInt8 := dkwJ4_getBytes_0 ++ dktJ4_getBytes_1
theorem dksJ4_getBytes_0 : cJ4_getBytes.data.toList.drop 0 = dktJ4_getBytes_0 := by decide +kernel
theorem dksJ4_getBytes_1 : cJ4_getBytes.data.toList.drop 23 = dktJ4_getBytes_1 := dk_seg dksJ4_getBytes_0 23 rfl rfl
theorem dJ4_getBytes_0 : decode cJ4_getBytes 0 = .ok (.aload_n 0, 1) := dk_42 (dk_at dksJ4_getBytes_0 0 rfl rfl)
theorem dJ4_getBytes_1 : decode cJ4_getBytes 1 = .ok (.getfield 22, 3) := dk_180 0 22 (dk_at dksJ4_getBytes_0 1 rfl rfl)
theorem dJ4_getBytes_4 : decode cJ4_getBytes 4 = .ok (.iload_n 3, 1) := dk_29 (dk_at dksJ4_getBytes_0 4 rfl rfl)
theorem dJ4_getBytes_5 : decode cJ4_getBytes 5 = .ok (.if_icmp .ne 24, 3) := dk_160 0 24 (dk_at dksJ4_getBytes_0 5 rfl rfl)
theorem dJ4_getBytes_8 : decode cJ4_getBytes 8 = .ok (.aload_n 0, 1) := dk_42 (dk_at dksJ4_getBytes_0 8 rfl rfl)
theorem dJ4_getBytes_9 : decode cJ4_getBytes 9 = .ok (.getfield 15, 3) := dk_180 0 15 (dk_at dksJ4_getBytes_0 9 rfl rfl)
theorem dJ4_getBytes_12 : decode cJ4_getBytes 12 = .ok (.iconst 0, 1) := dk_3 (dk_at dksJ4_getBytes_0 12 rfl rfl)
theorem dJ4_getBytes_13 : decode cJ4_getBytes 13 = .ok (.aload_n 1, 1) := dk_43 (dk_at dksJ4_getBytes_0 13 rfl rfl)
theorem dJ4_getBytes_14 : decode cJ4_getBytes 14 = .ok (.iload_n 2, 1) := dk_28 (dk_at dksJ4_getBytes_0 14 rfl rfl)
theorem dJ4_getBytes_15 : decode cJ4_getBytes 15 = .ok (.iload_n 3, 1) := dk_29 (dk_at dksJ4_getBytes_0 15 rfl rfl)
theorem dJ4_getBytes_16 : decode cJ4_getBytes 16 = .ok (.ishl, 1) := dk_120 (dk_at dksJ4_getBytes_0 16 rfl rfl)
theorem dJ4_getBytes_17 : decode cJ4_getBytes 17 = .ok (.aload_n 0, 1) := dk_42 (dk_at dksJ4_getBytes_0 17 rfl rfl)
theorem dJ4_getBytes_18 : decode cJ4_getBytes 18 = .ok (.getfield 79, 3) := dk_180 0 79 (dk_at dksJ4_getBytes_0 18 rfl rfl)
theorem dJ4_getBytes_21 : decode cJ4_getBytes 21 = .ok (.iload_n 3, 1) := dk_29 (dk_at dksJ4_getBytes_0 21 rfl rfl)
theorem dJ4_getBytes_22 : decode cJ4_getBytes 22 = .ok (.ishl, 1) := dk_120 (dk_at dksJ4_getBytes_0 22 rfl rfl)
theorem dJ4_getBytes_23 : decode cJ4_getBytes 23 = .ok (.invokestatic 309, 3) := dk_184 1 53 (dk_at dksJ4_getBytes_1 0 rfl rfl)
theorem dJ4_getBytes_26 : decode cJ4_getBytes 26 = .ok (.goto 17, 3) := dk_167 0 17 (dk_at dksJ4_getBytes_1 3 rfl rfl)
theorem dJ4_getBytes_29 : decode cJ4_getBytes 29 = .ok (.aload_n 0, 1) := dk_42 (dk_at dksJ4_getBytes_1 6 rfl rfl)
theorem dJ4_getBytes_30 : decode cJ4_getBytes 30 = .ok (.getfield 15, 3) := dk_180 0 15 (dk_at dksJ4_getBytes_1 7 rfl rfl)
theorem dJ4_getBytes_33 : decode cJ4_getBytes 33 = .ok (.iconst 0, 1) := dk_3 (dk_at dksJ4_getBytes_1 10 rfl rfl)
theorem dJ4_getBytes_34 : decode cJ4_getBytes 34 = .ok (.aload_n 1, 1) := dk_43 (dk_at dksJ4_getBytes_1 11 rfl rfl)
theorem dJ4_getBytes_35 : decode cJ4_getBytes 35 = .ok (.iload_n 2, 1) := dk_28 (dk_at dksJ4_getBytes_1 12 rfl rfl)
theorem dJ4_getBytes_36 : decode cJ4_getBytes 36 = .ok (.aload_n 0, 1) := dk_42 (dk_at dksJ4_getBytes_1 13 rfl rfl)
theorem dJ4_getBytes_37 : decode cJ4_getBytes 37 = .ok (.getfield 79, 3) := dk_180 0 79 (dk_at dksJ4_getBytes_1 14 rfl rfl)
theorem dJ4_getBytes_40 : decode cJ4_getBytes 40 = .ok (.invokestatic 125, 3) := dk_184 0 125 (dk_at dksJ4_getBytes_1 17 rfl rfl)
theorem dJ4_getBytes_43 : decode cJ4_getBytes 43 = .ok (.return_, 1) := dk_177 (dk_at dksJ4_getBytes_1 20 rfl rfl)
abbrev cJ4_append_5 : ByteArray := prog_16_method_27_code
def yJ4_append_5 : MethodName := ⟨RJ4, "append", "(Ljava/lang/CharSequence;II)Ljava/lang/AbstractStringBuilder;"⟩
def dkwJ4_append_5_2 : List UInt8 := [192, 0, 1, 28, 29, 182, 0, 232, 167, 0, 10, 42, 43, 28, 29, 182, 0, 236, 42, 176]
abbrev dktJ4_append_5_2 : List UInt8 := dkwJ4_append_5_2 ++ []
def dkwJ4_append_5_1 : List UInt8 := [100, 54, 4, 42, 42, 180, 0, 79, 21, 4, 96, 182, 0, 100, 43, 193, 0, 1, 153, 0, 16, 42, 43]
abbrev dktJ4_append_5_1 : List UInt8 := dkwJ4_append_5_1 ++ dktJ4_append_5_2
def dkwJ4_append_5_0 : List UInt8 := [43, 199, 0, 6, 18, 230, 76, 28, 29, 43, 185, 0, 47, 1, 0, 178, 0, 183, 184, 0, 161, 87, 29, 28]
abbrev dktJ4_append_5_0 : List UInt8 := dkwJ4_append_5_0 ++ dktJ4_append_5_1
theorem dksJ4_append_5_0 : cJ4_append_5.data.toList.drop 0 = dktJ4_append_5_0 := by decide +kernel
theorem dksJ4_append_5_1 : cJ4_append_5.data.toList.drop 24 = dktJ4_append_5_1 := dk_seg dksJ4_append_5_0 24 rfl rfl
theorem dksJ4_append_5_2 : cJ4_append_5.data.toList.drop 47 = dktJ4_append_5_2 := dk_seg dksJ4_append_5_1 23 rfl rfl
theorem dJ4_append_5_0 : decode cJ4_append_5 0 = .ok (.aload_n 1, 1) := dk_43 (dk_at dksJ4_append_5_0 0 rfl rfl)
theorem dJ4_append_5_1 : decode cJ4_append_5 1 = .ok (.ifnonnull 6, 3) := dk_199 0 6 (dk_at dksJ4_append_5_0 1 rfl rfl)
theorem dJ4_append_5_4 : decode cJ4_append_5 4 = .ok (.ldc 230, 2) := dk_18 230 (dk_at dksJ4_append_5_0 4 rfl rfl)
theorem dJ4_append_5_6 : decode cJ4_append_5 6 = .ok (.astore_n 1, 1) := dk_76 (dk_at dksJ4_append_5_0 6 rfl rfl)
theorem dJ4_append_5_7 : decode cJ4_append_5 7 = .ok (.iload_n 2, 1) := dk_28 (dk_at dksJ4_append_5_0 7 rfl rfl)
theorem dJ4_append_5_8 : decode cJ4_append_5 8 = .ok (.iload_n 3, 1) := dk_29 (dk_at dksJ4_append_5_0 8 rfl rfl)
theorem dJ4_append_5_9 : decode cJ4_append_5 9 = .ok (.aload_n 1, 1) := dk_43 (dk_at dksJ4_append_5_0 9 rfl rfl)
theorem dJ4_append_5_10 : decode cJ4_append_5 10 = .ok (.invokeinterface 47 1, 5) := by decide +kernel
theorem dJ4_append_5_15 : decode cJ4_append_5 15 = .ok (.getstatic 183, 3) := dk_178 0 183 (dk_at dksJ4_append_5_0 15 rfl rfl)
theorem dJ4_append_5_18 : decode cJ4_append_5 18 = .ok (.invokestatic 161, 3) := dk_184 0 161 (dk_at dksJ4_append_5_0 18 rfl rfl)
theorem dJ4_append_5_21 : decode cJ4_append_5 21 = .ok (.pop, 1) := dk_87 (dk_at dksJ4_append_5_0 21 rfl rfl)
theorem dJ4_append_5_22 : decode cJ4_append_5 22 = .ok (.iload_n 3, 1) := dk_29 (dk_at dksJ4_append_5_0 22 rfl rfl)
theorem dJ4_append_5_23 : decode cJ4_append_5 23 = .ok (.iload_n 2, 1) := dk_28 (dk_at dksJ4_append_5_0 23 rfl rfl)
theorem dJ4_append_5_24 : decode cJ4_append_5 24 = .ok (.isub, 1) := dk_100 (dk_at dksJ4_append_5_1 0 rfl rfl)
theorem dJ4_append_5_25 : decode cJ4_append_5 25 = .ok (.istore 4, 2) := dk_54 4 (dk_at dksJ4_append_5_1 1 rfl rfl)
theorem dJ4_append_5_27 : decode cJ4_append_5 27 = .ok (.aload_n 0, 1) := dk_42 (dk_at dksJ4_append_5_1 3 rfl rfl)
theorem dJ4_append_5_28 : decode cJ4_append_5 28 = .ok (.aload_n 0, 1) := dk_42 (dk_at dksJ4_append_5_1 4 rfl rfl)
theorem dJ4_append_5_29 : decode cJ4_append_5 29 = .ok (.getfield 79, 3) := dk_180 0 79 (dk_at dksJ4_append_5_1 5 rfl rfl)
theorem dJ4_append_5_32 : decode cJ4_append_5 32 = .ok (.iload 4, 2) := dk_21 4 (dk_at dksJ4_append_5_1 8 rfl rfl)
theorem dJ4_append_5_34 : decode cJ4_append_5 34 = .ok (.iadd, 1) := dk_96 (dk_at dksJ4_append_5_1 10 rfl rfl)
theorem dJ4_append_5_35 : decode cJ4_append_5 35 = .ok (.invokevirtual 100, 3) := dk_182 0 100 (dk_at dksJ4_append_5_1 11 rfl rfl)
theorem dJ4_append_5_38 : decode cJ4_append_5 38 = .ok (.aload_n 1, 1) := dk_43 (dk_at dksJ4_append_5_1 14 rfl rfl)
theorem dJ4_append_5_39 : decode cJ4_append_5 39 = .ok (.instanceof 1, 3) := dk_193 0 1 (dk_at dksJ4_append_5_1 15 rfl rfl)
theorem dJ4_append_5_42 : decode cJ4_append_5 42 = .ok (.ifCond .eq 16, 3) := dk_153 0 16 (dk_at dksJ4_append_5_1 18 rfl rfl)
theorem dJ4_append_5_45 : decode cJ4_append_5 45 = .ok (.aload_n 0, 1) := dk_42 (dk_at dksJ4_append_5_1 21 rfl rfl)
theorem dJ4_append_5_46 : decode cJ4_append_5 46 = .ok (.aload_n 1, 1) := dk_43 (dk_at dksJ4_append_5_1 22 rfl rfl)
theorem dJ4_append_5_47 : decode cJ4_append_5 47 = .ok (.checkcast 1, 3) := dk_192 0 1 (dk_at dksJ4_append_5_2 0 rfl rfl)
theorem dJ4_append_5_50 : decode cJ4_append_5 50 = .ok (.iload_n 2, 1) := dk_28 (dk_at dksJ4_append_5_2 3 rfl rfl)
theorem dJ4_append_5_51 : decode cJ4_append_5 51 = .ok (.iload_n 3, 1) := dk_29 (dk_at dksJ4_append_5_2 4 rfl rfl)
theorem dJ4_append_5_52 : decode cJ4_append_5 52 = .ok (.invokevirtual 232, 3) := dk_182 0 232 (dk_at dksJ4_append_5_2 5 rfl rfl)
theorem dJ4_append_5_55 : decode cJ4_append_5 55 = .ok (.goto 10, 3) := dk_167 0 10 (dk_at dksJ4_append_5_2 8 rfl rfl)
theorem dJ4_append_5_58 : decode cJ4_append_5 58 = .ok (.aload_n 0, 1) := dk_42 (dk_at dksJ4_append_5_2 11 rfl rfl)
theorem dJ4_append_5_59 : decode cJ4_append_5 59 = .ok (.aload_n 1, 1) := dk_43 (dk_at dksJ4_append_5_2 12 rfl rfl)
theorem dJ4_append_5_60 : decode cJ4_append_5 60 = .ok (.iload_n 2, 1) := dk_28 (dk_at dksJ4_append_5_2 13 rfl rfl)
theorem dJ4_append_5_61 : decode cJ4_append_5 61 = .ok (.iload_n 3, 1) := dk_29 (dk_at dksJ4_append_5_2 14 rfl rfl)
theorem dJ4_append_5_62 : decode cJ4_append_5 62 = .ok (.invokevirtual 236, 3) := dk_182 0 236 (dk_at dksJ4_append_5_2 15 rfl rfl)
theorem dJ4_append_5_65 : decode cJ4_append_5 65 = .ok (.aload_n 0, 1) := dk_42 (dk_at dksJ4_append_5_2 18 rfl rfl)
theorem dJ4_append_5_66 : decode cJ4_append_5 66 = .ok (.areturn, 1) := dk_176 (dk_at dksJ4_append_5_2 19 rfl rfl)
abbrev cJ4_appendChars : ByteArray := prog_16_method_75_code
def yJ4_appendChars : MethodName := ⟨RJ4, "appendChars", "(Ljava/lang/String;II)V"⟩
def dkwJ4_appendChars_8 : List UInt8 := [120, 184, 1, 53, 42, 89, 180, 0, 79, 29, 28, 100, 96, 181, 0, 79, 177]
abbrev dktJ4_appendChars_8 : List UInt8 := dkwJ4_appendChars_8 ++ []
def dkwJ4_appendChars_7 : List UInt8 := [167, 0, 28, 43, 182, 1, 145, 28, 4, 120, 42, 180, 0, 15, 42, 180, 0, 79, 4, 120, 29, 28, 100, 4]
abbrev dktJ4_appendChars_7 : List UInt8 := dkwJ4_appendChars_7 ++ dktJ4_appendChars_8
def dkwJ4_appendChars_6 : List UInt8 := [167, 0, 52, 43, 182, 1, 144, 153, 0, 20, 42, 180, 0, 15, 42, 180, 0, 79, 43, 28, 29, 184, 1, 138]
abbrev dktJ4_appendChars_6 : List UInt8 := dkwJ4_appendChars_6 ++ dktJ4_appendChars_7
def dkwJ4_appendChars_5 : List UInt8 := [120, 184, 1, 53, 42, 89, 180, 0, 79, 29, 21, 5, 100, 96, 181, 0, 79, 177, 132, 5, 1, 167, 255, 168]
abbrev dktJ4_appendChars_5 : List UInt8 := dkwJ4_appendChars_5 ++ dktJ4_appendChars_6
def dkwJ4_appendChars_4 : List UInt8 := [182, 0, 195, 43, 182, 1, 145, 21, 5, 4, 120, 42, 180, 0, 15, 21, 6, 4, 120, 29, 21, 5, 100, 4]
abbrev dktJ4_appendChars_4 : List UInt8 := dkwJ4_appendChars_4 ++ dktJ4_appendChars_5
def dkwJ4_appendChars_3 : List UInt8 := [153, 0, 17, 25, 4, 21, 6, 132, 6, 1, 21, 7, 145, 84, 167, 0, 52, 42, 21, 6, 181, 0, 79, 42]
abbrev dktJ4_appendChars_3 : List UInt8 := dkwJ4_appendChars_3 ++ dktJ4_appendChars_4
def dkwJ4_appendChars_2 : List UInt8 := [180, 0, 79, 54, 6, 21, 5, 29, 162, 0, 88, 43, 21, 5, 182, 1, 148, 54, 7, 21, 7, 184, 0, 191]
abbrev dktJ4_appendChars_2 : List UInt8 := dkwJ4_appendChars_2 ++ dktJ4_appendChars_3
def dkwJ4_appendChars_1 : List UInt8 := [180, 0, 79, 29, 28, 100, 184, 1, 53, 167, 0, 161, 42, 180, 0, 15, 58, 4, 28, 54, 5, 42]
abbrev dktJ4_appendChars_1 : List UInt8 := dkwJ4_appendChars_1 ++ dktJ4_appendChars_2
def dkwJ4_appendChars_0 : List UInt8 := [42, 182, 0, 83, 153, 0, 141, 43, 182, 1, 144, 153, 0, 25, 43, 182, 1, 145, 28, 42, 180, 0, 15, 42]
abbrev dktJ4_appendChars_0 : List UInt8 := dkwJ4_appendChars_0 ++ dktJ4_appendChars_1
theorem dksJ4_appendChars_0 : cJ4_appendChars.data.toList.drop 0 = dktJ4_appendChars_0 := by decide +kernel
theorem dksJ4_appendChars_1 : cJ4_appendChars.data.toList.drop 24 = dktJ4_appendChars_1 := dk_seg dksJ4_appendChars_0 24 rfl rfl
theorem dksJ4_appendChars_2 : cJ4_appendChars.data.toList.drop 46 = dktJ4_appendChars_2 := dk_seg dksJ4_appendChars_1 22 rfl rfl
theorem dksJ4_appendChars_3 : cJ4_appendChars.data.toList.drop 70 = dktJ4_appendChars_3 := dk_seg dksJ4_appendChars_2 24 rfl rfl
theorem dksJ4_appendChars_4 : cJ4_appendChars.data.toList.drop 94 = dktJ4_appendChars_4 := dk_seg dksJ4_appendChars_3 24 rfl rfl
theorem dksJ4_appendChars_5 : cJ4_appendChars.data.toList.drop 118 = dktJ4_appendChars_5 := dk_seg dksJ4_appendChars_4 24 rfl rfl
theorem dksJ4_appendChars_6 : cJ4_appendChars.data.toList.drop 142 = dktJ4_appendChars_6 := dk_seg dksJ4_appendChars_5 24 rfl rfl
theorem dksJ4_appendChars_7 : cJ4_appendChars.data.toList.drop 166 = dktJ4_appendChars_7 := dk_seg dksJ4_appendChars_6 24 rfl rfl
theorem dksJ4_appendChars_8 : cJ4_appendChars.data.toList.drop 190 = dktJ4_appendChars_8 := dk_seg dksJ4_appendChars_7 24 rfl rfl
theorem dJ4_appendChars_0 : decode cJ4_appendChars 0 = .ok (.aload_n 0, 1) := dk_42 (dk_at dksJ4_appendChars_0 0 rfl rfl)
theorem dJ4_appendChars_1 : decode cJ4_appendChars 1 = .ok (.invokevirtual 83, 3) := dk_182 0 83 (dk_at dksJ4_appendChars_0 1 rfl rfl)
theorem dJ4_appendChars_4 : decode cJ4_appendChars 4 = .ok (.ifCond .eq 141, 3) := dk_153 0 141 (dk_at dksJ4_appendChars_0 4 rfl rfl)
theorem dJ4_appendChars_7 : decode cJ4_appendChars 7 = .ok (.aload_n 1, 1) := dk_43 (dk_at dksJ4_appendChars_0 7 rfl rfl)
theorem dJ4_appendChars_8 : decode cJ4_appendChars 8 = .ok (.invokevirtual 400, 3) := dk_182 1 144 (dk_at dksJ4_appendChars_0 8 rfl rfl)
theorem dJ4_appendChars_11 : decode cJ4_appendChars 11 = .ok (.ifCond .eq 25, 3) := dk_153 0 25 (dk_at dksJ4_appendChars_0 11 rfl rfl)
theorem dJ4_appendChars_14 : decode cJ4_appendChars 14 = .ok (.aload_n 1, 1) := dk_43 (dk_at dksJ4_appendChars_0 14 rfl rfl)
theorem dJ4_appendChars_15 : decode cJ4_appendChars 15 = .ok (.invokevirtual 401, 3) := dk_182 1 145 (dk_at dksJ4_appendChars_0 15 rfl rfl)
theorem dJ4_appendChars_18 : decode cJ4_appendChars 18 = .ok (.iload_n 2, 1) := dk_28 (dk_at dksJ4_appendChars_0 18 rfl rfl)
theorem dJ4_appendChars_19 : decode cJ4_appendChars 19 = .ok (.aload_n 0, 1) := dk_42 (dk_at dksJ4_appendChars_0 19 rfl rfl)
theorem dJ4_appendChars_20 : decode cJ4_appendChars 20 = .ok (.getfield 15, 3) := dk_180 0 15 (dk_at dksJ4_appendChars_0 20 rfl rfl)
theorem dJ4_appendChars_23 : decode cJ4_appendChars 23 = .ok (.aload_n 0, 1) := dk_42 (dk_at dksJ4_appendChars_0 23 rfl rfl)
theorem dJ4_appendChars_24 : decode cJ4_appendChars 24 = .ok (.getfield 79, 3) := dk_180 0 79 (dk_at dksJ4_appendChars_1 0 rfl rfl)
theorem dJ4_appendChars_27 : decode cJ4_appendChars 27 = .ok (.iload_n 3, 1) := dk_29 (dk_at dksJ4_appendChars_1 3 rfl rfl)
theorem dJ4_appendChars_28 : decode cJ4_appendChars 28 = .ok (.iload_n 2, 1) := dk_28 (dk_at dksJ4_appendChars_1 4 rfl rfl)
theorem dJ4_appendChars_29 : decode cJ4_appendChars 29 = .ok (.isub, 1) := dk_100 (dk_at dksJ4_appendChars_1 5 rfl rfl)
theorem dJ4_appendChars_30 : decode cJ4_appendChars 30 = .ok (.invokestatic 309, 3) := dk_184 1 53 (dk_at dksJ4_appendChars_1 6 rfl rfl)
theorem dJ4_appendChars_33 : decode cJ4_appendChars 33 = .ok (.goto 161, 3) := dk_167 0 161 (dk_at dksJ4_appendChars_1 9 rfl rfl)
theorem dJ4_appendChars_36 : decode cJ4_appendChars 36 = .ok (.aload_n 0, 1) := dk_42 (dk_at dksJ4_appendChars_1 12 rfl rfl)
theorem dJ4_appendChars_37 : decode cJ4_appendChars 37 = .ok (.getfield 15, 3) := dk_180 0 15 (dk_at dksJ4_appendChars_1 13 rfl rfl)
theorem dJ4_appendChars_40 : decode cJ4_appendChars 40 = .ok (.astore 4, 2) := dk_58 4 (dk_at dksJ4_appendChars_1 16 rfl rfl)
theorem dJ4_appendChars_42 : decode cJ4_appendChars 42 = .ok (.iload_n 2, 1) := dk_28 (dk_at dksJ4_appendChars_1 18 rfl rfl)
theorem dJ4_appendChars_43 : decode cJ4_appendChars 43 = .ok (.istore 5, 2) := dk_54 5 (dk_at dksJ4_appendChars_1 19 rfl rfl)
theorem dJ4_appendChars_45 : decode cJ4_appendChars 45 = .ok (.aload_n 0, 1) := dk_42 (dk_at dksJ4_appendChars_1 21 rfl rfl)
theorem dJ4_appendChars_46 : decode cJ4_appendChars 46 = .ok (.getfield 79, 3) := dk_180 0 79 (dk_at dksJ4_appendChars_2 0 rfl rfl)
theorem dJ4_appendChars_49 : decode cJ4_appendChars 49 = .ok (.istore 6, 2) := dk_54 6 (dk_at dksJ4_appendChars_2 3 rfl rfl)
theorem dJ4_appendChars_51 : decode cJ4_appendChars 51 = .ok (.iload 5, 2) := dk_21 5 (dk_at dksJ4_appendChars_2 5 rfl rfl)
theorem dJ4_appendChars_53 : decode cJ4_appendChars 53 = .ok (.iload_n 3, 1) := dk_29 (dk_at dksJ4_appendChars_2 7 rfl rfl)
theorem dJ4_appendChars_54 : decode cJ4_appendChars 54 = .ok (.if_icmp .ge 88, 3) := dk_162 0 88 (dk_at dksJ4_appendChars_2 8 rfl rfl)
theorem dJ4_appendChars_57 : decode cJ4_appendChars 57 = .ok (.aload_n 1, 1) := dk_43 (dk_at dksJ4_appendChars_2 11 rfl rfl)
theorem dJ4_appendChars_58 : decode cJ4_appendChars 58 = .ok (.iload 5, 2) := dk_21 5 (dk_at dksJ4_appendChars_2 12 rfl rfl)
theorem dJ4_appendChars_60 : decode cJ4_appendChars 60 = .ok (.invokevirtual 404, 3) := dk_182 1 148 (dk_at dksJ4_appendChars_2 14 rfl rfl)
theorem dJ4_appendChars_63 : decode cJ4_appendChars 63 = .ok (.istore 7, 2) := dk_54 7 (dk_at dksJ4_appendChars_2 17 rfl rfl)
theorem dJ4_appendChars_65 : decode cJ4_appendChars 65 = .ok (.iload 7, 2) := dk_21 7 (dk_at dksJ4_appendChars_2 19 rfl rfl)
theorem dJ4_appendChars_67 : decode cJ4_appendChars 67 = .ok (.invokestatic 191, 3) := dk_184 0 191 (dk_at dksJ4_appendChars_2 21 rfl rfl)
theorem dJ4_appendChars_70 : decode cJ4_appendChars 70 = .ok (.ifCond .eq 17, 3) := dk_153 0 17 (dk_at dksJ4_appendChars_3 0 rfl rfl)
theorem dJ4_appendChars_73 : decode cJ4_appendChars 73 = .ok (.aload 4, 2) := dk_25 4 (dk_at dksJ4_appendChars_3 3 rfl rfl)
theorem dJ4_appendChars_75 : decode cJ4_appendChars 75 = .ok (.iload 6, 2) := dk_21 6 (dk_at dksJ4_appendChars_3 5 rfl rfl)
theorem dJ4_appendChars_77 : decode cJ4_appendChars 77 = .ok (.iinc 6 1, 3) := dk_132 6 1 (dk_at dksJ4_appendChars_3 7 rfl rfl)
theorem dJ4_appendChars_80 : decode cJ4_appendChars 80 = .ok (.iload 7, 2) := dk_21 7 (dk_at dksJ4_appendChars_3 10 rfl rfl)
theorem dJ4_appendChars_82 : decode cJ4_appendChars 82 = .ok (.i2b, 1) := dk_145 (dk_at dksJ4_appendChars_3 12 rfl rfl)
theorem dJ4_appendChars_83 : decode cJ4_appendChars 83 = .ok (.bastore, 1) := dk_84 (dk_at dksJ4_appendChars_3 13 rfl rfl)
theorem dJ4_appendChars_84 : decode cJ4_appendChars 84 = .ok (.goto 52, 3) := dk_167 0 52 (dk_at dksJ4_appendChars_3 14 rfl rfl)
theorem dJ4_appendChars_87 : decode cJ4_appendChars 87 = .ok (.aload_n 0, 1) := dk_42 (dk_at dksJ4_appendChars_3 17 rfl rfl)
theorem dJ4_appendChars_88 : decode cJ4_appendChars 88 = .ok (.iload 6, 2) := dk_21 6 (dk_at dksJ4_appendChars_3 18 rfl rfl)
theorem dJ4_appendChars_90 : decode cJ4_appendChars 90 = .ok (.putfield 79, 3) := dk_181 0 79 (dk_at dksJ4_appendChars_3 20 rfl rfl)
theorem dJ4_appendChars_93 : decode cJ4_appendChars 93 = .ok (.aload_n 0, 1) := dk_42 (dk_at dksJ4_appendChars_3 23 rfl rfl)
theorem dJ4_appendChars_94 : decode cJ4_appendChars 94 = .ok (.invokevirtual 195, 3) := dk_182 0 195 (dk_at dksJ4_appendChars_4 0 rfl rfl)
theorem dJ4_appendChars_97 : decode cJ4_appendChars 97 = .ok (.aload_n 1, 1) := dk_43 (dk_at dksJ4_appendChars_4 3 rfl rfl)
theorem dJ4_appendChars_98 : decode cJ4_appendChars 98 = .ok (.invokevirtual 401, 3) := dk_182 1 145 (dk_at dksJ4_appendChars_4 4 rfl rfl)
theorem dJ4_appendChars_101 : decode cJ4_appendChars 101 = .ok (.iload 5, 2) := dk_21 5 (dk_at dksJ4_appendChars_4 7 rfl rfl)
theorem dJ4_appendChars_103 : decode cJ4_appendChars 103 = .ok (.iconst 1, 1) := dk_4 (dk_at dksJ4_appendChars_4 9 rfl rfl)
theorem dJ4_appendChars_104 : decode cJ4_appendChars 104 = .ok (.ishl, 1) := dk_120 (dk_at dksJ4_appendChars_4 10 rfl rfl)
theorem dJ4_appendChars_105 : decode cJ4_appendChars 105 = .ok (.aload_n 0, 1) := dk_42 (dk_at dksJ4_appendChars_4 11 rfl rfl)
theorem dJ4_appendChars_106 : decode cJ4_appendChars 106 = .ok (.getfield 15, 3) := dk_180 0 15 (dk_at dksJ4_appendChars_4 12 rfl rfl)
theorem dJ4_appendChars_109 : decode cJ4_appendChars 109 = .ok (.iload 6, 2) := dk_21 6 (dk_at dksJ4_appendChars_4 15 rfl rfl)
theorem dJ4_appendChars_111 : decode cJ4_appendChars 111 = .ok (.iconst 1, 1) := dk_4 (dk_at dksJ4_appendChars_4 17 rfl rfl)
theorem dJ4_appendChars_112 : decode cJ4_appendChars 112 = .ok (.ishl, 1) := dk_120 (dk_at dksJ4_appendChars_4 18 rfl rfl)
theorem dJ4_appendChars_113 : decode cJ4_appendChars 113 = .ok (.iload_n 3, 1) := dk_29 (dk_at dksJ4_appendChars_4 19 rfl rfl)
theorem dJ4_appendChars_114 : decode cJ4_appendChars 114 = .ok (.iload 5, 2) := dk_21 5 (dk_at dksJ4_appendChars_4 20 rfl rfl)
theorem dJ4_appendChars_116 : decode cJ4_appendChars 116 = .ok (.isub, 1) := dk_100 (dk_at dksJ4_appendChars_4 22 rfl rfl)
theorem dJ4_appendChars_117 : decode cJ4_appendChars 117 = .ok (.iconst 1, 1) := dk_4 (dk_at dksJ4_appendChars_4 23 rfl rfl)
theorem dJ4_appendChars_118 : decode cJ4_appendChars 118 = .ok (.ishl, 1) := dk_120 (dk_at dksJ4_appendChars_5 0 rfl rfl)
theorem dJ4_appendChars_119 : decode cJ4_appendChars 119 = .ok (.invokestatic 309, 3) := dk_184 1 53 (dk_at dksJ4_appendChars_5 1 rfl rfl)
theorem dJ4_appendChars_122 : decode cJ4_appendChars 122 = .ok (.aload_n 0, 1) := dk_42 (dk_at dksJ4_appendChars_5 4 rfl rfl)
theorem dJ4_appendChars_123 : decode cJ4_appendChars 123 = .ok (.dup, 1) := dk_89 (dk_at dksJ4_appendChars_5 5 rfl rfl)
theorem dJ4_appendChars_124 : decode cJ4_appendChars 124 = .ok (.getfield 79, 3) := dk_180 0 79 (dk_at dksJ4_appendChars_5 6 rfl rfl)
theorem dJ4_appendChars_127 : decode cJ4_appendChars 127 = .ok (.iload_n 3, 1) := dk_29 (dk_at dksJ4_appendChars_5 9 rfl rfl)
theorem dJ4_appendChars_128 : decode cJ4_appendChars 128 = .ok (.iload 5, 2) := dk_21 5 (dk_at dksJ4_appendChars_5 10 rfl rfl)
theorem dJ4_appendChars_130 : decode cJ4_appendChars 130 = .ok (.isub, 1) := dk_100 (dk_at dksJ4_appendChars_5 12 rfl rfl)
theorem dJ4_appendChars_131 : decode cJ4_appendChars 131 = .ok (.iadd, 1) := dk_96 (dk_at dksJ4_appendChars_5 13 rfl rfl)
theorem dJ4_appendChars_132 : decode cJ4_appendChars 132 = .ok (.putfield 79, 3) := dk_181 0 79 (dk_at dksJ4_appendChars_5 14 rfl rfl)
theorem dJ4_appendChars_135 : decode cJ4_appendChars 135 = .ok (.return_, 1) := dk_177 (dk_at dksJ4_appendChars_5 17 rfl rfl)
theorem dJ4_appendChars_136 : decode cJ4_appendChars 136 = .ok (.iinc 5 1, 3) := dk_132 5 1 (dk_at dksJ4_appendChars_5 18 rfl rfl)
theorem dJ4_appendChars_139 : decode cJ4_appendChars 139 = .ok (.goto (-88), 3) := dk_167 255 168 (dk_at dksJ4_appendChars_5 21 rfl rfl)
theorem dJ4_appendChars_142 : decode cJ4_appendChars 142 = .ok (.goto 52, 3) := dk_167 0 52 (dk_at dksJ4_appendChars_6 0 rfl rfl)
theorem dJ4_appendChars_145 : decode cJ4_appendChars 145 = .ok (.aload_n 1, 1) := dk_43 (dk_at dksJ4_appendChars_6 3 rfl rfl)
theorem dJ4_appendChars_146 : decode cJ4_appendChars 146 = .ok (.invokevirtual 400, 3) := dk_182 1 144 (dk_at dksJ4_appendChars_6 4 rfl rfl)
theorem dJ4_appendChars_149 : decode cJ4_appendChars 149 = .ok (.ifCond .eq 20, 3) := dk_153 0 20 (dk_at dksJ4_appendChars_6 7 rfl rfl)
theorem dJ4_appendChars_152 : decode cJ4_appendChars 152 = .ok (.aload_n 0, 1) := dk_42 (dk_at dksJ4_appendChars_6 10 rfl rfl)
theorem dJ4_appendChars_153 : decode cJ4_appendChars 153 = .ok (.getfield 15, 3) := dk_180 0 15 (dk_at dksJ4_appendChars_6 11 rfl rfl)
theorem dJ4_appendChars_156 : decode cJ4_appendChars 156 = .ok (.aload_n 0, 1) := dk_42 (dk_at dksJ4_appendChars_6 14 rfl rfl)
theorem dJ4_appendChars_157 : decode cJ4_appendChars 157 = .ok (.getfield 79, 3) := dk_180 0 79 (dk_at dksJ4_appendChars_6 15 rfl rfl)
theorem dJ4_appendChars_160 : decode cJ4_appendChars 160 = .ok (.aload_n 1, 1) := dk_43 (dk_at dksJ4_appendChars_6 18 rfl rfl)
theorem dJ4_appendChars_161 : decode cJ4_appendChars 161 = .ok (.iload_n 2, 1) := dk_28 (dk_at dksJ4_appendChars_6 19 rfl rfl)
theorem dJ4_appendChars_162 : decode cJ4_appendChars 162 = .ok (.iload_n 3, 1) := dk_29 (dk_at dksJ4_appendChars_6 20 rfl rfl)
theorem dJ4_appendChars_163 : decode cJ4_appendChars 163 = .ok (.invokestatic 394, 3) := dk_184 1 138 (dk_at dksJ4_appendChars_6 21 rfl rfl)
theorem dJ4_appendChars_166 : decode cJ4_appendChars 166 = .ok (.goto 28, 3) := dk_167 0 28 (dk_at dksJ4_appendChars_7 0 rfl rfl)
theorem dJ4_appendChars_169 : decode cJ4_appendChars 169 = .ok (.aload_n 1, 1) := dk_43 (dk_at dksJ4_appendChars_7 3 rfl rfl)
theorem dJ4_appendChars_170 : decode cJ4_appendChars 170 = .ok (.invokevirtual 401, 3) := dk_182 1 145 (dk_at dksJ4_appendChars_7 4 rfl rfl)
theorem dJ4_appendChars_173 : decode cJ4_appendChars 173 = .ok (.iload_n 2, 1) := dk_28 (dk_at dksJ4_appendChars_7 7 rfl rfl)
theorem dJ4_appendChars_174 : decode cJ4_appendChars 174 = .ok (.iconst 1, 1) := dk_4 (dk_at dksJ4_appendChars_7 8 rfl rfl)
theorem dJ4_appendChars_175 : decode cJ4_appendChars 175 = .ok (.ishl, 1) := dk_120 (dk_at dksJ4_appendChars_7 9 rfl rfl)
theorem dJ4_appendChars_176 : decode cJ4_appendChars 176 = .ok (.aload_n 0, 1) := dk_42 (dk_at dksJ4_appendChars_7 10 rfl rfl)
theorem dJ4_appendChars_177 : decode cJ4_appendChars 177 = .ok (.getfield 15, 3) := dk_180 0 15 (dk_at dksJ4_appendChars_7 11 rfl rfl)
theorem dJ4_appendChars_180 : decode cJ4_appendChars 180 = .ok (.aload_n 0, 1) := dk_42 (dk_at dksJ4_appendChars_7 14 rfl rfl)
theorem dJ4_appendChars_181 : decode cJ4_appendChars 181 = .ok (.getfield 79, 3) := dk_180 0 79 (dk_at dksJ4_appendChars_7 15 rfl rfl)
theorem dJ4_appendChars_184 : decode cJ4_appendChars 184 = .ok (.iconst 1, 1) := dk_4 (dk_at dksJ4_appendChars_7 18 rfl rfl)
theorem dJ4_appendChars_185 : decode cJ4_appendChars 185 = .ok (.ishl, 1) := dk_120 (dk_at dksJ4_appendChars_7 19 rfl rfl)
theorem dJ4_appendChars_186 : decode cJ4_appendChars 186 = .ok (.iload_n 3, 1) := dk_29 (dk_at dksJ4_appendChars_7 20 rfl rfl)
theorem dJ4_appendChars_187 : decode cJ4_appendChars 187 = .ok (.iload_n 2, 1) := dk_28 (dk_at dksJ4_appendChars_7 21 rfl rfl)
theorem dJ4_appendChars_188 : decode cJ4_appendChars 188 = .ok (.isub, 1) := dk_100 (dk_at dksJ4_appendChars_7 22 rfl rfl)
theorem dJ4_appendChars_189 : decode cJ4_appendChars 189 = .ok (.iconst 1, 1) := dk_4 (dk_at dksJ4_appendChars_7 23 rfl rfl)
theorem dJ4_appendChars_190 : decode cJ4_appendChars 190 = .ok (.ishl, 1) := dk_120 (dk_at dksJ4_appendChars_8 0 rfl rfl)
theorem dJ4_appendChars_191 : decode cJ4_appendChars 191 = .ok (.invokestatic 309, 3) := dk_184 1 53 (dk_at dksJ4_appendChars_8 1 rfl rfl)
theorem dJ4_appendChars_194 : decode cJ4_appendChars 194 = .ok (.aload_n 0, 1) := dk_42 (dk_at dksJ4_appendChars_8 4 rfl rfl)
theorem dJ4_appendChars_195 : decode cJ4_appendChars 195 = .ok (.dup, 1) := dk_89 (dk_at dksJ4_appendChars_8 5 rfl rfl)
theorem dJ4_appendChars_196 : decode cJ4_appendChars 196 = .ok (.getfield 79, 3) := dk_180 0 79 (dk_at dksJ4_appendChars_8 6 rfl rfl)
theorem dJ4_appendChars_199 : decode cJ4_appendChars 199 = .ok (.iload_n 3, 1) := dk_29 (dk_at dksJ4_appendChars_8 9 rfl rfl)
theorem dJ4_appendChars_200 : decode cJ4_appendChars 200 = .ok (.iload_n 2, 1) := dk_28 (dk_at dksJ4_appendChars_8 10 rfl rfl)
theorem dJ4_appendChars_201 : decode cJ4_appendChars 201 = .ok (.isub, 1) := dk_100 (dk_at dksJ4_appendChars_8 11 rfl rfl)
theorem dJ4_appendChars_202 : decode cJ4_appendChars 202 = .ok (.iadd, 1) := dk_96 (dk_at dksJ4_appendChars_8 12 rfl rfl)
theorem dJ4_appendChars_203 : decode cJ4_appendChars 203 = .ok (.putfield 79, 3) := dk_181 0 79 (dk_at dksJ4_appendChars_8 13 rfl rfl)
theorem dJ4_appendChars_206 : decode cJ4_appendChars 206 = .ok (.return_, 1) := dk_177 (dk_at dksJ4_appendChars_8 16 rfl rfl)
abbrev cJ4_charAt : ByteArray := prog_16_method_14_code
def yJ4_charAt : MethodName := ⟨RJ4, "charAt", "(I)C"⟩
def dkwJ4_charAt_1 : List UInt8 := [21, 4, 184, 0, 144, 28, 154, 0, 12, 45, 27, 51, 17, 0, 255, 126, 146, 172, 45, 27, 184, 0, 148, 172]
abbrev dktJ4_charAt_1 : List UInt8 := dkwJ4_charAt_1 ++ []
def dkwJ4_charAt_0 : List UInt8 := [42, 180, 0, 22, 61, 42, 180, 0, 15, 78, 42, 180, 0, 79, 45, 190, 28, 122, 184, 0, 138, 54, 4, 27]
abbrev dktJ4_charAt_0 : List UInt8 := dkwJ4_charAt_0 ++ dktJ4_charAt_1
theorem dksJ4_charAt_0 : cJ4_charAt.data.toList.drop 0 = dktJ4_charAt_0 := by decide +kernel
theorem dksJ4_charAt_1 : cJ4_charAt.data.toList.drop 24 = dktJ4_charAt_1 := dk_seg dksJ4_charAt_0 24 rfl rfl
theorem dJ4_charAt_0 : decode cJ4_charAt 0 = .ok (.aload_n 0, 1) := dk_42 (dk_at dksJ4_charAt_0 0 rfl rfl)
theorem dJ4_charAt_1 : decode cJ4_charAt 1 = .ok (.getfield 22, 3) := dk_180 0 22 (dk_at dksJ4_charAt_0 1 rfl rfl)
theorem dJ4_charAt_4 : decode cJ4_charAt 4 = .ok (.istore_n 2, 1) := dk_61 (dk_at dksJ4_charAt_0 4 rfl rfl)
theorem dJ4_charAt_5 : decode cJ4_charAt 5 = .ok (.aload_n 0, 1) := dk_42 (dk_at dksJ4_charAt_0 5 rfl rfl)
theorem dJ4_charAt_6 : decode cJ4_charAt 6 = .ok (.getfield 15, 3) := dk_180 0 15 (dk_at dksJ4_charAt_0 6 rfl rfl)
theorem dJ4_charAt_9 : decode cJ4_charAt 9 = .ok (.astore_n 3, 1) := dk_78 (dk_at dksJ4_charAt_0 9 rfl rfl)
theorem dJ4_charAt_10 : decode cJ4_charAt 10 = .ok (.aload_n 0, 1) := dk_42 (dk_at dksJ4_charAt_0 10 rfl rfl)
theorem dJ4_charAt_11 : decode cJ4_charAt 11 = .ok (.getfield 79, 3) := dk_180 0 79 (dk_at dksJ4_charAt_0 11 rfl rfl)
theorem dJ4_charAt_14 : decode cJ4_charAt 14 = .ok (.aload_n 3, 1) := dk_45 (dk_at dksJ4_charAt_0 14 rfl rfl)
theorem dJ4_charAt_15 : decode cJ4_charAt 15 = .ok (.arraylength, 1) := dk_190 (dk_at dksJ4_charAt_0 15 rfl rfl)
theorem dJ4_charAt_16 : decode cJ4_charAt 16 = .ok (.iload_n 2, 1) := dk_28 (dk_at dksJ4_charAt_0 16 rfl rfl)
theorem dJ4_charAt_17 : decode cJ4_charAt 17 = .ok (.ishr, 1) := dk_122 (dk_at dksJ4_charAt_0 17 rfl rfl)
theorem dJ4_charAt_18 : decode cJ4_charAt 18 = .ok (.invokestatic 138, 3) := dk_184 0 138 (dk_at dksJ4_charAt_0 18 rfl rfl)
theorem dJ4_charAt_21 : decode cJ4_charAt 21 = .ok (.istore 4, 2) := dk_54 4 (dk_at dksJ4_charAt_0 21 rfl rfl)
theorem dJ4_charAt_23 : decode cJ4_charAt 23 = .ok (.iload_n 1, 1) := dk_27 (dk_at dksJ4_charAt_0 23 rfl rfl)
theorem dJ4_charAt_24 : decode cJ4_charAt 24 = .ok (.iload 4, 2) := dk_21 4 (dk_at dksJ4_charAt_1 0 rfl rfl)
theorem dJ4_charAt_26 : decode cJ4_charAt 26 = .ok (.invokestatic 144, 3) := dk_184 0 144 (dk_at dksJ4_charAt_1 2 rfl rfl)
theorem dJ4_charAt_29 : decode cJ4_charAt 29 = .ok (.iload_n 2, 1) := dk_28 (dk_at dksJ4_charAt_1 5 rfl rfl)
theorem dJ4_charAt_30 : decode cJ4_charAt 30 = .ok (.ifCond .ne 12, 3) := dk_154 0 12 (dk_at dksJ4_charAt_1 6 rfl rfl)
theorem dJ4_charAt_33 : decode cJ4_charAt 33 = .ok (.aload_n 3, 1) := dk_45 (dk_at dksJ4_charAt_1 9 rfl rfl)
theorem dJ4_charAt_34 : decode cJ4_charAt 34 = .ok (.iload_n 1, 1) := dk_27 (dk_at dksJ4_charAt_1 10 rfl rfl)
theorem dJ4_charAt_35 : decode cJ4_charAt 35 = .ok (.baload, 1) := dk_51 (dk_at dksJ4_charAt_1 11 rfl rfl)
theorem dJ4_charAt_36 : decode cJ4_charAt 36 = .ok (.sipush 255, 3) := dk_17 0 255 (dk_at dksJ4_charAt_1 12 rfl rfl)
theorem dJ4_charAt_39 : decode cJ4_charAt 39 = .ok (.iand, 1) := dk_126 (dk_at dksJ4_charAt_1 15 rfl rfl)
theorem dJ4_charAt_40 : decode cJ4_charAt 40 = .ok (.i2c, 1) := dk_146 (dk_at dksJ4_charAt_1 16 rfl rfl)
theorem dJ4_charAt_41 : decode cJ4_charAt 41 = .ok (.ireturn, 1) := dk_172 (dk_at dksJ4_charAt_1 17 rfl rfl)
theorem dJ4_charAt_42 : decode cJ4_charAt 42 = .ok (.aload_n 3, 1) := dk_45 (dk_at dksJ4_charAt_1 18 rfl rfl)
theorem dJ4_charAt_43 : decode cJ4_charAt 43 = .ok (.iload_n 1, 1) := dk_27 (dk_at dksJ4_charAt_1 19 rfl rfl)
theorem dJ4_charAt_44 : decode cJ4_charAt 44 = .ok (.invokestatic 148, 3) := dk_184 0 148 (dk_at dksJ4_charAt_1 20 rfl rfl)
theorem dJ4_charAt_47 : decode cJ4_charAt 47 = .ok (.ireturn, 1) := dk_172 (dk_at dksJ4_charAt_1 23 rfl rfl)
abbrev cJ4_appendChars_2 : ByteArray := prog_16_method_76_code
def yJ4_appendChars_2 : MethodName := ⟨RJ4, "appendChars", "(Ljava/lang/CharSequence;II)V"⟩
def dkwJ4_appendChars_2_6 : List UInt8 := [184, 1, 138, 42, 89, 180, 0, 79, 29, 28, 100, 96, 181, 0, 79, 177]
abbrev dktJ4_appendChars_2_6 : List UInt8 := dkwJ4_appendChars_2_6 ++ []
def dkwJ4_appendChars_2_5 : List UInt8 := [181, 0, 79, 177, 132, 5, 1, 167, 255, 155, 167, 0, 17, 42, 180, 0, 15, 42, 180, 0, 79, 43, 28, 29]
abbrev dktJ4_appendChars_2_5 : List UInt8 := dkwJ4_appendChars_2_5 ++ dktJ4_appendChars_2_6
def dkwJ4_appendChars_2_4 : List UInt8 := [180, 0, 15, 21, 6, 43, 21, 5, 29, 184, 1, 138, 42, 89, 180, 0, 79, 29, 21, 5, 100, 96]
abbrev dktJ4_appendChars_2_4 : List UInt8 := dkwJ4_appendChars_2_4 ++ dktJ4_appendChars_2_5
def dkwJ4_appendChars_2_3 : List UInt8 := [180, 0, 15, 21, 6, 132, 6, 1, 21, 7, 184, 0, 197, 42, 21, 6, 181, 0, 79, 132, 5, 1, 42]
abbrev dktJ4_appendChars_2_3 : List UInt8 := dkwJ4_appendChars_2_3 ++ dktJ4_appendChars_2_4
def dkwJ4_appendChars_2_2 : List UInt8 := [21, 6, 132, 6, 1, 21, 7, 145, 84, 167, 0, 63, 42, 21, 6, 181, 0, 79, 42, 182, 0, 195, 42]
abbrev dktJ4_appendChars_2_2 : List UInt8 := dkwJ4_appendChars_2_2 ++ dktJ4_appendChars_2_3
def dkwJ4_appendChars_2_1 : List UInt8 := [29, 162, 0, 101, 43, 21, 5, 185, 1, 134, 2, 0, 54, 7, 21, 7, 184, 0, 191, 153, 0, 17, 25, 4]
abbrev dktJ4_appendChars_2_1 : List UInt8 := dkwJ4_appendChars_2_1 ++ dktJ4_appendChars_2_2
def dkwJ4_appendChars_2_0 : List UInt8 := [42, 182, 0, 83, 153, 0, 125, 42, 180, 0, 15, 58, 4, 28, 54, 5, 42, 180, 0, 79, 54, 6, 21, 5]
abbrev dktJ4_appendChars_2_0 : List UInt8 := dkwJ4_appendChars_2_0 ++ dktJ4_appendChars_2_1
theorem dksJ4_appendChars_2_0 : cJ4_appendChars_2.data.toList.drop 0 = dktJ4_appendChars_2_0 := by decide +kernel
theorem dksJ4_appendChars_2_1 : cJ4_appendChars_2.data.toList.drop 24 = dktJ4_appendChars_2_1 := dk_seg dksJ4_appendChars_2_0 24 rfl rfl
theorem dksJ4_appendChars_2_2 : cJ4_appendChars_2.data.toList.drop 48 = dktJ4_appendChars_2_2 := dk_seg dksJ4_appendChars_2_1 24 rfl rfl
theorem dksJ4_appendChars_2_3 : cJ4_appendChars_2.data.toList.drop 71 = dktJ4_appendChars_2_3 := dk_seg dksJ4_appendChars_2_2 23 rfl rfl
theorem dksJ4_appendChars_2_4 : cJ4_appendChars_2.data.toList.drop 94 = dktJ4_appendChars_2_4 := dk_seg dksJ4_appendChars_2_3 23 rfl rfl
theorem dksJ4_appendChars_2_5 : cJ4_appendChars_2.data.toList.drop 116 = dktJ4_appendChars_2_5 := dk_seg dksJ4_appendChars_2_4 22 rfl rfl
theorem dksJ4_appendChars_2_6 : cJ4_appendChars_2.data.toList.drop 140 = dktJ4_appendChars_2_6 := dk_seg dksJ4_appendChars_2_5 24 rfl rfl
theorem dJ4_appendChars_2_0 : decode cJ4_appendChars_2 0 = .ok (.aload_n 0, 1) := dk_42 (dk_at dksJ4_appendChars_2_0 0 rfl rfl)
theorem dJ4_appendChars_2_1 : decode cJ4_appendChars_2 1 = .ok (.invokevirtual 83, 3) := dk_182 0 83 (dk_at dksJ4_appendChars_2_0 1 rfl rfl)
theorem dJ4_appendChars_2_4 : decode cJ4_appendChars_2 4 = .ok (.ifCond .eq 125, 3) := dk_153 0 125 (dk_at dksJ4_appendChars_2_0 4 rfl rfl)
theorem dJ4_appendChars_2_7 : decode cJ4_appendChars_2 7 = .ok (.aload_n 0, 1) := dk_42 (dk_at dksJ4_appendChars_2_0 7 rfl rfl)
theorem dJ4_appendChars_2_8 : decode cJ4_appendChars_2 8 = .ok (.getfield 15, 3) := dk_180 0 15 (dk_at dksJ4_appendChars_2_0 8 rfl rfl)
theorem dJ4_appendChars_2_11 : decode cJ4_appendChars_2 11 = .ok (.astore 4, 2) := dk_58 4 (dk_at dksJ4_appendChars_2_0 11 rfl rfl)
theorem dJ4_appendChars_2_13 : decode cJ4_appendChars_2 13 = .ok (.iload_n 2, 1) := dk_28 (dk_at dksJ4_appendChars_2_0 13 rfl rfl)
theorem dJ4_appendChars_2_14 : decode cJ4_appendChars_2 14 = .ok (.istore 5, 2) := dk_54 5 (dk_at dksJ4_appendChars_2_0 14 rfl rfl)
theorem dJ4_appendChars_2_16 : decode cJ4_appendChars_2 16 = .ok (.aload_n 0, 1) := dk_42 (dk_at dksJ4_appendChars_2_0 16 rfl rfl)
theorem dJ4_appendChars_2_17 : decode cJ4_appendChars_2 17 = .ok (.getfield 79, 3) := dk_180 0 79 (dk_at dksJ4_appendChars_2_0 17 rfl rfl)
theorem dJ4_appendChars_2_20 : decode cJ4_appendChars_2 20 = .ok (.istore 6, 2) := dk_54 6 (dk_at dksJ4_appendChars_2_0 20 rfl rfl)
theorem dJ4_appendChars_2_22 : decode cJ4_appendChars_2 22 = .ok (.iload 5, 2) := dk_21 5 (dk_at dksJ4_appendChars_2_0 22 rfl rfl)
theorem dJ4_appendChars_2_24 : decode cJ4_appendChars_2 24 = .ok (.iload_n 3, 1) := dk_29 (dk_at dksJ4_appendChars_2_1 0 rfl rfl)
theorem dJ4_appendChars_2_25 : decode cJ4_appendChars_2 25 = .ok (.if_icmp .ge 101, 3) := dk_162 0 101 (dk_at dksJ4_appendChars_2_1 1 rfl rfl)
theorem dJ4_appendChars_2_28 : decode cJ4_appendChars_2 28 = .ok (.aload_n 1, 1) := dk_43 (dk_at dksJ4_appendChars_2_1 4 rfl rfl)
theorem dJ4_appendChars_2_29 : decode cJ4_appendChars_2 29 = .ok (.iload 5, 2) := dk_21 5 (dk_at dksJ4_appendChars_2_1 5 rfl rfl)
theorem dJ4_appendChars_2_31 : decode cJ4_appendChars_2 31 = .ok (.invokeinterface 390 2, 5) := by decide +kernel
theorem dJ4_appendChars_2_36 : decode cJ4_appendChars_2 36 = .ok (.istore 7, 2) := dk_54 7 (dk_at dksJ4_appendChars_2_1 12 rfl rfl)
theorem dJ4_appendChars_2_38 : decode cJ4_appendChars_2 38 = .ok (.iload 7, 2) := dk_21 7 (dk_at dksJ4_appendChars_2_1 14 rfl rfl)
theorem dJ4_appendChars_2_40 : decode cJ4_appendChars_2 40 = .ok (.invokestatic 191, 3) := dk_184 0 191 (dk_at dksJ4_appendChars_2_1 16 rfl rfl)
theorem dJ4_appendChars_2_43 : decode cJ4_appendChars_2 43 = .ok (.ifCond .eq 17, 3) := dk_153 0 17 (dk_at dksJ4_appendChars_2_1 19 rfl rfl)
theorem dJ4_appendChars_2_46 : decode cJ4_appendChars_2 46 = .ok (.aload 4, 2) := dk_25 4 (dk_at dksJ4_appendChars_2_1 22 rfl rfl)
theorem dJ4_appendChars_2_48 : decode cJ4_appendChars_2 48 = .ok (.iload 6, 2) := dk_21 6 (dk_at dksJ4_appendChars_2_2 0 rfl rfl)
theorem dJ4_appendChars_2_50 : decode cJ4_appendChars_2 50 = .ok (.iinc 6 1, 3) := dk_132 6 1 (dk_at dksJ4_appendChars_2_2 2 rfl rfl)
theorem dJ4_appendChars_2_53 : decode cJ4_appendChars_2 53 = .ok (.iload 7, 2) := dk_21 7 (dk_at dksJ4_appendChars_2_2 5 rfl rfl)
theorem dJ4_appendChars_2_55 : decode cJ4_appendChars_2 55 = .ok (.i2b, 1) := dk_145 (dk_at dksJ4_appendChars_2_2 7 rfl rfl)
theorem dJ4_appendChars_2_56 : decode cJ4_appendChars_2 56 = .ok (.bastore, 1) := dk_84 (dk_at dksJ4_appendChars_2_2 8 rfl rfl)
theorem dJ4_appendChars_2_57 : decode cJ4_appendChars_2 57 = .ok (.goto 63, 3) := dk_167 0 63 (dk_at dksJ4_appendChars_2_2 9 rfl rfl)
theorem dJ4_appendChars_2_60 : decode cJ4_appendChars_2 60 = .ok (.aload_n 0, 1) := dk_42 (dk_at dksJ4_appendChars_2_2 12 rfl rfl)
theorem dJ4_appendChars_2_61 : decode cJ4_appendChars_2 61 = .ok (.iload 6, 2) := dk_21 6 (dk_at dksJ4_appendChars_2_2 13 rfl rfl)
theorem dJ4_appendChars_2_63 : decode cJ4_appendChars_2 63 = .ok (.putfield 79, 3) := dk_181 0 79 (dk_at dksJ4_appendChars_2_2 15 rfl rfl)
theorem dJ4_appendChars_2_66 : decode cJ4_appendChars_2 66 = .ok (.aload_n 0, 1) := dk_42 (dk_at dksJ4_appendChars_2_2 18 rfl rfl)
theorem dJ4_appendChars_2_67 : decode cJ4_appendChars_2 67 = .ok (.invokevirtual 195, 3) := dk_182 0 195 (dk_at dksJ4_appendChars_2_2 19 rfl rfl)
theorem dJ4_appendChars_2_70 : decode cJ4_appendChars_2 70 = .ok (.aload_n 0, 1) := dk_42 (dk_at dksJ4_appendChars_2_2 22 rfl rfl)
theorem dJ4_appendChars_2_71 : decode cJ4_appendChars_2 71 = .ok (.getfield 15, 3) := dk_180 0 15 (dk_at dksJ4_appendChars_2_3 0 rfl rfl)
theorem dJ4_appendChars_2_74 : decode cJ4_appendChars_2 74 = .ok (.iload 6, 2) := dk_21 6 (dk_at dksJ4_appendChars_2_3 3 rfl rfl)
theorem dJ4_appendChars_2_76 : decode cJ4_appendChars_2 76 = .ok (.iinc 6 1, 3) := dk_132 6 1 (dk_at dksJ4_appendChars_2_3 5 rfl rfl)
theorem dJ4_appendChars_2_79 : decode cJ4_appendChars_2 79 = .ok (.iload 7, 2) := dk_21 7 (dk_at dksJ4_appendChars_2_3 8 rfl rfl)
theorem dJ4_appendChars_2_81 : decode cJ4_appendChars_2 81 = .ok (.invokestatic 197, 3) := dk_184 0 197 (dk_at dksJ4_appendChars_2_3 10 rfl rfl)
theorem dJ4_appendChars_2_84 : decode cJ4_appendChars_2 84 = .ok (.aload_n 0, 1) := dk_42 (dk_at dksJ4_appendChars_2_3 13 rfl rfl)
theorem dJ4_appendChars_2_85 : decode cJ4_appendChars_2 85 = .ok (.iload 6, 2) := dk_21 6 (dk_at dksJ4_appendChars_2_3 14 rfl rfl)
theorem dJ4_appendChars_2_87 : decode cJ4_appendChars_2 87 = .ok (.putfield 79, 3) := dk_181 0 79 (dk_at dksJ4_appendChars_2_3 16 rfl rfl)
theorem dJ4_appendChars_2_90 : decode cJ4_appendChars_2 90 = .ok (.iinc 5 1, 3) := dk_132 5 1 (dk_at dksJ4_appendChars_2_3 19 rfl rfl)
theorem dJ4_appendChars_2_93 : decode cJ4_appendChars_2 93 = .ok (.aload_n 0, 1) := dk_42 (dk_at dksJ4_appendChars_2_3 22 rfl rfl)
theorem dJ4_appendChars_2_94 : decode cJ4_appendChars_2 94 = .ok (.getfield 15, 3) := dk_180 0 15 (dk_at dksJ4_appendChars_2_4 0 rfl rfl)
theorem dJ4_appendChars_2_97 : decode cJ4_appendChars_2 97 = .ok (.iload 6, 2) := dk_21 6 (dk_at dksJ4_appendChars_2_4 3 rfl rfl)
theorem dJ4_appendChars_2_99 : decode cJ4_appendChars_2 99 = .ok (.aload_n 1, 1) := dk_43 (dk_at dksJ4_appendChars_2_4 5 rfl rfl)
theorem dJ4_appendChars_2_100 : decode cJ4_appendChars_2 100 = .ok (.iload 5, 2) := dk_21 5 (dk_at dksJ4_appendChars_2_4 6 rfl rfl)
theorem dJ4_appendChars_2_102 : decode cJ4_appendChars_2 102 = .ok (.iload_n 3, 1) := dk_29 (dk_at dksJ4_appendChars_2_4 8 rfl rfl)
theorem dJ4_appendChars_2_103 : decode cJ4_appendChars_2 103 = .ok (.invokestatic 394, 3) := dk_184 1 138 (dk_at dksJ4_appendChars_2_4 9 rfl rfl)
theorem dJ4_appendChars_2_106 : decode cJ4_appendChars_2 106 = .ok (.aload_n 0, 1) := dk_42 (dk_at dksJ4_appendChars_2_4 12 rfl rfl)
theorem dJ4_appendChars_2_107 : decode cJ4_appendChars_2 107 = .ok (.dup, 1) := dk_89 (dk_at dksJ4_appendChars_2_4 13 rfl rfl)
theorem dJ4_appendChars_2_108 : decode cJ4_appendChars_2 108 = .ok (.getfield 79, 3) := dk_180 0 79 (dk_at dksJ4_appendChars_2_4 14 rfl rfl)
theorem dJ4_appendChars_2_111 : decode cJ4_appendChars_2 111 = .ok (.iload_n 3, 1) := dk_29 (dk_at dksJ4_appendChars_2_4 17 rfl rfl)
theorem dJ4_appendChars_2_112 : decode cJ4_appendChars_2 112 = .ok (.iload 5, 2) := dk_21 5 (dk_at dksJ4_appendChars_2_4 18 rfl rfl)
theorem dJ4_appendChars_2_114 : decode cJ4_appendChars_2 114 = .ok (.isub, 1) := dk_100 (dk_at dksJ4_appendChars_2_4 20 rfl rfl)
theorem dJ4_appendChars_2_115 : decode cJ4_appendChars_2 115 = .ok (.iadd, 1) := dk_96 (dk_at dksJ4_appendChars_2_4 21 rfl rfl)
theorem dJ4_appendChars_2_116 : decode cJ4_appendChars_2 116 = .ok (.putfield 79, 3) := dk_181 0 79 (dk_at dksJ4_appendChars_2_5 0 rfl rfl)
theorem dJ4_appendChars_2_119 : decode cJ4_appendChars_2 119 = .ok (.return_, 1) := dk_177 (dk_at dksJ4_appendChars_2_5 3 rfl rfl)
theorem dJ4_appendChars_2_120 : decode cJ4_appendChars_2 120 = .ok (.iinc 5 1, 3) := dk_132 5 1 (dk_at dksJ4_appendChars_2_5 4 rfl rfl)
theorem dJ4_appendChars_2_123 : decode cJ4_appendChars_2 123 = .ok (.goto (-101), 3) := dk_167 255 155 (dk_at dksJ4_appendChars_2_5 7 rfl rfl)
theorem dJ4_appendChars_2_126 : decode cJ4_appendChars_2 126 = .ok (.goto 17, 3) := dk_167 0 17 (dk_at dksJ4_appendChars_2_5 10 rfl rfl)
theorem dJ4_appendChars_2_129 : decode cJ4_appendChars_2 129 = .ok (.aload_n 0, 1) := dk_42 (dk_at dksJ4_appendChars_2_5 13 rfl rfl)
theorem dJ4_appendChars_2_130 : decode cJ4_appendChars_2 130 = .ok (.getfield 15, 3) := dk_180 0 15 (dk_at dksJ4_appendChars_2_5 14 rfl rfl)
theorem dJ4_appendChars_2_133 : decode cJ4_appendChars_2 133 = .ok (.aload_n 0, 1) := dk_42 (dk_at dksJ4_appendChars_2_5 17 rfl rfl)
theorem dJ4_appendChars_2_134 : decode cJ4_appendChars_2 134 = .ok (.getfield 79, 3) := dk_180 0 79 (dk_at dksJ4_appendChars_2_5 18 rfl rfl)
theorem dJ4_appendChars_2_137 : decode cJ4_appendChars_2 137 = .ok (.aload_n 1, 1) := dk_43 (dk_at dksJ4_appendChars_2_5 21 rfl rfl)
theorem dJ4_appendChars_2_138 : decode cJ4_appendChars_2 138 = .ok (.iload_n 2, 1) := dk_28 (dk_at dksJ4_appendChars_2_5 22 rfl rfl)
theorem dJ4_appendChars_2_139 : decode cJ4_appendChars_2 139 = .ok (.iload_n 3, 1) := dk_29 (dk_at dksJ4_appendChars_2_5 23 rfl rfl)
theorem dJ4_appendChars_2_140 : decode cJ4_appendChars_2 140 = .ok (.invokestatic 394, 3) := dk_184 1 138 (dk_at dksJ4_appendChars_2_6 0 rfl rfl)
theorem dJ4_appendChars_2_143 : decode cJ4_appendChars_2 143 = .ok (.aload_n 0, 1) := dk_42 (dk_at dksJ4_appendChars_2_6 3 rfl rfl)
theorem dJ4_appendChars_2_144 : decode cJ4_appendChars_2 144 = .ok (.dup, 1) := dk_89 (dk_at dksJ4_appendChars_2_6 4 rfl rfl)
theorem dJ4_appendChars_2_145 : decode cJ4_appendChars_2 145 = .ok (.getfield 79, 3) := dk_180 0 79 (dk_at dksJ4_appendChars_2_6 5 rfl rfl)
theorem dJ4_appendChars_2_148 : decode cJ4_appendChars_2 148 = .ok (.iload_n 3, 1) := dk_29 (dk_at dksJ4_appendChars_2_6 8 rfl rfl)
theorem dJ4_appendChars_2_149 : decode cJ4_appendChars_2 149 = .ok (.iload_n 2, 1) := dk_28 (dk_at dksJ4_appendChars_2_6 9 rfl rfl)
theorem dJ4_appendChars_2_150 : decode cJ4_appendChars_2 150 = .ok (.isub, 1) := dk_100 (dk_at dksJ4_appendChars_2_6 10 rfl rfl)
theorem dJ4_appendChars_2_151 : decode cJ4_appendChars_2 151 = .ok (.iadd, 1) := dk_96 (dk_at dksJ4_appendChars_2_6 11 rfl rfl)
theorem dJ4_appendChars_2_152 : decode cJ4_appendChars_2 152 = .ok (.putfield 79, 3) := dk_181 0 79 (dk_at dksJ4_appendChars_2_6 12 rfl rfl)
theorem dJ4_appendChars_2_155 : decode cJ4_appendChars_2 155 = .ok (.return_, 1) := dk_177 (dk_at dksJ4_appendChars_2_6 15 rfl rfl)
abbrev cJ4_append_6 : ByteArray := prog_16_method_31_code
def yJ4_append_6 : MethodName := ⟨RJ4, "append", "(C)Ljava/lang/AbstractStringBuilder;"⟩
def dkwJ4_append_6_3 : List UInt8 := [181, 0, 79, 27, 184, 0, 197, 42, 176]
abbrev dktJ4_append_6_3 : List UInt8 := dkwJ4_append_6_3 ++ []
def dkwJ4_append_6_2 : List UInt8 := [182, 0, 83, 153, 0, 7, 42, 182, 0, 195, 42, 180, 0, 15, 42, 89, 180, 0, 79, 90, 4, 96]
abbrev dktJ4_append_6_2 : List UInt8 := dkwJ4_append_6_2 ++ dktJ4_append_6_3
def dkwJ4_append_6_1 : List UInt8 := [42, 180, 0, 15, 42, 89, 180, 0, 79, 90, 4, 96, 181, 0, 79, 27, 145, 84, 167, 0, 33, 42]
abbrev dktJ4_append_6_1 : List UInt8 := dkwJ4_append_6_1 ++ dktJ4_append_6_2
def dkwJ4_append_6_0 : List UInt8 := [42, 42, 180, 0, 79, 4, 96, 182, 0, 100, 42, 182, 0, 83, 153, 0, 31, 27, 184, 0, 191, 153, 0, 24]
abbrev dktJ4_append_6_0 : List UInt8 := dkwJ4_append_6_0 ++ dktJ4_append_6_1
theorem dksJ4_append_6_0 : cJ4_append_6.data.toList.drop 0 = dktJ4_append_6_0 := by decide +kernel
theorem dksJ4_append_6_1 : cJ4_append_6.data.toList.drop 24 = dktJ4_append_6_1 := dk_seg dksJ4_append_6_0 24 rfl rfl
theorem dksJ4_append_6_2 : cJ4_append_6.data.toList.drop 46 = dktJ4_append_6_2 := dk_seg dksJ4_append_6_1 22 rfl rfl
theorem dksJ4_append_6_3 : cJ4_append_6.data.toList.drop 68 = dktJ4_append_6_3 := dk_seg dksJ4_append_6_2 22 rfl rfl
theorem dJ4_append_6_0 : decode cJ4_append_6 0 = .ok (.aload_n 0, 1) := dk_42 (dk_at dksJ4_append_6_0 0 rfl rfl)
theorem dJ4_append_6_1 : decode cJ4_append_6 1 = .ok (.aload_n 0, 1) := dk_42 (dk_at dksJ4_append_6_0 1 rfl rfl)
theorem dJ4_append_6_2 : decode cJ4_append_6 2 = .ok (.getfield 79, 3) := dk_180 0 79 (dk_at dksJ4_append_6_0 2 rfl rfl)
theorem dJ4_append_6_5 : decode cJ4_append_6 5 = .ok (.iconst 1, 1) := dk_4 (dk_at dksJ4_append_6_0 5 rfl rfl)
theorem dJ4_append_6_6 : decode cJ4_append_6 6 = .ok (.iadd, 1) := dk_96 (dk_at dksJ4_append_6_0 6 rfl rfl)
theorem dJ4_append_6_7 : decode cJ4_append_6 7 = .ok (.invokevirtual 100, 3) := dk_182 0 100 (dk_at dksJ4_append_6_0 7 rfl rfl)
theorem dJ4_append_6_10 : decode cJ4_append_6 10 = .ok (.aload_n 0, 1) := dk_42 (dk_at dksJ4_append_6_0 10 rfl rfl)
theorem dJ4_append_6_11 : decode cJ4_append_6 11 = .ok (.invokevirtual 83, 3) := dk_182 0 83 (dk_at dksJ4_append_6_0 11 rfl rfl)
theorem dJ4_append_6_14 : decode cJ4_append_6 14 = .ok (.ifCond .eq 31, 3) := dk_153 0 31 (dk_at dksJ4_append_6_0 14 rfl rfl)
theorem dJ4_append_6_17 : decode cJ4_append_6 17 = .ok (.iload_n 1, 1) := dk_27 (dk_at dksJ4_append_6_0 17 rfl rfl)
theorem dJ4_append_6_18 : decode cJ4_append_6 18 = .ok (.invokestatic 191, 3) := dk_184 0 191 (dk_at dksJ4_append_6_0 18 rfl rfl)
theorem dJ4_append_6_21 : decode cJ4_append_6 21 = .ok (.ifCond .eq 24, 3) := dk_153 0 24 (dk_at dksJ4_append_6_0 21 rfl rfl)
theorem dJ4_append_6_24 : decode cJ4_append_6 24 = .ok (.aload_n 0, 1) := dk_42 (dk_at dksJ4_append_6_1 0 rfl rfl)
theorem dJ4_append_6_25 : decode cJ4_append_6 25 = .ok (.getfield 15, 3) := dk_180 0 15 (dk_at dksJ4_append_6_1 1 rfl rfl)
theorem dJ4_append_6_28 : decode cJ4_append_6 28 = .ok (.aload_n 0, 1) := dk_42 (dk_at dksJ4_append_6_1 4 rfl rfl)
theorem dJ4_append_6_29 : decode cJ4_append_6 29 = .ok (.dup, 1) := dk_89 (dk_at dksJ4_append_6_1 5 rfl rfl)
theorem dJ4_append_6_30 : decode cJ4_append_6 30 = .ok (.getfield 79, 3) := dk_180 0 79 (dk_at dksJ4_append_6_1 6 rfl rfl)
theorem dJ4_append_6_33 : decode cJ4_append_6 33 = .ok (.dup_x1, 1) := dk_90 (dk_at dksJ4_append_6_1 9 rfl rfl)
theorem dJ4_append_6_34 : decode cJ4_append_6 34 = .ok (.iconst 1, 1) := dk_4 (dk_at dksJ4_append_6_1 10 rfl rfl)
theorem dJ4_append_6_35 : decode cJ4_append_6 35 = .ok (.iadd, 1) := dk_96 (dk_at dksJ4_append_6_1 11 rfl rfl)
theorem dJ4_append_6_36 : decode cJ4_append_6 36 = .ok (.putfield 79, 3) := dk_181 0 79 (dk_at dksJ4_append_6_1 12 rfl rfl)
theorem dJ4_append_6_39 : decode cJ4_append_6 39 = .ok (.iload_n 1, 1) := dk_27 (dk_at dksJ4_append_6_1 15 rfl rfl)
theorem dJ4_append_6_40 : decode cJ4_append_6 40 = .ok (.i2b, 1) := dk_145 (dk_at dksJ4_append_6_1 16 rfl rfl)
theorem dJ4_append_6_41 : decode cJ4_append_6 41 = .ok (.bastore, 1) := dk_84 (dk_at dksJ4_append_6_1 17 rfl rfl)
theorem dJ4_append_6_42 : decode cJ4_append_6 42 = .ok (.goto 33, 3) := dk_167 0 33 (dk_at dksJ4_append_6_1 18 rfl rfl)
theorem dJ4_append_6_45 : decode cJ4_append_6 45 = .ok (.aload_n 0, 1) := dk_42 (dk_at dksJ4_append_6_1 21 rfl rfl)
theorem dJ4_append_6_46 : decode cJ4_append_6 46 = .ok (.invokevirtual 83, 3) := dk_182 0 83 (dk_at dksJ4_append_6_2 0 rfl rfl)
theorem dJ4_append_6_49 : decode cJ4_append_6 49 = .ok (.ifCond .eq 7, 3) := dk_153 0 7 (dk_at dksJ4_append_6_2 3 rfl rfl)
theorem dJ4_append_6_52 : decode cJ4_append_6 52 = .ok (.aload_n 0, 1) := dk_42 (dk_at dksJ4_append_6_2 6 rfl rfl)
theorem dJ4_append_6_53 : decode cJ4_append_6 53 = .ok (.invokevirtual 195, 3) := dk_182 0 195 (dk_at dksJ4_append_6_2 7 rfl rfl)
theorem dJ4_append_6_56 : decode cJ4_append_6 56 = .ok (.aload_n 0, 1) := dk_42 (dk_at dksJ4_append_6_2 10 rfl rfl)
theorem dJ4_append_6_57 : decode cJ4_append_6 57 = .ok (.getfield 15, 3) := dk_180 0 15 (dk_at dksJ4_append_6_2 11 rfl rfl)
theorem dJ4_append_6_60 : decode cJ4_append_6 60 = .ok (.aload_n 0, 1) := dk_42 (dk_at dksJ4_append_6_2 14 rfl rfl)
theorem dJ4_append_6_61 : decode cJ4_append_6 61 = .ok (.dup, 1) := dk_89 (dk_at dksJ4_append_6_2 15 rfl rfl)
theorem dJ4_append_6_62 : decode cJ4_append_6 62 = .ok (.getfield 79, 3) := dk_180 0 79 (dk_at dksJ4_append_6_2 16 rfl rfl)
theorem dJ4_append_6_65 : decode cJ4_append_6 65 = .ok (.dup_x1, 1) := dk_90 (dk_at dksJ4_append_6_2 19 rfl rfl)
theorem dJ4_append_6_66 : decode cJ4_append_6 66 = .ok (.iconst 1, 1) := dk_4 (dk_at dksJ4_append_6_2 20 rfl rfl)
theorem dJ4_append_6_67 : decode cJ4_append_6 67 = .ok (.iadd, 1) := dk_96 (dk_at dksJ4_append_6_2 21 rfl rfl)
theorem dJ4_append_6_68 : decode cJ4_append_6 68 = .ok (.putfield 79, 3) := dk_181 0 79 (dk_at dksJ4_append_6_3 0 rfl rfl)
theorem dJ4_append_6_71 : decode cJ4_append_6 71 = .ok (.iload_n 1, 1) := dk_27 (dk_at dksJ4_append_6_3 3 rfl rfl)
theorem dJ4_append_6_72 : decode cJ4_append_6 72 = .ok (.invokestatic 197, 3) := dk_184 0 197 (dk_at dksJ4_append_6_3 4 rfl rfl)
theorem dJ4_append_6_75 : decode cJ4_append_6 75 = .ok (.aload_n 0, 1) := dk_42 (dk_at dksJ4_append_6_3 7 rfl rfl)
theorem dJ4_append_6_76 : decode cJ4_append_6 76 = .ok (.areturn, 1) := dk_176 (dk_at dksJ4_append_6_3 8 rfl rfl)
abbrev MJ4_init : zM := (yJ4_init, cJ4_init, 2, (Option.none : Option Jvm.ClassFile.FieldType), [])
theorem kJ4_init : zMk MJ4_init := ⟨zt (lw_at lw_m1 169 rfl), zt (lw_at lw_m1 7 rfl), by decide +kernel, by decide, by decide +kernel⟩
abbrev MJ4_setLength : zM := (yJ4_setLength, cJ4_setLength, 2, (Option.none : Option Jvm.ClassFile.FieldType), [])
theorem kJ4_setLength : zMk MJ4_setLength := ⟨zt (lw_at lw_m2 202 rfl), zt (lw_at lw_m1 7 rfl), by decide +kernel, by decide, by decide +kernel⟩
abbrev MJ4_append : zM := (yJ4_append, cJ4_append, 3, (Option.some (Jvm.ClassFile.FieldType.object "java/lang/AbstractStringBuilder")), [])
theorem kJ4_append : zMk MJ4_append := ⟨zt (lw_at lw_m2 217 rfl), zt (lw_at lw_m1 7 rfl), by decide +kernel, by decide, by decide +kernel⟩
abbrev MJ4_appendNull : zM := (yJ4_appendNull, cJ4_appendNull, 3, (Option.some (Jvm.ClassFile.FieldType.object "java/lang/AbstractStringBuilder")), [])
theorem kJ4_appendNull : zMk MJ4_appendNull := ⟨zt (lw_at lw_m2 221 rfl), zt (lw_at lw_m1 7 rfl), by decide +kernel, by decide, by decide +kernel⟩
abbrev MJ4_ensureCapacityInternal : zM := (yJ4_ensureCapacityInternal, cJ4_ensureCapacityInternal, 3, (Option.none : Option Jvm.ClassFile.FieldType), [])
theorem kJ4_ensureCapacityInternal : zMk MJ4_ensureCapacityInternal := ⟨zt (lw_at lw_m2 225 rfl), zt (lw_at lw_m1 7 rfl), by decide +kernel, by decide, by decide +kernel⟩
abbrev MJ4_newCapacity : zM := (yJ4_newCapacity, cJ4_newCapacity, 6, (Option.some Jvm.ClassFile.FieldType.int), [])
theorem kJ4_newCapacity : zMk MJ4_newCapacity := ⟨zt (lw_at lw_m2 229 rfl), zt (lw_at lw_m1 7 rfl), by decide +kernel, by decide, by decide +kernel⟩
abbrev MJ4_isLatin1 : zM := (yJ4_isLatin1, cJ4_isLatin1, 1, (Option.some Jvm.ClassFile.FieldType.boolean), [])
theorem kJ4_isLatin1 : zMk MJ4_isLatin1 := ⟨zt (lw_at lw_m3 17 rfl), zt (lw_at lw_m1 7 rfl), by decide +kernel, by decide, by decide +kernel⟩
abbrev MJ4_putStringAt : zM := (yJ4_putStringAt, cJ4_putStringAt, 3, (Option.none : Option Jvm.ClassFile.FieldType), [])
theorem kJ4_putStringAt : zMk MJ4_putStringAt := ⟨zt (lw_at lw_m3 56 rfl), zt (lw_at lw_m1 7 rfl), by decide +kernel, by decide, by decide +kernel⟩
abbrev MJ4_inflateIfNeededFor : zM := (yJ4_inflateIfNeededFor, cJ4_inflateIfNeededFor, 2, (Option.none : Option Jvm.ClassFile.FieldType), [])
theorem kJ4_inflateIfNeededFor : zMk MJ4_inflateIfNeededFor := ⟨zt (lw_at lw_m3 60 rfl), zt (lw_at lw_m1 7 rfl), by decide +kernel, by decide, by decide +kernel⟩
abbrev MJ4_inflate : zM := (yJ4_inflate, cJ4_inflate, 2, (Option.none : Option Jvm.ClassFile.FieldType), [])
theorem kJ4_inflate : zMk MJ4_inflate := ⟨zt (lw_at lw_m3 65 rfl), zt (lw_at lw_m1 7 rfl), by decide +kernel, by decide, by decide +kernel⟩
abbrev MJ4_append_2 : zM := (yJ4_append_2, cJ4_append_2, 4, (Option.some (Jvm.ClassFile.FieldType.object "java/lang/AbstractStringBuilder")), [])
theorem kJ4_append_2 : zMk MJ4_append_2 := ⟨zt (lw_at lw_m3 93 rfl), zt (lw_at lw_m1 7 rfl), by decide +kernel, by decide, by decide +kernel⟩
abbrev MJ4_getValue : zM := (yJ4_getValue, cJ4_getValue, 1, (Option.some (Jvm.ClassFile.FieldType.array Jvm.ClassFile.FieldType.byte)), [])
theorem kJ4_getValue : zMk MJ4_getValue := ⟨zt (lw_at lw_m3 129 rfl), zt (lw_at lw_m1 7 rfl), by decide +kernel, by decide, by decide +kernel⟩
abbrev MJ4_length : zM := (yJ4_length, cJ4_length, 1, (Option.some Jvm.ClassFile.FieldType.int), [])
theorem kJ4_length : zMk MJ4_length := ⟨zt (lw_at lw_m3 137 rfl), zt (lw_at lw_m1 7 rfl), by decide +kernel, by decide, by decide +kernel⟩
abbrev MJ4_append_3 : zM := (yJ4_append_3, cJ4_append_3, 2, (Option.some (Jvm.ClassFile.FieldType.object "java/lang/AbstractStringBuilder")), [])
theorem kJ4_append_3 : zMk MJ4_append_3 := ⟨zt (lw_at lw_m4 155 rfl), zt (lw_at lw_m1 7 rfl), by decide +kernel, by decide, by decide +kernel⟩
abbrev MJ4_append_4 : zM := (yJ4_append_4, cJ4_append_4, 3, (Option.some (Jvm.ClassFile.FieldType.object "java/lang/AbstractStringBuilder")), [])
theorem kJ4_append_4 : zMk MJ4_append_4 := ⟨zt (lw_at lw_m4 165 rfl), zt (lw_at lw_m1 7 rfl), by decide +kernel, by decide, by decide +kernel⟩
abbrev MJ4_inflateIfNeededFor_2 : zM := (yJ4_inflateIfNeededFor_2, cJ4_inflateIfNeededFor_2, 2, (Option.none : Option Jvm.ClassFile.FieldType), [])
theorem kJ4_inflateIfNeededFor_2 : zMk MJ4_inflateIfNeededFor_2 := ⟨zt (lw_at lw_m4 170 rfl), zt (lw_at lw_m1 7 rfl), by decide +kernel, by decide, by decide +kernel⟩
abbrev MJ4_getCoder : zM := (yJ4_getCoder, cJ4_getCoder, 1, (Option.some Jvm.ClassFile.FieldType.byte), [])
theorem kJ4_getCoder : zMk MJ4_getCoder := ⟨zt (lw_at lw_m4 175 rfl), zt (lw_at lw_m1 7 rfl), by decide +kernel, by decide, by decide +kernel⟩
abbrev MJ4_getBytes : zM := (yJ4_getBytes, cJ4_getBytes, 4, (Option.none : Option Jvm.ClassFile.FieldType), [])
theorem kJ4_getBytes : zMk MJ4_getBytes := ⟨zt (lw_at lw_m4 180 rfl), zt (lw_at lw_m1 7 rfl), by decide +kernel, by decide, by decide +kernel⟩
abbrev MJ4_append_5 : zM := (yJ4_append_5, cJ4_append_5, 5, (Option.some (Jvm.ClassFile.FieldType.object "java/lang/AbstractStringBuilder")), [])
theorem kJ4_append_5 : zMk MJ4_append_5 := ⟨zt (lw_at lw_m4 195 rfl), zt (lw_at lw_m1 7 rfl), by decide +kernel, by decide, by decide +kernel⟩
abbrev MJ4_appendChars : zM := (yJ4_appendChars, cJ4_appendChars, 8, (Option.none : Option Jvm.ClassFile.FieldType), [])
theorem kJ4_appendChars : zMk MJ4_appendChars := ⟨zt (lw_at lw_m4 203 rfl), zt (lw_at lw_m1 7 rfl), by decide +kernel, by decide, by decide +kernel⟩
abbrev MJ4_charAt : zM := (yJ4_charAt, cJ4_charAt, 5, (Option.some Jvm.ClassFile.FieldType.char), [])
theorem kJ4_charAt : zMk MJ4_charAt := ⟨zt (lw_at lw_m5 11 rfl), zt (lw_at lw_m1 7 rfl), by decide +kernel, by decide, by decide +kernel⟩
abbrev MJ4_appendChars_2 : zM := (yJ4_appendChars_2, cJ4_appendChars_2, 8, (Option.none : Option Jvm.ClassFile.FieldType), [])
theorem kJ4_appendChars_2 : zMk MJ4_appendChars_2 := ⟨zt (lw_at lw_m5 18 rfl), zt (lw_at lw_m1 7 rfl), by decide +kernel, by decide, by decide +kernel⟩
abbrev MJ4_append_6 : zM := (yJ4_append_6, cJ4_append_6, 2, (Option.some (Jvm.ClassFile.FieldType.object "java/lang/AbstractStringBuilder")), [])
theorem kJ4_append_6 : zMk MJ4_append_6 := ⟨zt (lw_at lw_m8 160 rfl), zt (lw_at lw_m1 7 rfl), by decide +kernel, by decide, by decide +kernel⟩
/-! java/lang/StringBuilder -/
set_option maxRecDepth 100000
abbrev cJ5_init : ByteArray := prog_34_method_1_code
def yJ5_init : MethodName := ⟨RJ5, "<init>", "()V"⟩
def dkwJ5_init_0 : List UInt8 := [42, 16, 16, 183, 0, 1, 177]
abbrev dktJ5_init_0 : List UInt8 := dkwJ5_init_0 ++ []
theorem dksJ5_init_0 : cJ5_init.data.toList.drop 0 = dktJ5_init_0 := by decide +kernel
theorem dJ5_init_0 : decode cJ5_init 0 = .ok (.aload_n 0, 1) := dk_42 (dk_at dksJ5_init_0 0 rfl rfl)
theorem dJ5_init_1 : decode cJ5_init 1 = .ok (.bipush 16, 2) := dk_16 16 (dk_at dksJ5_init_0 1 rfl rfl)
theorem dJ5_init_3 : decode cJ5_init 3 = .ok (.invokespecial 1, 3) := dk_183 0 1 (dk_at dksJ5_init_0 3 rfl rfl)
theorem dJ5_init_6 : decode cJ5_init 6 = .ok (.return_, 1) := dk_177 (dk_at dksJ5_init_0 6 rfl rfl)
abbrev cJ5_setLength : ByteArray := prog_34_method_89_code
def yJ5_setLength : MethodName := ⟨RJ5, "setLength", "(I)V"⟩
def dkwJ5_setLength_0 : List UInt8 := [42, 27, 183, 1, 77, 177]
abbrev dktJ5_setLength_0 : List UInt8 := dkwJ5_setLength_0 ++ []
theorem dksJ5_setLength_0 : cJ5_setLength.data.toList.drop 0 = dktJ5_setLength_0 := by decide +kernel
theorem dJ5_setLength_0 : decode cJ5_setLength 0 = .ok (.aload_n 0, 1) := dk_42 (dk_at dksJ5_setLength_0 0 rfl rfl)
theorem dJ5_setLength_1 : decode cJ5_setLength 1 = .ok (.iload_n 1, 1) := dk_27 (dk_at dksJ5_setLength_0 1 rfl rfl)
theorem dJ5_setLength_2 : decode cJ5_setLength 2 = .ok (.invokespecial 333, 3) := dk_183 1 77 (dk_at dksJ5_setLength_0 2 rfl rfl)
theorem dJ5_setLength_5 : decode cJ5_setLength 5 = .ok (.return_, 1) := dk_177 (dk_at dksJ5_setLength_0 5 rfl rfl)
abbrev cJ5_append : ByteArray := prog_34_method_7_code
def yJ5_append : MethodName := ⟨RJ5, "append", "(Ljava/lang/String;)Ljava/lang/StringBuilder;"⟩
def dkwJ5_append_0 : List UInt8 := [42, 43, 183, 0, 29, 87, 42, 176]
abbrev dktJ5_append_0 : List UInt8 := dkwJ5_append_0 ++ []
theorem dksJ5_append_0 : cJ5_append.data.toList.drop 0 = dktJ5_append_0 := by decide +kernel
theorem dJ5_append_0 : decode cJ5_append 0 = .ok (.aload_n 0, 1) := dk_42 (dk_at dksJ5_append_0 0 rfl rfl)
theorem dJ5_append_1 : decode cJ5_append 1 = .ok (.aload_n 1, 1) := dk_43 (dk_at dksJ5_append_0 1 rfl rfl)
theorem dJ5_append_2 : decode cJ5_append 2 = .ok (.invokespecial 29, 3) := dk_183 0 29 (dk_at dksJ5_append_0 2 rfl rfl)
theorem dJ5_append_5 : decode cJ5_append 5 = .ok (.pop, 1) := dk_87 (dk_at dksJ5_append_0 5 rfl rfl)
theorem dJ5_append_6 : decode cJ5_append 6 = .ok (.aload_n 0, 1) := dk_42 (dk_at dksJ5_append_0 6 rfl rfl)
theorem dJ5_append_7 : decode cJ5_append 7 = .ok (.areturn, 1) := dk_176 (dk_at dksJ5_append_0 7 rfl rfl)
abbrev cJ5_append_2 : ByteArray := prog_34_method_15_code
def yJ5_append_2 : MethodName := ⟨RJ5, "append", "(I)Ljava/lang/StringBuilder;"⟩
def dkwJ5_append_2_0 : List UInt8 := [42, 27, 183, 0, 53, 87, 42, 176]
abbrev dktJ5_append_2_0 : List UInt8 := dkwJ5_append_2_0 ++ []
theorem dksJ5_append_2_0 : cJ5_append_2.data.toList.drop 0 = dktJ5_append_2_0 := by decide +kernel
theorem dJ5_append_2_0 : decode cJ5_append_2 0 = .ok (.aload_n 0, 1) := dk_42 (dk_at dksJ5_append_2_0 0 rfl rfl)
theorem dJ5_append_2_1 : decode cJ5_append_2 1 = .ok (.iload_n 1, 1) := dk_27 (dk_at dksJ5_append_2_0 1 rfl rfl)
theorem dJ5_append_2_2 : decode cJ5_append_2 2 = .ok (.invokespecial 53, 3) := dk_183 0 53 (dk_at dksJ5_append_2_0 2 rfl rfl)
theorem dJ5_append_2_5 : decode cJ5_append_2 5 = .ok (.pop, 1) := dk_87 (dk_at dksJ5_append_2_0 5 rfl rfl)
theorem dJ5_append_2_6 : decode cJ5_append_2 6 = .ok (.aload_n 0, 1) := dk_42 (dk_at dksJ5_append_2_0 6 rfl rfl)
theorem dJ5_append_2_7 : decode cJ5_append_2 7 = .ok (.areturn, 1) := dk_176 (dk_at dksJ5_append_2_0 7 rfl rfl)
abbrev cJ5_toString : ByteArray := prog_34_method_42_code
def yJ5_toString : MethodName := ⟨RJ5, "toString", "()Ljava/lang/String;"⟩
def dkwJ5_toString_0 : List UInt8 := [187, 0, 18, 89, 42, 183, 0, 137, 176]
abbrev dktJ5_toString_0 : List UInt8 := dkwJ5_toString_0 ++ []
theorem dksJ5_toString_0 : cJ5_toString.data.toList.drop 0 = dktJ5_toString_0 := by decide +kernel
theorem dJ5_toString_0 : decode cJ5_toString 0 = .ok (.new 18, 3) := dk_187 0 18 (dk_at dksJ5_toString_0 0 rfl rfl)
theorem dJ5_toString_3 : decode cJ5_toString 3 = .ok (.dup, 1) := dk_89 (dk_at dksJ5_toString_0 3 rfl rfl)
theorem dJ5_toString_4 : decode cJ5_toString 4 = .ok (.aload_n 0, 1) := dk_42 (dk_at dksJ5_toString_0 4 rfl rfl)
theorem dJ5_toString_5 : decode cJ5_toString 5 = .ok (.invokespecial 137, 3) := dk_183 0 137 (dk_at dksJ5_toString_0 5 rfl rfl)
theorem dJ5_toString_8 : decode cJ5_toString 8 = .ok (.areturn, 1) := dk_176 (dk_at dksJ5_toString_0 8 rfl rfl)
abbrev cJ5_length : ByteArray := prog_34_method_93_code
def yJ5_length : MethodName := ⟨RJ5, "length", "()I"⟩
theorem dJ5_length_0 : decode cJ5_length 0 = .ok (.aload_n 0, 1) := by decide +kernel
theorem dJ5_length_1 : decode cJ5_length 1 = .ok (.invokespecial 343, 3) := by decide +kernel
theorem dJ5_length_4 : decode cJ5_length 4 = .ok (.ireturn, 1) := by decide +kernel
abbrev cJ5_append_3 : ByteArray := prog_34_method_6_code
def yJ5_append_3 : MethodName := ⟨RJ5, "append", "(Ljava/lang/Object;)Ljava/lang/StringBuilder;"⟩
def dkwJ5_append_3_0 : List UInt8 := [42, 43, 184, 0, 17, 182, 0, 23, 176]
abbrev dktJ5_append_3_0 : List UInt8 := dkwJ5_append_3_0 ++ []
theorem dksJ5_append_3_0 : cJ5_append_3.data.toList.drop 0 = dktJ5_append_3_0 := by decide +kernel
theorem dJ5_append_3_0 : decode cJ5_append_3 0 = .ok (.aload_n 0, 1) := dk_42 (dk_at dksJ5_append_3_0 0 rfl rfl)
theorem dJ5_append_3_1 : decode cJ5_append_3 1 = .ok (.aload_n 1, 1) := dk_43 (dk_at dksJ5_append_3_0 1 rfl rfl)
theorem dJ5_append_3_2 : decode cJ5_append_3 2 = .ok (.invokestatic 17, 3) := dk_184 0 17 (dk_at dksJ5_append_3_0 2 rfl rfl)
theorem dJ5_append_3_5 : decode cJ5_append_3 5 = .ok (.invokevirtual 23, 3) := dk_182 0 23 (dk_at dksJ5_append_3_0 5 rfl rfl)
theorem dJ5_append_3_8 : decode cJ5_append_3 8 = .ok (.areturn, 1) := dk_176 (dk_at dksJ5_append_3_0 8 rfl rfl)
abbrev cJ5_append_4 : ByteArray := prog_34_method_9_code
def yJ5_append_4 : MethodName := ⟨RJ5, "append", "(Ljava/lang/CharSequence;)Ljava/lang/StringBuilder;"⟩
def dkwJ5_append_4_0 : List UInt8 := [42, 43, 183, 0, 35, 87, 42, 176]
abbrev dktJ5_append_4_0 : List UInt8 := dkwJ5_append_4_0 ++ []
theorem dksJ5_append_4_0 : cJ5_append_4.data.toList.drop 0 = dktJ5_append_4_0 := by decide +kernel
theorem dJ5_append_4_0 : decode cJ5_append_4 0 = .ok (.aload_n 0, 1) := dk_42 (dk_at dksJ5_append_4_0 0 rfl rfl)
theorem dJ5_append_4_1 : decode cJ5_append_4 1 = .ok (.aload_n 1, 1) := dk_43 (dk_at dksJ5_append_4_0 1 rfl rfl)
theorem dJ5_append_4_2 : decode cJ5_append_4 2 = .ok (.invokespecial 35, 3) := dk_183 0 35 (dk_at dksJ5_append_4_0 2 rfl rfl)
theorem dJ5_append_4_5 : decode cJ5_append_4 5 = .ok (.pop, 1) := dk_87 (dk_at dksJ5_append_4_0 5 rfl rfl)
theorem dJ5_append_4_6 : decode cJ5_append_4 6 = .ok (.aload_n 0, 1) := dk_42 (dk_at dksJ5_append_4_0 6 rfl rfl)
theorem dJ5_append_4_7 : decode cJ5_append_4 7 = .ok (.areturn, 1) := dk_176 (dk_at dksJ5_append_4_0 7 rfl rfl)
abbrev cJ5_append_5 : ByteArray := prog_34_method_80_code
def yJ5_append_5 : MethodName := ⟨RJ5, "append", "(Ljava/lang/String;)Ljava/lang/AbstractStringBuilder;"⟩
def dkwJ5_append_5_0 : List UInt8 := [42, 43, 182, 0, 23, 176]
abbrev dktJ5_append_5_0 : List UInt8 := dkwJ5_append_5_0 ++ []
theorem dksJ5_append_5_0 : cJ5_append_5.data.toList.drop 0 = dktJ5_append_5_0 := by decide +kernel
theorem dJ5_append_5_0 : decode cJ5_append_5 0 = .ok (.aload_n 0, 1) := dk_42 (dk_at dksJ5_append_5_0 0 rfl rfl)
theorem dJ5_append_5_1 : decode cJ5_append_5 1 = .ok (.aload_n 1, 1) := dk_43 (dk_at dksJ5_append_5_0 1 rfl rfl)
theorem dJ5_append_5_2 : decode cJ5_append_5 2 = .ok (.invokevirtual 23, 3) := dk_182 0 23 (dk_at dksJ5_append_5_0 2 rfl rfl)
theorem dJ5_append_5_5 : decode cJ5_append_5 5 = .ok (.areturn, 1) := dk_176 (dk_at dksJ5_append_5_0 5 rfl rfl)
abbrev cJ5_append_6 : ByteArray := prog_34_method_77_code
def yJ5_append_6 : MethodName := ⟨RJ5, "append", "(Ljava/lang/CharSequence;II)Ljava/lang/AbstractStringBuilder;"⟩
def dkwJ5_append_6_0 : List UInt8 := [42, 43, 28, 29, 182, 1, 40, 176]
abbrev dktJ5_append_6_0 : List UInt8 := dkwJ5_append_6_0 ++ []
theorem dksJ5_append_6_0 : cJ5_append_6.data.toList.drop 0 = dktJ5_append_6_0 := by decide +kernel
theorem dJ5_append_6_0 : decode cJ5_append_6 0 = .ok (.aload_n 0, 1) := dk_42 (dk_at dksJ5_append_6_0 0 rfl rfl)
theorem dJ5_append_6_1 : decode cJ5_append_6 1 = .ok (.aload_n 1, 1) := dk_43 (dk_at dksJ5_append_6_0 1 rfl rfl)
theorem dJ5_append_6_2 : decode cJ5_append_6 2 = .ok (.iload_n 2, 1) := dk_28 (dk_at dksJ5_append_6_0 2 rfl rfl)
theorem dJ5_append_6_3 : decode cJ5_append_6 3 = .ok (.iload_n 3, 1) := dk_29 (dk_at dksJ5_append_6_0 3 rfl rfl)
theorem dJ5_append_6_4 : decode cJ5_append_6 4 = .ok (.invokevirtual 296, 3) := dk_182 1 40 (dk_at dksJ5_append_6_0 4 rfl rfl)
theorem dJ5_append_6_7 : decode cJ5_append_6 7 = .ok (.areturn, 1) := dk_176 (dk_at dksJ5_append_6_0 7 rfl rfl)
abbrev cJ5_append_7 : ByteArray := prog_34_method_10_code
def yJ5_append_7 : MethodName := ⟨RJ5, "append", "(Ljava/lang/CharSequence;II)Ljava/lang/StringBuilder;"⟩
def dkwJ5_append_7_0 : List UInt8 := [42, 43, 28, 29, 183, 0, 38, 87, 42, 176]
abbrev dktJ5_append_7_0 : List UInt8 := dkwJ5_append_7_0 ++ []
theorem dksJ5_append_7_0 : cJ5_append_7.data.toList.drop 0 = dktJ5_append_7_0 := by decide +kernel
theorem dJ5_append_7_0 : decode cJ5_append_7 0 = .ok (.aload_n 0, 1) := dk_42 (dk_at dksJ5_append_7_0 0 rfl rfl)
theorem dJ5_append_7_1 : decode cJ5_append_7 1 = .ok (.aload_n 1, 1) := dk_43 (dk_at dksJ5_append_7_0 1 rfl rfl)
theorem dJ5_append_7_2 : decode cJ5_append_7 2 = .ok (.iload_n 2, 1) := dk_28 (dk_at dksJ5_append_7_0 2 rfl rfl)
theorem dJ5_append_7_3 : decode cJ5_append_7 3 = .ok (.iload_n 3, 1) := dk_29 (dk_at dksJ5_append_7_0 3 rfl rfl)
theorem dJ5_append_7_4 : decode cJ5_append_7 4 = .ok (.invokespecial 38, 3) := dk_183 0 38 (dk_at dksJ5_append_7_0 4 rfl rfl)
theorem dJ5_append_7_7 : decode cJ5_append_7 7 = .ok (.pop, 1) := dk_87 (dk_at dksJ5_append_7_0 7 rfl rfl)
theorem dJ5_append_7_8 : decode cJ5_append_7 8 = .ok (.aload_n 0, 1) := dk_42 (dk_at dksJ5_append_7_0 8 rfl rfl)
theorem dJ5_append_7_9 : decode cJ5_append_7 9 = .ok (.areturn, 1) := dk_176 (dk_at dksJ5_append_7_0 9 rfl rfl)
abbrev cJ5_charAt : ByteArray := prog_34_method_88_code
def yJ5_charAt : MethodName := ⟨RJ5, "charAt", "(I)C"⟩
def dkwJ5_charAt_0 : List UInt8 := [42, 27, 183, 1, 73, 172]
abbrev dktJ5_charAt_0 : List UInt8 := dkwJ5_charAt_0 ++ []
theorem dksJ5_charAt_0 : cJ5_charAt.data.toList.drop 0 = dktJ5_charAt_0 := by decide +kernel
theorem dJ5_charAt_0 : decode cJ5_charAt 0 = .ok (.aload_n 0, 1) := dk_42 (dk_at dksJ5_charAt_0 0 rfl rfl)
theorem dJ5_charAt_1 : decode cJ5_charAt 1 = .ok (.iload_n 1, 1) := dk_27 (dk_at dksJ5_charAt_0 1 rfl rfl)
theorem dJ5_charAt_2 : decode cJ5_charAt 2 = .ok (.invokespecial 329, 3) := dk_183 1 73 (dk_at dksJ5_charAt_0 2 rfl rfl)
theorem dJ5_charAt_5 : decode cJ5_charAt 5 = .ok (.ireturn, 1) := dk_172 (dk_at dksJ5_charAt_0 5 rfl rfl)
abbrev cJ5_append_8 : ByteArray := prog_34_method_14_code
def yJ5_append_8 : MethodName := ⟨RJ5, "append", "(C)Ljava/lang/StringBuilder;"⟩
def dkwJ5_append_8_0 : List UInt8 := [42, 27, 183, 0, 50, 87, 42, 176]
abbrev dktJ5_append_8_0 : List UInt8 := dkwJ5_append_8_0 ++ []
theorem dksJ5_append_8_0 : cJ5_append_8.data.toList.drop 0 = dktJ5_append_8_0 := by decide +kernel
theorem dJ5_append_8_0 : decode cJ5_append_8 0 = .ok (.aload_n 0, 1) := dk_42 (dk_at dksJ5_append_8_0 0 rfl rfl)
theorem dJ5_append_8_1 : decode cJ5_append_8 1 = .ok (.iload_n 1, 1) := dk_27 (dk_at dksJ5_append_8_0 1 rfl rfl)
theorem dJ5_append_8_2 : decode cJ5_append_8 2 = .ok (.invokespecial 50, 3) := dk_183 0 50 (dk_at dksJ5_append_8_0 2 rfl rfl)
theorem dJ5_append_8_5 : decode cJ5_append_8 5 = .ok (.pop, 1) := dk_87 (dk_at dksJ5_append_8_0 5 rfl rfl)
theorem dJ5_append_8_6 : decode cJ5_append_8 6 = .ok (.aload_n 0, 1) := dk_42 (dk_at dksJ5_append_8_0 6 rfl rfl)
theorem dJ5_append_8_7 : decode cJ5_append_8 7 = .ok (.areturn, 1) := dk_176 (dk_at dksJ5_append_8_0 7 rfl rfl)
abbrev MJ5_init : zM := (yJ5_init, cJ5_init, 1, (Option.none : Option Jvm.ClassFile.FieldType), [])
theorem kJ5_init : zMk MJ5_init := ⟨zt (lw_at lw_m1 166 rfl), zt (lw_at lw_m1 8 rfl), by decide +kernel, by decide, by decide +kernel⟩
abbrev MJ5_setLength : zM := (yJ5_setLength, cJ5_setLength, 2, (Option.none : Option Jvm.ClassFile.FieldType), [])
theorem kJ5_setLength : zMk MJ5_setLength := ⟨zt (lw_at lw_m2 199 rfl), zt (lw_at lw_m1 8 rfl), by decide +kernel, by decide, by decide +kernel⟩
abbrev MJ5_append : zM := (yJ5_append, cJ5_append, 2, (Option.some (Jvm.ClassFile.FieldType.object "java/lang/StringBuilder")), [])
theorem kJ5_append : zMk MJ5_append := ⟨zt (lw_at lw_m2 214 rfl), zt (lw_at lw_m1 8 rfl), by decide +kernel, by decide, by decide +kernel⟩
abbrev MJ5_append_2 : zM := (yJ5_append_2, cJ5_append_2, 2, (Option.some (Jvm.ClassFile.FieldType.object "java/lang/StringBuilder")), [])
theorem kJ5_append_2 : zMk MJ5_append_2 := ⟨zt (lw_at lw_m3 90 rfl), zt (lw_at lw_m1 8 rfl), by decide +kernel, by decide, by decide +kernel⟩
abbrev MJ5_toString : zM := (yJ5_toString, cJ5_toString, 1, (Option.some (Jvm.ClassFile.FieldType.object "java/lang/String")), [])
theorem kJ5_toString : zMk MJ5_toString := ⟨zt (lw_at lw_m3 115 rfl), zt (lw_at lw_m1 8 rfl), by decide +kernel, by decide, by decide +kernel⟩
abbrev MJ5_length : zM := (yJ5_length, cJ5_length, 1, (Option.some Jvm.ClassFile.FieldType.int), [])
theorem kJ5_length : zMk MJ5_length := ⟨zt (lw_at lw_m3 135 rfl), zt (lw_at lw_m1 8 rfl), by decide +kernel, by decide, by decide +kernel⟩
abbrev MJ5_append_3 : zM := (yJ5_append_3, cJ5_append_3, 2, (Option.some (Jvm.ClassFile.FieldType.object "java/lang/StringBuilder")), [])
theorem kJ5_append_3 : zMk MJ5_append_3 := ⟨zt (lw_at lw_m4 18 rfl), zt (lw_at lw_m1 8 rfl), by decide +kernel, by decide, by decide +kernel⟩
abbrev MJ5_append_4 : zM := (yJ5_append_4, cJ5_append_4, 2, (Option.some (Jvm.ClassFile.FieldType.object "java/lang/StringBuilder")), [])
theorem kJ5_append_4 : zMk MJ5_append_4 := ⟨zt (lw_at lw_m4 152 rfl), zt (lw_at lw_m1 8 rfl), by decide +kernel, by decide, by decide +kernel⟩
abbrev MJ5_append_5 : zM := (yJ5_append_5, cJ5_append_5, 2, (Option.some (Jvm.ClassFile.FieldType.object "java/lang/AbstractStringBuilder")), [])
theorem kJ5_append_5 : zMk MJ5_append_5 := ⟨zt (lw_at lw_m4 159 rfl), zt (lw_at lw_m1 8 rfl), by decide +kernel, by decide, by decide +kernel⟩
abbrev MJ5_append_6 : zM := (yJ5_append_6, cJ5_append_6, 4, (Option.some (Jvm.ClassFile.FieldType.object "java/lang/AbstractStringBuilder")), [])
theorem kJ5_append_6 : zMk MJ5_append_6 := ⟨zt (lw_at lw_m4 189 rfl), zt (lw_at lw_m1 8 rfl), by decide +kernel, by decide, by decide +kernel⟩
abbrev MJ5_append_7 : zM := (yJ5_append_7, cJ5_append_7, 4, (Option.some (Jvm.ClassFile.FieldType.object "java/lang/StringBuilder")), [])
theorem kJ5_append_7 : zMk MJ5_append_7 := ⟨zt (lw_at lw_m4 193 rfl), zt (lw_at lw_m1 8 rfl), by decide +kernel, by decide, by decide +kernel⟩
abbrev MJ5_charAt : zM := (yJ5_charAt, cJ5_charAt, 2, (Option.some Jvm.ClassFile.FieldType.char), [])
theorem kJ5_charAt : zMk MJ5_charAt := ⟨zt (lw_at lw_m5 8 rfl), zt (lw_at lw_m1 8 rfl), by decide +kernel, by decide, by decide +kernel⟩
abbrev MJ5_append_8 : zM := (yJ5_append_8, cJ5_append_8, 2, (Option.some (Jvm.ClassFile.FieldType.object "java/lang/StringBuilder")), [])
theorem kJ5_append_8 : zMk MJ5_append_8 := ⟨zt (lw_at lw_m8 157 rfl), zt (lw_at lw_m1 8 rfl), by decide +kernel, by decide, by decide +kernel⟩
/-! java/lang/String -/
set_option maxRecDepth 100000
abbrev cJ6_checkBoundsBeginEnd : ByteArray := prog_33_method_158_code
def yJ6_checkBoundsBeginEnd : MethodName := ⟨RJ6, "checkBoundsBeginEnd", "(III)V"⟩
def dkwJ6_checkBoundsBeginEnd_0 : List UInt8 := [26, 27, 28, 178, 4, 29, 184, 4, 38, 87, 177]
abbrev dktJ6_checkBoundsBeginEnd_0 : List UInt8 := dkwJ6_checkBoundsBeginEnd_0 ++ []
theorem dksJ6_checkBoundsBeginEnd_0 : cJ6_checkBoundsBeginEnd.data.toList.drop 0 = dktJ6_checkBoundsBeginEnd_0 := by decide +kernel
theorem dJ6_checkBoundsBeginEnd_0 : decode cJ6_checkBoundsBeginEnd 0 = .ok (.iload_n 0, 1) := dk_26 (dk_at dksJ6_checkBoundsBeginEnd_0 0 rfl rfl)
theorem dJ6_checkBoundsBeginEnd_1 : decode cJ6_checkBoundsBeginEnd 1 = .ok (.iload_n 1, 1) := dk_27 (dk_at dksJ6_checkBoundsBeginEnd_0 1 rfl rfl)
theorem dJ6_checkBoundsBeginEnd_2 : decode cJ6_checkBoundsBeginEnd 2 = .ok (.iload_n 2, 1) := dk_28 (dk_at dksJ6_checkBoundsBeginEnd_0 2 rfl rfl)
theorem dJ6_checkBoundsBeginEnd_3 : decode cJ6_checkBoundsBeginEnd 3 = .ok (.getstatic 1053, 3) := dk_178 4 29 (dk_at dksJ6_checkBoundsBeginEnd_0 3 rfl rfl)
theorem dJ6_checkBoundsBeginEnd_6 : decode cJ6_checkBoundsBeginEnd 6 = .ok (.invokestatic 1062, 3) := dk_184 4 38 (dk_at dksJ6_checkBoundsBeginEnd_0 6 rfl rfl)
theorem dJ6_checkBoundsBeginEnd_9 : decode cJ6_checkBoundsBeginEnd 9 = .ok (.pop, 1) := dk_87 (dk_at dksJ6_checkBoundsBeginEnd_0 9 rfl rfl)
theorem dJ6_checkBoundsBeginEnd_10 : decode cJ6_checkBoundsBeginEnd 10 = .ok (.return_, 1) := dk_177 (dk_at dksJ6_checkBoundsBeginEnd_0 10 rfl rfl)
abbrev cJ6_length : ByteArray := prog_33_method_54_code
def yJ6_length : MethodName := ⟨RJ6, "length", "()I"⟩
def dkwJ6_length_0 : List UInt8 := [42, 180, 0, 9, 190, 42, 182, 1, 79, 122, 172]
abbrev dktJ6_length_0 : List UInt8 := dkwJ6_length_0 ++ []
theorem dksJ6_length_0 : cJ6_length.data.toList.drop 0 = dktJ6_length_0 := by decide +kernel
theorem dJ6_length_0 : decode cJ6_length 0 = .ok (.aload_n 0, 1) := dk_42 (dk_at dksJ6_length_0 0 rfl rfl)
theorem dJ6_length_1 : decode cJ6_length 1 = .ok (.getfield 9, 3) := dk_180 0 9 (dk_at dksJ6_length_0 1 rfl rfl)
theorem dJ6_length_4 : decode cJ6_length 4 = .ok (.arraylength, 1) := dk_190 (dk_at dksJ6_length_0 4 rfl rfl)
theorem dJ6_length_5 : decode cJ6_length 5 = .ok (.aload_n 0, 1) := dk_42 (dk_at dksJ6_length_0 5 rfl rfl)
theorem dJ6_length_6 : decode cJ6_length 6 = .ok (.invokevirtual 335, 3) := dk_182 1 79 (dk_at dksJ6_length_0 6 rfl rfl)
theorem dJ6_length_9 : decode cJ6_length 9 = .ok (.ishr, 1) := dk_122 (dk_at dksJ6_length_0 9 rfl rfl)
theorem dJ6_length_10 : decode cJ6_length 10 = .ok (.ireturn, 1) := dk_172 (dk_at dksJ6_length_0 10 rfl rfl)
abbrev cJ6_coder : ByteArray := prog_33_method_152_code
def yJ6_coder : MethodName := ⟨RJ6, "coder", "()B"⟩
def dkwJ6_coder_0 : List UInt8 := [178, 0, 38, 153, 0, 10, 42, 180, 0, 15, 167, 0, 4, 4, 172]
abbrev dktJ6_coder_0 : List UInt8 := dkwJ6_coder_0 ++ []
theorem dksJ6_coder_0 : cJ6_coder.data.toList.drop 0 = dktJ6_coder_0 := by decide +kernel
theorem dJ6_coder_0 : decode cJ6_coder 0 = .ok (.getstatic 38, 3) := dk_178 0 38 (dk_at dksJ6_coder_0 0 rfl rfl)
theorem dJ6_coder_3 : decode cJ6_coder 3 = .ok (.ifCond .eq 10, 3) := dk_153 0 10 (dk_at dksJ6_coder_0 3 rfl rfl)
theorem dJ6_coder_6 : decode cJ6_coder 6 = .ok (.aload_n 0, 1) := dk_42 (dk_at dksJ6_coder_0 6 rfl rfl)
theorem dJ6_coder_7 : decode cJ6_coder 7 = .ok (.getfield 15, 3) := dk_180 0 15 (dk_at dksJ6_coder_0 7 rfl rfl)
theorem dJ6_coder_10 : decode cJ6_coder 10 = .ok (.goto 4, 3) := dk_167 0 4 (dk_at dksJ6_coder_0 10 rfl rfl)
theorem dJ6_coder_13 : decode cJ6_coder 13 = .ok (.iconst 1, 1) := dk_4 (dk_at dksJ6_coder_0 13 rfl rfl)
theorem dJ6_coder_14 : decode cJ6_coder 14 = .ok (.ireturn, 1) := dk_172 (dk_at dksJ6_coder_0 14 rfl rfl)
abbrev cJ6_checkBoundsOffCount : ByteArray := prog_33_method_157_code
def yJ6_checkBoundsOffCount : MethodName := ⟨RJ6, "checkBoundsOffCount", "(III)I"⟩
def dkwJ6_checkBoundsOffCount_0 : List UInt8 := [26, 27, 28, 178, 4, 29, 184, 4, 41, 172]
abbrev dktJ6_checkBoundsOffCount_0 : List UInt8 := dkwJ6_checkBoundsOffCount_0 ++ []
theorem dksJ6_checkBoundsOffCount_0 : cJ6_checkBoundsOffCount.data.toList.drop 0 = dktJ6_checkBoundsOffCount_0 := by decide +kernel
theorem dJ6_checkBoundsOffCount_0 : decode cJ6_checkBoundsOffCount 0 = .ok (.iload_n 0, 1) := dk_26 (dk_at dksJ6_checkBoundsOffCount_0 0 rfl rfl)
theorem dJ6_checkBoundsOffCount_1 : decode cJ6_checkBoundsOffCount 1 = .ok (.iload_n 1, 1) := dk_27 (dk_at dksJ6_checkBoundsOffCount_0 1 rfl rfl)
theorem dJ6_checkBoundsOffCount_2 : decode cJ6_checkBoundsOffCount 2 = .ok (.iload_n 2, 1) := dk_28 (dk_at dksJ6_checkBoundsOffCount_0 2 rfl rfl)
theorem dJ6_checkBoundsOffCount_3 : decode cJ6_checkBoundsOffCount 3 = .ok (.getstatic 1053, 3) := dk_178 4 29 (dk_at dksJ6_checkBoundsOffCount_0 3 rfl rfl)
theorem dJ6_checkBoundsOffCount_6 : decode cJ6_checkBoundsOffCount 6 = .ok (.invokestatic 1065, 3) := dk_184 4 41 (dk_at dksJ6_checkBoundsOffCount_0 6 rfl rfl)
theorem dJ6_checkBoundsOffCount_9 : decode cJ6_checkBoundsOffCount 9 = .ok (.ireturn, 1) := dk_172 (dk_at dksJ6_checkBoundsOffCount_0 9 rfl rfl)
abbrev cJ6_getBytes : ByteArray := prog_33_method_147_code
def yJ6_getBytes : MethodName := ⟨RJ6, "getBytes", "([BIB)V"⟩
def dkwJ6_getBytes_1 : List UInt8 := [184, 0, 212, 167, 0, 18, 42, 180, 0, 9, 3, 43, 28, 42, 180, 0, 9, 190, 184, 0, 106, 177]
abbrev dktJ6_getBytes_1 : List UInt8 := dkwJ6_getBytes_1 ++ []
def dkwJ6_getBytes_0 : List UInt8 := [42, 182, 1, 79, 29, 160, 0, 23, 42, 180, 0, 9, 3, 43, 28, 29, 120, 42, 180, 0, 9, 190]
abbrev dktJ6_getBytes_0 : List UInt8 := dkwJ6_getBytes_0 ++ dktJ6_getBytes_1
theorem dksJ6_getBytes_0 : cJ6_getBytes.data.toList.drop 0 = dktJ6_getBytes_0 := by decide +kernel
theorem dksJ6_getBytes_1 : cJ6_getBytes.data.toList.drop 22 = dktJ6_getBytes_1 := dk_seg dksJ6_getBytes_0 22 rfl rfl
theorem dJ6_getBytes_0 : decode cJ6_getBytes 0 = .ok (.aload_n 0, 1) := dk_42 (dk_at dksJ6_getBytes_0 0 rfl rfl)
theorem dJ6_getBytes_1 : decode cJ6_getBytes 1 = .ok (.invokevirtual 335, 3) := dk_182 1 79 (dk_at dksJ6_getBytes_0 1 rfl rfl)
theorem dJ6_getBytes_4 : decode cJ6_getBytes 4 = .ok (.iload_n 3, 1) := dk_29 (dk_at dksJ6_getBytes_0 4 rfl rfl)
theorem dJ6_getBytes_5 : decode cJ6_getBytes 5 = .ok (.if_icmp .ne 23, 3) := dk_160 0 23 (dk_at dksJ6_getBytes_0 5 rfl rfl)
theorem dJ6_getBytes_8 : decode cJ6_getBytes 8 = .ok (.aload_n 0, 1) := dk_42 (dk_at dksJ6_getBytes_0 8 rfl rfl)
theorem dJ6_getBytes_9 : decode cJ6_getBytes 9 = .ok (.getfield 9, 3) := dk_180 0 9 (dk_at dksJ6_getBytes_0 9 rfl rfl)
theorem dJ6_getBytes_12 : decode cJ6_getBytes 12 = .ok (.iconst 0, 1) := dk_3 (dk_at dksJ6_getBytes_0 12 rfl rfl)
theorem dJ6_getBytes_13 : decode cJ6_getBytes 13 = .ok (.aload_n 1, 1) := dk_43 (dk_at dksJ6_getBytes_0 13 rfl rfl)
theorem dJ6_getBytes_14 : decode cJ6_getBytes 14 = .ok (.iload_n 2, 1) := dk_28 (dk_at dksJ6_getBytes_0 14 rfl rfl)
theorem dJ6_getBytes_15 : decode cJ6_getBytes 15 = .ok (.iload_n 3, 1) := dk_29 (dk_at dksJ6_getBytes_0 15 rfl rfl)
theorem dJ6_getBytes_16 : decode cJ6_getBytes 16 = .ok (.ishl, 1) := dk_120 (dk_at dksJ6_getBytes_0 16 rfl rfl)
theorem dJ6_getBytes_17 : decode cJ6_getBytes 17 = .ok (.aload_n 0, 1) := dk_42 (dk_at dksJ6_getBytes_0 17 rfl rfl)
theorem dJ6_getBytes_18 : decode cJ6_getBytes 18 = .ok (.getfield 9, 3) := dk_180 0 9 (dk_at dksJ6_getBytes_0 18 rfl rfl)
theorem dJ6_getBytes_21 : decode cJ6_getBytes 21 = .ok (.arraylength, 1) := dk_190 (dk_at dksJ6_getBytes_0 21 rfl rfl)
theorem dJ6_getBytes_22 : decode cJ6_getBytes 22 = .ok (.invokestatic 212, 3) := dk_184 0 212 (dk_at dksJ6_getBytes_1 0 rfl rfl)
theorem dJ6_getBytes_25 : decode cJ6_getBytes 25 = .ok (.goto 18, 3) := dk_167 0 18 (dk_at dksJ6_getBytes_1 3 rfl rfl)
theorem dJ6_getBytes_28 : decode cJ6_getBytes 28 = .ok (.aload_n 0, 1) := dk_42 (dk_at dksJ6_getBytes_1 6 rfl rfl)
theorem dJ6_getBytes_29 : decode cJ6_getBytes 29 = .ok (.getfield 9, 3) := dk_180 0 9 (dk_at dksJ6_getBytes_1 7 rfl rfl)
theorem dJ6_getBytes_32 : decode cJ6_getBytes 32 = .ok (.iconst 0, 1) := dk_3 (dk_at dksJ6_getBytes_1 10 rfl rfl)
theorem dJ6_getBytes_33 : decode cJ6_getBytes 33 = .ok (.aload_n 1, 1) := dk_43 (dk_at dksJ6_getBytes_1 11 rfl rfl)
theorem dJ6_getBytes_34 : decode cJ6_getBytes 34 = .ok (.iload_n 2, 1) := dk_28 (dk_at dksJ6_getBytes_1 12 rfl rfl)
theorem dJ6_getBytes_35 : decode cJ6_getBytes 35 = .ok (.aload_n 0, 1) := dk_42 (dk_at dksJ6_getBytes_1 13 rfl rfl)
theorem dJ6_getBytes_36 : decode cJ6_getBytes 36 = .ok (.getfield 9, 3) := dk_180 0 9 (dk_at dksJ6_getBytes_1 14 rfl rfl)
theorem dJ6_getBytes_39 : decode cJ6_getBytes 39 = .ok (.arraylength, 1) := dk_190 (dk_at dksJ6_getBytes_1 17 rfl rfl)
theorem dJ6_getBytes_40 : decode cJ6_getBytes 40 = .ok (.invokestatic 106, 3) := dk_184 0 106 (dk_at dksJ6_getBytes_1 18 rfl rfl)
theorem dJ6_getBytes_43 : decode cJ6_getBytes 43 = .ok (.return_, 1) := dk_177 (dk_at dksJ6_getBytes_1 21 rfl rfl)
abbrev cJ6_init : ByteArray := prog_33_method_53_code
def yJ6_init : MethodName := ⟨RJ6, "<init>", "(Ljava/lang/StringBuilder;)V"⟩
def dkwJ6_init_0 : List UInt8 := [42, 43, 1, 183, 1, 233, 177]
abbrev dktJ6_init_0 : List UInt8 := dkwJ6_init_0 ++ []
theorem dksJ6_init_0 : cJ6_init.data.toList.drop 0 = dktJ6_init_0 := by decide +kernel
theorem dJ6_init_0 : decode cJ6_init 0 = .ok (.aload_n 0, 1) := dk_42 (dk_at dksJ6_init_0 0 rfl rfl)
theorem dJ6_init_1 : decode cJ6_init 1 = .ok (.aload_n 1, 1) := dk_43 (dk_at dksJ6_init_0 1 rfl rfl)
theorem dJ6_init_2 : decode cJ6_init 2 = .ok (.aconst_null, 1) := dk_1 (dk_at dksJ6_init_0 2 rfl rfl)
theorem dJ6_init_3 : decode cJ6_init 3 = .ok (.invokespecial 489, 3) := dk_183 1 233 (dk_at dksJ6_init_0 3 rfl rfl)
theorem dJ6_init_6 : decode cJ6_init 6 = .ok (.return_, 1) := dk_177 (dk_at dksJ6_init_0 6 rfl rfl)
abbrev cJ6_init_2 : ByteArray := prog_33_method_150_code
def yJ6_init_2 : MethodName := ⟨RJ6, "<init>", "(Ljava/lang/AbstractStringBuilder;Ljava/lang/Void;)V"⟩
def dkwJ6_init_2_4 : List UInt8 := [181, 0, 9, 177]
abbrev dktJ6_init_2_4 : List UInt8 := dkwJ6_init_2_4 ++ []
def dkwJ6_init_2_3 : List UInt8 := [184, 0, 47, 181, 0, 15, 177, 42, 4, 181, 0, 15, 42, 45, 3, 21, 4, 4, 120, 184, 0, 54]
abbrev dktJ6_init_2_3 : List UInt8 := dkwJ6_init_2_3 ++ dktJ6_init_2_4
def dkwJ6_init_2_2 : List UInt8 := [180, 4, 24, 153, 0, 28, 42, 45, 3, 21, 4, 184, 4, 27, 181, 0, 9, 42, 42, 180, 0, 9, 21, 4]
abbrev dktJ6_init_2_2 : List UInt8 := dkwJ6_init_2_2 ++ dktJ6_init_2_3
def dkwJ6_init_2_1 : List UInt8 := [181, 0, 15, 42, 45, 3, 21, 4, 184, 0, 54, 181, 0, 9, 167, 0, 59, 178, 0, 38, 153, 0, 35, 43]
abbrev dktJ6_init_2_1 : List UInt8 := dkwJ6_init_2_1 ++ dktJ6_init_2_2
def dkwJ6_init_2_0 : List UInt8 := [42, 183, 0, 1, 43, 182, 2, 40, 78, 43, 182, 2, 37, 54, 4, 43, 182, 4, 23, 153, 0, 22, 42, 3]
abbrev dktJ6_init_2_0 : List UInt8 := dkwJ6_init_2_0 ++ dktJ6_init_2_1
theorem dksJ6_init_2_0 : cJ6_init_2.data.toList.drop 0 = dktJ6_init_2_0 := by decide +kernel
theorem dksJ6_init_2_1 : cJ6_init_2.data.toList.drop 24 = dktJ6_init_2_1 := dk_seg dksJ6_init_2_0 24 rfl rfl
theorem dksJ6_init_2_2 : cJ6_init_2.data.toList.drop 48 = dktJ6_init_2_2 := dk_seg dksJ6_init_2_1 24 rfl rfl
theorem dksJ6_init_2_3 : cJ6_init_2.data.toList.drop 72 = dktJ6_init_2_3 := dk_seg dksJ6_init_2_2 24 rfl rfl
theorem dksJ6_init_2_4 : cJ6_init_2.data.toList.drop 94 = dktJ6_init_2_4 := dk_seg dksJ6_init_2_3 22 rfl rfl
theorem dJ6_init_2_0 : decode cJ6_init_2 0 = .ok (.aload_n 0, 1) := dk_42 (dk_at dksJ6_init_2_0 0 rfl rfl)
theorem dJ6_init_2_1 : decode cJ6_init_2 1 = .ok (.invokespecial 1, 3) := dk_183 0 1 (dk_at dksJ6_init_2_0 1 rfl rfl)
theorem dJ6_init_2_4 : decode cJ6_init_2 4 = .ok (.aload_n 1, 1) := dk_43 (dk_at dksJ6_init_2_0 4 rfl rfl)
theorem dJ6_init_2_5 : decode cJ6_init_2 5 = .ok (.invokevirtual 552, 3) := dk_182 2 40 (dk_at dksJ6_init_2_0 5 rfl rfl)
theorem dJ6_init_2_8 : decode cJ6_init_2 8 = .ok (.astore_n 3, 1) := dk_78 (dk_at dksJ6_init_2_0 8 rfl rfl)
theorem dJ6_init_2_9 : decode cJ6_init_2 9 = .ok (.aload_n 1, 1) := dk_43 (dk_at dksJ6_init_2_0 9 rfl rfl)
theorem dJ6_init_2_10 : decode cJ6_init_2 10 = .ok (.invokevirtual 549, 3) := dk_182 2 37 (dk_at dksJ6_init_2_0 10 rfl rfl)
theorem dJ6_init_2_13 : decode cJ6_init_2 13 = .ok (.istore 4, 2) := dk_54 4 (dk_at dksJ6_init_2_0 13 rfl rfl)
theorem dJ6_init_2_15 : decode cJ6_init_2 15 = .ok (.aload_n 1, 1) := dk_43 (dk_at dksJ6_init_2_0 15 rfl rfl)
theorem dJ6_init_2_16 : decode cJ6_init_2 16 = .ok (.invokevirtual 1047, 3) := dk_182 4 23 (dk_at dksJ6_init_2_0 16 rfl rfl)
theorem dJ6_init_2_19 : decode cJ6_init_2 19 = .ok (.ifCond .eq 22, 3) := dk_153 0 22 (dk_at dksJ6_init_2_0 19 rfl rfl)
theorem dJ6_init_2_22 : decode cJ6_init_2 22 = .ok (.aload_n 0, 1) := dk_42 (dk_at dksJ6_init_2_0 22 rfl rfl)
theorem dJ6_init_2_23 : decode cJ6_init_2 23 = .ok (.iconst 0, 1) := dk_3 (dk_at dksJ6_init_2_0 23 rfl rfl)
theorem dJ6_init_2_24 : decode cJ6_init_2 24 = .ok (.putfield 15, 3) := dk_181 0 15 (dk_at dksJ6_init_2_1 0 rfl rfl)
theorem dJ6_init_2_27 : decode cJ6_init_2 27 = .ok (.aload_n 0, 1) := dk_42 (dk_at dksJ6_init_2_1 3 rfl rfl)
theorem dJ6_init_2_28 : decode cJ6_init_2 28 = .ok (.aload_n 3, 1) := dk_45 (dk_at dksJ6_init_2_1 4 rfl rfl)
theorem dJ6_init_2_29 : decode cJ6_init_2 29 = .ok (.iconst 0, 1) := dk_3 (dk_at dksJ6_init_2_1 5 rfl rfl)
theorem dJ6_init_2_30 : decode cJ6_init_2 30 = .ok (.iload 4, 2) := dk_21 4 (dk_at dksJ6_init_2_1 6 rfl rfl)
theorem dJ6_init_2_32 : decode cJ6_init_2 32 = .ok (.invokestatic 54, 3) := dk_184 0 54 (dk_at dksJ6_init_2_1 8 rfl rfl)
theorem dJ6_init_2_35 : decode cJ6_init_2 35 = .ok (.putfield 9, 3) := dk_181 0 9 (dk_at dksJ6_init_2_1 11 rfl rfl)
theorem dJ6_init_2_38 : decode cJ6_init_2 38 = .ok (.goto 59, 3) := dk_167 0 59 (dk_at dksJ6_init_2_1 14 rfl rfl)
theorem dJ6_init_2_41 : decode cJ6_init_2 41 = .ok (.getstatic 38, 3) := dk_178 0 38 (dk_at dksJ6_init_2_1 17 rfl rfl)
theorem dJ6_init_2_44 : decode cJ6_init_2 44 = .ok (.ifCond .eq 35, 3) := dk_153 0 35 (dk_at dksJ6_init_2_1 20 rfl rfl)
theorem dJ6_init_2_47 : decode cJ6_init_2 47 = .ok (.aload_n 1, 1) := dk_43 (dk_at dksJ6_init_2_1 23 rfl rfl)
theorem dJ6_init_2_48 : decode cJ6_init_2 48 = .ok (.getfield 1048, 3) := dk_180 4 24 (dk_at dksJ6_init_2_2 0 rfl rfl)
theorem dJ6_init_2_51 : decode cJ6_init_2 51 = .ok (.ifCond .eq 28, 3) := dk_153 0 28 (dk_at dksJ6_init_2_2 3 rfl rfl)
theorem dJ6_init_2_54 : decode cJ6_init_2 54 = .ok (.aload_n 0, 1) := dk_42 (dk_at dksJ6_init_2_2 6 rfl rfl)
theorem dJ6_init_2_55 : decode cJ6_init_2 55 = .ok (.aload_n 3, 1) := dk_45 (dk_at dksJ6_init_2_2 7 rfl rfl)
theorem dJ6_init_2_56 : decode cJ6_init_2 56 = .ok (.iconst 0, 1) := dk_3 (dk_at dksJ6_init_2_2 8 rfl rfl)
theorem dJ6_init_2_57 : decode cJ6_init_2 57 = .ok (.iload 4, 2) := dk_21 4 (dk_at dksJ6_init_2_2 9 rfl rfl)
theorem dJ6_init_2_59 : decode cJ6_init_2 59 = .ok (.invokestatic 1051, 3) := dk_184 4 27 (dk_at dksJ6_init_2_2 11 rfl rfl)
theorem dJ6_init_2_62 : decode cJ6_init_2 62 = .ok (.putfield 9, 3) := dk_181 0 9 (dk_at dksJ6_init_2_2 14 rfl rfl)
theorem dJ6_init_2_65 : decode cJ6_init_2 65 = .ok (.aload_n 0, 1) := dk_42 (dk_at dksJ6_init_2_2 17 rfl rfl)
theorem dJ6_init_2_66 : decode cJ6_init_2 66 = .ok (.aload_n 0, 1) := dk_42 (dk_at dksJ6_init_2_2 18 rfl rfl)
theorem dJ6_init_2_67 : decode cJ6_init_2 67 = .ok (.getfield 9, 3) := dk_180 0 9 (dk_at dksJ6_init_2_2 19 rfl rfl)
theorem dJ6_init_2_70 : decode cJ6_init_2 70 = .ok (.iload 4, 2) := dk_21 4 (dk_at dksJ6_init_2_2 22 rfl rfl)
theorem dJ6_init_2_72 : decode cJ6_init_2 72 = .ok (.invokestatic 47, 3) := dk_184 0 47 (dk_at dksJ6_init_2_3 0 rfl rfl)
theorem dJ6_init_2_75 : decode cJ6_init_2 75 = .ok (.putfield 15, 3) := dk_181 0 15 (dk_at dksJ6_init_2_3 3 rfl rfl)
theorem dJ6_init_2_78 : decode cJ6_init_2 78 = .ok (.return_, 1) := dk_177 (dk_at dksJ6_init_2_3 6 rfl rfl)
theorem dJ6_init_2_79 : decode cJ6_init_2 79 = .ok (.aload_n 0, 1) := dk_42 (dk_at dksJ6_init_2_3 7 rfl rfl)
theorem dJ6_init_2_80 : decode cJ6_init_2 80 = .ok (.iconst 1, 1) := dk_4 (dk_at dksJ6_init_2_3 8 rfl rfl)
theorem dJ6_init_2_81 : decode cJ6_init_2 81 = .ok (.putfield 15, 3) := dk_181 0 15 (dk_at dksJ6_init_2_3 9 rfl rfl)
theorem dJ6_init_2_84 : decode cJ6_init_2 84 = .ok (.aload_n 0, 1) := dk_42 (dk_at dksJ6_init_2_3 12 rfl rfl)
theorem dJ6_init_2_85 : decode cJ6_init_2 85 = .ok (.aload_n 3, 1) := dk_45 (dk_at dksJ6_init_2_3 13 rfl rfl)
theorem dJ6_init_2_86 : decode cJ6_init_2 86 = .ok (.iconst 0, 1) := dk_3 (dk_at dksJ6_init_2_3 14 rfl rfl)
theorem dJ6_init_2_87 : decode cJ6_init_2 87 = .ok (.iload 4, 2) := dk_21 4 (dk_at dksJ6_init_2_3 15 rfl rfl)
theorem dJ6_init_2_89 : decode cJ6_init_2 89 = .ok (.iconst 1, 1) := dk_4 (dk_at dksJ6_init_2_3 17 rfl rfl)
theorem dJ6_init_2_90 : decode cJ6_init_2 90 = .ok (.ishl, 1) := dk_120 (dk_at dksJ6_init_2_3 18 rfl rfl)
theorem dJ6_init_2_91 : decode cJ6_init_2 91 = .ok (.invokestatic 54, 3) := dk_184 0 54 (dk_at dksJ6_init_2_3 19 rfl rfl)
theorem dJ6_init_2_94 : decode cJ6_init_2 94 = .ok (.putfield 9, 3) := dk_181 0 9 (dk_at dksJ6_init_2_4 0 rfl rfl)
theorem dJ6_init_2_97 : decode cJ6_init_2 97 = .ok (.return_, 1) := dk_177 (dk_at dksJ6_init_2_4 3 rfl rfl)
abbrev cJ6_valueOf : ByteArray := prog_33_method_133_code
def yJ6_valueOf : MethodName := ⟨RJ6, "valueOf", "(Ljava/lang/Object;)Ljava/lang/String;"⟩
def dkwJ6_valueOf_0 : List UInt8 := [42, 199, 0, 9, 19, 3, 237, 167, 0, 7, 42, 182, 3, 239, 176]
abbrev dktJ6_valueOf_0 : List UInt8 := dkwJ6_valueOf_0 ++ []
theorem dksJ6_valueOf_0 : cJ6_valueOf.data.toList.drop 0 = dktJ6_valueOf_0 := by decide +kernel
theorem dJ6_valueOf_0 : decode cJ6_valueOf 0 = .ok (.aload_n 0, 1) := dk_42 (dk_at dksJ6_valueOf_0 0 rfl rfl)
theorem dJ6_valueOf_1 : decode cJ6_valueOf 1 = .ok (.ifnonnull 9, 3) := dk_199 0 9 (dk_at dksJ6_valueOf_0 1 rfl rfl)
theorem dJ6_valueOf_4 : decode cJ6_valueOf 4 = .ok (.ldc_w 1005, 3) := dk_19 3 237 (dk_at dksJ6_valueOf_0 4 rfl rfl)
theorem dJ6_valueOf_7 : decode cJ6_valueOf 7 = .ok (.goto 7, 3) := dk_167 0 7 (dk_at dksJ6_valueOf_0 7 rfl rfl)
theorem dJ6_valueOf_10 : decode cJ6_valueOf 10 = .ok (.aload_n 0, 1) := dk_42 (dk_at dksJ6_valueOf_0 10 rfl rfl)
theorem dJ6_valueOf_11 : decode cJ6_valueOf 11 = .ok (.invokevirtual 1007, 3) := dk_182 3 239 (dk_at dksJ6_valueOf_0 11 rfl rfl)
theorem dJ6_valueOf_14 : decode cJ6_valueOf 14 = .ok (.areturn, 1) := dk_176 (dk_at dksJ6_valueOf_0 14 rfl rfl)
abbrev cJ6_init_3 : ByteArray := prog_33_method_151_code
def yJ6_init_3 : MethodName := ⟨RJ6, "<init>", "([BB)V"⟩
def dkwJ6_init_3_0 : List UInt8 := [42, 183, 0, 1, 42, 43, 181, 0, 9, 42, 28, 181, 0, 15, 177]
abbrev dktJ6_init_3_0 : List UInt8 := dkwJ6_init_3_0 ++ []
theorem dksJ6_init_3_0 : cJ6_init_3.data.toList.drop 0 = dktJ6_init_3_0 := by decide +kernel
theorem dJ6_init_3_0 : decode cJ6_init_3 0 = .ok (.aload_n 0, 1) := dk_42 (dk_at dksJ6_init_3_0 0 rfl rfl)
theorem dJ6_init_3_1 : decode cJ6_init_3 1 = .ok (.invokespecial 1, 3) := dk_183 0 1 (dk_at dksJ6_init_3_0 1 rfl rfl)
theorem dJ6_init_3_4 : decode cJ6_init_3 4 = .ok (.aload_n 0, 1) := dk_42 (dk_at dksJ6_init_3_0 4 rfl rfl)
theorem dJ6_init_3_5 : decode cJ6_init_3 5 = .ok (.aload_n 1, 1) := dk_43 (dk_at dksJ6_init_3_0 5 rfl rfl)
theorem dJ6_init_3_6 : decode cJ6_init_3 6 = .ok (.putfield 9, 3) := dk_181 0 9 (dk_at dksJ6_init_3_0 6 rfl rfl)
theorem dJ6_init_3_9 : decode cJ6_init_3 9 = .ok (.aload_n 0, 1) := dk_42 (dk_at dksJ6_init_3_0 9 rfl rfl)
theorem dJ6_init_3_10 : decode cJ6_init_3 10 = .ok (.iload_n 2, 1) := dk_28 (dk_at dksJ6_init_3_0 10 rfl rfl)
theorem dJ6_init_3_11 : decode cJ6_init_3 11 = .ok (.putfield 15, 3) := dk_181 0 15 (dk_at dksJ6_init_3_0 11 rfl rfl)
theorem dJ6_init_3_14 : decode cJ6_init_3 14 = .ok (.return_, 1) := dk_177 (dk_at dksJ6_init_3_0 14 rfl rfl)
abbrev cJ6_toString : ByteArray := prog_33_method_126_code
def yJ6_toString : MethodName := ⟨RJ6, "toString", "()Ljava/lang/String;"⟩
theorem dJ6_toString_0 : decode cJ6_toString 0 = .ok (.aload_n 0, 1) := by decide +kernel
theorem dJ6_toString_1 : decode cJ6_toString 1 = .ok (.areturn, 1) := by decide +kernel
abbrev cJ6_isLatin1 : ByteArray := prog_33_method_154_code
def yJ6_isLatin1 : MethodName := ⟨RJ6, "isLatin1", "()Z"⟩
def dkwJ6_isLatin1_0 : List UInt8 := [178, 0, 38, 153, 0, 14, 42, 180, 0, 15, 154, 0, 7, 4, 167, 0, 4, 3, 172]
abbrev dktJ6_isLatin1_0 : List UInt8 := dkwJ6_isLatin1_0 ++ []
theorem dksJ6_isLatin1_0 : cJ6_isLatin1.data.toList.drop 0 = dktJ6_isLatin1_0 := by decide +kernel
theorem dJ6_isLatin1_0 : decode cJ6_isLatin1 0 = .ok (.getstatic 38, 3) := dk_178 0 38 (dk_at dksJ6_isLatin1_0 0 rfl rfl)
theorem dJ6_isLatin1_3 : decode cJ6_isLatin1 3 = .ok (.ifCond .eq 14, 3) := dk_153 0 14 (dk_at dksJ6_isLatin1_0 3 rfl rfl)
theorem dJ6_isLatin1_6 : decode cJ6_isLatin1 6 = .ok (.aload_n 0, 1) := dk_42 (dk_at dksJ6_isLatin1_0 6 rfl rfl)
theorem dJ6_isLatin1_7 : decode cJ6_isLatin1 7 = .ok (.getfield 15, 3) := dk_180 0 15 (dk_at dksJ6_isLatin1_0 7 rfl rfl)
theorem dJ6_isLatin1_10 : decode cJ6_isLatin1 10 = .ok (.ifCond .ne 7, 3) := dk_154 0 7 (dk_at dksJ6_isLatin1_0 10 rfl rfl)
theorem dJ6_isLatin1_13 : decode cJ6_isLatin1 13 = .ok (.iconst 1, 1) := dk_4 (dk_at dksJ6_isLatin1_0 13 rfl rfl)
theorem dJ6_isLatin1_14 : decode cJ6_isLatin1 14 = .ok (.goto 4, 3) := dk_167 0 4 (dk_at dksJ6_isLatin1_0 14 rfl rfl)
theorem dJ6_isLatin1_17 : decode cJ6_isLatin1 17 = .ok (.iconst 0, 1) := dk_3 (dk_at dksJ6_isLatin1_0 17 rfl rfl)
theorem dJ6_isLatin1_18 : decode cJ6_isLatin1 18 = .ok (.ireturn, 1) := dk_172 (dk_at dksJ6_isLatin1_0 18 rfl rfl)
abbrev cJ6_value : ByteArray := prog_33_method_153_code
def yJ6_value : MethodName := ⟨RJ6, "value", "()[B"⟩
theorem dJ6_value_0 : decode cJ6_value 0 = .ok (.aload_n 0, 1) := by decide +kernel
theorem dJ6_value_1 : decode cJ6_value 1 = .ok (.getfield 9, 3) := by decide +kernel
theorem dJ6_value_4 : decode cJ6_value 4 = .ok (.areturn, 1) := by decide +kernel
abbrev cJ6_charAt : ByteArray := prog_33_method_56_code
def yJ6_charAt : MethodName := ⟨RJ6, "charAt", "(I)C"⟩
def dkwJ6_charAt_1 : List UInt8 := [172]
abbrev dktJ6_charAt_1 : List UInt8 := dkwJ6_charAt_1 ++ []
def dkwJ6_charAt_0 : List UInt8 := [42, 182, 1, 236, 153, 0, 12, 42, 180, 0, 9, 27, 184, 1, 239, 172, 42, 180, 0, 9, 27, 184, 1, 242]
abbrev dktJ6_charAt_0 : List UInt8 := dkwJ6_charAt_0 ++ dktJ6_charAt_1
theorem dksJ6_charAt_0 : cJ6_charAt.data.toList.drop 0 = dktJ6_charAt_0 := by decide +kernel
theorem dksJ6_charAt_1 : cJ6_charAt.data.toList.drop 24 = dktJ6_charAt_1 := dk_seg dksJ6_charAt_0 24 rfl rfl
theorem dJ6_charAt_0 : decode cJ6_charAt 0 = .ok (.aload_n 0, 1) := dk_42 (dk_at dksJ6_charAt_0 0 rfl rfl)
theorem dJ6_charAt_1 : decode cJ6_charAt 1 = .ok (.invokevirtual 492, 3) := dk_182 1 236 (dk_at dksJ6_charAt_0 1 rfl rfl)
theorem dJ6_charAt_4 : decode cJ6_charAt 4 = .ok (.ifCond .eq 12, 3) := dk_153 0 12 (dk_at dksJ6_charAt_0 4 rfl rfl)
theorem dJ6_charAt_7 : decode cJ6_charAt 7 = .ok (.aload_n 0, 1) := dk_42 (dk_at dksJ6_charAt_0 7 rfl rfl)
theorem dJ6_charAt_8 : decode cJ6_charAt 8 = .ok (.getfield 9, 3) := dk_180 0 9 (dk_at dksJ6_charAt_0 8 rfl rfl)
theorem dJ6_charAt_11 : decode cJ6_charAt 11 = .ok (.iload_n 1, 1) := dk_27 (dk_at dksJ6_charAt_0 11 rfl rfl)
theorem dJ6_charAt_12 : decode cJ6_charAt 12 = .ok (.invokestatic 495, 3) := dk_184 1 239 (dk_at dksJ6_charAt_0 12 rfl rfl)
theorem dJ6_charAt_15 : decode cJ6_charAt 15 = .ok (.ireturn, 1) := dk_172 (dk_at dksJ6_charAt_0 15 rfl rfl)
theorem dJ6_charAt_16 : decode cJ6_charAt 16 = .ok (.aload_n 0, 1) := dk_42 (dk_at dksJ6_charAt_0 16 rfl rfl)
theorem dJ6_charAt_17 : decode cJ6_charAt 17 = .ok (.getfield 9, 3) := dk_180 0 9 (dk_at dksJ6_charAt_0 17 rfl rfl)
theorem dJ6_charAt_20 : decode cJ6_charAt 20 = .ok (.iload_n 1, 1) := dk_27 (dk_at dksJ6_charAt_0 20 rfl rfl)
theorem dJ6_charAt_21 : decode cJ6_charAt 21 = .ok (.invokestatic 498, 3) := dk_184 1 242 (dk_at dksJ6_charAt_0 21 rfl rfl)
theorem dJ6_charAt_24 : decode cJ6_charAt 24 = .ok (.ireturn, 1) := dk_172 (dk_at dksJ6_charAt_1 0 rfl rfl)
abbrev cJ6_checkIndex : ByteArray := prog_33_method_155_code
def yJ6_checkIndex : MethodName := ⟨RJ6, "checkIndex", "(II)V"⟩
def dkwJ6_checkIndex_0 : List UInt8 := [26, 27, 178, 4, 29, 184, 4, 35, 87, 177]
abbrev dktJ6_checkIndex_0 : List UInt8 := dkwJ6_checkIndex_0 ++ []
theorem dksJ6_checkIndex_0 : cJ6_checkIndex.data.toList.drop 0 = dktJ6_checkIndex_0 := by decide +kernel
theorem dJ6_checkIndex_0 : decode cJ6_checkIndex 0 = .ok (.iload_n 0, 1) := dk_26 (dk_at dksJ6_checkIndex_0 0 rfl rfl)
theorem dJ6_checkIndex_1 : decode cJ6_checkIndex 1 = .ok (.iload_n 1, 1) := dk_27 (dk_at dksJ6_checkIndex_0 1 rfl rfl)
theorem dJ6_checkIndex_2 : decode cJ6_checkIndex 2 = .ok (.getstatic 1053, 3) := dk_178 4 29 (dk_at dksJ6_checkIndex_0 2 rfl rfl)
theorem dJ6_checkIndex_5 : decode cJ6_checkIndex 5 = .ok (.invokestatic 1059, 3) := dk_184 4 35 (dk_at dksJ6_checkIndex_0 5 rfl rfl)
theorem dJ6_checkIndex_8 : decode cJ6_checkIndex 8 = .ok (.pop, 1) := dk_87 (dk_at dksJ6_checkIndex_0 8 rfl rfl)
theorem dJ6_checkIndex_9 : decode cJ6_checkIndex 9 = .ok (.return_, 1) := dk_177 (dk_at dksJ6_checkIndex_0 9 rfl rfl)
abbrev cJ6_equals : ByteArray := prog_33_method_66_code
def yJ6_equals : MethodName := ⟨RJ6, "equals", "(Ljava/lang/Object;)Z"⟩
def dkwJ6_equals_2 : List UInt8 := [184, 2, 29, 153, 0, 7, 4, 167, 0, 4, 3, 172]
abbrev dktJ6_equals_2 : List UInt8 := dkwJ6_equals_2 ++ []
def dkwJ6_equals_1 : List UInt8 := [153, 0, 14, 42, 180, 0, 15, 44, 180, 0, 15, 160, 0, 21, 42, 180, 0, 9, 44, 180, 0, 9]
abbrev dktJ6_equals_1 : List UInt8 := dkwJ6_equals_1 ++ dktJ6_equals_2
def dkwJ6_equals_0 : List UInt8 := [42, 43, 166, 0, 5, 4, 172, 43, 193, 0, 10, 153, 0, 43, 43, 192, 0, 10, 77, 178, 0, 38]
abbrev dktJ6_equals_0 : List UInt8 := dkwJ6_equals_0 ++ dktJ6_equals_1
theorem dksJ6_equals_0 : cJ6_equals.data.toList.drop 0 = dktJ6_equals_0 := by decide +kernel
theorem dksJ6_equals_1 : cJ6_equals.data.toList.drop 22 = dktJ6_equals_1 := dk_seg dksJ6_equals_0 22 rfl rfl
theorem dksJ6_equals_2 : cJ6_equals.data.toList.drop 44 = dktJ6_equals_2 := dk_seg dksJ6_equals_1 22 rfl rfl
theorem dJ6_equals_0 : decode cJ6_equals 0 = .ok (.aload_n 0, 1) := dk_42 (dk_at dksJ6_equals_0 0 rfl rfl)
theorem dJ6_equals_1 : decode cJ6_equals 1 = .ok (.aload_n 1, 1) := dk_43 (dk_at dksJ6_equals_0 1 rfl rfl)
theorem dJ6_equals_2 : decode cJ6_equals 2 = .ok (.if_acmp .ne 5, 3) := dk_166 0 5 (dk_at dksJ6_equals_0 2 rfl rfl)
theorem dJ6_equals_5 : decode cJ6_equals 5 = .ok (.iconst 1, 1) := dk_4 (dk_at dksJ6_equals_0 5 rfl rfl)
theorem dJ6_equals_6 : decode cJ6_equals 6 = .ok (.ireturn, 1) := dk_172 (dk_at dksJ6_equals_0 6 rfl rfl)
theorem dJ6_equals_7 : decode cJ6_equals 7 = .ok (.aload_n 1, 1) := dk_43 (dk_at dksJ6_equals_0 7 rfl rfl)
theorem dJ6_equals_8 : decode cJ6_equals 8 = .ok (.instanceof 10, 3) := dk_193 0 10 (dk_at dksJ6_equals_0 8 rfl rfl)
theorem dJ6_equals_11 : decode cJ6_equals 11 = .ok (.ifCond .eq 43, 3) := dk_153 0 43 (dk_at dksJ6_equals_0 11 rfl rfl)
theorem dJ6_equals_14 : decode cJ6_equals 14 = .ok (.aload_n 1, 1) := dk_43 (dk_at dksJ6_equals_0 14 rfl rfl)
theorem dJ6_equals_15 : decode cJ6_equals 15 = .ok (.checkcast 10, 3) := dk_192 0 10 (dk_at dksJ6_equals_0 15 rfl rfl)
theorem dJ6_equals_18 : decode cJ6_equals 18 = .ok (.astore_n 2, 1) := dk_77 (dk_at dksJ6_equals_0 18 rfl rfl)
theorem dJ6_equals_19 : decode cJ6_equals 19 = .ok (.getstatic 38, 3) := dk_178 0 38 (dk_at dksJ6_equals_0 19 rfl rfl)
theorem dJ6_equals_22 : decode cJ6_equals 22 = .ok (.ifCond .eq 14, 3) := dk_153 0 14 (dk_at dksJ6_equals_1 0 rfl rfl)
theorem dJ6_equals_25 : decode cJ6_equals 25 = .ok (.aload_n 0, 1) := dk_42 (dk_at dksJ6_equals_1 3 rfl rfl)
theorem dJ6_equals_26 : decode cJ6_equals 26 = .ok (.getfield 15, 3) := dk_180 0 15 (dk_at dksJ6_equals_1 4 rfl rfl)
theorem dJ6_equals_29 : decode cJ6_equals 29 = .ok (.aload_n 2, 1) := dk_44 (dk_at dksJ6_equals_1 7 rfl rfl)
theorem dJ6_equals_30 : decode cJ6_equals 30 = .ok (.getfield 15, 3) := dk_180 0 15 (dk_at dksJ6_equals_1 8 rfl rfl)
theorem dJ6_equals_33 : decode cJ6_equals 33 = .ok (.if_icmp .ne 21, 3) := dk_160 0 21 (dk_at dksJ6_equals_1 11 rfl rfl)
theorem dJ6_equals_36 : decode cJ6_equals 36 = .ok (.aload_n 0, 1) := dk_42 (dk_at dksJ6_equals_1 14 rfl rfl)
theorem dJ6_equals_37 : decode cJ6_equals 37 = .ok (.getfield 9, 3) := dk_180 0 9 (dk_at dksJ6_equals_1 15 rfl rfl)
theorem dJ6_equals_40 : decode cJ6_equals 40 = .ok (.aload_n 2, 1) := dk_44 (dk_at dksJ6_equals_1 18 rfl rfl)
theorem dJ6_equals_41 : decode cJ6_equals 41 = .ok (.getfield 9, 3) := dk_180 0 9 (dk_at dksJ6_equals_1 19 rfl rfl)
theorem dJ6_equals_44 : decode cJ6_equals 44 = .ok (.invokestatic 541, 3) := dk_184 2 29 (dk_at dksJ6_equals_2 0 rfl rfl)
theorem dJ6_equals_47 : decode cJ6_equals 47 = .ok (.ifCond .eq 7, 3) := dk_153 0 7 (dk_at dksJ6_equals_2 3 rfl rfl)
theorem dJ6_equals_50 : decode cJ6_equals 50 = .ok (.iconst 1, 1) := dk_4 (dk_at dksJ6_equals_2 6 rfl rfl)
theorem dJ6_equals_51 : decode cJ6_equals 51 = .ok (.goto 4, 3) := dk_167 0 4 (dk_at dksJ6_equals_2 7 rfl rfl)
theorem dJ6_equals_54 : decode cJ6_equals 54 = .ok (.iconst 0, 1) := dk_3 (dk_at dksJ6_equals_2 10 rfl rfl)
theorem dJ6_equals_55 : decode cJ6_equals 55 = .ok (.ireturn, 1) := dk_172 (dk_at dksJ6_equals_2 11 rfl rfl)
abbrev cJ6_isEmpty : ByteArray := prog_33_method_55_code
def yJ6_isEmpty : MethodName := ⟨RJ6, "isEmpty", "()Z"⟩
def dkwJ6_isEmpty_0 : List UInt8 := [42, 180, 0, 9, 190, 154, 0, 7, 4, 167, 0, 4, 3, 172]
abbrev dktJ6_isEmpty_0 : List UInt8 := dkwJ6_isEmpty_0 ++ []
theorem dksJ6_isEmpty_0 : cJ6_isEmpty.data.toList.drop 0 = dktJ6_isEmpty_0 := by decide +kernel
theorem dJ6_isEmpty_0 : decode cJ6_isEmpty 0 = .ok (.aload_n 0, 1) := dk_42 (dk_at dksJ6_isEmpty_0 0 rfl rfl)
theorem dJ6_isEmpty_1 : decode cJ6_isEmpty 1 = .ok (.getfield 9, 3) := dk_180 0 9 (dk_at dksJ6_isEmpty_0 1 rfl rfl)
theorem dJ6_isEmpty_4 : decode cJ6_isEmpty 4 = .ok (.arraylength, 1) := dk_190 (dk_at dksJ6_isEmpty_0 4 rfl rfl)
theorem dJ6_isEmpty_5 : decode cJ6_isEmpty 5 = .ok (.ifCond .ne 7, 3) := dk_154 0 7 (dk_at dksJ6_isEmpty_0 5 rfl rfl)
theorem dJ6_isEmpty_8 : decode cJ6_isEmpty 8 = .ok (.iconst 1, 1) := dk_4 (dk_at dksJ6_isEmpty_0 8 rfl rfl)
theorem dJ6_isEmpty_9 : decode cJ6_isEmpty 9 = .ok (.goto 4, 3) := dk_167 0 4 (dk_at dksJ6_isEmpty_0 9 rfl rfl)
theorem dJ6_isEmpty_12 : decode cJ6_isEmpty 12 = .ok (.iconst 0, 1) := dk_3 (dk_at dksJ6_isEmpty_0 12 rfl rfl)
theorem dJ6_isEmpty_13 : decode cJ6_isEmpty 13 = .ok (.ireturn, 1) := dk_172 (dk_at dksJ6_isEmpty_0 13 rfl rfl)
abbrev cJ6_hashCode : ByteArray := prog_33_method_78_code
def yJ6_hashCode : MethodName := ⟨RJ6, "hashCode", "()I"⟩
def dkwJ6_hashCode_2 : List UInt8 := [181, 0, 23, 167, 0, 8, 42, 27, 181, 0, 19, 27, 172]
abbrev dktJ6_hashCode_2 : List UInt8 := dkwJ6_hashCode_2 ++ []
def dkwJ6_hashCode_1 : List UInt8 := [180, 0, 9, 184, 2, 116, 167, 0, 10, 42, 180, 0, 9, 184, 2, 120, 60, 27, 154, 0, 11, 42, 4]
abbrev dktJ6_hashCode_1 : List UInt8 := dkwJ6_hashCode_1 ++ dktJ6_hashCode_2
def dkwJ6_hashCode_0 : List UInt8 := [42, 180, 0, 19, 60, 27, 154, 0, 52, 42, 180, 0, 23, 154, 0, 45, 42, 182, 1, 236, 153, 0, 13, 42]
abbrev dktJ6_hashCode_0 : List UInt8 := dkwJ6_hashCode_0 ++ dktJ6_hashCode_1
theorem dksJ6_hashCode_0 : cJ6_hashCode.data.toList.drop 0 = dktJ6_hashCode_0 := by decide +kernel
theorem dksJ6_hashCode_1 : cJ6_hashCode.data.toList.drop 24 = dktJ6_hashCode_1 := dk_seg dksJ6_hashCode_0 24 rfl rfl
theorem dksJ6_hashCode_2 : cJ6_hashCode.data.toList.drop 47 = dktJ6_hashCode_2 := dk_seg dksJ6_hashCode_1 23 rfl rfl
theorem dJ6_hashCode_0 : decode cJ6_hashCode 0 = .ok (.aload_n 0, 1) := dk_42 (dk_at dksJ6_hashCode_0 0 rfl rfl)
theorem dJ6_hashCode_1 : decode cJ6_hashCode 1 = .ok (.getfield 19, 3) := dk_180 0 19 (dk_at dksJ6_hashCode_0 1 rfl rfl)
theorem dJ6_hashCode_4 : decode cJ6_hashCode 4 = .ok (.istore_n 1, 1) := dk_60 (dk_at dksJ6_hashCode_0 4 rfl rfl)
theorem dJ6_hashCode_5 : decode cJ6_hashCode 5 = .ok (.iload_n 1, 1) := dk_27 (dk_at dksJ6_hashCode_0 5 rfl rfl)
theorem dJ6_hashCode_6 : decode cJ6_hashCode 6 = .ok (.ifCond .ne 52, 3) := dk_154 0 52 (dk_at dksJ6_hashCode_0 6 rfl rfl)
theorem dJ6_hashCode_9 : decode cJ6_hashCode 9 = .ok (.aload_n 0, 1) := dk_42 (dk_at dksJ6_hashCode_0 9 rfl rfl)
theorem dJ6_hashCode_10 : decode cJ6_hashCode 10 = .ok (.getfield 23, 3) := dk_180 0 23 (dk_at dksJ6_hashCode_0 10 rfl rfl)
theorem dJ6_hashCode_13 : decode cJ6_hashCode 13 = .ok (.ifCond .ne 45, 3) := dk_154 0 45 (dk_at dksJ6_hashCode_0 13 rfl rfl)
theorem dJ6_hashCode_16 : decode cJ6_hashCode 16 = .ok (.aload_n 0, 1) := dk_42 (dk_at dksJ6_hashCode_0 16 rfl rfl)
theorem dJ6_hashCode_17 : decode cJ6_hashCode 17 = .ok (.invokevirtual 492, 3) := dk_182 1 236 (dk_at dksJ6_hashCode_0 17 rfl rfl)
theorem dJ6_hashCode_20 : decode cJ6_hashCode 20 = .ok (.ifCond .eq 13, 3) := dk_153 0 13 (dk_at dksJ6_hashCode_0 20 rfl rfl)
theorem dJ6_hashCode_23 : decode cJ6_hashCode 23 = .ok (.aload_n 0, 1) := dk_42 (dk_at dksJ6_hashCode_0 23 rfl rfl)
theorem dJ6_hashCode_24 : decode cJ6_hashCode 24 = .ok (.getfield 9, 3) := dk_180 0 9 (dk_at dksJ6_hashCode_1 0 rfl rfl)
theorem dJ6_hashCode_27 : decode cJ6_hashCode 27 = .ok (.invokestatic 628, 3) := dk_184 2 116 (dk_at dksJ6_hashCode_1 3 rfl rfl)
theorem dJ6_hashCode_30 : decode cJ6_hashCode 30 = .ok (.goto 10, 3) := dk_167 0 10 (dk_at dksJ6_hashCode_1 6 rfl rfl)
theorem dJ6_hashCode_33 : decode cJ6_hashCode 33 = .ok (.aload_n 0, 1) := dk_42 (dk_at dksJ6_hashCode_1 9 rfl rfl)
theorem dJ6_hashCode_34 : decode cJ6_hashCode 34 = .ok (.getfield 9, 3) := dk_180 0 9 (dk_at dksJ6_hashCode_1 10 rfl rfl)
theorem dJ6_hashCode_37 : decode cJ6_hashCode 37 = .ok (.invokestatic 632, 3) := dk_184 2 120 (dk_at dksJ6_hashCode_1 13 rfl rfl)
theorem dJ6_hashCode_40 : decode cJ6_hashCode 40 = .ok (.istore_n 1, 1) := dk_60 (dk_at dksJ6_hashCode_1 16 rfl rfl)
theorem dJ6_hashCode_41 : decode cJ6_hashCode 41 = .ok (.iload_n 1, 1) := dk_27 (dk_at dksJ6_hashCode_1 17 rfl rfl)
theorem dJ6_hashCode_42 : decode cJ6_hashCode 42 = .ok (.ifCond .ne 11, 3) := dk_154 0 11 (dk_at dksJ6_hashCode_1 18 rfl rfl)
theorem dJ6_hashCode_45 : decode cJ6_hashCode 45 = .ok (.aload_n 0, 1) := dk_42 (dk_at dksJ6_hashCode_1 21 rfl rfl)
theorem dJ6_hashCode_46 : decode cJ6_hashCode 46 = .ok (.iconst 1, 1) := dk_4 (dk_at dksJ6_hashCode_1 22 rfl rfl)
theorem dJ6_hashCode_47 : decode cJ6_hashCode 47 = .ok (.putfield 23, 3) := dk_181 0 23 (dk_at dksJ6_hashCode_2 0 rfl rfl)
theorem dJ6_hashCode_50 : decode cJ6_hashCode 50 = .ok (.goto 8, 3) := dk_167 0 8 (dk_at dksJ6_hashCode_2 3 rfl rfl)
theorem dJ6_hashCode_53 : decode cJ6_hashCode 53 = .ok (.aload_n 0, 1) := dk_42 (dk_at dksJ6_hashCode_2 6 rfl rfl)
theorem dJ6_hashCode_54 : decode cJ6_hashCode 54 = .ok (.iload_n 1, 1) := dk_27 (dk_at dksJ6_hashCode_2 7 rfl rfl)
theorem dJ6_hashCode_55 : decode cJ6_hashCode 55 = .ok (.putfield 19, 3) := dk_181 0 19 (dk_at dksJ6_hashCode_2 8 rfl rfl)
theorem dJ6_hashCode_58 : decode cJ6_hashCode 58 = .ok (.iload_n 1, 1) := dk_27 (dk_at dksJ6_hashCode_2 11 rfl rfl)
theorem dJ6_hashCode_59 : decode cJ6_hashCode 59 = .ok (.ireturn, 1) := dk_172 (dk_at dksJ6_hashCode_2 12 rfl rfl)
abbrev MJ6_checkBoundsBeginEnd : zM := (yJ6_checkBoundsBeginEnd, cJ6_checkBoundsBeginEnd, 3, (Option.none : Option Jvm.ClassFile.FieldType), [])
theorem kJ6_checkBoundsBeginEnd : zMk MJ6_checkBoundsBeginEnd := ⟨zt (lw_at lw_m3 29 rfl), zt (lw_at lw_m1 9 rfl), by decide +kernel, by decide, by decide +kernel⟩
abbrev MJ6_length : zM := (yJ6_length, cJ6_length, 1, (Option.some Jvm.ClassFile.FieldType.int), [])
theorem kJ6_length : zMk MJ6_length := ⟨zt (lw_at lw_m3 47 rfl), zt (lw_at lw_m1 9 rfl), by decide +kernel, by decide, by decide +kernel⟩
abbrev MJ6_coder : zM := (yJ6_coder, cJ6_coder, 1, (Option.some Jvm.ClassFile.FieldType.byte), [])
theorem kJ6_coder : zMk MJ6_coder := ⟨zt (lw_at lw_m3 51 rfl), zt (lw_at lw_m1 9 rfl), by decide +kernel, by decide, by decide +kernel⟩
abbrev MJ6_checkBoundsOffCount : zM := (yJ6_checkBoundsOffCount, cJ6_checkBoundsOffCount, 3, (Option.some Jvm.ClassFile.FieldType.int), [])
theorem kJ6_checkBoundsOffCount : zMk MJ6_checkBoundsOffCount := ⟨zt (lw_at lw_m3 77 rfl), zt (lw_at lw_m1 9 rfl), by decide +kernel, by decide, by decide +kernel⟩
abbrev MJ6_getBytes : zM := (yJ6_getBytes, cJ6_getBytes, 4, (Option.none : Option Jvm.ClassFile.FieldType), [])
theorem kJ6_getBytes : zMk MJ6_getBytes := ⟨zt (lw_at lw_m3 84 rfl), zt (lw_at lw_m1 9 rfl), by decide +kernel, by decide, by decide +kernel⟩
abbrev MJ6_init : zM := (yJ6_init, cJ6_init, 2, (Option.none : Option Jvm.ClassFile.FieldType), [])
theorem kJ6_init : zMk MJ6_init := ⟨zt (lw_at lw_m3 120 rfl), zt (lw_at lw_m1 9 rfl), by decide +kernel, by decide, by decide +kernel⟩
abbrev MJ6_init_2 : zM := (yJ6_init_2, cJ6_init_2, 5, (Option.none : Option Jvm.ClassFile.FieldType), [])
theorem kJ6_init_2 : zMk MJ6_init_2 := ⟨zt (lw_at lw_m3 123 rfl), zt (lw_at lw_m1 9 rfl), by decide +kernel, by decide, by decide +kernel⟩
abbrev MJ6_valueOf : zM := (yJ6_valueOf, cJ6_valueOf, 1, (Option.some (Jvm.ClassFile.FieldType.object "java/lang/String")), [])
theorem kJ6_valueOf : zMk MJ6_valueOf := ⟨zt (lw_at lw_m4 21 rfl), zt (lw_at lw_m1 9 rfl), by decide +kernel, by decide, by decide +kernel⟩
abbrev MJ6_init_3 : zM := (yJ6_init_3, cJ6_init_3, 3, (Option.none : Option Jvm.ClassFile.FieldType), [])
theorem kJ6_init_3 : zMk MJ6_init_3 := ⟨zt (lw_at lw_m4 116 rfl), zt (lw_at lw_m1 9 rfl), by decide +kernel, by decide, by decide +kernel⟩
abbrev MJ6_toString : zM := (yJ6_toString, cJ6_toString, 1, (Option.some (Jvm.ClassFile.FieldType.object "java/lang/String")), [])
theorem kJ6_toString : zMk MJ6_toString := ⟨zt (lw_at lw_m4 120 rfl), zt (lw_at lw_m1 9 rfl), by decide +kernel, by decide, by decide +kernel⟩
abbrev MJ6_isLatin1 : zM := (yJ6_isLatin1, cJ6_isLatin1, 1, (Option.some Jvm.ClassFile.FieldType.boolean), [])
theorem kJ6_isLatin1 : zMk MJ6_isLatin1 := ⟨zt (lw_at lw_m4 207 rfl), zt (lw_at lw_m1 9 rfl), by decide +kernel, by decide, by decide +kernel⟩
abbrev MJ6_value : zM := (yJ6_value, cJ6_value, 1, (Option.some (Jvm.ClassFile.FieldType.array Jvm.ClassFile.FieldType.byte)), [])
theorem kJ6_value : zMk MJ6_value := ⟨zt (lw_at lw_m4 211 rfl), zt (lw_at lw_m1 9 rfl), by decide +kernel, by decide, by decide +kernel⟩
abbrev MJ6_charAt : zM := (yJ6_charAt, cJ6_charAt, 2, (Option.some Jvm.ClassFile.FieldType.char), [])
theorem kJ6_charAt : zMk MJ6_charAt := ⟨zt (lw_at lw_m4 215 rfl), zt (lw_at lw_m1 9 rfl), by decide +kernel, by decide, by decide +kernel⟩
abbrev MJ6_checkIndex : zM := (yJ6_checkIndex, cJ6_checkIndex, 2, (Option.none : Option Jvm.ClassFile.FieldType), [])
theorem kJ6_checkIndex : zMk MJ6_checkIndex := ⟨zt (lw_at lw_m4 222 rfl), zt (lw_at lw_m1 9 rfl), by decide +kernel, by decide, by decide +kernel⟩
abbrev MJ6_equals : zM := (yJ6_equals, cJ6_equals, 3, (Option.some Jvm.ClassFile.FieldType.boolean), [])
theorem kJ6_equals : zMk MJ6_equals := ⟨zt (lw_at lw_m7 164 rfl), zt (lw_at lw_m1 9 rfl), by decide +kernel, by decide, by decide +kernel⟩
abbrev MJ6_isEmpty : zM := (yJ6_isEmpty, cJ6_isEmpty, 1, (Option.some Jvm.ClassFile.FieldType.boolean), [])
theorem kJ6_isEmpty : zMk MJ6_isEmpty := ⟨zt (lw_at lw_m9 2 rfl), zt (lw_at lw_m1 9 rfl), by decide +kernel, by decide, by decide +kernel⟩
abbrev MJ6_hashCode : zM := (yJ6_hashCode, cJ6_hashCode, 2, (Option.some Jvm.ClassFile.FieldType.int), [])
theorem kJ6_hashCode : zMk MJ6_hashCode := ⟨zt (lw_at lw_m9 14 rfl), zt (lw_at lw_m1 9 rfl), by decide +kernel, by decide, by decide +kernel⟩
/-! java/util/ArrayList$Itr -/
set_option maxRecDepth 100000
abbrev cJ12_init : ByteArray := prog_48_method_1_code
def yJ12_init : MethodName := ⟨RJ12, "<init>", "(Ljava/util/ArrayList;)V"⟩
def dkwJ12_init_1 : List UInt8 := [181, 0, 22, 177]
abbrev dktJ12_init_1 : List UInt8 := dkwJ12_init_1 ++ []
def dkwJ12_init_0 : List UInt8 := [42, 43, 181, 0, 1, 42, 183, 0, 7, 42, 2, 181, 0, 13, 42, 42, 180, 0, 1, 180, 0, 17]
abbrev dktJ12_init_0 : List UInt8 := dkwJ12_init_0 ++ dktJ12_init_1
theorem dksJ12_init_0 : cJ12_init.data.toList.drop 0 = dktJ12_init_0 := by decide +kernel
theorem dksJ12_init_1 : cJ12_init.data.toList.drop 22 = dktJ12_init_1 := dk_seg dksJ12_init_0 22 rfl rfl
theorem dJ12_init_0 : decode cJ12_init 0 = .ok (.aload_n 0, 1) := dk_42 (dk_at dksJ12_init_0 0 rfl rfl)
theorem dJ12_init_1 : decode cJ12_init 1 = .ok (.aload_n 1, 1) := dk_43 (dk_at dksJ12_init_0 1 rfl rfl)
theorem dJ12_init_2 : decode cJ12_init 2 = .ok (.putfield 1, 3) := dk_181 0 1 (dk_at dksJ12_init_0 2 rfl rfl)
theorem dJ12_init_5 : decode cJ12_init 5 = .ok (.aload_n 0, 1) := dk_42 (dk_at dksJ12_init_0 5 rfl rfl)
theorem dJ12_init_6 : decode cJ12_init 6 = .ok (.invokespecial 7, 3) := dk_183 0 7 (dk_at dksJ12_init_0 6 rfl rfl)
theorem dJ12_init_9 : decode cJ12_init 9 = .ok (.aload_n 0, 1) := dk_42 (dk_at dksJ12_init_0 9 rfl rfl)
theorem dJ12_init_10 : decode cJ12_init 10 = .ok (.iconst (-1), 1) := dk_2 (dk_at dksJ12_init_0 10 rfl rfl)
theorem dJ12_init_11 : decode cJ12_init 11 = .ok (.putfield 13, 3) := dk_181 0 13 (dk_at dksJ12_init_0 11 rfl rfl)
theorem dJ12_init_14 : decode cJ12_init 14 = .ok (.aload_n 0, 1) := dk_42 (dk_at dksJ12_init_0 14 rfl rfl)
theorem dJ12_init_15 : decode cJ12_init 15 = .ok (.aload_n 0, 1) := dk_42 (dk_at dksJ12_init_0 15 rfl rfl)
theorem dJ12_init_16 : decode cJ12_init 16 = .ok (.getfield 1, 3) := dk_180 0 1 (dk_at dksJ12_init_0 16 rfl rfl)
theorem dJ12_init_19 : decode cJ12_init 19 = .ok (.getfield 17, 3) := dk_180 0 17 (dk_at dksJ12_init_0 19 rfl rfl)
theorem dJ12_init_22 : decode cJ12_init 22 = .ok (.putfield 22, 3) := dk_181 0 22 (dk_at dksJ12_init_1 0 rfl rfl)
theorem dJ12_init_25 : decode cJ12_init 25 = .ok (.return_, 1) := dk_177 (dk_at dksJ12_init_1 3 rfl rfl)
abbrev cJ12_hasNext : ByteArray := prog_48_method_2_code
def yJ12_hasNext : MethodName := ⟨RJ12, "hasNext", "()Z"⟩
def dkwJ12_hasNext_0 : List UInt8 := [42, 180, 0, 25, 42, 180, 0, 1, 180, 0, 28, 159, 0, 7, 4, 167, 0, 4, 3, 172]
abbrev dktJ12_hasNext_0 : List UInt8 := dkwJ12_hasNext_0 ++ []
theorem dksJ12_hasNext_0 : cJ12_hasNext.data.toList.drop 0 = dktJ12_hasNext_0 := by decide +kernel
theorem dJ12_hasNext_0 : decode cJ12_hasNext 0 = .ok (.aload_n 0, 1) := dk_42 (dk_at dksJ12_hasNext_0 0 rfl rfl)
theorem dJ12_hasNext_1 : decode cJ12_hasNext 1 = .ok (.getfield 25, 3) := dk_180 0 25 (dk_at dksJ12_hasNext_0 1 rfl rfl)
theorem dJ12_hasNext_4 : decode cJ12_hasNext 4 = .ok (.aload_n 0, 1) := dk_42 (dk_at dksJ12_hasNext_0 4 rfl rfl)
theorem dJ12_hasNext_5 : decode cJ12_hasNext 5 = .ok (.getfield 1, 3) := dk_180 0 1 (dk_at dksJ12_hasNext_0 5 rfl rfl)
theorem dJ12_hasNext_8 : decode cJ12_hasNext 8 = .ok (.getfield 28, 3) := dk_180 0 28 (dk_at dksJ12_hasNext_0 8 rfl rfl)
theorem dJ12_hasNext_11 : decode cJ12_hasNext 11 = .ok (.if_icmp .eq 7, 3) := dk_159 0 7 (dk_at dksJ12_hasNext_0 11 rfl rfl)
theorem dJ12_hasNext_14 : decode cJ12_hasNext 14 = .ok (.iconst 1, 1) := dk_4 (dk_at dksJ12_hasNext_0 14 rfl rfl)
theorem dJ12_hasNext_15 : decode cJ12_hasNext 15 = .ok (.goto 4, 3) := dk_167 0 4 (dk_at dksJ12_hasNext_0 15 rfl rfl)
theorem dJ12_hasNext_18 : decode cJ12_hasNext 18 = .ok (.iconst 0, 1) := dk_3 (dk_at dksJ12_hasNext_0 18 rfl rfl)
theorem dJ12_hasNext_19 : decode cJ12_hasNext 19 = .ok (.ireturn, 1) := dk_172 (dk_at dksJ12_hasNext_0 19 rfl rfl)
abbrev cJ12_next : ByteArray := prog_48_method_3_code
def yJ12_next : MethodName := ⟨RJ12, "next", "()Ljava/lang/Object;"⟩
def dkwJ12_next_2 : List UInt8 := [183, 0, 43, 191, 42, 27, 4, 96, 181, 0, 25, 44, 42, 27, 90, 181, 0, 13, 50, 176]
abbrev dktJ12_next_2 : List UInt8 := dkwJ12_next_2 ++ []
def dkwJ12_next_1 : List UInt8 := [183, 0, 36, 191, 42, 180, 0, 1, 180, 0, 37, 77, 27, 44, 190, 161, 0, 11, 187, 0, 41, 89]
abbrev dktJ12_next_1 : List UInt8 := dkwJ12_next_1 ++ dktJ12_next_2
def dkwJ12_next_0 : List UInt8 := [42, 182, 0, 31, 42, 180, 0, 25, 60, 27, 42, 180, 0, 1, 180, 0, 28, 161, 0, 11, 187, 0, 34, 89]
abbrev dktJ12_next_0 : List UInt8 := dkwJ12_next_0 ++ dktJ12_next_1
theorem dksJ12_next_0 : cJ12_next.data.toList.drop 0 = dktJ12_next_0 := by decide +kernel
theorem dksJ12_next_1 : cJ12_next.data.toList.drop 24 = dktJ12_next_1 := dk_seg dksJ12_next_0 24 rfl rfl
theorem dksJ12_next_2 : cJ12_next.data.toList.drop 46 = dktJ12_next_2 := dk_seg dksJ12_next_1 22 rfl rfl
theorem dJ12_next_0 : decode cJ12_next 0 = .ok (.aload_n 0, 1) := dk_42 (dk_at dksJ12_next_0 0 rfl rfl)
theorem dJ12_next_1 : decode cJ12_next 1 = .ok (.invokevirtual 31, 3) := dk_182 0 31 (dk_at dksJ12_next_0 1 rfl rfl)
theorem dJ12_next_4 : decode cJ12_next 4 = .ok (.aload_n 0, 1) := dk_42 (dk_at dksJ12_next_0 4 rfl rfl)
theorem dJ12_next_5 : decode cJ12_next 5 = .ok (.getfield 25, 3) := dk_180 0 25 (dk_at dksJ12_next_0 5 rfl rfl)
theorem dJ12_next_8 : decode cJ12_next 8 = .ok (.istore_n 1, 1) := dk_60 (dk_at dksJ12_next_0 8 rfl rfl)
theorem dJ12_next_9 : decode cJ12_next 9 = .ok (.iload_n 1, 1) := dk_27 (dk_at dksJ12_next_0 9 rfl rfl)
theorem dJ12_next_10 : decode cJ12_next 10 = .ok (.aload_n 0, 1) := dk_42 (dk_at dksJ12_next_0 10 rfl rfl)
theorem dJ12_next_11 : decode cJ12_next 11 = .ok (.getfield 1, 3) := dk_180 0 1 (dk_at dksJ12_next_0 11 rfl rfl)
theorem dJ12_next_14 : decode cJ12_next 14 = .ok (.getfield 28, 3) := dk_180 0 28 (dk_at dksJ12_next_0 14 rfl rfl)
theorem dJ12_next_17 : decode cJ12_next 17 = .ok (.if_icmp .lt 11, 3) := dk_161 0 11 (dk_at dksJ12_next_0 17 rfl rfl)
theorem dJ12_next_20 : decode cJ12_next 20 = .ok (.new 34, 3) := dk_187 0 34 (dk_at dksJ12_next_0 20 rfl rfl)
theorem dJ12_next_23 : decode cJ12_next 23 = .ok (.dup, 1) := dk_89 (dk_at dksJ12_next_0 23 rfl rfl)
theorem dJ12_next_24 : decode cJ12_next 24 = .ok (.invokespecial 36, 3) := dk_183 0 36 (dk_at dksJ12_next_1 0 rfl rfl)
theorem dJ12_next_27 : decode cJ12_next 27 = .ok (.athrow, 1) := dk_191 (dk_at dksJ12_next_1 3 rfl rfl)
theorem dJ12_next_28 : decode cJ12_next 28 = .ok (.aload_n 0, 1) := dk_42 (dk_at dksJ12_next_1 4 rfl rfl)
theorem dJ12_next_29 : decode cJ12_next 29 = .ok (.getfield 1, 3) := dk_180 0 1 (dk_at dksJ12_next_1 5 rfl rfl)
theorem dJ12_next_32 : decode cJ12_next 32 = .ok (.getfield 37, 3) := dk_180 0 37 (dk_at dksJ12_next_1 8 rfl rfl)
theorem dJ12_next_35 : decode cJ12_next 35 = .ok (.astore_n 2, 1) := dk_77 (dk_at dksJ12_next_1 11 rfl rfl)
theorem dJ12_next_36 : decode cJ12_next 36 = .ok (.iload_n 1, 1) := dk_27 (dk_at dksJ12_next_1 12 rfl rfl)
theorem dJ12_next_37 : decode cJ12_next 37 = .ok (.aload_n 2, 1) := dk_44 (dk_at dksJ12_next_1 13 rfl rfl)
theorem dJ12_next_38 : decode cJ12_next 38 = .ok (.arraylength, 1) := dk_190 (dk_at dksJ12_next_1 14 rfl rfl)
theorem dJ12_next_39 : decode cJ12_next 39 = .ok (.if_icmp .lt 11, 3) := dk_161 0 11 (dk_at dksJ12_next_1 15 rfl rfl)
theorem dJ12_next_42 : decode cJ12_next 42 = .ok (.new 41, 3) := dk_187 0 41 (dk_at dksJ12_next_1 18 rfl rfl)
theorem dJ12_next_45 : decode cJ12_next 45 = .ok (.dup, 1) := dk_89 (dk_at dksJ12_next_1 21 rfl rfl)
theorem dJ12_next_46 : decode cJ12_next 46 = .ok (.invokespecial 43, 3) := dk_183 0 43 (dk_at dksJ12_next_2 0 rfl rfl)
theorem dJ12_next_49 : decode cJ12_next 49 = .ok (.athrow, 1) := dk_191 (dk_at dksJ12_next_2 3 rfl rfl)
theorem dJ12_next_50 : decode cJ12_next 50 = .ok (.aload_n 0, 1) := dk_42 (dk_at dksJ12_next_2 4 rfl rfl)
theorem dJ12_next_51 : decode cJ12_next 51 = .ok (.iload_n 1, 1) := dk_27 (dk_at dksJ12_next_2 5 rfl rfl)
theorem dJ12_next_52 : decode cJ12_next 52 = .ok (.iconst 1, 1) := dk_4 (dk_at dksJ12_next_2 6 rfl rfl)
theorem dJ12_next_53 : decode cJ12_next 53 = .ok (.iadd, 1) := dk_96 (dk_at dksJ12_next_2 7 rfl rfl)
theorem dJ12_next_54 : decode cJ12_next 54 = .ok (.putfield 25, 3) := dk_181 0 25 (dk_at dksJ12_next_2 8 rfl rfl)
theorem dJ12_next_57 : decode cJ12_next 57 = .ok (.aload_n 2, 1) := dk_44 (dk_at dksJ12_next_2 11 rfl rfl)
theorem dJ12_next_58 : decode cJ12_next 58 = .ok (.aload_n 0, 1) := dk_42 (dk_at dksJ12_next_2 12 rfl rfl)
theorem dJ12_next_59 : decode cJ12_next 59 = .ok (.iload_n 1, 1) := dk_27 (dk_at dksJ12_next_2 13 rfl rfl)
theorem dJ12_next_60 : decode cJ12_next 60 = .ok (.dup_x1, 1) := dk_90 (dk_at dksJ12_next_2 14 rfl rfl)
theorem dJ12_next_61 : decode cJ12_next 61 = .ok (.putfield 13, 3) := dk_181 0 13 (dk_at dksJ12_next_2 15 rfl rfl)
theorem dJ12_next_64 : decode cJ12_next 64 = .ok (.aaload, 1) := dk_50 (dk_at dksJ12_next_2 18 rfl rfl)
theorem dJ12_next_65 : decode cJ12_next 65 = .ok (.areturn, 1) := dk_176 (dk_at dksJ12_next_2 19 rfl rfl)
abbrev cJ12_checkForComodification : ByteArray := prog_48_method_6_code
def yJ12_checkForComodification : MethodName := ⟨RJ12, "checkForComodification", "()V"⟩
def dkwJ12_checkForComodification_0 : List UInt8 := [42, 180, 0, 1, 180, 0, 17, 42, 180, 0, 22, 159, 0, 11, 187, 0, 41, 89, 183, 0, 43, 191, 177]
abbrev dktJ12_checkForComodification_0 : List UInt8 := dkwJ12_checkForComodification_0 ++ []
theorem dksJ12_checkForComodification_0 : cJ12_checkForComodification.data.toList.drop 0 = dktJ12_checkForComodification_0 := by decide +kernel
theorem dJ12_checkForComodification_0 : decode cJ12_checkForComodification 0 = .ok (.aload_n 0, 1) := dk_42 (dk_at dksJ12_checkForComodification_0 0 rfl rfl)
theorem dJ12_checkForComodification_1 : decode cJ12_checkForComodification 1 = .ok (.getfield 1, 3) := dk_180 0 1 (dk_at dksJ12_checkForComodification_0 1 rfl rfl)
theorem dJ12_checkForComodification_4 : decode cJ12_checkForComodification 4 = .ok (.getfield 17, 3) := dk_180 0 17 (dk_at dksJ12_checkForComodification_0 4 rfl rfl)
theorem dJ12_checkForComodification_7 : decode cJ12_checkForComodification 7 = .ok (.aload_n 0, 1) := dk_42 (dk_at dksJ12_checkForComodification_0 7 rfl rfl)
theorem dJ12_checkForComodification_8 : decode cJ12_checkForComodification 8 = .ok (.getfield 22, 3) := dk_180 0 22 (dk_at dksJ12_checkForComodification_0 8 rfl rfl)
theorem dJ12_checkForComodification_11 : decode cJ12_checkForComodification 11 = .ok (.if_icmp .eq 11, 3) := dk_159 0 11 (dk_at dksJ12_checkForComodification_0 11 rfl rfl)
theorem dJ12_checkForComodification_14 : decode cJ12_checkForComodification 14 = .ok (.new 41, 3) := dk_187 0 41 (dk_at dksJ12_checkForComodification_0 14 rfl rfl)
theorem dJ12_checkForComodification_17 : decode cJ12_checkForComodification 17 = .ok (.dup, 1) := dk_89 (dk_at dksJ12_checkForComodification_0 17 rfl rfl)
theorem dJ12_checkForComodification_18 : decode cJ12_checkForComodification 18 = .ok (.invokespecial 43, 3) := dk_183 0 43 (dk_at dksJ12_checkForComodification_0 18 rfl rfl)
theorem dJ12_checkForComodification_21 : decode cJ12_checkForComodification 21 = .ok (.athrow, 1) := dk_191 (dk_at dksJ12_checkForComodification_0 21 rfl rfl)
theorem dJ12_checkForComodification_22 : decode cJ12_checkForComodification 22 = .ok (.return_, 1) := dk_177 (dk_at dksJ12_checkForComodification_0 22 rfl rfl)
abbrev MJ12_init : zM := (yJ12_init, cJ12_init, 2, (Option.none : Option Jvm.ClassFile.FieldType), [])
theorem kJ12_init : zMk MJ12_init := ⟨zt (lw_at lw_m2 22 rfl), zt (lw_at lw_m1 17 rfl), by decide +kernel, by decide, by decide +kernel⟩
abbrev MJ12_hasNext : zM := (yJ12_hasNext, cJ12_hasNext, 1, (Option.some Jvm.ClassFile.FieldType.boolean), [])
theorem kJ12_hasNext : zMk MJ12_hasNext := ⟨zt (lw_at lw_m2 46 rfl), zt (lw_at lw_m1 17 rfl), by decide +kernel, by decide, by decide +kernel⟩
abbrev MJ12_next : zM := (yJ12_next, cJ12_next, 3, (Option.some (Jvm.ClassFile.FieldType.object "java/lang/Object")), [])
theorem kJ12_next : zMk MJ12_next := ⟨zt (lw_at lw_m2 55 rfl), zt (lw_at lw_m1 17 rfl), by decide +kernel, by decide, by decide +kernel⟩
abbrev MJ12_checkForComodification : zM := (yJ12_checkForComodification, cJ12_checkForComodification, 1, (Option.none : Option Jvm.ClassFile.FieldType), [])
theorem kJ12_checkForComodification : zMk MJ12_checkForComodification := ⟨zt (lw_at lw_m2 59 rfl), zt (lw_at lw_m1 17 rfl), by decide +kernel, by decide, by decide +kernel⟩
/-! jdk/internal/util/ArraysSupport -/
set_option maxRecDepth 100000
abbrev cJ14_newLength : ByteArray := prog_60_method_27_code
def yJ14_newLength : MethodName := ⟨RJ14, "newLength", "(III)I"⟩
def dkwJ14_newLength_1 : List UInt8 := [184, 0, 201, 172]
abbrev dktJ14_newLength_1 : List UInt8 := dkwJ14_newLength_1 ++ []
def dkwJ14_newLength_0 : List UInt8 := [26, 27, 28, 184, 0, 194, 96, 62, 3, 29, 162, 0, 11, 29, 18, 200, 163, 0, 5, 29, 172, 26, 27]
abbrev dktJ14_newLength_0 : List UInt8 := dkwJ14_newLength_0 ++ dktJ14_newLength_1
theorem dksJ14_newLength_0 : cJ14_newLength.data.toList.drop 0 = dktJ14_newLength_0 := by decide +kernel
theorem dksJ14_newLength_1 : cJ14_newLength.data.toList.drop 23 = dktJ14_newLength_1 := dk_seg dksJ14_newLength_0 23 rfl rfl
theorem dJ14_newLength_0 : decode cJ14_newLength 0 = .ok (.iload_n 0, 1) := dk_26 (dk_at dksJ14_newLength_0 0 rfl rfl)
theorem dJ14_newLength_1 : decode cJ14_newLength 1 = .ok (.iload_n 1, 1) := dk_27 (dk_at dksJ14_newLength_0 1 rfl rfl)
theorem dJ14_newLength_2 : decode cJ14_newLength 2 = .ok (.iload_n 2, 1) := dk_28 (dk_at dksJ14_newLength_0 2 rfl rfl)
theorem dJ14_newLength_3 : decode cJ14_newLength 3 = .ok (.invokestatic 194, 3) := dk_184 0 194 (dk_at dksJ14_newLength_0 3 rfl rfl)
theorem dJ14_newLength_6 : decode cJ14_newLength 6 = .ok (.iadd, 1) := dk_96 (dk_at dksJ14_newLength_0 6 rfl rfl)
theorem dJ14_newLength_7 : decode cJ14_newLength 7 = .ok (.istore_n 3, 1) := dk_62 (dk_at dksJ14_newLength_0 7 rfl rfl)
theorem dJ14_newLength_8 : decode cJ14_newLength 8 = .ok (.iconst 0, 1) := dk_3 (dk_at dksJ14_newLength_0 8 rfl rfl)
theorem dJ14_newLength_9 : decode cJ14_newLength 9 = .ok (.iload_n 3, 1) := dk_29 (dk_at dksJ14_newLength_0 9 rfl rfl)
theorem dJ14_newLength_10 : decode cJ14_newLength 10 = .ok (.if_icmp .ge 11, 3) := dk_162 0 11 (dk_at dksJ14_newLength_0 10 rfl rfl)
theorem dJ14_newLength_13 : decode cJ14_newLength 13 = .ok (.iload_n 3, 1) := dk_29 (dk_at dksJ14_newLength_0 13 rfl rfl)
theorem dJ14_newLength_14 : decode cJ14_newLength 14 = .ok (.ldc 200, 2) := dk_18 200 (dk_at dksJ14_newLength_0 14 rfl rfl)
theorem dJ14_newLength_16 : decode cJ14_newLength 16 = .ok (.if_icmp .gt 5, 3) := dk_163 0 5 (dk_at dksJ14_newLength_0 16 rfl rfl)
theorem dJ14_newLength_19 : decode cJ14_newLength 19 = .ok (.iload_n 3, 1) := dk_29 (dk_at dksJ14_newLength_0 19 rfl rfl)
theorem dJ14_newLength_20 : decode cJ14_newLength 20 = .ok (.ireturn, 1) := dk_172 (dk_at dksJ14_newLength_0 20 rfl rfl)
theorem dJ14_newLength_21 : decode cJ14_newLength 21 = .ok (.iload_n 0, 1) := dk_26 (dk_at dksJ14_newLength_0 21 rfl rfl)
theorem dJ14_newLength_22 : decode cJ14_newLength 22 = .ok (.iload_n 1, 1) := dk_27 (dk_at dksJ14_newLength_0 22 rfl rfl)
theorem dJ14_newLength_23 : decode cJ14_newLength 23 = .ok (.invokestatic 201, 3) := dk_184 0 201 (dk_at dksJ14_newLength_1 0 rfl rfl)
theorem dJ14_newLength_26 : decode cJ14_newLength 26 = .ok (.ireturn, 1) := dk_172 (dk_at dksJ14_newLength_1 3 rfl rfl)
abbrev cJ14_hugeLength : ByteArray := prog_60_method_28_code
def yJ14_hugeLength : MethodName := ⟨RJ14, "hugeLength", "(II)I"⟩
def dkwJ14_hugeLength_2 : List UInt8 := [191, 28, 18, 200, 163, 0, 6, 18, 200, 172, 28, 172]
abbrev dktJ14_hugeLength_2 : List UInt8 := dkwJ14_hugeLength_2 ++ []
def dkwJ14_hugeLength_1 : List UInt8 := [26, 182, 0, 98, 18, 208, 182, 0, 94, 27, 182, 0, 98, 18, 210, 182, 0, 94, 182, 0, 101, 183, 0, 212]
abbrev dktJ14_hugeLength_1 : List UInt8 := dkwJ14_hugeLength_1 ++ dktJ14_hugeLength_2
def dkwJ14_hugeLength_0 : List UInt8 := [26, 27, 96, 61, 28, 156, 0, 44, 187, 0, 204, 89, 187, 0, 89, 89, 183, 0, 91, 18, 206, 182, 0, 94]
abbrev dktJ14_hugeLength_0 : List UInt8 := dkwJ14_hugeLength_0 ++ dktJ14_hugeLength_1
theorem dksJ14_hugeLength_0 : cJ14_hugeLength.data.toList.drop 0 = dktJ14_hugeLength_0 := by decide +kernel
theorem dksJ14_hugeLength_1 : cJ14_hugeLength.data.toList.drop 24 = dktJ14_hugeLength_1 := dk_seg dksJ14_hugeLength_0 24 rfl rfl
theorem dksJ14_hugeLength_2 : cJ14_hugeLength.data.toList.drop 48 = dktJ14_hugeLength_2 := dk_seg dksJ14_hugeLength_1 24 rfl rfl
theorem dJ14_hugeLength_0 : decode cJ14_hugeLength 0 = .ok (.iload_n 0, 1) := dk_26 (dk_at dksJ14_hugeLength_0 0 rfl rfl)
theorem dJ14_hugeLength_1 : decode cJ14_hugeLength 1 = .ok (.iload_n 1, 1) := dk_27 (dk_at dksJ14_hugeLength_0 1 rfl rfl)
theorem dJ14_hugeLength_2 : decode cJ14_hugeLength 2 = .ok (.iadd, 1) := dk_96 (dk_at dksJ14_hugeLength_0 2 rfl rfl)
theorem dJ14_hugeLength_3 : decode cJ14_hugeLength 3 = .ok (.istore_n 2, 1) := dk_61 (dk_at dksJ14_hugeLength_0 3 rfl rfl)
theorem dJ14_hugeLength_4 : decode cJ14_hugeLength 4 = .ok (.iload_n 2, 1) := dk_28 (dk_at dksJ14_hugeLength_0 4 rfl rfl)
theorem dJ14_hugeLength_5 : decode cJ14_hugeLength 5 = .ok (.ifCond .ge 44, 3) := dk_156 0 44 (dk_at dksJ14_hugeLength_0 5 rfl rfl)
theorem dJ14_hugeLength_8 : decode cJ14_hugeLength 8 = .ok (.new 204, 3) := dk_187 0 204 (dk_at dksJ14_hugeLength_0 8 rfl rfl)
theorem dJ14_hugeLength_11 : decode cJ14_hugeLength 11 = .ok (.dup, 1) := dk_89 (dk_at dksJ14_hugeLength_0 11 rfl rfl)
theorem dJ14_hugeLength_12 : decode cJ14_hugeLength 12 = .ok (.new 89, 3) := dk_187 0 89 (dk_at dksJ14_hugeLength_0 12 rfl rfl)
theorem dJ14_hugeLength_15 : decode cJ14_hugeLength 15 = .ok (.dup, 1) := dk_89 (dk_at dksJ14_hugeLength_0 15 rfl rfl)
theorem dJ14_hugeLength_16 : decode cJ14_hugeLength 16 = .ok (.invokespecial 91, 3) := dk_183 0 91 (dk_at dksJ14_hugeLength_0 16 rfl rfl)
theorem dJ14_hugeLength_19 : decode cJ14_hugeLength 19 = .ok (.ldc 206, 2) := dk_18 206 (dk_at dksJ14_hugeLength_0 19 rfl rfl)
theorem dJ14_hugeLength_21 : decode cJ14_hugeLength 21 = .ok (.invokevirtual 94, 3) := dk_182 0 94 (dk_at dksJ14_hugeLength_0 21 rfl rfl)
theorem dJ14_hugeLength_24 : decode cJ14_hugeLength 24 = .ok (.iload_n 0, 1) := dk_26 (dk_at dksJ14_hugeLength_1 0 rfl rfl)
theorem dJ14_hugeLength_25 : decode cJ14_hugeLength 25 = .ok (.invokevirtual 98, 3) := dk_182 0 98 (dk_at dksJ14_hugeLength_1 1 rfl rfl)
theorem dJ14_hugeLength_28 : decode cJ14_hugeLength 28 = .ok (.ldc 208, 2) := dk_18 208 (dk_at dksJ14_hugeLength_1 4 rfl rfl)
theorem dJ14_hugeLength_30 : decode cJ14_hugeLength 30 = .ok (.invokevirtual 94, 3) := dk_182 0 94 (dk_at dksJ14_hugeLength_1 6 rfl rfl)
theorem dJ14_hugeLength_33 : decode cJ14_hugeLength 33 = .ok (.iload_n 1, 1) := dk_27 (dk_at dksJ14_hugeLength_1 9 rfl rfl)
theorem dJ14_hugeLength_34 : decode cJ14_hugeLength 34 = .ok (.invokevirtual 98, 3) := dk_182 0 98 (dk_at dksJ14_hugeLength_1 10 rfl rfl)
theorem dJ14_hugeLength_37 : decode cJ14_hugeLength 37 = .ok (.ldc 210, 2) := dk_18 210 (dk_at dksJ14_hugeLength_1 13 rfl rfl)
theorem dJ14_hugeLength_39 : decode cJ14_hugeLength 39 = .ok (.invokevirtual 94, 3) := dk_182 0 94 (dk_at dksJ14_hugeLength_1 15 rfl rfl)
theorem dJ14_hugeLength_42 : decode cJ14_hugeLength 42 = .ok (.invokevirtual 101, 3) := dk_182 0 101 (dk_at dksJ14_hugeLength_1 18 rfl rfl)
theorem dJ14_hugeLength_45 : decode cJ14_hugeLength 45 = .ok (.invokespecial 212, 3) := dk_183 0 212 (dk_at dksJ14_hugeLength_1 21 rfl rfl)
theorem dJ14_hugeLength_48 : decode cJ14_hugeLength 48 = .ok (.athrow, 1) := dk_191 (dk_at dksJ14_hugeLength_2 0 rfl rfl)
theorem dJ14_hugeLength_49 : decode cJ14_hugeLength 49 = .ok (.iload_n 2, 1) := dk_28 (dk_at dksJ14_hugeLength_2 1 rfl rfl)
theorem dJ14_hugeLength_50 : decode cJ14_hugeLength 50 = .ok (.ldc 200, 2) := dk_18 200 (dk_at dksJ14_hugeLength_2 2 rfl rfl)
theorem dJ14_hugeLength_52 : decode cJ14_hugeLength 52 = .ok (.if_icmp .gt 6, 3) := dk_163 0 6 (dk_at dksJ14_hugeLength_2 4 rfl rfl)
theorem dJ14_hugeLength_55 : decode cJ14_hugeLength 55 = .ok (.ldc 200, 2) := dk_18 200 (dk_at dksJ14_hugeLength_2 7 rfl rfl)
theorem dJ14_hugeLength_57 : decode cJ14_hugeLength 57 = .ok (.ireturn, 1) := dk_172 (dk_at dksJ14_hugeLength_2 9 rfl rfl)
theorem dJ14_hugeLength_58 : decode cJ14_hugeLength 58 = .ok (.iload_n 2, 1) := dk_28 (dk_at dksJ14_hugeLength_2 10 rfl rfl)
theorem dJ14_hugeLength_59 : decode cJ14_hugeLength 59 = .ok (.ireturn, 1) := dk_172 (dk_at dksJ14_hugeLength_2 11 rfl rfl)
abbrev cJ14_vectorizedHashCode : ByteArray := prog_60_method_4_code
def yJ14_vectorizedHashCode : MethodName := ⟨RJ14, "vectorizedHashCode", "(Ljava/lang/Object;IIII)I"⟩
def dkwJ14_vectorizedHashCode_6 : List UInt8 := [183, 0, 91, 18, 92, 182, 0, 94, 21, 4, 182, 0, 98, 182, 0, 101, 183, 0, 105, 191, 172]
abbrev dktJ14_vectorizedHashCode_6 : List UInt8 := dkwJ14_vectorizedHashCode_6 ++ []
def dkwJ14_vectorizedHashCode_5 : List UInt8 := [167, 0, 44, 29, 42, 192, 0, 82, 27, 28, 184, 0, 84, 167, 0, 31, 187, 0, 87, 89, 187, 0, 89, 89]
abbrev dktJ14_vectorizedHashCode_5 : List UInt8 := dkwJ14_vectorizedHashCode_5 ++ dktJ14_vectorizedHashCode_6
def dkwJ14_vectorizedHashCode_4 : List UInt8 := [29, 42, 192, 0, 60, 27, 28, 184, 0, 75, 167, 0, 57, 29, 42, 192, 0, 77, 27, 28, 184, 0, 79]
abbrev dktJ14_vectorizedHashCode_4 : List UInt8 := dkwJ14_vectorizedHashCode_4 ++ dktJ14_vectorizedHashCode_5
def dkwJ14_vectorizedHashCode_3 : List UInt8 := [192, 0, 60, 27, 28, 184, 0, 66, 167, 0, 83, 29, 42, 192, 0, 69, 27, 28, 184, 0, 71, 167, 0, 70]
abbrev dktJ14_vectorizedHashCode_3 : List UInt8 := dkwJ14_vectorizedHashCode_3 ++ dktJ14_vectorizedHashCode_4
def dkwJ14_vectorizedHashCode_2 : List UInt8 := [29, 42, 192, 0, 60, 27, 28, 184, 0, 62, 167, 0, 103, 42, 193, 0, 60, 153, 0, 16, 29, 42]
abbrev dktJ14_vectorizedHashCode_2 : List UInt8 := dkwJ14_vectorizedHashCode_2 ++ dktJ14_vectorizedHashCode_3
def dkwJ14_vectorizedHashCode_1 : List UInt8 := [170, 0, 0, 0, 0, 127, 0, 0, 0, 4, 0, 0, 0, 10, 0, 0, 0, 42, 0, 0, 0, 55, 0, 0, 0, 127, 0, 0, 0, 127, 0, 0, 0, 88, 0, 0, 0, 101, 0, 0, 0, 114]
abbrev dktJ14_vectorizedHashCode_1 : List UInt8 := dkwJ14_vectorizedHashCode_1 ++ dktJ14_vectorizedHashCode_2
def dkwJ14_vectorizedHashCode_0 : List UInt8 := [21, 4]
abbrev dktJ14_vectorizedHashCode_0 : List UInt8 := dkwJ14_vectorizedHashCode_0 ++ dktJ14_vectorizedHashCode_1
theorem dksJ14_vectorizedHashCode_0 : cJ14_vectorizedHashCode.data.toList.drop 0 = dktJ14_vectorizedHashCode_0 := by decide +kernel
theorem dksJ14_vectorizedHashCode_1 : cJ14_vectorizedHashCode.data.toList.drop 2 = dktJ14_vectorizedHashCode_1 := dk_seg dksJ14_vectorizedHashCode_0 2 rfl rfl
theorem dksJ14_vectorizedHashCode_2 : cJ14_vectorizedHashCode.data.toList.drop 44 = dktJ14_vectorizedHashCode_2 := dk_seg dksJ14_vectorizedHashCode_1 42 rfl rfl
theorem dksJ14_vectorizedHashCode_3 : cJ14_vectorizedHashCode.data.toList.drop 66 = dktJ14_vectorizedHashCode_3 := dk_seg dksJ14_vectorizedHashCode_2 22 rfl rfl
theorem dksJ14_vectorizedHashCode_4 : cJ14_vectorizedHashCode.data.toList.drop 90 = dktJ14_vectorizedHashCode_4 := dk_seg dksJ14_vectorizedHashCode_3 24 rfl rfl
theorem dksJ14_vectorizedHashCode_5 : cJ14_vectorizedHashCode.data.toList.drop 113 = dktJ14_vectorizedHashCode_5 := dk_seg dksJ14_vectorizedHashCode_4 23 rfl rfl
theorem dksJ14_vectorizedHashCode_6 : cJ14_vectorizedHashCode.data.toList.drop 137 = dktJ14_vectorizedHashCode_6 := dk_seg dksJ14_vectorizedHashCode_5 24 rfl rfl
theorem dJ14_vectorizedHashCode_0 : decode cJ14_vectorizedHashCode 0 = .ok (.iload 4, 2) := dk_21 4 (dk_at dksJ14_vectorizedHashCode_0 0 rfl rfl)
theorem dJ14_vectorizedHashCode_2 : decode cJ14_vectorizedHashCode 2 = .ok (.tableswitch 127 4 10 #[42, 55, 127, 127, 88, 101, 114], 42) := by decide +kernel
theorem dJ14_vectorizedHashCode_44 : decode cJ14_vectorizedHashCode 44 = .ok (.iload_n 3, 1) := dk_29 (dk_at dksJ14_vectorizedHashCode_2 0 rfl rfl)
theorem dJ14_vectorizedHashCode_45 : decode cJ14_vectorizedHashCode 45 = .ok (.aload_n 0, 1) := dk_42 (dk_at dksJ14_vectorizedHashCode_2 1 rfl rfl)
theorem dJ14_vectorizedHashCode_46 : decode cJ14_vectorizedHashCode 46 = .ok (.checkcast 60, 3) := dk_192 0 60 (dk_at dksJ14_vectorizedHashCode_2 2 rfl rfl)
theorem dJ14_vectorizedHashCode_49 : decode cJ14_vectorizedHashCode 49 = .ok (.iload_n 1, 1) := dk_27 (dk_at dksJ14_vectorizedHashCode_2 5 rfl rfl)
theorem dJ14_vectorizedHashCode_50 : decode cJ14_vectorizedHashCode 50 = .ok (.iload_n 2, 1) := dk_28 (dk_at dksJ14_vectorizedHashCode_2 6 rfl rfl)
theorem dJ14_vectorizedHashCode_51 : decode cJ14_vectorizedHashCode 51 = .ok (.invokestatic 62, 3) := dk_184 0 62 (dk_at dksJ14_vectorizedHashCode_2 7 rfl rfl)
theorem dJ14_vectorizedHashCode_54 : decode cJ14_vectorizedHashCode 54 = .ok (.goto 103, 3) := dk_167 0 103 (dk_at dksJ14_vectorizedHashCode_2 10 rfl rfl)
theorem dJ14_vectorizedHashCode_57 : decode cJ14_vectorizedHashCode 57 = .ok (.aload_n 0, 1) := dk_42 (dk_at dksJ14_vectorizedHashCode_2 13 rfl rfl)
theorem dJ14_vectorizedHashCode_58 : decode cJ14_vectorizedHashCode 58 = .ok (.instanceof 60, 3) := dk_193 0 60 (dk_at dksJ14_vectorizedHashCode_2 14 rfl rfl)
theorem dJ14_vectorizedHashCode_61 : decode cJ14_vectorizedHashCode 61 = .ok (.ifCond .eq 16, 3) := dk_153 0 16 (dk_at dksJ14_vectorizedHashCode_2 17 rfl rfl)
theorem dJ14_vectorizedHashCode_64 : decode cJ14_vectorizedHashCode 64 = .ok (.iload_n 3, 1) := dk_29 (dk_at dksJ14_vectorizedHashCode_2 20 rfl rfl)
theorem dJ14_vectorizedHashCode_65 : decode cJ14_vectorizedHashCode 65 = .ok (.aload_n 0, 1) := dk_42 (dk_at dksJ14_vectorizedHashCode_2 21 rfl rfl)
theorem dJ14_vectorizedHashCode_66 : decode cJ14_vectorizedHashCode 66 = .ok (.checkcast 60, 3) := dk_192 0 60 (dk_at dksJ14_vectorizedHashCode_3 0 rfl rfl)
theorem dJ14_vectorizedHashCode_69 : decode cJ14_vectorizedHashCode 69 = .ok (.iload_n 1, 1) := dk_27 (dk_at dksJ14_vectorizedHashCode_3 3 rfl rfl)
theorem dJ14_vectorizedHashCode_70 : decode cJ14_vectorizedHashCode 70 = .ok (.iload_n 2, 1) := dk_28 (dk_at dksJ14_vectorizedHashCode_3 4 rfl rfl)
theorem dJ14_vectorizedHashCode_71 : decode cJ14_vectorizedHashCode 71 = .ok (.invokestatic 66, 3) := dk_184 0 66 (dk_at dksJ14_vectorizedHashCode_3 5 rfl rfl)
theorem dJ14_vectorizedHashCode_74 : decode cJ14_vectorizedHashCode 74 = .ok (.goto 83, 3) := dk_167 0 83 (dk_at dksJ14_vectorizedHashCode_3 8 rfl rfl)
theorem dJ14_vectorizedHashCode_77 : decode cJ14_vectorizedHashCode 77 = .ok (.iload_n 3, 1) := dk_29 (dk_at dksJ14_vectorizedHashCode_3 11 rfl rfl)
theorem dJ14_vectorizedHashCode_78 : decode cJ14_vectorizedHashCode 78 = .ok (.aload_n 0, 1) := dk_42 (dk_at dksJ14_vectorizedHashCode_3 12 rfl rfl)
theorem dJ14_vectorizedHashCode_79 : decode cJ14_vectorizedHashCode 79 = .ok (.checkcast 69, 3) := dk_192 0 69 (dk_at dksJ14_vectorizedHashCode_3 13 rfl rfl)
theorem dJ14_vectorizedHashCode_82 : decode cJ14_vectorizedHashCode 82 = .ok (.iload_n 1, 1) := dk_27 (dk_at dksJ14_vectorizedHashCode_3 16 rfl rfl)
theorem dJ14_vectorizedHashCode_83 : decode cJ14_vectorizedHashCode 83 = .ok (.iload_n 2, 1) := dk_28 (dk_at dksJ14_vectorizedHashCode_3 17 rfl rfl)
theorem dJ14_vectorizedHashCode_84 : decode cJ14_vectorizedHashCode 84 = .ok (.invokestatic 71, 3) := dk_184 0 71 (dk_at dksJ14_vectorizedHashCode_3 18 rfl rfl)
theorem dJ14_vectorizedHashCode_87 : decode cJ14_vectorizedHashCode 87 = .ok (.goto 70, 3) := dk_167 0 70 (dk_at dksJ14_vectorizedHashCode_3 21 rfl rfl)
theorem dJ14_vectorizedHashCode_90 : decode cJ14_vectorizedHashCode 90 = .ok (.iload_n 3, 1) := dk_29 (dk_at dksJ14_vectorizedHashCode_4 0 rfl rfl)
theorem dJ14_vectorizedHashCode_91 : decode cJ14_vectorizedHashCode 91 = .ok (.aload_n 0, 1) := dk_42 (dk_at dksJ14_vectorizedHashCode_4 1 rfl rfl)
theorem dJ14_vectorizedHashCode_92 : decode cJ14_vectorizedHashCode 92 = .ok (.checkcast 60, 3) := dk_192 0 60 (dk_at dksJ14_vectorizedHashCode_4 2 rfl rfl)
theorem dJ14_vectorizedHashCode_95 : decode cJ14_vectorizedHashCode 95 = .ok (.iload_n 1, 1) := dk_27 (dk_at dksJ14_vectorizedHashCode_4 5 rfl rfl)
theorem dJ14_vectorizedHashCode_96 : decode cJ14_vectorizedHashCode 96 = .ok (.iload_n 2, 1) := dk_28 (dk_at dksJ14_vectorizedHashCode_4 6 rfl rfl)
theorem dJ14_vectorizedHashCode_97 : decode cJ14_vectorizedHashCode 97 = .ok (.invokestatic 75, 3) := dk_184 0 75 (dk_at dksJ14_vectorizedHashCode_4 7 rfl rfl)
theorem dJ14_vectorizedHashCode_100 : decode cJ14_vectorizedHashCode 100 = .ok (.goto 57, 3) := dk_167 0 57 (dk_at dksJ14_vectorizedHashCode_4 10 rfl rfl)
theorem dJ14_vectorizedHashCode_103 : decode cJ14_vectorizedHashCode 103 = .ok (.iload_n 3, 1) := dk_29 (dk_at dksJ14_vectorizedHashCode_4 13 rfl rfl)
theorem dJ14_vectorizedHashCode_104 : decode cJ14_vectorizedHashCode 104 = .ok (.aload_n 0, 1) := dk_42 (dk_at dksJ14_vectorizedHashCode_4 14 rfl rfl)
theorem dJ14_vectorizedHashCode_105 : decode cJ14_vectorizedHashCode 105 = .ok (.checkcast 77, 3) := dk_192 0 77 (dk_at dksJ14_vectorizedHashCode_4 15 rfl rfl)
theorem dJ14_vectorizedHashCode_108 : decode cJ14_vectorizedHashCode 108 = .ok (.iload_n 1, 1) := dk_27 (dk_at dksJ14_vectorizedHashCode_4 18 rfl rfl)
theorem dJ14_vectorizedHashCode_109 : decode cJ14_vectorizedHashCode 109 = .ok (.iload_n 2, 1) := dk_28 (dk_at dksJ14_vectorizedHashCode_4 19 rfl rfl)
theorem dJ14_vectorizedHashCode_110 : decode cJ14_vectorizedHashCode 110 = .ok (.invokestatic 79, 3) := dk_184 0 79 (dk_at dksJ14_vectorizedHashCode_4 20 rfl rfl)
theorem dJ14_vectorizedHashCode_113 : decode cJ14_vectorizedHashCode 113 = .ok (.goto 44, 3) := dk_167 0 44 (dk_at dksJ14_vectorizedHashCode_5 0 rfl rfl)
theorem dJ14_vectorizedHashCode_116 : decode cJ14_vectorizedHashCode 116 = .ok (.iload_n 3, 1) := dk_29 (dk_at dksJ14_vectorizedHashCode_5 3 rfl rfl)
theorem dJ14_vectorizedHashCode_117 : decode cJ14_vectorizedHashCode 117 = .ok (.aload_n 0, 1) := dk_42 (dk_at dksJ14_vectorizedHashCode_5 4 rfl rfl)
theorem dJ14_vectorizedHashCode_118 : decode cJ14_vectorizedHashCode 118 = .ok (.checkcast 82, 3) := dk_192 0 82 (dk_at dksJ14_vectorizedHashCode_5 5 rfl rfl)
theorem dJ14_vectorizedHashCode_121 : decode cJ14_vectorizedHashCode 121 = .ok (.iload_n 1, 1) := dk_27 (dk_at dksJ14_vectorizedHashCode_5 8 rfl rfl)
theorem dJ14_vectorizedHashCode_122 : decode cJ14_vectorizedHashCode 122 = .ok (.iload_n 2, 1) := dk_28 (dk_at dksJ14_vectorizedHashCode_5 9 rfl rfl)
theorem dJ14_vectorizedHashCode_123 : decode cJ14_vectorizedHashCode 123 = .ok (.invokestatic 84, 3) := dk_184 0 84 (dk_at dksJ14_vectorizedHashCode_5 10 rfl rfl)
theorem dJ14_vectorizedHashCode_126 : decode cJ14_vectorizedHashCode 126 = .ok (.goto 31, 3) := dk_167 0 31 (dk_at dksJ14_vectorizedHashCode_5 13 rfl rfl)
theorem dJ14_vectorizedHashCode_129 : decode cJ14_vectorizedHashCode 129 = .ok (.new 87, 3) := dk_187 0 87 (dk_at dksJ14_vectorizedHashCode_5 16 rfl rfl)
theorem dJ14_vectorizedHashCode_132 : decode cJ14_vectorizedHashCode 132 = .ok (.dup, 1) := dk_89 (dk_at dksJ14_vectorizedHashCode_5 19 rfl rfl)
theorem dJ14_vectorizedHashCode_133 : decode cJ14_vectorizedHashCode 133 = .ok (.new 89, 3) := dk_187 0 89 (dk_at dksJ14_vectorizedHashCode_5 20 rfl rfl)
theorem dJ14_vectorizedHashCode_136 : decode cJ14_vectorizedHashCode 136 = .ok (.dup, 1) := dk_89 (dk_at dksJ14_vectorizedHashCode_5 23 rfl rfl)
theorem dJ14_vectorizedHashCode_137 : decode cJ14_vectorizedHashCode 137 = .ok (.invokespecial 91, 3) := dk_183 0 91 (dk_at dksJ14_vectorizedHashCode_6 0 rfl rfl)
theorem dJ14_vectorizedHashCode_140 : decode cJ14_vectorizedHashCode 140 = .ok (.ldc 92, 2) := dk_18 92 (dk_at dksJ14_vectorizedHashCode_6 3 rfl rfl)
theorem dJ14_vectorizedHashCode_142 : decode cJ14_vectorizedHashCode 142 = .ok (.invokevirtual 94, 3) := dk_182 0 94 (dk_at dksJ14_vectorizedHashCode_6 5 rfl rfl)
theorem dJ14_vectorizedHashCode_145 : decode cJ14_vectorizedHashCode 145 = .ok (.iload 4, 2) := dk_21 4 (dk_at dksJ14_vectorizedHashCode_6 8 rfl rfl)
theorem dJ14_vectorizedHashCode_147 : decode cJ14_vectorizedHashCode 147 = .ok (.invokevirtual 98, 3) := dk_182 0 98 (dk_at dksJ14_vectorizedHashCode_6 10 rfl rfl)
theorem dJ14_vectorizedHashCode_150 : decode cJ14_vectorizedHashCode 150 = .ok (.invokevirtual 101, 3) := dk_182 0 101 (dk_at dksJ14_vectorizedHashCode_6 13 rfl rfl)
theorem dJ14_vectorizedHashCode_153 : decode cJ14_vectorizedHashCode 153 = .ok (.invokespecial 105, 3) := dk_183 0 105 (dk_at dksJ14_vectorizedHashCode_6 16 rfl rfl)
theorem dJ14_vectorizedHashCode_156 : decode cJ14_vectorizedHashCode 156 = .ok (.athrow, 1) := dk_191 (dk_at dksJ14_vectorizedHashCode_6 19 rfl rfl)
theorem dJ14_vectorizedHashCode_157 : decode cJ14_vectorizedHashCode 157 = .ok (.ireturn, 1) := dk_172 (dk_at dksJ14_vectorizedHashCode_6 20 rfl rfl)
abbrev cJ14_signedHashCode : ByteArray := prog_60_method_5_code
def yJ14_signedHashCode : MethodName := ⟨RJ14, "signedHashCode", "(I[BII)I"⟩
def dkwJ14_signedHashCode_1 : List UInt8 := [17, 0, 255, 126, 96, 59, 132, 5, 1, 167, 255, 232, 26, 172]
abbrev dktJ14_signedHashCode_1 : List UInt8 := dkwJ14_signedHashCode_1 ++ []
def dkwJ14_signedHashCode_0 : List UInt8 := [28, 29, 96, 54, 4, 28, 54, 5, 21, 5, 21, 4, 162, 0, 23, 16, 31, 26, 104, 43, 21, 5, 51]
abbrev dktJ14_signedHashCode_0 : List UInt8 := dkwJ14_signedHashCode_0 ++ dktJ14_signedHashCode_1
theorem dksJ14_signedHashCode_0 : cJ14_signedHashCode.data.toList.drop 0 = dktJ14_signedHashCode_0 := by decide +kernel
theorem dksJ14_signedHashCode_1 : cJ14_signedHashCode.data.toList.drop 23 = dktJ14_signedHashCode_1 := dk_seg dksJ14_signedHashCode_0 23 rfl rfl
theorem dJ14_signedHashCode_0 : decode cJ14_signedHashCode 0 = .ok (.iload_n 2, 1) := dk_28 (dk_at dksJ14_signedHashCode_0 0 rfl rfl)
theorem dJ14_signedHashCode_1 : decode cJ14_signedHashCode 1 = .ok (.iload_n 3, 1) := dk_29 (dk_at dksJ14_signedHashCode_0 1 rfl rfl)
theorem dJ14_signedHashCode_2 : decode cJ14_signedHashCode 2 = .ok (.iadd, 1) := dk_96 (dk_at dksJ14_signedHashCode_0 2 rfl rfl)
theorem dJ14_signedHashCode_3 : decode cJ14_signedHashCode 3 = .ok (.istore 4, 2) := dk_54 4 (dk_at dksJ14_signedHashCode_0 3 rfl rfl)
theorem dJ14_signedHashCode_5 : decode cJ14_signedHashCode 5 = .ok (.iload_n 2, 1) := dk_28 (dk_at dksJ14_signedHashCode_0 5 rfl rfl)
theorem dJ14_signedHashCode_6 : decode cJ14_signedHashCode 6 = .ok (.istore 5, 2) := dk_54 5 (dk_at dksJ14_signedHashCode_0 6 rfl rfl)
theorem dJ14_signedHashCode_8 : decode cJ14_signedHashCode 8 = .ok (.iload 5, 2) := dk_21 5 (dk_at dksJ14_signedHashCode_0 8 rfl rfl)
theorem dJ14_signedHashCode_10 : decode cJ14_signedHashCode 10 = .ok (.iload 4, 2) := dk_21 4 (dk_at dksJ14_signedHashCode_0 10 rfl rfl)
theorem dJ14_signedHashCode_12 : decode cJ14_signedHashCode 12 = .ok (.if_icmp .ge 23, 3) := dk_162 0 23 (dk_at dksJ14_signedHashCode_0 12 rfl rfl)
theorem dJ14_signedHashCode_15 : decode cJ14_signedHashCode 15 = .ok (.bipush 31, 2) := dk_16 31 (dk_at dksJ14_signedHashCode_0 15 rfl rfl)
theorem dJ14_signedHashCode_17 : decode cJ14_signedHashCode 17 = .ok (.iload_n 0, 1) := dk_26 (dk_at dksJ14_signedHashCode_0 17 rfl rfl)
theorem dJ14_signedHashCode_18 : decode cJ14_signedHashCode 18 = .ok (.imul, 1) := dk_104 (dk_at dksJ14_signedHashCode_0 18 rfl rfl)
theorem dJ14_signedHashCode_19 : decode cJ14_signedHashCode 19 = .ok (.aload_n 1, 1) := dk_43 (dk_at dksJ14_signedHashCode_0 19 rfl rfl)
theorem dJ14_signedHashCode_20 : decode cJ14_signedHashCode 20 = .ok (.iload 5, 2) := dk_21 5 (dk_at dksJ14_signedHashCode_0 20 rfl rfl)
theorem dJ14_signedHashCode_22 : decode cJ14_signedHashCode 22 = .ok (.baload, 1) := dk_51 (dk_at dksJ14_signedHashCode_0 22 rfl rfl)
theorem dJ14_signedHashCode_23 : decode cJ14_signedHashCode 23 = .ok (.sipush 255, 3) := dk_17 0 255 (dk_at dksJ14_signedHashCode_1 0 rfl rfl)
theorem dJ14_signedHashCode_26 : decode cJ14_signedHashCode 26 = .ok (.iand, 1) := dk_126 (dk_at dksJ14_signedHashCode_1 3 rfl rfl)
theorem dJ14_signedHashCode_27 : decode cJ14_signedHashCode 27 = .ok (.iadd, 1) := dk_96 (dk_at dksJ14_signedHashCode_1 4 rfl rfl)
theorem dJ14_signedHashCode_28 : decode cJ14_signedHashCode 28 = .ok (.istore_n 0, 1) := dk_59 (dk_at dksJ14_signedHashCode_1 5 rfl rfl)
theorem dJ14_signedHashCode_29 : decode cJ14_signedHashCode 29 = .ok (.iinc 5 1, 3) := dk_132 5 1 (dk_at dksJ14_signedHashCode_1 6 rfl rfl)
theorem dJ14_signedHashCode_32 : decode cJ14_signedHashCode 32 = .ok (.goto (-24), 3) := dk_167 255 232 (dk_at dksJ14_signedHashCode_1 9 rfl rfl)
theorem dJ14_signedHashCode_35 : decode cJ14_signedHashCode 35 = .ok (.iload_n 0, 1) := dk_26 (dk_at dksJ14_signedHashCode_1 12 rfl rfl)
theorem dJ14_signedHashCode_36 : decode cJ14_signedHashCode 36 = .ok (.ireturn, 1) := dk_172 (dk_at dksJ14_signedHashCode_1 13 rfl rfl)
abbrev cJ14_utf16hashCode : ByteArray := prog_60_method_10_code
def yJ14_utf16hashCode : MethodName := ⟨RJ14, "utf16hashCode", "(I[BII)I"⟩
def dkwJ14_utf16hashCode_1 : List UInt8 := [21, 5, 185, 0, 110, 3, 0, 96, 59, 132, 5, 1, 167, 255, 229, 26, 172]
abbrev dktJ14_utf16hashCode_1 : List UInt8 := dkwJ14_utf16hashCode_1 ++ []
def dkwJ14_utf16hashCode_0 : List UInt8 := [28, 29, 96, 54, 4, 28, 54, 5, 21, 5, 21, 4, 162, 0, 26, 16, 31, 26, 104, 178, 0, 106, 43]
abbrev dktJ14_utf16hashCode_0 : List UInt8 := dkwJ14_utf16hashCode_0 ++ dktJ14_utf16hashCode_1
theorem dksJ14_utf16hashCode_0 : cJ14_utf16hashCode.data.toList.drop 0 = dktJ14_utf16hashCode_0 := by decide +kernel
theorem dksJ14_utf16hashCode_1 : cJ14_utf16hashCode.data.toList.drop 23 = dktJ14_utf16hashCode_1 := dk_seg dksJ14_utf16hashCode_0 23 rfl rfl
theorem dJ14_utf16hashCode_0 : decode cJ14_utf16hashCode 0 = .ok (.iload_n 2, 1) := dk_28 (dk_at dksJ14_utf16hashCode_0 0 rfl rfl)
theorem dJ14_utf16hashCode_1 : decode cJ14_utf16hashCode 1 = .ok (.iload_n 3, 1) := dk_29 (dk_at dksJ14_utf16hashCode_0 1 rfl rfl)
theorem dJ14_utf16hashCode_2 : decode cJ14_utf16hashCode 2 = .ok (.iadd, 1) := dk_96 (dk_at dksJ14_utf16hashCode_0 2 rfl rfl)
theorem dJ14_utf16hashCode_3 : decode cJ14_utf16hashCode 3 = .ok (.istore 4, 2) := dk_54 4 (dk_at dksJ14_utf16hashCode_0 3 rfl rfl)
theorem dJ14_utf16hashCode_5 : decode cJ14_utf16hashCode 5 = .ok (.iload_n 2, 1) := dk_28 (dk_at dksJ14_utf16hashCode_0 5 rfl rfl)
theorem dJ14_utf16hashCode_6 : decode cJ14_utf16hashCode 6 = .ok (.istore 5, 2) := dk_54 5 (dk_at dksJ14_utf16hashCode_0 6 rfl rfl)
theorem dJ14_utf16hashCode_8 : decode cJ14_utf16hashCode 8 = .ok (.iload 5, 2) := dk_21 5 (dk_at dksJ14_utf16hashCode_0 8 rfl rfl)
theorem dJ14_utf16hashCode_10 : decode cJ14_utf16hashCode 10 = .ok (.iload 4, 2) := dk_21 4 (dk_at dksJ14_utf16hashCode_0 10 rfl rfl)
theorem dJ14_utf16hashCode_12 : decode cJ14_utf16hashCode 12 = .ok (.if_icmp .ge 26, 3) := dk_162 0 26 (dk_at dksJ14_utf16hashCode_0 12 rfl rfl)
theorem dJ14_utf16hashCode_15 : decode cJ14_utf16hashCode 15 = .ok (.bipush 31, 2) := dk_16 31 (dk_at dksJ14_utf16hashCode_0 15 rfl rfl)
theorem dJ14_utf16hashCode_17 : decode cJ14_utf16hashCode 17 = .ok (.iload_n 0, 1) := dk_26 (dk_at dksJ14_utf16hashCode_0 17 rfl rfl)
theorem dJ14_utf16hashCode_18 : decode cJ14_utf16hashCode 18 = .ok (.imul, 1) := dk_104 (dk_at dksJ14_utf16hashCode_0 18 rfl rfl)
theorem dJ14_utf16hashCode_19 : decode cJ14_utf16hashCode 19 = .ok (.getstatic 106, 3) := dk_178 0 106 (dk_at dksJ14_utf16hashCode_0 19 rfl rfl)
theorem dJ14_utf16hashCode_22 : decode cJ14_utf16hashCode 22 = .ok (.aload_n 1, 1) := dk_43 (dk_at dksJ14_utf16hashCode_0 22 rfl rfl)
theorem dJ14_utf16hashCode_23 : decode cJ14_utf16hashCode 23 = .ok (.iload 5, 2) := dk_21 5 (dk_at dksJ14_utf16hashCode_1 0 rfl rfl)
theorem dJ14_utf16hashCode_25 : decode cJ14_utf16hashCode 25 = .ok (.invokeinterface 110 3, 5) := by decide +kernel
theorem dJ14_utf16hashCode_30 : decode cJ14_utf16hashCode 30 = .ok (.iadd, 1) := dk_96 (dk_at dksJ14_utf16hashCode_1 7 rfl rfl)
theorem dJ14_utf16hashCode_31 : decode cJ14_utf16hashCode 31 = .ok (.istore_n 0, 1) := dk_59 (dk_at dksJ14_utf16hashCode_1 8 rfl rfl)
theorem dJ14_utf16hashCode_32 : decode cJ14_utf16hashCode 32 = .ok (.iinc 5 1, 3) := dk_132 5 1 (dk_at dksJ14_utf16hashCode_1 9 rfl rfl)
theorem dJ14_utf16hashCode_35 : decode cJ14_utf16hashCode 35 = .ok (.goto (-27), 3) := dk_167 255 229 (dk_at dksJ14_utf16hashCode_1 12 rfl rfl)
theorem dJ14_utf16hashCode_38 : decode cJ14_utf16hashCode 38 = .ok (.iload_n 0, 1) := dk_26 (dk_at dksJ14_utf16hashCode_1 15 rfl rfl)
theorem dJ14_utf16hashCode_39 : decode cJ14_utf16hashCode 39 = .ok (.ireturn, 1) := dk_172 (dk_at dksJ14_utf16hashCode_1 16 rfl rfl)
abbrev cJ14_hashCode : ByteArray := prog_60_method_7_code
def yJ14_hashCode : MethodName := ⟨RJ14, "hashCode", "(I[CII)I"⟩
def dkwJ14_hashCode_1 : List UInt8 := [59, 132, 5, 1, 167, 255, 236, 26, 172]
abbrev dktJ14_hashCode_1 : List UInt8 := dkwJ14_hashCode_1 ++ []
def dkwJ14_hashCode_0 : List UInt8 := [28, 29, 96, 54, 4, 28, 54, 5, 21, 5, 21, 4, 162, 0, 19, 16, 31, 26, 104, 43, 21, 5, 52, 96]
abbrev dktJ14_hashCode_0 : List UInt8 := dkwJ14_hashCode_0 ++ dktJ14_hashCode_1
theorem dksJ14_hashCode_0 : cJ14_hashCode.data.toList.drop 0 = dktJ14_hashCode_0 := by decide +kernel
theorem dksJ14_hashCode_1 : cJ14_hashCode.data.toList.drop 24 = dktJ14_hashCode_1 := dk_seg dksJ14_hashCode_0 24 rfl rfl
theorem dJ14_hashCode_0 : decode cJ14_hashCode 0 = .ok (.iload_n 2, 1) := dk_28 (dk_at dksJ14_hashCode_0 0 rfl rfl)
theorem dJ14_hashCode_1 : decode cJ14_hashCode 1 = .ok (.iload_n 3, 1) := dk_29 (dk_at dksJ14_hashCode_0 1 rfl rfl)
theorem dJ14_hashCode_2 : decode cJ14_hashCode 2 = .ok (.iadd, 1) := dk_96 (dk_at dksJ14_hashCode_0 2 rfl rfl)
theorem dJ14_hashCode_3 : decode cJ14_hashCode 3 = .ok (.istore 4, 2) := dk_54 4 (dk_at dksJ14_hashCode_0 3 rfl rfl)
theorem dJ14_hashCode_5 : decode cJ14_hashCode 5 = .ok (.iload_n 2, 1) := dk_28 (dk_at dksJ14_hashCode_0 5 rfl rfl)
theorem dJ14_hashCode_6 : decode cJ14_hashCode 6 = .ok (.istore 5, 2) := dk_54 5 (dk_at dksJ14_hashCode_0 6 rfl rfl)
theorem dJ14_hashCode_8 : decode cJ14_hashCode 8 = .ok (.iload 5, 2) := dk_21 5 (dk_at dksJ14_hashCode_0 8 rfl rfl)
theorem dJ14_hashCode_10 : decode cJ14_hashCode 10 = .ok (.iload 4, 2) := dk_21 4 (dk_at dksJ14_hashCode_0 10 rfl rfl)
theorem dJ14_hashCode_12 : decode cJ14_hashCode 12 = .ok (.if_icmp .ge 19, 3) := dk_162 0 19 (dk_at dksJ14_hashCode_0 12 rfl rfl)
theorem dJ14_hashCode_15 : decode cJ14_hashCode 15 = .ok (.bipush 31, 2) := dk_16 31 (dk_at dksJ14_hashCode_0 15 rfl rfl)
theorem dJ14_hashCode_17 : decode cJ14_hashCode 17 = .ok (.iload_n 0, 1) := dk_26 (dk_at dksJ14_hashCode_0 17 rfl rfl)
theorem dJ14_hashCode_18 : decode cJ14_hashCode 18 = .ok (.imul, 1) := dk_104 (dk_at dksJ14_hashCode_0 18 rfl rfl)
theorem dJ14_hashCode_19 : decode cJ14_hashCode 19 = .ok (.aload_n 1, 1) := dk_43 (dk_at dksJ14_hashCode_0 19 rfl rfl)
theorem dJ14_hashCode_20 : decode cJ14_hashCode 20 = .ok (.iload 5, 2) := dk_21 5 (dk_at dksJ14_hashCode_0 20 rfl rfl)
theorem dJ14_hashCode_22 : decode cJ14_hashCode 22 = .ok (.caload, 1) := dk_52 (dk_at dksJ14_hashCode_0 22 rfl rfl)
theorem dJ14_hashCode_23 : decode cJ14_hashCode 23 = .ok (.iadd, 1) := dk_96 (dk_at dksJ14_hashCode_0 23 rfl rfl)
theorem dJ14_hashCode_24 : decode cJ14_hashCode 24 = .ok (.istore_n 0, 1) := dk_59 (dk_at dksJ14_hashCode_1 0 rfl rfl)
theorem dJ14_hashCode_25 : decode cJ14_hashCode 25 = .ok (.iinc 5 1, 3) := dk_132 5 1 (dk_at dksJ14_hashCode_1 1 rfl rfl)
theorem dJ14_hashCode_28 : decode cJ14_hashCode 28 = .ok (.goto (-20), 3) := dk_167 255 236 (dk_at dksJ14_hashCode_1 4 rfl rfl)
theorem dJ14_hashCode_31 : decode cJ14_hashCode 31 = .ok (.iload_n 0, 1) := dk_26 (dk_at dksJ14_hashCode_1 7 rfl rfl)
theorem dJ14_hashCode_32 : decode cJ14_hashCode 32 = .ok (.ireturn, 1) := dk_172 (dk_at dksJ14_hashCode_1 8 rfl rfl)
abbrev cJ14_hashCode_2 : ByteArray := prog_60_method_6_code
def yJ14_hashCode_2 : MethodName := ⟨RJ14, "hashCode", "(I[BII)I"⟩
def dkwJ14_hashCode_2_1 : List UInt8 := [59, 132, 5, 1, 167, 255, 236, 26, 172]
abbrev dktJ14_hashCode_2_1 : List UInt8 := dkwJ14_hashCode_2_1 ++ []
def dkwJ14_hashCode_2_0 : List UInt8 := [28, 29, 96, 54, 4, 28, 54, 5, 21, 5, 21, 4, 162, 0, 19, 16, 31, 26, 104, 43, 21, 5, 51, 96]
abbrev dktJ14_hashCode_2_0 : List UInt8 := dkwJ14_hashCode_2_0 ++ dktJ14_hashCode_2_1
theorem dksJ14_hashCode_2_0 : cJ14_hashCode_2.data.toList.drop 0 = dktJ14_hashCode_2_0 := by decide +kernel
theorem dksJ14_hashCode_2_1 : cJ14_hashCode_2.data.toList.drop 24 = dktJ14_hashCode_2_1 := dk_seg dksJ14_hashCode_2_0 24 rfl rfl
theorem dJ14_hashCode_2_0 : decode cJ14_hashCode_2 0 = .ok (.iload_n 2, 1) := dk_28 (dk_at dksJ14_hashCode_2_0 0 rfl rfl)
theorem dJ14_hashCode_2_1 : decode cJ14_hashCode_2 1 = .ok (.iload_n 3, 1) := dk_29 (dk_at dksJ14_hashCode_2_0 1 rfl rfl)
theorem dJ14_hashCode_2_2 : decode cJ14_hashCode_2 2 = .ok (.iadd, 1) := dk_96 (dk_at dksJ14_hashCode_2_0 2 rfl rfl)
theorem dJ14_hashCode_2_3 : decode cJ14_hashCode_2 3 = .ok (.istore 4, 2) := dk_54 4 (dk_at dksJ14_hashCode_2_0 3 rfl rfl)
theorem dJ14_hashCode_2_5 : decode cJ14_hashCode_2 5 = .ok (.iload_n 2, 1) := dk_28 (dk_at dksJ14_hashCode_2_0 5 rfl rfl)
theorem dJ14_hashCode_2_6 : decode cJ14_hashCode_2 6 = .ok (.istore 5, 2) := dk_54 5 (dk_at dksJ14_hashCode_2_0 6 rfl rfl)
theorem dJ14_hashCode_2_8 : decode cJ14_hashCode_2 8 = .ok (.iload 5, 2) := dk_21 5 (dk_at dksJ14_hashCode_2_0 8 rfl rfl)
theorem dJ14_hashCode_2_10 : decode cJ14_hashCode_2 10 = .ok (.iload 4, 2) := dk_21 4 (dk_at dksJ14_hashCode_2_0 10 rfl rfl)
theorem dJ14_hashCode_2_12 : decode cJ14_hashCode_2 12 = .ok (.if_icmp .ge 19, 3) := dk_162 0 19 (dk_at dksJ14_hashCode_2_0 12 rfl rfl)
theorem dJ14_hashCode_2_15 : decode cJ14_hashCode_2 15 = .ok (.bipush 31, 2) := dk_16 31 (dk_at dksJ14_hashCode_2_0 15 rfl rfl)
theorem dJ14_hashCode_2_17 : decode cJ14_hashCode_2 17 = .ok (.iload_n 0, 1) := dk_26 (dk_at dksJ14_hashCode_2_0 17 rfl rfl)
theorem dJ14_hashCode_2_18 : decode cJ14_hashCode_2 18 = .ok (.imul, 1) := dk_104 (dk_at dksJ14_hashCode_2_0 18 rfl rfl)
theorem dJ14_hashCode_2_19 : decode cJ14_hashCode_2 19 = .ok (.aload_n 1, 1) := dk_43 (dk_at dksJ14_hashCode_2_0 19 rfl rfl)
theorem dJ14_hashCode_2_20 : decode cJ14_hashCode_2 20 = .ok (.iload 5, 2) := dk_21 5 (dk_at dksJ14_hashCode_2_0 20 rfl rfl)
theorem dJ14_hashCode_2_22 : decode cJ14_hashCode_2 22 = .ok (.baload, 1) := dk_51 (dk_at dksJ14_hashCode_2_0 22 rfl rfl)
theorem dJ14_hashCode_2_23 : decode cJ14_hashCode_2 23 = .ok (.iadd, 1) := dk_96 (dk_at dksJ14_hashCode_2_0 23 rfl rfl)
theorem dJ14_hashCode_2_24 : decode cJ14_hashCode_2 24 = .ok (.istore_n 0, 1) := dk_59 (dk_at dksJ14_hashCode_2_1 0 rfl rfl)
theorem dJ14_hashCode_2_25 : decode cJ14_hashCode_2 25 = .ok (.iinc 5 1, 3) := dk_132 5 1 (dk_at dksJ14_hashCode_2_1 1 rfl rfl)
theorem dJ14_hashCode_2_28 : decode cJ14_hashCode_2 28 = .ok (.goto (-20), 3) := dk_167 255 236 (dk_at dksJ14_hashCode_2_1 4 rfl rfl)
theorem dJ14_hashCode_2_31 : decode cJ14_hashCode_2 31 = .ok (.iload_n 0, 1) := dk_26 (dk_at dksJ14_hashCode_2_1 7 rfl rfl)
theorem dJ14_hashCode_2_32 : decode cJ14_hashCode_2 32 = .ok (.ireturn, 1) := dk_172 (dk_at dksJ14_hashCode_2_1 8 rfl rfl)
abbrev cJ14_hashCode_3 : ByteArray := prog_60_method_8_code
def yJ14_hashCode_3 : MethodName := ⟨RJ14, "hashCode", "(I[SII)I"⟩
def dkwJ14_hashCode_3_1 : List UInt8 := [59, 132, 5, 1, 167, 255, 236, 26, 172]
abbrev dktJ14_hashCode_3_1 : List UInt8 := dkwJ14_hashCode_3_1 ++ []
def dkwJ14_hashCode_3_0 : List UInt8 := [28, 29, 96, 54, 4, 28, 54, 5, 21, 5, 21, 4, 162, 0, 19, 16, 31, 26, 104, 43, 21, 5, 53, 96]
abbrev dktJ14_hashCode_3_0 : List UInt8 := dkwJ14_hashCode_3_0 ++ dktJ14_hashCode_3_1
theorem dksJ14_hashCode_3_0 : cJ14_hashCode_3.data.toList.drop 0 = dktJ14_hashCode_3_0 := by decide +kernel
theorem dksJ14_hashCode_3_1 : cJ14_hashCode_3.data.toList.drop 24 = dktJ14_hashCode_3_1 := dk_seg dksJ14_hashCode_3_0 24 rfl rfl
theorem dJ14_hashCode_3_0 : decode cJ14_hashCode_3 0 = .ok (.iload_n 2, 1) := dk_28 (dk_at dksJ14_hashCode_3_0 0 rfl rfl)
theorem dJ14_hashCode_3_1 : decode cJ14_hashCode_3 1 = .ok (.iload_n 3, 1) := dk_29 (dk_at dksJ14_hashCode_3_0 1 rfl rfl)
theorem dJ14_hashCode_3_2 : decode cJ14_hashCode_3 2 = .ok (.iadd, 1) := dk_96 (dk_at dksJ14_hashCode_3_0 2 rfl rfl)
theorem dJ14_hashCode_3_3 : decode cJ14_hashCode_3 3 = .ok (.istore 4, 2) := dk_54 4 (dk_at dksJ14_hashCode_3_0 3 rfl rfl)
theorem dJ14_hashCode_3_5 : decode cJ14_hashCode_3 5 = .ok (.iload_n 2, 1) := dk_28 (dk_at dksJ14_hashCode_3_0 5 rfl rfl)
theorem dJ14_hashCode_3_6 : decode cJ14_hashCode_3 6 = .ok (.istore 5, 2) := dk_54 5 (dk_at dksJ14_hashCode_3_0 6 rfl rfl)
theorem dJ14_hashCode_3_8 : decode cJ14_hashCode_3 8 = .ok (.iload 5, 2) := dk_21 5 (dk_at dksJ14_hashCode_3_0 8 rfl rfl)
theorem dJ14_hashCode_3_10 : decode cJ14_hashCode_3 10 = .ok (.iload 4, 2) := dk_21 4 (dk_at dksJ14_hashCode_3_0 10 rfl rfl)
theorem dJ14_hashCode_3_12 : decode cJ14_hashCode_3 12 = .ok (.if_icmp .ge 19, 3) := dk_162 0 19 (dk_at dksJ14_hashCode_3_0 12 rfl rfl)
theorem dJ14_hashCode_3_15 : decode cJ14_hashCode_3 15 = .ok (.bipush 31, 2) := dk_16 31 (dk_at dksJ14_hashCode_3_0 15 rfl rfl)
theorem dJ14_hashCode_3_17 : decode cJ14_hashCode_3 17 = .ok (.iload_n 0, 1) := dk_26 (dk_at dksJ14_hashCode_3_0 17 rfl rfl)
theorem dJ14_hashCode_3_18 : decode cJ14_hashCode_3 18 = .ok (.imul, 1) := dk_104 (dk_at dksJ14_hashCode_3_0 18 rfl rfl)
theorem dJ14_hashCode_3_19 : decode cJ14_hashCode_3 19 = .ok (.aload_n 1, 1) := dk_43 (dk_at dksJ14_hashCode_3_0 19 rfl rfl)
theorem dJ14_hashCode_3_20 : decode cJ14_hashCode_3 20 = .ok (.iload 5, 2) := dk_21 5 (dk_at dksJ14_hashCode_3_0 20 rfl rfl)
theorem dJ14_hashCode_3_22 : decode cJ14_hashCode_3 22 = .ok (.saload, 1) := dk_53 (dk_at dksJ14_hashCode_3_0 22 rfl rfl)
theorem dJ14_hashCode_3_23 : decode cJ14_hashCode_3 23 = .ok (.iadd, 1) := dk_96 (dk_at dksJ14_hashCode_3_0 23 rfl rfl)
theorem dJ14_hashCode_3_24 : decode cJ14_hashCode_3 24 = .ok (.istore_n 0, 1) := dk_59 (dk_at dksJ14_hashCode_3_1 0 rfl rfl)
theorem dJ14_hashCode_3_25 : decode cJ14_hashCode_3 25 = .ok (.iinc 5 1, 3) := dk_132 5 1 (dk_at dksJ14_hashCode_3_1 1 rfl rfl)
theorem dJ14_hashCode_3_28 : decode cJ14_hashCode_3 28 = .ok (.goto (-20), 3) := dk_167 255 236 (dk_at dksJ14_hashCode_3_1 4 rfl rfl)
theorem dJ14_hashCode_3_31 : decode cJ14_hashCode_3 31 = .ok (.iload_n 0, 1) := dk_26 (dk_at dksJ14_hashCode_3_1 7 rfl rfl)
theorem dJ14_hashCode_3_32 : decode cJ14_hashCode_3 32 = .ok (.ireturn, 1) := dk_172 (dk_at dksJ14_hashCode_3_1 8 rfl rfl)
abbrev cJ14_hashCode_4 : ByteArray := prog_60_method_9_code
def yJ14_hashCode_4 : MethodName := ⟨RJ14, "hashCode", "(I[III)I"⟩
def dkwJ14_hashCode_4_1 : List UInt8 := [59, 132, 5, 1, 167, 255, 236, 26, 172]
abbrev dktJ14_hashCode_4_1 : List UInt8 := dkwJ14_hashCode_4_1 ++ []
def dkwJ14_hashCode_4_0 : List UInt8 := [28, 29, 96, 54, 4, 28, 54, 5, 21, 5, 21, 4, 162, 0, 19, 16, 31, 26, 104, 43, 21, 5, 46, 96]
abbrev dktJ14_hashCode_4_0 : List UInt8 := dkwJ14_hashCode_4_0 ++ dktJ14_hashCode_4_1
theorem dksJ14_hashCode_4_0 : cJ14_hashCode_4.data.toList.drop 0 = dktJ14_hashCode_4_0 := by decide +kernel
theorem dksJ14_hashCode_4_1 : cJ14_hashCode_4.data.toList.drop 24 = dktJ14_hashCode_4_1 := dk_seg dksJ14_hashCode_4_0 24 rfl rfl
theorem dJ14_hashCode_4_0 : decode cJ14_hashCode_4 0 = .ok (.iload_n 2, 1) := dk_28 (dk_at dksJ14_hashCode_4_0 0 rfl rfl)
theorem dJ14_hashCode_4_1 : decode cJ14_hashCode_4 1 = .ok (.iload_n 3, 1) := dk_29 (dk_at dksJ14_hashCode_4_0 1 rfl rfl)
theorem dJ14_hashCode_4_2 : decode cJ14_hashCode_4 2 = .ok (.iadd, 1) := dk_96 (dk_at dksJ14_hashCode_4_0 2 rfl rfl)
theorem dJ14_hashCode_4_3 : decode cJ14_hashCode_4 3 = .ok (.istore 4, 2) := dk_54 4 (dk_at dksJ14_hashCode_4_0 3 rfl rfl)
theorem dJ14_hashCode_4_5 : decode cJ14_hashCode_4 5 = .ok (.iload_n 2, 1) := dk_28 (dk_at dksJ14_hashCode_4_0 5 rfl rfl)
theorem dJ14_hashCode_4_6 : decode cJ14_hashCode_4 6 = .ok (.istore 5, 2) := dk_54 5 (dk_at dksJ14_hashCode_4_0 6 rfl rfl)
theorem dJ14_hashCode_4_8 : decode cJ14_hashCode_4 8 = .ok (.iload 5, 2) := dk_21 5 (dk_at dksJ14_hashCode_4_0 8 rfl rfl)
theorem dJ14_hashCode_4_10 : decode cJ14_hashCode_4 10 = .ok (.iload 4, 2) := dk_21 4 (dk_at dksJ14_hashCode_4_0 10 rfl rfl)
theorem dJ14_hashCode_4_12 : decode cJ14_hashCode_4 12 = .ok (.if_icmp .ge 19, 3) := dk_162 0 19 (dk_at dksJ14_hashCode_4_0 12 rfl rfl)
theorem dJ14_hashCode_4_15 : decode cJ14_hashCode_4 15 = .ok (.bipush 31, 2) := dk_16 31 (dk_at dksJ14_hashCode_4_0 15 rfl rfl)
theorem dJ14_hashCode_4_17 : decode cJ14_hashCode_4 17 = .ok (.iload_n 0, 1) := dk_26 (dk_at dksJ14_hashCode_4_0 17 rfl rfl)
theorem dJ14_hashCode_4_18 : decode cJ14_hashCode_4 18 = .ok (.imul, 1) := dk_104 (dk_at dksJ14_hashCode_4_0 18 rfl rfl)
theorem dJ14_hashCode_4_19 : decode cJ14_hashCode_4 19 = .ok (.aload_n 1, 1) := dk_43 (dk_at dksJ14_hashCode_4_0 19 rfl rfl)
theorem dJ14_hashCode_4_20 : decode cJ14_hashCode_4 20 = .ok (.iload 5, 2) := dk_21 5 (dk_at dksJ14_hashCode_4_0 20 rfl rfl)
theorem dJ14_hashCode_4_22 : decode cJ14_hashCode_4 22 = .ok (.iaload, 1) := dk_46 (dk_at dksJ14_hashCode_4_0 22 rfl rfl)
theorem dJ14_hashCode_4_23 : decode cJ14_hashCode_4 23 = .ok (.iadd, 1) := dk_96 (dk_at dksJ14_hashCode_4_0 23 rfl rfl)
theorem dJ14_hashCode_4_24 : decode cJ14_hashCode_4 24 = .ok (.istore_n 0, 1) := dk_59 (dk_at dksJ14_hashCode_4_1 0 rfl rfl)
theorem dJ14_hashCode_4_25 : decode cJ14_hashCode_4 25 = .ok (.iinc 5 1, 3) := dk_132 5 1 (dk_at dksJ14_hashCode_4_1 1 rfl rfl)
theorem dJ14_hashCode_4_28 : decode cJ14_hashCode_4 28 = .ok (.goto (-20), 3) := dk_167 255 236 (dk_at dksJ14_hashCode_4_1 4 rfl rfl)
theorem dJ14_hashCode_4_31 : decode cJ14_hashCode_4 31 = .ok (.iload_n 0, 1) := dk_26 (dk_at dksJ14_hashCode_4_1 7 rfl rfl)
theorem dJ14_hashCode_4_32 : decode cJ14_hashCode_4 32 = .ok (.ireturn, 1) := dk_172 (dk_at dksJ14_hashCode_4_1 8 rfl rfl)
abbrev MJ14_newLength : zM := (yJ14_newLength, cJ14_newLength, 4, (Option.some Jvm.ClassFile.FieldType.int), [])
theorem kJ14_newLength : zMk MJ14_newLength := ⟨zt (lw_at lw_m2 232 rfl), zt (lw_at lw_m1 20 rfl), by decide +kernel, by decide, by decide +kernel⟩
abbrev MJ14_hugeLength : zM := (yJ14_hugeLength, cJ14_hugeLength, 3, (Option.some Jvm.ClassFile.FieldType.int), [])
theorem kJ14_hugeLength : zMk MJ14_hugeLength := ⟨zt (lw_at lw_m2 237 rfl), zt (lw_at lw_m1 20 rfl), by decide +kernel, by decide, by decide +kernel⟩
abbrev MJ14_vectorizedHashCode : zM := (yJ14_vectorizedHashCode, cJ14_vectorizedHashCode, 5, (Option.some Jvm.ClassFile.FieldType.int), [])
theorem kJ14_vectorizedHashCode : zMk MJ14_vectorizedHashCode := ⟨zt (lw_at lw_m9 20 rfl), zt (lw_at lw_m1 20 rfl), by decide +kernel, by decide, by decide +kernel⟩
abbrev MJ14_signedHashCode : zM := (yJ14_signedHashCode, cJ14_signedHashCode, 6, (Option.some Jvm.ClassFile.FieldType.int), [])
theorem kJ14_signedHashCode : zMk MJ14_signedHashCode := ⟨zt (lw_at lw_m9 24 rfl), zt (lw_at lw_m1 20 rfl), by decide +kernel, by decide, by decide +kernel⟩
abbrev MJ14_utf16hashCode : zM := (yJ14_utf16hashCode, cJ14_utf16hashCode, 6, (Option.some Jvm.ClassFile.FieldType.int), [])
theorem kJ14_utf16hashCode : zMk MJ14_utf16hashCode := ⟨zt (lw_at lw_m9 27 rfl), zt (lw_at lw_m1 20 rfl), by decide +kernel, by decide, by decide +kernel⟩
abbrev MJ14_hashCode : zM := (yJ14_hashCode, cJ14_hashCode, 6, (Option.some Jvm.ClassFile.FieldType.int), [])
theorem kJ14_hashCode : zMk MJ14_hashCode := ⟨zt (lw_at lw_m9 44 rfl), zt (lw_at lw_m1 20 rfl), by decide +kernel, by decide, by decide +kernel⟩
abbrev MJ14_hashCode_2 : zM := (yJ14_hashCode_2, cJ14_hashCode_2, 6, (Option.some Jvm.ClassFile.FieldType.int), [])
theorem kJ14_hashCode_2 : zMk MJ14_hashCode_2 := ⟨zt (lw_at lw_m9 47 rfl), zt (lw_at lw_m1 20 rfl), by decide +kernel, by decide, by decide +kernel⟩
abbrev MJ14_hashCode_3 : zM := (yJ14_hashCode_3, cJ14_hashCode_3, 6, (Option.some Jvm.ClassFile.FieldType.int), [])
theorem kJ14_hashCode_3 : zMk MJ14_hashCode_3 := ⟨zt (lw_at lw_m9 51 rfl), zt (lw_at lw_m1 20 rfl), by decide +kernel, by decide, by decide +kernel⟩
abbrev MJ14_hashCode_4 : zM := (yJ14_hashCode_4, cJ14_hashCode_4, 6, (Option.some Jvm.ClassFile.FieldType.int), [])
theorem kJ14_hashCode_4 : zMk MJ14_hashCode_4 := ⟨zt (lw_at lw_m9 55 rfl), zt (lw_at lw_m1 20 rfl), by decide +kernel, by decide, by decide +kernel⟩
/-! java/util/Arrays -/
set_option maxRecDepth 100000
abbrev cJ16_copyOf : ByteArray := prog_49_method_121_code
def yJ16_copyOf : MethodName := ⟨RJ16, "copyOf", "([BI)[B"⟩
def dkwJ16_copyOf_1 : List UInt8 := [27, 184, 1, 48, 184, 0, 150, 44, 176]
abbrev dktJ16_copyOf_1 : List UInt8 := dkwJ16_copyOf_1 ++ []
def dkwJ16_copyOf_0 : List UInt8 := [27, 42, 190, 160, 0, 11, 42, 182, 1, 54, 192, 1, 55, 176, 27, 188, 8, 77, 42, 3, 44, 3, 42, 190]
abbrev dktJ16_copyOf_0 : List UInt8 := dkwJ16_copyOf_0 ++ dktJ16_copyOf_1
theorem dksJ16_copyOf_0 : cJ16_copyOf.data.toList.drop 0 = dktJ16_copyOf_0 := by decide +kernel
theorem dksJ16_copyOf_1 : cJ16_copyOf.data.toList.drop 24 = dktJ16_copyOf_1 := dk_seg dksJ16_copyOf_0 24 rfl rfl
theorem dJ16_copyOf_0 : decode cJ16_copyOf 0 = .ok (.iload_n 1, 1) := dk_27 (dk_at dksJ16_copyOf_0 0 rfl rfl)
theorem dJ16_copyOf_1 : decode cJ16_copyOf 1 = .ok (.aload_n 0, 1) := dk_42 (dk_at dksJ16_copyOf_0 1 rfl rfl)
theorem dJ16_copyOf_2 : decode cJ16_copyOf 2 = .ok (.arraylength, 1) := dk_190 (dk_at dksJ16_copyOf_0 2 rfl rfl)
theorem dJ16_copyOf_3 : decode cJ16_copyOf 3 = .ok (.if_icmp .ne 11, 3) := dk_160 0 11 (dk_at dksJ16_copyOf_0 3 rfl rfl)
theorem dJ16_copyOf_6 : decode cJ16_copyOf 6 = .ok (.aload_n 0, 1) := dk_42 (dk_at dksJ16_copyOf_0 6 rfl rfl)
theorem dJ16_copyOf_7 : decode cJ16_copyOf 7 = .ok (.invokevirtual 310, 3) := dk_182 1 54 (dk_at dksJ16_copyOf_0 7 rfl rfl)
theorem dJ16_copyOf_10 : decode cJ16_copyOf 10 = .ok (.checkcast 311, 3) := dk_192 1 55 (dk_at dksJ16_copyOf_0 10 rfl rfl)
theorem dJ16_copyOf_13 : decode cJ16_copyOf 13 = .ok (.areturn, 1) := dk_176 (dk_at dksJ16_copyOf_0 13 rfl rfl)
theorem dJ16_copyOf_14 : decode cJ16_copyOf 14 = .ok (.iload_n 1, 1) := dk_27 (dk_at dksJ16_copyOf_0 14 rfl rfl)
theorem dJ16_copyOf_15 : decode cJ16_copyOf 15 = .ok (.newarray .byte, 2) := dk_188_8 (dk_at dksJ16_copyOf_0 15 rfl rfl)
theorem dJ16_copyOf_17 : decode cJ16_copyOf 17 = .ok (.astore_n 2, 1) := dk_77 (dk_at dksJ16_copyOf_0 17 rfl rfl)
theorem dJ16_copyOf_18 : decode cJ16_copyOf 18 = .ok (.aload_n 0, 1) := dk_42 (dk_at dksJ16_copyOf_0 18 rfl rfl)
theorem dJ16_copyOf_19 : decode cJ16_copyOf 19 = .ok (.iconst 0, 1) := dk_3 (dk_at dksJ16_copyOf_0 19 rfl rfl)
theorem dJ16_copyOf_20 : decode cJ16_copyOf 20 = .ok (.aload_n 2, 1) := dk_44 (dk_at dksJ16_copyOf_0 20 rfl rfl)
theorem dJ16_copyOf_21 : decode cJ16_copyOf 21 = .ok (.iconst 0, 1) := dk_3 (dk_at dksJ16_copyOf_0 21 rfl rfl)
theorem dJ16_copyOf_22 : decode cJ16_copyOf 22 = .ok (.aload_n 0, 1) := dk_42 (dk_at dksJ16_copyOf_0 22 rfl rfl)
theorem dJ16_copyOf_23 : decode cJ16_copyOf 23 = .ok (.arraylength, 1) := dk_190 (dk_at dksJ16_copyOf_0 23 rfl rfl)
theorem dJ16_copyOf_24 : decode cJ16_copyOf 24 = .ok (.iload_n 1, 1) := dk_27 (dk_at dksJ16_copyOf_1 0 rfl rfl)
theorem dJ16_copyOf_25 : decode cJ16_copyOf 25 = .ok (.invokestatic 304, 3) := dk_184 1 48 (dk_at dksJ16_copyOf_1 1 rfl rfl)
theorem dJ16_copyOf_28 : decode cJ16_copyOf 28 = .ok (.invokestatic 150, 3) := dk_184 0 150 (dk_at dksJ16_copyOf_1 4 rfl rfl)
theorem dJ16_copyOf_31 : decode cJ16_copyOf 31 = .ok (.aload_n 2, 1) := dk_44 (dk_at dksJ16_copyOf_1 7 rfl rfl)
theorem dJ16_copyOf_32 : decode cJ16_copyOf 32 = .ok (.areturn, 1) := dk_176 (dk_at dksJ16_copyOf_1 8 rfl rfl)
abbrev cJ16_copyOfRange : ByteArray := prog_49_method_132_code
def yJ16_copyOfRange : MethodName := ⟨RJ16, "copyOfRange", "([BII)[B"⟩
def dkwJ16_copyOfRange_1 : List UInt8 := [176]
abbrev dktJ16_copyOfRange_1 : List UInt8 := dkwJ16_copyOfRange_1 ++ []
def dkwJ16_copyOfRange_0 : List UInt8 := [27, 154, 0, 9, 28, 42, 190, 159, 0, 10, 42, 27, 28, 184, 1, 83, 176, 42, 182, 1, 54, 192, 1, 55]
abbrev dktJ16_copyOfRange_0 : List UInt8 := dkwJ16_copyOfRange_0 ++ dktJ16_copyOfRange_1
theorem dksJ16_copyOfRange_0 : cJ16_copyOfRange.data.toList.drop 0 = dktJ16_copyOfRange_0 := by decide +kernel
theorem dksJ16_copyOfRange_1 : cJ16_copyOfRange.data.toList.drop 24 = dktJ16_copyOfRange_1 := dk_seg dksJ16_copyOfRange_0 24 rfl rfl
theorem dJ16_copyOfRange_0 : decode cJ16_copyOfRange 0 = .ok (.iload_n 1, 1) := dk_27 (dk_at dksJ16_copyOfRange_0 0 rfl rfl)
theorem dJ16_copyOfRange_1 : decode cJ16_copyOfRange 1 = .ok (.ifCond .ne 9, 3) := dk_154 0 9 (dk_at dksJ16_copyOfRange_0 1 rfl rfl)
theorem dJ16_copyOfRange_4 : decode cJ16_copyOfRange 4 = .ok (.iload_n 2, 1) := dk_28 (dk_at dksJ16_copyOfRange_0 4 rfl rfl)
theorem dJ16_copyOfRange_5 : decode cJ16_copyOfRange 5 = .ok (.aload_n 0, 1) := dk_42 (dk_at dksJ16_copyOfRange_0 5 rfl rfl)
theorem dJ16_copyOfRange_6 : decode cJ16_copyOfRange 6 = .ok (.arraylength, 1) := dk_190 (dk_at dksJ16_copyOfRange_0 6 rfl rfl)
theorem dJ16_copyOfRange_7 : decode cJ16_copyOfRange 7 = .ok (.if_icmp .eq 10, 3) := dk_159 0 10 (dk_at dksJ16_copyOfRange_0 7 rfl rfl)
theorem dJ16_copyOfRange_10 : decode cJ16_copyOfRange 10 = .ok (.aload_n 0, 1) := dk_42 (dk_at dksJ16_copyOfRange_0 10 rfl rfl)
theorem dJ16_copyOfRange_11 : decode cJ16_copyOfRange 11 = .ok (.iload_n 1, 1) := dk_27 (dk_at dksJ16_copyOfRange_0 11 rfl rfl)
theorem dJ16_copyOfRange_12 : decode cJ16_copyOfRange 12 = .ok (.iload_n 2, 1) := dk_28 (dk_at dksJ16_copyOfRange_0 12 rfl rfl)
theorem dJ16_copyOfRange_13 : decode cJ16_copyOfRange 13 = .ok (.invokestatic 339, 3) := dk_184 1 83 (dk_at dksJ16_copyOfRange_0 13 rfl rfl)
theorem dJ16_copyOfRange_16 : decode cJ16_copyOfRange 16 = .ok (.areturn, 1) := dk_176 (dk_at dksJ16_copyOfRange_0 16 rfl rfl)
theorem dJ16_copyOfRange_17 : decode cJ16_copyOfRange 17 = .ok (.aload_n 0, 1) := dk_42 (dk_at dksJ16_copyOfRange_0 17 rfl rfl)
theorem dJ16_copyOfRange_18 : decode cJ16_copyOfRange 18 = .ok (.invokevirtual 310, 3) := dk_182 1 54 (dk_at dksJ16_copyOfRange_0 18 rfl rfl)
theorem dJ16_copyOfRange_21 : decode cJ16_copyOfRange 21 = .ok (.checkcast 311, 3) := dk_192 1 55 (dk_at dksJ16_copyOfRange_0 21 rfl rfl)
theorem dJ16_copyOfRange_24 : decode cJ16_copyOfRange 24 = .ok (.areturn, 1) := dk_176 (dk_at dksJ16_copyOfRange_1 0 rfl rfl)
abbrev cJ16_copyOfRangeByte : ByteArray := prog_49_method_133_code
def yJ16_copyOfRangeByte : MethodName := ⟨RJ16, "copyOfRangeByte", "([BII)[B"⟩
def dkwJ16_copyOfRangeByte_1 : List UInt8 := [184, 1, 48, 184, 0, 150, 25, 4, 176]
abbrev dktJ16_copyOfRangeByte_1 : List UInt8 := dkwJ16_copyOfRangeByte_1 ++ []
def dkwJ16_copyOfRangeByte_0 : List UInt8 := [27, 28, 184, 1, 87, 28, 27, 100, 62, 29, 188, 8, 58, 4, 42, 27, 25, 4, 3, 42, 190, 27, 100, 29]
abbrev dktJ16_copyOfRangeByte_0 : List UInt8 := dkwJ16_copyOfRangeByte_0 ++ dktJ16_copyOfRangeByte_1
theorem dksJ16_copyOfRangeByte_0 : cJ16_copyOfRangeByte.data.toList.drop 0 = dktJ16_copyOfRangeByte_0 := by decide +kernel
theorem dksJ16_copyOfRangeByte_1 : cJ16_copyOfRangeByte.data.toList.drop 24 = dktJ16_copyOfRangeByte_1 := dk_seg dksJ16_copyOfRangeByte_0 24 rfl rfl
theorem dJ16_copyOfRangeByte_0 : decode cJ16_copyOfRangeByte 0 = .ok (.iload_n 1, 1) := dk_27 (dk_at dksJ16_copyOfRangeByte_0 0 rfl rfl)
theorem dJ16_copyOfRangeByte_1 : decode cJ16_copyOfRangeByte 1 = .ok (.iload_n 2, 1) := dk_28 (dk_at dksJ16_copyOfRangeByte_0 1 rfl rfl)
theorem dJ16_copyOfRangeByte_2 : decode cJ16_copyOfRangeByte 2 = .ok (.invokestatic 343, 3) := dk_184 1 87 (dk_at dksJ16_copyOfRangeByte_0 2 rfl rfl)
theorem dJ16_copyOfRangeByte_5 : decode cJ16_copyOfRangeByte 5 = .ok (.iload_n 2, 1) := dk_28 (dk_at dksJ16_copyOfRangeByte_0 5 rfl rfl)
theorem dJ16_copyOfRangeByte_6 : decode cJ16_copyOfRangeByte 6 = .ok (.iload_n 1, 1) := dk_27 (dk_at dksJ16_copyOfRangeByte_0 6 rfl rfl)
theorem dJ16_copyOfRangeByte_7 : decode cJ16_copyOfRangeByte 7 = .ok (.isub, 1) := dk_100 (dk_at dksJ16_copyOfRangeByte_0 7 rfl rfl)
theorem dJ16_copyOfRangeByte_8 : decode cJ16_copyOfRangeByte 8 = .ok (.istore_n 3, 1) := dk_62 (dk_at dksJ16_copyOfRangeByte_0 8 rfl rfl)
theorem dJ16_copyOfRangeByte_9 : decode cJ16_copyOfRangeByte 9 = .ok (.iload_n 3, 1) := dk_29 (dk_at dksJ16_copyOfRangeByte_0 9 rfl rfl)
theorem dJ16_copyOfRangeByte_10 : decode cJ16_copyOfRangeByte 10 = .ok (.newarray .byte, 2) := dk_188_8 (dk_at dksJ16_copyOfRangeByte_0 10 rfl rfl)
theorem dJ16_copyOfRangeByte_12 : decode cJ16_copyOfRangeByte 12 = .ok (.astore 4, 2) := dk_58 4 (dk_at dksJ16_copyOfRangeByte_0 12 rfl rfl)
theorem dJ16_copyOfRangeByte_14 : decode cJ16_copyOfRangeByte 14 = .ok (.aload_n 0, 1) := dk_42 (dk_at dksJ16_copyOfRangeByte_0 14 rfl rfl)
theorem dJ16_copyOfRangeByte_15 : decode cJ16_copyOfRangeByte 15 = .ok (.iload_n 1, 1) := dk_27 (dk_at dksJ16_copyOfRangeByte_0 15 rfl rfl)
theorem dJ16_copyOfRangeByte_16 : decode cJ16_copyOfRangeByte 16 = .ok (.aload 4, 2) := dk_25 4 (dk_at dksJ16_copyOfRangeByte_0 16 rfl rfl)
theorem dJ16_copyOfRangeByte_18 : decode cJ16_copyOfRangeByte 18 = .ok (.iconst 0, 1) := dk_3 (dk_at dksJ16_copyOfRangeByte_0 18 rfl rfl)
theorem dJ16_copyOfRangeByte_19 : decode cJ16_copyOfRangeByte 19 = .ok (.aload_n 0, 1) := dk_42 (dk_at dksJ16_copyOfRangeByte_0 19 rfl rfl)
theorem dJ16_copyOfRangeByte_20 : decode cJ16_copyOfRangeByte 20 = .ok (.arraylength, 1) := dk_190 (dk_at dksJ16_copyOfRangeByte_0 20 rfl rfl)
theorem dJ16_copyOfRangeByte_21 : decode cJ16_copyOfRangeByte 21 = .ok (.iload_n 1, 1) := dk_27 (dk_at dksJ16_copyOfRangeByte_0 21 rfl rfl)
theorem dJ16_copyOfRangeByte_22 : decode cJ16_copyOfRangeByte 22 = .ok (.isub, 1) := dk_100 (dk_at dksJ16_copyOfRangeByte_0 22 rfl rfl)
theorem dJ16_copyOfRangeByte_23 : decode cJ16_copyOfRangeByte 23 = .ok (.iload_n 3, 1) := dk_29 (dk_at dksJ16_copyOfRangeByte_0 23 rfl rfl)
theorem dJ16_copyOfRangeByte_24 : decode cJ16_copyOfRangeByte 24 = .ok (.invokestatic 304, 3) := dk_184 1 48 (dk_at dksJ16_copyOfRangeByte_1 0 rfl rfl)
theorem dJ16_copyOfRangeByte_27 : decode cJ16_copyOfRangeByte 27 = .ok (.invokestatic 150, 3) := dk_184 0 150 (dk_at dksJ16_copyOfRangeByte_1 3 rfl rfl)
theorem dJ16_copyOfRangeByte_30 : decode cJ16_copyOfRangeByte 30 = .ok (.aload 4, 2) := dk_25 4 (dk_at dksJ16_copyOfRangeByte_1 6 rfl rfl)
theorem dJ16_copyOfRangeByte_32 : decode cJ16_copyOfRangeByte 32 = .ok (.areturn, 1) := dk_176 (dk_at dksJ16_copyOfRangeByte_1 8 rfl rfl)
abbrev cJ16_checkLength : ByteArray := prog_49_method_131_code
def yJ16_checkLength : MethodName := ⟨RJ16, "checkLength", "(II)V"⟩
def dkwJ16_checkLength_1 : List UInt8 := [182, 0, 50, 27, 182, 0, 54, 182, 0, 61, 183, 0, 65, 191, 177]
abbrev dktJ16_checkLength_1 : List UInt8 := dkwJ16_checkLength_1 ++ []
def dkwJ16_checkLength_0 : List UInt8 := [27, 26, 162, 0, 35, 187, 0, 43, 89, 187, 0, 45, 89, 183, 0, 47, 26, 182, 0, 54, 19, 1, 81]
abbrev dktJ16_checkLength_0 : List UInt8 := dkwJ16_checkLength_0 ++ dktJ16_checkLength_1
theorem dksJ16_checkLength_0 : cJ16_checkLength.data.toList.drop 0 = dktJ16_checkLength_0 := by decide +kernel
theorem dksJ16_checkLength_1 : cJ16_checkLength.data.toList.drop 23 = dktJ16_checkLength_1 := dk_seg dksJ16_checkLength_0 23 rfl rfl
theorem dJ16_checkLength_0 : decode cJ16_checkLength 0 = .ok (.iload_n 1, 1) := dk_27 (dk_at dksJ16_checkLength_0 0 rfl rfl)
theorem dJ16_checkLength_1 : decode cJ16_checkLength 1 = .ok (.iload_n 0, 1) := dk_26 (dk_at dksJ16_checkLength_0 1 rfl rfl)
theorem dJ16_checkLength_2 : decode cJ16_checkLength 2 = .ok (.if_icmp .ge 35, 3) := dk_162 0 35 (dk_at dksJ16_checkLength_0 2 rfl rfl)
theorem dJ16_checkLength_5 : decode cJ16_checkLength 5 = .ok (.new 43, 3) := dk_187 0 43 (dk_at dksJ16_checkLength_0 5 rfl rfl)
theorem dJ16_checkLength_8 : decode cJ16_checkLength 8 = .ok (.dup, 1) := dk_89 (dk_at dksJ16_checkLength_0 8 rfl rfl)
theorem dJ16_checkLength_9 : decode cJ16_checkLength 9 = .ok (.new 45, 3) := dk_187 0 45 (dk_at dksJ16_checkLength_0 9 rfl rfl)
theorem dJ16_checkLength_12 : decode cJ16_checkLength 12 = .ok (.dup, 1) := dk_89 (dk_at dksJ16_checkLength_0 12 rfl rfl)
theorem dJ16_checkLength_13 : decode cJ16_checkLength 13 = .ok (.invokespecial 47, 3) := dk_183 0 47 (dk_at dksJ16_checkLength_0 13 rfl rfl)
theorem dJ16_checkLength_16 : decode cJ16_checkLength 16 = .ok (.iload_n 0, 1) := dk_26 (dk_at dksJ16_checkLength_0 16 rfl rfl)
theorem dJ16_checkLength_17 : decode cJ16_checkLength 17 = .ok (.invokevirtual 54, 3) := dk_182 0 54 (dk_at dksJ16_checkLength_0 17 rfl rfl)
theorem dJ16_checkLength_20 : decode cJ16_checkLength 20 = .ok (.ldc_w 337, 3) := dk_19 1 81 (dk_at dksJ16_checkLength_0 20 rfl rfl)
theorem dJ16_checkLength_23 : decode cJ16_checkLength 23 = .ok (.invokevirtual 50, 3) := dk_182 0 50 (dk_at dksJ16_checkLength_1 0 rfl rfl)
theorem dJ16_checkLength_26 : decode cJ16_checkLength 26 = .ok (.iload_n 1, 1) := dk_27 (dk_at dksJ16_checkLength_1 3 rfl rfl)
theorem dJ16_checkLength_27 : decode cJ16_checkLength 27 = .ok (.invokevirtual 54, 3) := dk_182 0 54 (dk_at dksJ16_checkLength_1 4 rfl rfl)
theorem dJ16_checkLength_30 : decode cJ16_checkLength 30 = .ok (.invokevirtual 61, 3) := dk_182 0 61 (dk_at dksJ16_checkLength_1 7 rfl rfl)
theorem dJ16_checkLength_33 : decode cJ16_checkLength 33 = .ok (.invokespecial 65, 3) := dk_183 0 65 (dk_at dksJ16_checkLength_1 10 rfl rfl)
theorem dJ16_checkLength_36 : decode cJ16_checkLength 36 = .ok (.athrow, 1) := dk_191 (dk_at dksJ16_checkLength_1 13 rfl rfl)
theorem dJ16_checkLength_37 : decode cJ16_checkLength 37 = .ok (.return_, 1) := dk_177 (dk_at dksJ16_checkLength_1 14 rfl rfl)
abbrev cJ16_fill : ByteArray := prog_49_method_110_code
def yJ16_fill : MethodName := ⟨RJ16, "fill", "([BIIB)V"⟩
def dkwJ16_fill_1 : List UInt8 := [167, 255, 242, 177]
abbrev dktJ16_fill_1 : List UInt8 := dkwJ16_fill_1 ++ []
def dkwJ16_fill_0 : List UInt8 := [42, 190, 27, 28, 184, 0, 13, 27, 54, 4, 21, 4, 28, 162, 0, 14, 42, 21, 4, 29, 84, 132, 4, 1]
abbrev dktJ16_fill_0 : List UInt8 := dkwJ16_fill_0 ++ dktJ16_fill_1
theorem dksJ16_fill_0 : cJ16_fill.data.toList.drop 0 = dktJ16_fill_0 := by decide +kernel
theorem dksJ16_fill_1 : cJ16_fill.data.toList.drop 24 = dktJ16_fill_1 := dk_seg dksJ16_fill_0 24 rfl rfl
theorem dJ16_fill_0 : decode cJ16_fill 0 = .ok (.aload_n 0, 1) := dk_42 (dk_at dksJ16_fill_0 0 rfl rfl)
theorem dJ16_fill_1 : decode cJ16_fill 1 = .ok (.arraylength, 1) := dk_190 (dk_at dksJ16_fill_0 1 rfl rfl)
theorem dJ16_fill_2 : decode cJ16_fill 2 = .ok (.iload_n 1, 1) := dk_27 (dk_at dksJ16_fill_0 2 rfl rfl)
theorem dJ16_fill_3 : decode cJ16_fill 3 = .ok (.iload_n 2, 1) := dk_28 (dk_at dksJ16_fill_0 3 rfl rfl)
theorem dJ16_fill_4 : decode cJ16_fill 4 = .ok (.invokestatic 13, 3) := dk_184 0 13 (dk_at dksJ16_fill_0 4 rfl rfl)
theorem dJ16_fill_7 : decode cJ16_fill 7 = .ok (.iload_n 1, 1) := dk_27 (dk_at dksJ16_fill_0 7 rfl rfl)
theorem dJ16_fill_8 : decode cJ16_fill 8 = .ok (.istore 4, 2) := dk_54 4 (dk_at dksJ16_fill_0 8 rfl rfl)
theorem dJ16_fill_10 : decode cJ16_fill 10 = .ok (.iload 4, 2) := dk_21 4 (dk_at dksJ16_fill_0 10 rfl rfl)
theorem dJ16_fill_12 : decode cJ16_fill 12 = .ok (.iload_n 2, 1) := dk_28 (dk_at dksJ16_fill_0 12 rfl rfl)
theorem dJ16_fill_13 : decode cJ16_fill 13 = .ok (.if_icmp .ge 14, 3) := dk_162 0 14 (dk_at dksJ16_fill_0 13 rfl rfl)
theorem dJ16_fill_16 : decode cJ16_fill 16 = .ok (.aload_n 0, 1) := dk_42 (dk_at dksJ16_fill_0 16 rfl rfl)
theorem dJ16_fill_17 : decode cJ16_fill 17 = .ok (.iload 4, 2) := dk_21 4 (dk_at dksJ16_fill_0 17 rfl rfl)
theorem dJ16_fill_19 : decode cJ16_fill 19 = .ok (.iload_n 3, 1) := dk_29 (dk_at dksJ16_fill_0 19 rfl rfl)
theorem dJ16_fill_20 : decode cJ16_fill 20 = .ok (.bastore, 1) := dk_84 (dk_at dksJ16_fill_0 20 rfl rfl)
theorem dJ16_fill_21 : decode cJ16_fill 21 = .ok (.iinc 4 1, 3) := dk_132 4 1 (dk_at dksJ16_fill_0 21 rfl rfl)
theorem dJ16_fill_24 : decode cJ16_fill 24 = .ok (.goto (-14), 3) := dk_167 255 242 (dk_at dksJ16_fill_1 0 rfl rfl)
theorem dJ16_fill_27 : decode cJ16_fill 27 = .ok (.return_, 1) := dk_177 (dk_at dksJ16_fill_1 3 rfl rfl)
abbrev cJ16_rangeCheck : ByteArray := prog_49_method_30_code
def yJ16_rangeCheck : MethodName := ⟨RJ16, "rangeCheck", "(III)V"⟩
def dkwJ16_rangeCheck_3 : List UInt8 := [183, 0, 70, 191, 177]
abbrev dktJ16_rangeCheck_3 : List UInt8 := dkwJ16_rangeCheck_3 ++ []
def dkwJ16_rangeCheck_2 : List UInt8 := [27, 156, 0, 12, 187, 0, 68, 89, 27, 183, 0, 70, 191, 28, 26, 164, 0, 12, 187, 0, 68, 89, 28]
abbrev dktJ16_rangeCheck_2 : List UInt8 := dkwJ16_rangeCheck_2 ++ dktJ16_rangeCheck_3
def dkwJ16_rangeCheck_1 : List UInt8 := [182, 0, 54, 18, 57, 182, 0, 50, 28, 182, 0, 54, 18, 59, 182, 0, 50, 182, 0, 61, 183, 0, 65, 191]
abbrev dktJ16_rangeCheck_1 : List UInt8 := dkwJ16_rangeCheck_1 ++ dktJ16_rangeCheck_2
def dkwJ16_rangeCheck_0 : List UInt8 := [27, 28, 164, 0, 44, 187, 0, 43, 89, 187, 0, 45, 89, 183, 0, 47, 18, 48, 182, 0, 50, 27]
abbrev dktJ16_rangeCheck_0 : List UInt8 := dkwJ16_rangeCheck_0 ++ dktJ16_rangeCheck_1
theorem dksJ16_rangeCheck_0 : cJ16_rangeCheck.data.toList.drop 0 = dktJ16_rangeCheck_0 := by decide +kernel
theorem dksJ16_rangeCheck_1 : cJ16_rangeCheck.data.toList.drop 22 = dktJ16_rangeCheck_1 := dk_seg dksJ16_rangeCheck_0 22 rfl rfl
theorem dksJ16_rangeCheck_2 : cJ16_rangeCheck.data.toList.drop 46 = dktJ16_rangeCheck_2 := dk_seg dksJ16_rangeCheck_1 24 rfl rfl
theorem dksJ16_rangeCheck_3 : cJ16_rangeCheck.data.toList.drop 69 = dktJ16_rangeCheck_3 := dk_seg dksJ16_rangeCheck_2 23 rfl rfl
theorem dJ16_rangeCheck_0 : decode cJ16_rangeCheck 0 = .ok (.iload_n 1, 1) := dk_27 (dk_at dksJ16_rangeCheck_0 0 rfl rfl)
theorem dJ16_rangeCheck_1 : decode cJ16_rangeCheck 1 = .ok (.iload_n 2, 1) := dk_28 (dk_at dksJ16_rangeCheck_0 1 rfl rfl)
theorem dJ16_rangeCheck_2 : decode cJ16_rangeCheck 2 = .ok (.if_icmp .le 44, 3) := dk_164 0 44 (dk_at dksJ16_rangeCheck_0 2 rfl rfl)
theorem dJ16_rangeCheck_5 : decode cJ16_rangeCheck 5 = .ok (.new 43, 3) := dk_187 0 43 (dk_at dksJ16_rangeCheck_0 5 rfl rfl)
theorem dJ16_rangeCheck_8 : decode cJ16_rangeCheck 8 = .ok (.dup, 1) := dk_89 (dk_at dksJ16_rangeCheck_0 8 rfl rfl)
theorem dJ16_rangeCheck_9 : decode cJ16_rangeCheck 9 = .ok (.new 45, 3) := dk_187 0 45 (dk_at dksJ16_rangeCheck_0 9 rfl rfl)
theorem dJ16_rangeCheck_12 : decode cJ16_rangeCheck 12 = .ok (.dup, 1) := dk_89 (dk_at dksJ16_rangeCheck_0 12 rfl rfl)
theorem dJ16_rangeCheck_13 : decode cJ16_rangeCheck 13 = .ok (.invokespecial 47, 3) := dk_183 0 47 (dk_at dksJ16_rangeCheck_0 13 rfl rfl)
theorem dJ16_rangeCheck_16 : decode cJ16_rangeCheck 16 = .ok (.ldc 48, 2) := dk_18 48 (dk_at dksJ16_rangeCheck_0 16 rfl rfl)
theorem dJ16_rangeCheck_18 : decode cJ16_rangeCheck 18 = .ok (.invokevirtual 50, 3) := dk_182 0 50 (dk_at dksJ16_rangeCheck_0 18 rfl rfl)
theorem dJ16_rangeCheck_21 : decode cJ16_rangeCheck 21 = .ok (.iload_n 1, 1) := dk_27 (dk_at dksJ16_rangeCheck_0 21 rfl rfl)
theorem dJ16_rangeCheck_22 : decode cJ16_rangeCheck 22 = .ok (.invokevirtual 54, 3) := dk_182 0 54 (dk_at dksJ16_rangeCheck_1 0 rfl rfl)
theorem dJ16_rangeCheck_25 : decode cJ16_rangeCheck 25 = .ok (.ldc 57, 2) := dk_18 57 (dk_at dksJ16_rangeCheck_1 3 rfl rfl)
theorem dJ16_rangeCheck_27 : decode cJ16_rangeCheck 27 = .ok (.invokevirtual 50, 3) := dk_182 0 50 (dk_at dksJ16_rangeCheck_1 5 rfl rfl)
theorem dJ16_rangeCheck_30 : decode cJ16_rangeCheck 30 = .ok (.iload_n 2, 1) := dk_28 (dk_at dksJ16_rangeCheck_1 8 rfl rfl)
theorem dJ16_rangeCheck_31 : decode cJ16_rangeCheck 31 = .ok (.invokevirtual 54, 3) := dk_182 0 54 (dk_at dksJ16_rangeCheck_1 9 rfl rfl)
theorem dJ16_rangeCheck_34 : decode cJ16_rangeCheck 34 = .ok (.ldc 59, 2) := dk_18 59 (dk_at dksJ16_rangeCheck_1 12 rfl rfl)
theorem dJ16_rangeCheck_36 : decode cJ16_rangeCheck 36 = .ok (.invokevirtual 50, 3) := dk_182 0 50 (dk_at dksJ16_rangeCheck_1 14 rfl rfl)
theorem dJ16_rangeCheck_39 : decode cJ16_rangeCheck 39 = .ok (.invokevirtual 61, 3) := dk_182 0 61 (dk_at dksJ16_rangeCheck_1 17 rfl rfl)
theorem dJ16_rangeCheck_42 : decode cJ16_rangeCheck 42 = .ok (.invokespecial 65, 3) := dk_183 0 65 (dk_at dksJ16_rangeCheck_1 20 rfl rfl)
theorem dJ16_rangeCheck_45 : decode cJ16_rangeCheck 45 = .ok (.athrow, 1) := dk_191 (dk_at dksJ16_rangeCheck_1 23 rfl rfl)
theorem dJ16_rangeCheck_46 : decode cJ16_rangeCheck 46 = .ok (.iload_n 1, 1) := dk_27 (dk_at dksJ16_rangeCheck_2 0 rfl rfl)
theorem dJ16_rangeCheck_47 : decode cJ16_rangeCheck 47 = .ok (.ifCond .ge 12, 3) := dk_156 0 12 (dk_at dksJ16_rangeCheck_2 1 rfl rfl)
theorem dJ16_rangeCheck_50 : decode cJ16_rangeCheck 50 = .ok (.new 68, 3) := dk_187 0 68 (dk_at dksJ16_rangeCheck_2 4 rfl rfl)
theorem dJ16_rangeCheck_53 : decode cJ16_rangeCheck 53 = .ok (.dup, 1) := dk_89 (dk_at dksJ16_rangeCheck_2 7 rfl rfl)
theorem dJ16_rangeCheck_54 : decode cJ16_rangeCheck 54 = .ok (.iload_n 1, 1) := dk_27 (dk_at dksJ16_rangeCheck_2 8 rfl rfl)
theorem dJ16_rangeCheck_55 : decode cJ16_rangeCheck 55 = .ok (.invokespecial 70, 3) := dk_183 0 70 (dk_at dksJ16_rangeCheck_2 9 rfl rfl)
theorem dJ16_rangeCheck_58 : decode cJ16_rangeCheck 58 = .ok (.athrow, 1) := dk_191 (dk_at dksJ16_rangeCheck_2 12 rfl rfl)
theorem dJ16_rangeCheck_59 : decode cJ16_rangeCheck 59 = .ok (.iload_n 2, 1) := dk_28 (dk_at dksJ16_rangeCheck_2 13 rfl rfl)
theorem dJ16_rangeCheck_60 : decode cJ16_rangeCheck 60 = .ok (.iload_n 0, 1) := dk_26 (dk_at dksJ16_rangeCheck_2 14 rfl rfl)
theorem dJ16_rangeCheck_61 : decode cJ16_rangeCheck 61 = .ok (.if_icmp .le 12, 3) := dk_164 0 12 (dk_at dksJ16_rangeCheck_2 15 rfl rfl)
theorem dJ16_rangeCheck_64 : decode cJ16_rangeCheck 64 = .ok (.new 68, 3) := dk_187 0 68 (dk_at dksJ16_rangeCheck_2 18 rfl rfl)
theorem dJ16_rangeCheck_67 : decode cJ16_rangeCheck 67 = .ok (.dup, 1) := dk_89 (dk_at dksJ16_rangeCheck_2 21 rfl rfl)
theorem dJ16_rangeCheck_68 : decode cJ16_rangeCheck 68 = .ok (.iload_n 2, 1) := dk_28 (dk_at dksJ16_rangeCheck_2 22 rfl rfl)
theorem dJ16_rangeCheck_69 : decode cJ16_rangeCheck 69 = .ok (.invokespecial 70, 3) := dk_183 0 70 (dk_at dksJ16_rangeCheck_3 0 rfl rfl)
theorem dJ16_rangeCheck_72 : decode cJ16_rangeCheck 72 = .ok (.athrow, 1) := dk_191 (dk_at dksJ16_rangeCheck_3 3 rfl rfl)
theorem dJ16_rangeCheck_73 : decode cJ16_rangeCheck 73 = .ok (.return_, 1) := dk_177 (dk_at dksJ16_rangeCheck_3 4 rfl rfl)
abbrev cJ16_copyOf_2 : ByteArray := prog_49_method_119_code
def yJ16_copyOf_2 : MethodName := ⟨RJ16, "copyOf", "([Ljava/lang/Object;I)[Ljava/lang/Object;"⟩
def dkwJ16_copyOf_2_0 : List UInt8 := [42, 27, 42, 182, 0, 86, 184, 1, 44, 176]
abbrev dktJ16_copyOf_2_0 : List UInt8 := dkwJ16_copyOf_2_0 ++ []
theorem dksJ16_copyOf_2_0 : cJ16_copyOf_2.data.toList.drop 0 = dktJ16_copyOf_2_0 := by decide +kernel
theorem dJ16_copyOf_2_0 : decode cJ16_copyOf_2 0 = .ok (.aload_n 0, 1) := dk_42 (dk_at dksJ16_copyOf_2_0 0 rfl rfl)
theorem dJ16_copyOf_2_1 : decode cJ16_copyOf_2 1 = .ok (.iload_n 1, 1) := dk_27 (dk_at dksJ16_copyOf_2_0 1 rfl rfl)
theorem dJ16_copyOf_2_2 : decode cJ16_copyOf_2 2 = .ok (.aload_n 0, 1) := dk_42 (dk_at dksJ16_copyOf_2_0 2 rfl rfl)
theorem dJ16_copyOf_2_3 : decode cJ16_copyOf_2 3 = .ok (.invokevirtual 86, 3) := dk_182 0 86 (dk_at dksJ16_copyOf_2_0 3 rfl rfl)
theorem dJ16_copyOf_2_6 : decode cJ16_copyOf_2 6 = .ok (.invokestatic 300, 3) := dk_184 1 44 (dk_at dksJ16_copyOf_2_0 6 rfl rfl)
theorem dJ16_copyOf_2_9 : decode cJ16_copyOf_2 9 = .ok (.areturn, 1) := dk_176 (dk_at dksJ16_copyOf_2_0 9 rfl rfl)
abbrev cJ16_copyOf_3 : ByteArray := prog_49_method_120_code
def yJ16_copyOf_3 : MethodName := ⟨RJ16, "copyOf", "([Ljava/lang/Object;ILjava/lang/Class;)[Ljava/lang/Object;"⟩
def dkwJ16_copyOf_3_1 : List UInt8 := [78, 42, 3, 45, 3, 42, 190, 27, 184, 1, 48, 184, 0, 150, 45, 176]
abbrev dktJ16_copyOf_3_1 : List UInt8 := dkwJ16_copyOf_3_1 ++ []
def dkwJ16_copyOf_3_0 : List UInt8 := [44, 18, 110, 166, 0, 10, 27, 189, 0, 2, 167, 0, 14, 44, 182, 0, 90, 27, 184, 0, 95, 192, 0, 110]
abbrev dktJ16_copyOf_3_0 : List UInt8 := dkwJ16_copyOf_3_0 ++ dktJ16_copyOf_3_1
theorem dksJ16_copyOf_3_0 : cJ16_copyOf_3.data.toList.drop 0 = dktJ16_copyOf_3_0 := by decide +kernel
theorem dksJ16_copyOf_3_1 : cJ16_copyOf_3.data.toList.drop 24 = dktJ16_copyOf_3_1 := dk_seg dksJ16_copyOf_3_0 24 rfl rfl
theorem dJ16_copyOf_3_0 : decode cJ16_copyOf_3 0 = .ok (.aload_n 2, 1) := dk_44 (dk_at dksJ16_copyOf_3_0 0 rfl rfl)
theorem dJ16_copyOf_3_1 : decode cJ16_copyOf_3 1 = .ok (.ldc 110, 2) := dk_18 110 (dk_at dksJ16_copyOf_3_0 1 rfl rfl)
theorem dJ16_copyOf_3_3 : decode cJ16_copyOf_3 3 = .ok (.if_acmp .ne 10, 3) := dk_166 0 10 (dk_at dksJ16_copyOf_3_0 3 rfl rfl)
theorem dJ16_copyOf_3_6 : decode cJ16_copyOf_3 6 = .ok (.iload_n 1, 1) := dk_27 (dk_at dksJ16_copyOf_3_0 6 rfl rfl)
theorem dJ16_copyOf_3_7 : decode cJ16_copyOf_3 7 = .ok (.anewarray 2, 3) := dk_189 0 2 (dk_at dksJ16_copyOf_3_0 7 rfl rfl)
theorem dJ16_copyOf_3_10 : decode cJ16_copyOf_3 10 = .ok (.goto 14, 3) := dk_167 0 14 (dk_at dksJ16_copyOf_3_0 10 rfl rfl)
theorem dJ16_copyOf_3_13 : decode cJ16_copyOf_3 13 = .ok (.aload_n 2, 1) := dk_44 (dk_at dksJ16_copyOf_3_0 13 rfl rfl)
theorem dJ16_copyOf_3_14 : decode cJ16_copyOf_3 14 = .ok (.invokevirtual 90, 3) := dk_182 0 90 (dk_at dksJ16_copyOf_3_0 14 rfl rfl)
theorem dJ16_copyOf_3_17 : decode cJ16_copyOf_3 17 = .ok (.iload_n 1, 1) := dk_27 (dk_at dksJ16_copyOf_3_0 17 rfl rfl)
theorem dJ16_copyOf_3_18 : decode cJ16_copyOf_3 18 = .ok (.invokestatic 95, 3) := dk_184 0 95 (dk_at dksJ16_copyOf_3_0 18 rfl rfl)
theorem dJ16_copyOf_3_21 : decode cJ16_copyOf_3 21 = .ok (.checkcast 110, 3) := dk_192 0 110 (dk_at dksJ16_copyOf_3_0 21 rfl rfl)
theorem dJ16_copyOf_3_24 : decode cJ16_copyOf_3 24 = .ok (.astore_n 3, 1) := dk_78 (dk_at dksJ16_copyOf_3_1 0 rfl rfl)
theorem dJ16_copyOf_3_25 : decode cJ16_copyOf_3 25 = .ok (.aload_n 0, 1) := dk_42 (dk_at dksJ16_copyOf_3_1 1 rfl rfl)
theorem dJ16_copyOf_3_26 : decode cJ16_copyOf_3 26 = .ok (.iconst 0, 1) := dk_3 (dk_at dksJ16_copyOf_3_1 2 rfl rfl)
theorem dJ16_copyOf_3_27 : decode cJ16_copyOf_3 27 = .ok (.aload_n 3, 1) := dk_45 (dk_at dksJ16_copyOf_3_1 3 rfl rfl)
theorem dJ16_copyOf_3_28 : decode cJ16_copyOf_3 28 = .ok (.iconst 0, 1) := dk_3 (dk_at dksJ16_copyOf_3_1 4 rfl rfl)
theorem dJ16_copyOf_3_29 : decode cJ16_copyOf_3 29 = .ok (.aload_n 0, 1) := dk_42 (dk_at dksJ16_copyOf_3_1 5 rfl rfl)
theorem dJ16_copyOf_3_30 : decode cJ16_copyOf_3 30 = .ok (.arraylength, 1) := dk_190 (dk_at dksJ16_copyOf_3_1 6 rfl rfl)
theorem dJ16_copyOf_3_31 : decode cJ16_copyOf_3 31 = .ok (.iload_n 1, 1) := dk_27 (dk_at dksJ16_copyOf_3_1 7 rfl rfl)
theorem dJ16_copyOf_3_32 : decode cJ16_copyOf_3 32 = .ok (.invokestatic 304, 3) := dk_184 1 48 (dk_at dksJ16_copyOf_3_1 8 rfl rfl)
theorem dJ16_copyOf_3_35 : decode cJ16_copyOf_3 35 = .ok (.invokestatic 150, 3) := dk_184 0 150 (dk_at dksJ16_copyOf_3_1 11 rfl rfl)
theorem dJ16_copyOf_3_38 : decode cJ16_copyOf_3 38 = .ok (.aload_n 3, 1) := dk_45 (dk_at dksJ16_copyOf_3_1 14 rfl rfl)
theorem dJ16_copyOf_3_39 : decode cJ16_copyOf_3 39 = .ok (.areturn, 1) := dk_176 (dk_at dksJ16_copyOf_3_1 15 rfl rfl)
abbrev MJ16_copyOf : zM := (yJ16_copyOf, cJ16_copyOf, 3, (Option.some (Jvm.ClassFile.FieldType.array Jvm.ClassFile.FieldType.byte)), [])
theorem kJ16_copyOf : zMk MJ16_copyOf := ⟨zt (lw_at lw_m3 1 rfl), zt (lw_at lw_m1 22 rfl), by decide +kernel, by decide, by decide +kernel⟩
abbrev MJ16_copyOfRange : zM := (yJ16_copyOfRange, cJ16_copyOfRange, 3, (Option.some (Jvm.ClassFile.FieldType.array Jvm.ClassFile.FieldType.byte)), [])
theorem kJ16_copyOfRange : zMk MJ16_copyOfRange := ⟨zt (lw_at lw_m3 141 rfl), zt (lw_at lw_m1 22 rfl), by decide +kernel, by decide, by decide +kernel⟩
abbrev MJ16_copyOfRangeByte : zM := (yJ16_copyOfRangeByte, cJ16_copyOfRangeByte, 5, (Option.some (Jvm.ClassFile.FieldType.array Jvm.ClassFile.FieldType.byte)), [])
theorem kJ16_copyOfRangeByte : zMk MJ16_copyOfRangeByte := ⟨zt (lw_at lw_m3 144 rfl), zt (lw_at lw_m1 22 rfl), by decide +kernel, by decide, by decide +kernel⟩
abbrev MJ16_checkLength : zM := (yJ16_checkLength, cJ16_checkLength, 2, (Option.none : Option Jvm.ClassFile.FieldType), [])
theorem kJ16_checkLength : zMk MJ16_checkLength := ⟨zt (lw_at lw_m3 147 rfl), zt (lw_at lw_m1 22 rfl), by decide +kernel, by decide, by decide +kernel⟩
abbrev MJ16_fill : zM := (yJ16_fill, cJ16_fill, 5, (Option.none : Option Jvm.ClassFile.FieldType), [])
theorem kJ16_fill : zMk MJ16_fill := ⟨zt (lw_at lw_m3 219 rfl), zt (lw_at lw_m1 22 rfl), by decide +kernel, by decide, by decide +kernel⟩
abbrev MJ16_rangeCheck : zM := (yJ16_rangeCheck, cJ16_rangeCheck, 3, (Option.none : Option Jvm.ClassFile.FieldType), [])
theorem kJ16_rangeCheck : zMk MJ16_rangeCheck := ⟨zt (lw_at lw_m3 222 rfl), zt (lw_at lw_m1 22 rfl), by decide +kernel, by decide, by decide +kernel⟩
abbrev MJ16_copyOf_2 : zM := (yJ16_copyOf_2, cJ16_copyOf_2, 2, (Option.some (Jvm.ClassFile.FieldType.array (Jvm.ClassFile.FieldType.object "java/lang/Object"))), [])
theorem kJ16_copyOf_2 : zMk MJ16_copyOf_2 := ⟨zt (lw_at lw_m5 237 rfl), zt (lw_at lw_m1 22 rfl), by decide +kernel, by decide, by decide +kernel⟩
abbrev MJ16_copyOf_3 : zM := (yJ16_copyOf_3, cJ16_copyOf_3, 4, (Option.some (Jvm.ClassFile.FieldType.array (Jvm.ClassFile.FieldType.object "java/lang/Object"))), [])
theorem kJ16_copyOf_3 : zMk MJ16_copyOf_3 := ⟨zt (lw_at lw_m6 1 rfl), zt (lw_at lw_m1 22 rfl), by decide +kernel, by decide, by decide +kernel⟩
/-! java/lang/Number -/
set_option maxRecDepth 100000
abbrev cJ17_init : ByteArray := prog_31_method_1_code
def yJ17_init : MethodName := ⟨RJ17, "<init>", "()V"⟩
theorem dJ17_init_0 : decode cJ17_init 0 = .ok (.aload_n 0, 1) := by decide +kernel
theorem dJ17_init_1 : decode cJ17_init 1 = .ok (.invokespecial 1, 3) := by decide +kernel
theorem dJ17_init_4 : decode cJ17_init 4 = .ok (.return_, 1) := by decide +kernel
abbrev MJ17_init : zM := (yJ17_init, cJ17_init, 1, (Option.none : Option Jvm.ClassFile.FieldType), [])
theorem kJ17_init : zMk MJ17_init := ⟨zt (lw_at lw_m6 25 rfl), zt (lw_at lw_m1 24 rfl), by decide +kernel, by decide, by decide +kernel⟩
/-! java/lang/Integer -/
set_option maxRecDepth 100000
abbrev cJ18_intValue : ByteArray := prog_27_method_27_code
def yJ18_intValue : MethodName := ⟨RJ18, "intValue", "()I"⟩
theorem dJ18_intValue_0 : decode cJ18_intValue 0 = .ok (.aload_n 0, 1) := by decide +kernel
theorem dJ18_intValue_1 : decode cJ18_intValue 1 = .ok (.getfield 205, 3) := by decide +kernel
theorem dJ18_intValue_4 : decode cJ18_intValue 4 = .ok (.ireturn, 1) := by decide +kernel
abbrev cJ18_stringSize : ByteArray := prog_27_method_13_code
def yJ18_stringSize : MethodName := ⟨RJ18, "stringSize", "(I)I"⟩
def dkwJ18_stringSize_1 : List UInt8 := [164, 0, 7, 29, 27, 96, 172, 16, 10, 28, 104, 61, 132, 3, 1, 167, 255, 233, 16, 10, 27, 96, 172]
abbrev dktJ18_stringSize_1 : List UInt8 := dkwJ18_stringSize_1 ++ []
def dkwJ18_stringSize_0 : List UInt8 := [4, 60, 26, 155, 0, 8, 3, 60, 26, 116, 59, 16, 246, 61, 4, 62, 29, 16, 10, 162, 0, 23, 26, 28]
abbrev dktJ18_stringSize_0 : List UInt8 := dkwJ18_stringSize_0 ++ dktJ18_stringSize_1
theorem dksJ18_stringSize_0 : cJ18_stringSize.data.toList.drop 0 = dktJ18_stringSize_0 := by decide +kernel
theorem dksJ18_stringSize_1 : cJ18_stringSize.data.toList.drop 24 = dktJ18_stringSize_1 := dk_seg dksJ18_stringSize_0 24 rfl rfl
theorem dJ18_stringSize_0 : decode cJ18_stringSize 0 = .ok (.iconst 1, 1) := dk_4 (dk_at dksJ18_stringSize_0 0 rfl rfl)
theorem dJ18_stringSize_1 : decode cJ18_stringSize 1 = .ok (.istore_n 1, 1) := dk_60 (dk_at dksJ18_stringSize_0 1 rfl rfl)
theorem dJ18_stringSize_2 : decode cJ18_stringSize 2 = .ok (.iload_n 0, 1) := dk_26 (dk_at dksJ18_stringSize_0 2 rfl rfl)
theorem dJ18_stringSize_3 : decode cJ18_stringSize 3 = .ok (.ifCond .lt 8, 3) := dk_155 0 8 (dk_at dksJ18_stringSize_0 3 rfl rfl)
theorem dJ18_stringSize_6 : decode cJ18_stringSize 6 = .ok (.iconst 0, 1) := dk_3 (dk_at dksJ18_stringSize_0 6 rfl rfl)
theorem dJ18_stringSize_7 : decode cJ18_stringSize 7 = .ok (.istore_n 1, 1) := dk_60 (dk_at dksJ18_stringSize_0 7 rfl rfl)
theorem dJ18_stringSize_8 : decode cJ18_stringSize 8 = .ok (.iload_n 0, 1) := dk_26 (dk_at dksJ18_stringSize_0 8 rfl rfl)
theorem dJ18_stringSize_9 : decode cJ18_stringSize 9 = .ok (.ineg, 1) := dk_116 (dk_at dksJ18_stringSize_0 9 rfl rfl)
theorem dJ18_stringSize_10 : decode cJ18_stringSize 10 = .ok (.istore_n 0, 1) := dk_59 (dk_at dksJ18_stringSize_0 10 rfl rfl)
theorem dJ18_stringSize_11 : decode cJ18_stringSize 11 = .ok (.bipush (-10), 2) := dk_16 246 (dk_at dksJ18_stringSize_0 11 rfl rfl)
theorem dJ18_stringSize_13 : decode cJ18_stringSize 13 = .ok (.istore_n 2, 1) := dk_61 (dk_at dksJ18_stringSize_0 13 rfl rfl)
theorem dJ18_stringSize_14 : decode cJ18_stringSize 14 = .ok (.iconst 1, 1) := dk_4 (dk_at dksJ18_stringSize_0 14 rfl rfl)
theorem dJ18_stringSize_15 : decode cJ18_stringSize 15 = .ok (.istore_n 3, 1) := dk_62 (dk_at dksJ18_stringSize_0 15 rfl rfl)
theorem dJ18_stringSize_16 : decode cJ18_stringSize 16 = .ok (.iload_n 3, 1) := dk_29 (dk_at dksJ18_stringSize_0 16 rfl rfl)
theorem dJ18_stringSize_17 : decode cJ18_stringSize 17 = .ok (.bipush 10, 2) := dk_16 10 (dk_at dksJ18_stringSize_0 17 rfl rfl)
theorem dJ18_stringSize_19 : decode cJ18_stringSize 19 = .ok (.if_icmp .ge 23, 3) := dk_162 0 23 (dk_at dksJ18_stringSize_0 19 rfl rfl)
theorem dJ18_stringSize_22 : decode cJ18_stringSize 22 = .ok (.iload_n 0, 1) := dk_26 (dk_at dksJ18_stringSize_0 22 rfl rfl)
theorem dJ18_stringSize_23 : decode cJ18_stringSize 23 = .ok (.iload_n 2, 1) := dk_28 (dk_at dksJ18_stringSize_0 23 rfl rfl)
theorem dJ18_stringSize_24 : decode cJ18_stringSize 24 = .ok (.if_icmp .le 7, 3) := dk_164 0 7 (dk_at dksJ18_stringSize_1 0 rfl rfl)
theorem dJ18_stringSize_27 : decode cJ18_stringSize 27 = .ok (.iload_n 3, 1) := dk_29 (dk_at dksJ18_stringSize_1 3 rfl rfl)
theorem dJ18_stringSize_28 : decode cJ18_stringSize 28 = .ok (.iload_n 1, 1) := dk_27 (dk_at dksJ18_stringSize_1 4 rfl rfl)
theorem dJ18_stringSize_29 : decode cJ18_stringSize 29 = .ok (.iadd, 1) := dk_96 (dk_at dksJ18_stringSize_1 5 rfl rfl)
theorem dJ18_stringSize_30 : decode cJ18_stringSize 30 = .ok (.ireturn, 1) := dk_172 (dk_at dksJ18_stringSize_1 6 rfl rfl)
theorem dJ18_stringSize_31 : decode cJ18_stringSize 31 = .ok (.bipush 10, 2) := dk_16 10 (dk_at dksJ18_stringSize_1 7 rfl rfl)
theorem dJ18_stringSize_33 : decode cJ18_stringSize 33 = .ok (.iload_n 2, 1) := dk_28 (dk_at dksJ18_stringSize_1 9 rfl rfl)
theorem dJ18_stringSize_34 : decode cJ18_stringSize 34 = .ok (.imul, 1) := dk_104 (dk_at dksJ18_stringSize_1 10 rfl rfl)
theorem dJ18_stringSize_35 : decode cJ18_stringSize 35 = .ok (.istore_n 2, 1) := dk_61 (dk_at dksJ18_stringSize_1 11 rfl rfl)
theorem dJ18_stringSize_36 : decode cJ18_stringSize 36 = .ok (.iinc 3 1, 3) := dk_132 3 1 (dk_at dksJ18_stringSize_1 12 rfl rfl)
theorem dJ18_stringSize_39 : decode cJ18_stringSize 39 = .ok (.goto (-23), 3) := dk_167 255 233 (dk_at dksJ18_stringSize_1 15 rfl rfl)
theorem dJ18_stringSize_42 : decode cJ18_stringSize 42 = .ok (.bipush 10, 2) := dk_16 10 (dk_at dksJ18_stringSize_1 18 rfl rfl)
theorem dJ18_stringSize_44 : decode cJ18_stringSize 44 = .ok (.iload_n 1, 1) := dk_27 (dk_at dksJ18_stringSize_1 20 rfl rfl)
theorem dJ18_stringSize_45 : decode cJ18_stringSize 45 = .ok (.iadd, 1) := dk_96 (dk_at dksJ18_stringSize_1 21 rfl rfl)
theorem dJ18_stringSize_46 : decode cJ18_stringSize 46 = .ok (.ireturn, 1) := dk_172 (dk_at dksJ18_stringSize_1 22 rfl rfl)
abbrev cJ18_getChars : ByteArray := prog_27_method_12_code
def yJ18_getChars : MethodName := ⟨RJ18, "getChars", "(II[B)I"⟩
def dkwJ18_getChars_5 : List UInt8 := [16, 45, 84, 21, 5, 172]
abbrev dktJ18_getChars_5 : List UInt8 := dkwJ18_getChars_5 ++ []
def dkwJ18_getChars_4 : List UInt8 := [132, 5, 255, 21, 5, 178, 0, 87, 26, 116, 51, 84, 21, 6, 153, 0, 12, 44, 132, 5, 255, 21, 5]
abbrev dktJ18_getChars_4 : List UInt8 := dkwJ18_getChars_4 ++ dktJ18_getChars_5
def dkwJ18_getChars_3 : List UInt8 := [167, 255, 209, 44, 132, 5, 255, 21, 5, 178, 0, 83, 26, 116, 51, 84, 26, 16, 247, 162, 0, 16, 44]
abbrev dktJ18_getChars_3 : List UInt8 := dkwJ18_getChars_3 ++ dktJ18_getChars_4
def dkwJ18_getChars_2 : List UInt8 := [21, 5, 178, 0, 83, 21, 4, 51, 84, 44, 132, 5, 255, 21, 5, 178, 0, 87, 21, 4, 51, 84]
abbrev dktJ18_getChars_2 : List UInt8 := dkwJ18_getChars_2 ++ dktJ18_getChars_3
def dkwJ18_getChars_1 : List UInt8 := [16, 156, 163, 0, 47, 26, 16, 100, 108, 62, 29, 16, 100, 104, 26, 100, 54, 4, 29, 59, 44, 132, 5, 255]
abbrev dktJ18_getChars_1 : List UInt8 := dkwJ18_getChars_1 ++ dktJ18_getChars_2
def dkwJ18_getChars_0 : List UInt8 := [27, 54, 5, 26, 156, 0, 7, 4, 167, 0, 4, 3, 54, 6, 21, 6, 154, 0, 6, 26, 116, 59, 26]
abbrev dktJ18_getChars_0 : List UInt8 := dkwJ18_getChars_0 ++ dktJ18_getChars_1
theorem dksJ18_getChars_0 : cJ18_getChars.data.toList.drop 0 = dktJ18_getChars_0 := by decide +kernel
theorem dksJ18_getChars_1 : cJ18_getChars.data.toList.drop 23 = dktJ18_getChars_1 := dk_seg dksJ18_getChars_0 23 rfl rfl
theorem dksJ18_getChars_2 : cJ18_getChars.data.toList.drop 47 = dktJ18_getChars_2 := dk_seg dksJ18_getChars_1 24 rfl rfl
theorem dksJ18_getChars_3 : cJ18_getChars.data.toList.drop 69 = dktJ18_getChars_3 := dk_seg dksJ18_getChars_2 22 rfl rfl
theorem dksJ18_getChars_4 : cJ18_getChars.data.toList.drop 92 = dktJ18_getChars_4 := dk_seg dksJ18_getChars_3 23 rfl rfl
theorem dksJ18_getChars_5 : cJ18_getChars.data.toList.drop 115 = dktJ18_getChars_5 := dk_seg dksJ18_getChars_4 23 rfl rfl
theorem dJ18_getChars_0 : decode cJ18_getChars 0 = .ok (.iload_n 1, 1) := dk_27 (dk_at dksJ18_getChars_0 0 rfl rfl)
theorem dJ18_getChars_1 : decode cJ18_getChars 1 = .ok (.istore 5, 2) := dk_54 5 (dk_at dksJ18_getChars_0 1 rfl rfl)
theorem dJ18_getChars_3 : decode cJ18_getChars 3 = .ok (.iload_n 0, 1) := dk_26 (dk_at dksJ18_getChars_0 3 rfl rfl)
theorem dJ18_getChars_4 : decode cJ18_getChars 4 = .ok (.ifCond .ge 7, 3) := dk_156 0 7 (dk_at dksJ18_getChars_0 4 rfl rfl)
theorem dJ18_getChars_7 : decode cJ18_getChars 7 = .ok (.iconst 1, 1) := dk_4 (dk_at dksJ18_getChars_0 7 rfl rfl)
theorem dJ18_getChars_8 : decode cJ18_getChars 8 = .ok (.goto 4, 3) := dk_167 0 4 (dk_at dksJ18_getChars_0 8 rfl rfl)
theorem dJ18_getChars_11 : decode cJ18_getChars 11 = .ok (.iconst 0, 1) := dk_3 (dk_at dksJ18_getChars_0 11 rfl rfl)
theorem dJ18_getChars_12 : decode cJ18_getChars 12 = .ok (.istore 6, 2) := dk_54 6 (dk_at dksJ18_getChars_0 12 rfl rfl)
theorem dJ18_getChars_14 : decode cJ18_getChars 14 = .ok (.iload 6, 2) := dk_21 6 (dk_at dksJ18_getChars_0 14 rfl rfl)
theorem dJ18_getChars_16 : decode cJ18_getChars 16 = .ok (.ifCond .ne 6, 3) := dk_154 0 6 (dk_at dksJ18_getChars_0 16 rfl rfl)
theorem dJ18_getChars_19 : decode cJ18_getChars 19 = .ok (.iload_n 0, 1) := dk_26 (dk_at dksJ18_getChars_0 19 rfl rfl)
theorem dJ18_getChars_20 : decode cJ18_getChars 20 = .ok (.ineg, 1) := dk_116 (dk_at dksJ18_getChars_0 20 rfl rfl)
theorem dJ18_getChars_21 : decode cJ18_getChars 21 = .ok (.istore_n 0, 1) := dk_59 (dk_at dksJ18_getChars_0 21 rfl rfl)
theorem dJ18_getChars_22 : decode cJ18_getChars 22 = .ok (.iload_n 0, 1) := dk_26 (dk_at dksJ18_getChars_0 22 rfl rfl)
theorem dJ18_getChars_23 : decode cJ18_getChars 23 = .ok (.bipush (-100), 2) := dk_16 156 (dk_at dksJ18_getChars_1 0 rfl rfl)
theorem dJ18_getChars_25 : decode cJ18_getChars 25 = .ok (.if_icmp .gt 47, 3) := dk_163 0 47 (dk_at dksJ18_getChars_1 2 rfl rfl)
theorem dJ18_getChars_28 : decode cJ18_getChars 28 = .ok (.iload_n 0, 1) := dk_26 (dk_at dksJ18_getChars_1 5 rfl rfl)
theorem dJ18_getChars_29 : decode cJ18_getChars 29 = .ok (.bipush 100, 2) := dk_16 100 (dk_at dksJ18_getChars_1 6 rfl rfl)
theorem dJ18_getChars_31 : decode cJ18_getChars 31 = .ok (.idiv, 1) := dk_108 (dk_at dksJ18_getChars_1 8 rfl rfl)
theorem dJ18_getChars_32 : decode cJ18_getChars 32 = .ok (.istore_n 3, 1) := dk_62 (dk_at dksJ18_getChars_1 9 rfl rfl)
theorem dJ18_getChars_33 : decode cJ18_getChars 33 = .ok (.iload_n 3, 1) := dk_29 (dk_at dksJ18_getChars_1 10 rfl rfl)
theorem dJ18_getChars_34 : decode cJ18_getChars 34 = .ok (.bipush 100, 2) := dk_16 100 (dk_at dksJ18_getChars_1 11 rfl rfl)
theorem dJ18_getChars_36 : decode cJ18_getChars 36 = .ok (.imul, 1) := dk_104 (dk_at dksJ18_getChars_1 13 rfl rfl)
theorem dJ18_getChars_37 : decode cJ18_getChars 37 = .ok (.iload_n 0, 1) := dk_26 (dk_at dksJ18_getChars_1 14 rfl rfl)
theorem dJ18_getChars_38 : decode cJ18_getChars 38 = .ok (.isub, 1) := dk_100 (dk_at dksJ18_getChars_1 15 rfl rfl)
theorem dJ18_getChars_39 : decode cJ18_getChars 39 = .ok (.istore 4, 2) := dk_54 4 (dk_at dksJ18_getChars_1 16 rfl rfl)
theorem dJ18_getChars_41 : decode cJ18_getChars 41 = .ok (.iload_n 3, 1) := dk_29 (dk_at dksJ18_getChars_1 18 rfl rfl)
theorem dJ18_getChars_42 : decode cJ18_getChars 42 = .ok (.istore_n 0, 1) := dk_59 (dk_at dksJ18_getChars_1 19 rfl rfl)
theorem dJ18_getChars_43 : decode cJ18_getChars 43 = .ok (.aload_n 2, 1) := dk_44 (dk_at dksJ18_getChars_1 20 rfl rfl)
theorem dJ18_getChars_44 : decode cJ18_getChars 44 = .ok (.iinc 5 (-1), 3) := dk_132 5 255 (dk_at dksJ18_getChars_1 21 rfl rfl)
theorem dJ18_getChars_47 : decode cJ18_getChars 47 = .ok (.iload 5, 2) := dk_21 5 (dk_at dksJ18_getChars_2 0 rfl rfl)
theorem dJ18_getChars_49 : decode cJ18_getChars 49 = .ok (.getstatic 83, 3) := dk_178 0 83 (dk_at dksJ18_getChars_2 2 rfl rfl)
theorem dJ18_getChars_52 : decode cJ18_getChars 52 = .ok (.iload 4, 2) := dk_21 4 (dk_at dksJ18_getChars_2 5 rfl rfl)
theorem dJ18_getChars_54 : decode cJ18_getChars 54 = .ok (.baload, 1) := dk_51 (dk_at dksJ18_getChars_2 7 rfl rfl)
theorem dJ18_getChars_55 : decode cJ18_getChars 55 = .ok (.bastore, 1) := dk_84 (dk_at dksJ18_getChars_2 8 rfl rfl)
theorem dJ18_getChars_56 : decode cJ18_getChars 56 = .ok (.aload_n 2, 1) := dk_44 (dk_at dksJ18_getChars_2 9 rfl rfl)
theorem dJ18_getChars_57 : decode cJ18_getChars 57 = .ok (.iinc 5 (-1), 3) := dk_132 5 255 (dk_at dksJ18_getChars_2 10 rfl rfl)
theorem dJ18_getChars_60 : decode cJ18_getChars 60 = .ok (.iload 5, 2) := dk_21 5 (dk_at dksJ18_getChars_2 13 rfl rfl)
theorem dJ18_getChars_62 : decode cJ18_getChars 62 = .ok (.getstatic 87, 3) := dk_178 0 87 (dk_at dksJ18_getChars_2 15 rfl rfl)
theorem dJ18_getChars_65 : decode cJ18_getChars 65 = .ok (.iload 4, 2) := dk_21 4 (dk_at dksJ18_getChars_2 18 rfl rfl)
theorem dJ18_getChars_67 : decode cJ18_getChars 67 = .ok (.baload, 1) := dk_51 (dk_at dksJ18_getChars_2 20 rfl rfl)
theorem dJ18_getChars_68 : decode cJ18_getChars 68 = .ok (.bastore, 1) := dk_84 (dk_at dksJ18_getChars_2 21 rfl rfl)
theorem dJ18_getChars_69 : decode cJ18_getChars 69 = .ok (.goto (-47), 3) := dk_167 255 209 (dk_at dksJ18_getChars_3 0 rfl rfl)
theorem dJ18_getChars_72 : decode cJ18_getChars 72 = .ok (.aload_n 2, 1) := dk_44 (dk_at dksJ18_getChars_3 3 rfl rfl)
theorem dJ18_getChars_73 : decode cJ18_getChars 73 = .ok (.iinc 5 (-1), 3) := dk_132 5 255 (dk_at dksJ18_getChars_3 4 rfl rfl)
theorem dJ18_getChars_76 : decode cJ18_getChars 76 = .ok (.iload 5, 2) := dk_21 5 (dk_at dksJ18_getChars_3 7 rfl rfl)
theorem dJ18_getChars_78 : decode cJ18_getChars 78 = .ok (.getstatic 83, 3) := dk_178 0 83 (dk_at dksJ18_getChars_3 9 rfl rfl)
theorem dJ18_getChars_81 : decode cJ18_getChars 81 = .ok (.iload_n 0, 1) := dk_26 (dk_at dksJ18_getChars_3 12 rfl rfl)
theorem dJ18_getChars_82 : decode cJ18_getChars 82 = .ok (.ineg, 1) := dk_116 (dk_at dksJ18_getChars_3 13 rfl rfl)
theorem dJ18_getChars_83 : decode cJ18_getChars 83 = .ok (.baload, 1) := dk_51 (dk_at dksJ18_getChars_3 14 rfl rfl)
theorem dJ18_getChars_84 : decode cJ18_getChars 84 = .ok (.bastore, 1) := dk_84 (dk_at dksJ18_getChars_3 15 rfl rfl)
theorem dJ18_getChars_85 : decode cJ18_getChars 85 = .ok (.iload_n 0, 1) := dk_26 (dk_at dksJ18_getChars_3 16 rfl rfl)
theorem dJ18_getChars_86 : decode cJ18_getChars 86 = .ok (.bipush (-9), 2) := dk_16 247 (dk_at dksJ18_getChars_3 17 rfl rfl)
theorem dJ18_getChars_88 : decode cJ18_getChars 88 = .ok (.if_icmp .ge 16, 3) := dk_162 0 16 (dk_at dksJ18_getChars_3 19 rfl rfl)
theorem dJ18_getChars_91 : decode cJ18_getChars 91 = .ok (.aload_n 2, 1) := dk_44 (dk_at dksJ18_getChars_3 22 rfl rfl)
theorem dJ18_getChars_92 : decode cJ18_getChars 92 = .ok (.iinc 5 (-1), 3) := dk_132 5 255 (dk_at dksJ18_getChars_4 0 rfl rfl)
theorem dJ18_getChars_95 : decode cJ18_getChars 95 = .ok (.iload 5, 2) := dk_21 5 (dk_at dksJ18_getChars_4 3 rfl rfl)
theorem dJ18_getChars_97 : decode cJ18_getChars 97 = .ok (.getstatic 87, 3) := dk_178 0 87 (dk_at dksJ18_getChars_4 5 rfl rfl)
theorem dJ18_getChars_100 : decode cJ18_getChars 100 = .ok (.iload_n 0, 1) := dk_26 (dk_at dksJ18_getChars_4 8 rfl rfl)
theorem dJ18_getChars_101 : decode cJ18_getChars 101 = .ok (.ineg, 1) := dk_116 (dk_at dksJ18_getChars_4 9 rfl rfl)
theorem dJ18_getChars_102 : decode cJ18_getChars 102 = .ok (.baload, 1) := dk_51 (dk_at dksJ18_getChars_4 10 rfl rfl)
theorem dJ18_getChars_103 : decode cJ18_getChars 103 = .ok (.bastore, 1) := dk_84 (dk_at dksJ18_getChars_4 11 rfl rfl)
theorem dJ18_getChars_104 : decode cJ18_getChars 104 = .ok (.iload 6, 2) := dk_21 6 (dk_at dksJ18_getChars_4 12 rfl rfl)
theorem dJ18_getChars_106 : decode cJ18_getChars 106 = .ok (.ifCond .eq 12, 3) := dk_153 0 12 (dk_at dksJ18_getChars_4 14 rfl rfl)
theorem dJ18_getChars_109 : decode cJ18_getChars 109 = .ok (.aload_n 2, 1) := dk_44 (dk_at dksJ18_getChars_4 17 rfl rfl)
theorem dJ18_getChars_110 : decode cJ18_getChars 110 = .ok (.iinc 5 (-1), 3) := dk_132 5 255 (dk_at dksJ18_getChars_4 18 rfl rfl)
theorem dJ18_getChars_113 : decode cJ18_getChars 113 = .ok (.iload 5, 2) := dk_21 5 (dk_at dksJ18_getChars_4 21 rfl rfl)
theorem dJ18_getChars_115 : decode cJ18_getChars 115 = .ok (.bipush 45, 2) := dk_16 45 (dk_at dksJ18_getChars_5 0 rfl rfl)
theorem dJ18_getChars_117 : decode cJ18_getChars 117 = .ok (.bastore, 1) := dk_84 (dk_at dksJ18_getChars_5 2 rfl rfl)
theorem dJ18_getChars_118 : decode cJ18_getChars 118 = .ok (.iload 5, 2) := dk_21 5 (dk_at dksJ18_getChars_5 3 rfl rfl)
theorem dJ18_getChars_120 : decode cJ18_getChars 120 = .ok (.ireturn, 1) := dk_172 (dk_at dksJ18_getChars_5 5 rfl rfl)
abbrev cJ18_toString : ByteArray := prog_27_method_31_code
def yJ18_toString : MethodName := ⟨RJ18, "toString", "()Ljava/lang/String;"⟩
def dkwJ18_toString_0 : List UInt8 := [42, 180, 0, 205, 184, 0, 9, 176]
abbrev dktJ18_toString_0 : List UInt8 := dkwJ18_toString_0 ++ []
theorem dksJ18_toString_0 : cJ18_toString.data.toList.drop 0 = dktJ18_toString_0 := by decide +kernel
theorem dJ18_toString_0 : decode cJ18_toString 0 = .ok (.aload_n 0, 1) := dk_42 (dk_at dksJ18_toString_0 0 rfl rfl)
theorem dJ18_toString_1 : decode cJ18_toString 1 = .ok (.getfield 205, 3) := dk_180 0 205 (dk_at dksJ18_toString_0 1 rfl rfl)
theorem dJ18_toString_4 : decode cJ18_toString 4 = .ok (.invokestatic 9, 3) := dk_184 0 9 (dk_at dksJ18_toString_0 4 rfl rfl)
theorem dJ18_toString_7 : decode cJ18_toString 7 = .ok (.areturn, 1) := dk_176 (dk_at dksJ18_toString_0 7 rfl rfl)
abbrev cJ18_toString_2 : ByteArray := prog_27_method_10_code
def yJ18_toString_2 : MethodName := ⟨RJ18, "toString", "(I)Ljava/lang/String;"⟩
def dkwJ18_toString_2_2 : List UInt8 := [187, 0, 5, 89, 44, 4, 183, 0, 65, 176]
abbrev dktJ18_toString_2_2 : List UInt8 := dkwJ18_toString_2_2 ++ []
def dkwJ18_toString_2_1 : List UInt8 := [187, 0, 5, 89, 44, 3, 183, 0, 65, 176, 27, 5, 104, 188, 8, 77, 26, 27, 44, 184, 0, 79, 87]
abbrev dktJ18_toString_2_1 : List UInt8 := dkwJ18_toString_2_1 ++ dktJ18_toString_2_2
def dkwJ18_toString_2_0 : List UInt8 := [26, 184, 0, 72, 60, 178, 0, 13, 153, 0, 24, 27, 188, 8, 77, 26, 27, 44, 184, 0, 75, 87]
abbrev dktJ18_toString_2_0 : List UInt8 := dkwJ18_toString_2_0 ++ dktJ18_toString_2_1
theorem dksJ18_toString_2_0 : cJ18_toString_2.data.toList.drop 0 = dktJ18_toString_2_0 := by decide +kernel
theorem dksJ18_toString_2_1 : cJ18_toString_2.data.toList.drop 22 = dktJ18_toString_2_1 := dk_seg dksJ18_toString_2_0 22 rfl rfl
theorem dksJ18_toString_2_2 : cJ18_toString_2.data.toList.drop 45 = dktJ18_toString_2_2 := dk_seg dksJ18_toString_2_1 23 rfl rfl
theorem dJ18_toString_2_0 : decode cJ18_toString_2 0 = .ok (.iload_n 0, 1) := dk_26 (dk_at dksJ18_toString_2_0 0 rfl rfl)
theorem dJ18_toString_2_1 : decode cJ18_toString_2 1 = .ok (.invokestatic 72, 3) := dk_184 0 72 (dk_at dksJ18_toString_2_0 1 rfl rfl)
theorem dJ18_toString_2_4 : decode cJ18_toString_2 4 = .ok (.istore_n 1, 1) := dk_60 (dk_at dksJ18_toString_2_0 4 rfl rfl)
theorem dJ18_toString_2_5 : decode cJ18_toString_2 5 = .ok (.getstatic 13, 3) := dk_178 0 13 (dk_at dksJ18_toString_2_0 5 rfl rfl)
theorem dJ18_toString_2_8 : decode cJ18_toString_2 8 = .ok (.ifCond .eq 24, 3) := dk_153 0 24 (dk_at dksJ18_toString_2_0 8 rfl rfl)
theorem dJ18_toString_2_11 : decode cJ18_toString_2 11 = .ok (.iload_n 1, 1) := dk_27 (dk_at dksJ18_toString_2_0 11 rfl rfl)
theorem dJ18_toString_2_12 : decode cJ18_toString_2 12 = .ok (.newarray .byte, 2) := dk_188_8 (dk_at dksJ18_toString_2_0 12 rfl rfl)
theorem dJ18_toString_2_14 : decode cJ18_toString_2 14 = .ok (.astore_n 2, 1) := dk_77 (dk_at dksJ18_toString_2_0 14 rfl rfl)
theorem dJ18_toString_2_15 : decode cJ18_toString_2 15 = .ok (.iload_n 0, 1) := dk_26 (dk_at dksJ18_toString_2_0 15 rfl rfl)
theorem dJ18_toString_2_16 : decode cJ18_toString_2 16 = .ok (.iload_n 1, 1) := dk_27 (dk_at dksJ18_toString_2_0 16 rfl rfl)
theorem dJ18_toString_2_17 : decode cJ18_toString_2 17 = .ok (.aload_n 2, 1) := dk_44 (dk_at dksJ18_toString_2_0 17 rfl rfl)
theorem dJ18_toString_2_18 : decode cJ18_toString_2 18 = .ok (.invokestatic 75, 3) := dk_184 0 75 (dk_at dksJ18_toString_2_0 18 rfl rfl)
theorem dJ18_toString_2_21 : decode cJ18_toString_2 21 = .ok (.pop, 1) := dk_87 (dk_at dksJ18_toString_2_0 21 rfl rfl)
theorem dJ18_toString_2_22 : decode cJ18_toString_2 22 = .ok (.new 5, 3) := dk_187 0 5 (dk_at dksJ18_toString_2_1 0 rfl rfl)
theorem dJ18_toString_2_25 : decode cJ18_toString_2 25 = .ok (.dup, 1) := dk_89 (dk_at dksJ18_toString_2_1 3 rfl rfl)
theorem dJ18_toString_2_26 : decode cJ18_toString_2 26 = .ok (.aload_n 2, 1) := dk_44 (dk_at dksJ18_toString_2_1 4 rfl rfl)
theorem dJ18_toString_2_27 : decode cJ18_toString_2 27 = .ok (.iconst 0, 1) := dk_3 (dk_at dksJ18_toString_2_1 5 rfl rfl)
theorem dJ18_toString_2_28 : decode cJ18_toString_2 28 = .ok (.invokespecial 65, 3) := dk_183 0 65 (dk_at dksJ18_toString_2_1 6 rfl rfl)
theorem dJ18_toString_2_31 : decode cJ18_toString_2 31 = .ok (.areturn, 1) := dk_176 (dk_at dksJ18_toString_2_1 9 rfl rfl)
theorem dJ18_toString_2_32 : decode cJ18_toString_2 32 = .ok (.iload_n 1, 1) := dk_27 (dk_at dksJ18_toString_2_1 10 rfl rfl)
theorem dJ18_toString_2_33 : decode cJ18_toString_2 33 = .ok (.iconst 2, 1) := dk_5 (dk_at dksJ18_toString_2_1 11 rfl rfl)
theorem dJ18_toString_2_34 : decode cJ18_toString_2 34 = .ok (.imul, 1) := dk_104 (dk_at dksJ18_toString_2_1 12 rfl rfl)
theorem dJ18_toString_2_35 : decode cJ18_toString_2 35 = .ok (.newarray .byte, 2) := dk_188_8 (dk_at dksJ18_toString_2_1 13 rfl rfl)
theorem dJ18_toString_2_37 : decode cJ18_toString_2 37 = .ok (.astore_n 2, 1) := dk_77 (dk_at dksJ18_toString_2_1 15 rfl rfl)
theorem dJ18_toString_2_38 : decode cJ18_toString_2 38 = .ok (.iload_n 0, 1) := dk_26 (dk_at dksJ18_toString_2_1 16 rfl rfl)
theorem dJ18_toString_2_39 : decode cJ18_toString_2 39 = .ok (.iload_n 1, 1) := dk_27 (dk_at dksJ18_toString_2_1 17 rfl rfl)
theorem dJ18_toString_2_40 : decode cJ18_toString_2 40 = .ok (.aload_n 2, 1) := dk_44 (dk_at dksJ18_toString_2_1 18 rfl rfl)
theorem dJ18_toString_2_41 : decode cJ18_toString_2 41 = .ok (.invokestatic 79, 3) := dk_184 0 79 (dk_at dksJ18_toString_2_1 19 rfl rfl)
theorem dJ18_toString_2_44 : decode cJ18_toString_2 44 = .ok (.pop, 1) := dk_87 (dk_at dksJ18_toString_2_1 22 rfl rfl)
theorem dJ18_toString_2_45 : decode cJ18_toString_2 45 = .ok (.new 5, 3) := dk_187 0 5 (dk_at dksJ18_toString_2_2 0 rfl rfl)
theorem dJ18_toString_2_48 : decode cJ18_toString_2 48 = .ok (.dup, 1) := dk_89 (dk_at dksJ18_toString_2_2 3 rfl rfl)
theorem dJ18_toString_2_49 : decode cJ18_toString_2 49 = .ok (.aload_n 2, 1) := dk_44 (dk_at dksJ18_toString_2_2 4 rfl rfl)
theorem dJ18_toString_2_50 : decode cJ18_toString_2 50 = .ok (.iconst 1, 1) := dk_4 (dk_at dksJ18_toString_2_2 5 rfl rfl)
theorem dJ18_toString_2_51 : decode cJ18_toString_2 51 = .ok (.invokespecial 65, 3) := dk_183 0 65 (dk_at dksJ18_toString_2_2 6 rfl rfl)
theorem dJ18_toString_2_54 : decode cJ18_toString_2 54 = .ok (.areturn, 1) := dk_176 (dk_at dksJ18_toString_2_2 9 rfl rfl)
abbrev cJ18_valueOf : ByteArray := prog_27_method_22_code
def yJ18_valueOf : MethodName := ⟨RJ18, "valueOf", "(I)Ljava/lang/Integer;"⟩
def dkwJ18_valueOf_1 : List UInt8 := [187, 0, 1, 89, 26, 183, 0, 199, 176]
abbrev dktJ18_valueOf_1 : List UInt8 := dkwJ18_valueOf_1 ++ []
def dkwJ18_valueOf_0 : List UInt8 := [26, 16, 128, 161, 0, 20, 26, 178, 0, 191, 163, 0, 13, 178, 0, 195, 26, 17, 0, 128, 96, 50, 176]
abbrev dktJ18_valueOf_0 : List UInt8 := dkwJ18_valueOf_0 ++ dktJ18_valueOf_1
theorem dksJ18_valueOf_0 : cJ18_valueOf.data.toList.drop 0 = dktJ18_valueOf_0 := by decide +kernel
theorem dksJ18_valueOf_1 : cJ18_valueOf.data.toList.drop 23 = dktJ18_valueOf_1 := dk_seg dksJ18_valueOf_0 23 rfl rfl
theorem dJ18_valueOf_0 : decode cJ18_valueOf 0 = .ok (.iload_n 0, 1) := dk_26 (dk_at dksJ18_valueOf_0 0 rfl rfl)
theorem dJ18_valueOf_1 : decode cJ18_valueOf 1 = .ok (.bipush (-128), 2) := dk_16 128 (dk_at dksJ18_valueOf_0 1 rfl rfl)
theorem dJ18_valueOf_3 : decode cJ18_valueOf 3 = .ok (.if_icmp .lt 20, 3) := dk_161 0 20 (dk_at dksJ18_valueOf_0 3 rfl rfl)
theorem dJ18_valueOf_6 : decode cJ18_valueOf 6 = .ok (.iload_n 0, 1) := dk_26 (dk_at dksJ18_valueOf_0 6 rfl rfl)
theorem dJ18_valueOf_7 : decode cJ18_valueOf 7 = .ok (.getstatic 191, 3) := dk_178 0 191 (dk_at dksJ18_valueOf_0 7 rfl rfl)
theorem dJ18_valueOf_10 : decode cJ18_valueOf 10 = .ok (.if_icmp .gt 13, 3) := dk_163 0 13 (dk_at dksJ18_valueOf_0 10 rfl rfl)
theorem dJ18_valueOf_13 : decode cJ18_valueOf 13 = .ok (.getstatic 195, 3) := dk_178 0 195 (dk_at dksJ18_valueOf_0 13 rfl rfl)
theorem dJ18_valueOf_16 : decode cJ18_valueOf 16 = .ok (.iload_n 0, 1) := dk_26 (dk_at dksJ18_valueOf_0 16 rfl rfl)
theorem dJ18_valueOf_17 : decode cJ18_valueOf 17 = .ok (.sipush 128, 3) := dk_17 0 128 (dk_at dksJ18_valueOf_0 17 rfl rfl)
theorem dJ18_valueOf_20 : decode cJ18_valueOf 20 = .ok (.iadd, 1) := dk_96 (dk_at dksJ18_valueOf_0 20 rfl rfl)
theorem dJ18_valueOf_21 : decode cJ18_valueOf 21 = .ok (.aaload, 1) := dk_50 (dk_at dksJ18_valueOf_0 21 rfl rfl)
theorem dJ18_valueOf_22 : decode cJ18_valueOf 22 = .ok (.areturn, 1) := dk_176 (dk_at dksJ18_valueOf_0 22 rfl rfl)
theorem dJ18_valueOf_23 : decode cJ18_valueOf 23 = .ok (.new 1, 3) := dk_187 0 1 (dk_at dksJ18_valueOf_1 0 rfl rfl)
theorem dJ18_valueOf_26 : decode cJ18_valueOf 26 = .ok (.dup, 1) := dk_89 (dk_at dksJ18_valueOf_1 3 rfl rfl)
theorem dJ18_valueOf_27 : decode cJ18_valueOf 27 = .ok (.iload_n 0, 1) := dk_26 (dk_at dksJ18_valueOf_1 4 rfl rfl)
theorem dJ18_valueOf_28 : decode cJ18_valueOf 28 = .ok (.invokespecial 199, 3) := dk_183 0 199 (dk_at dksJ18_valueOf_1 5 rfl rfl)
theorem dJ18_valueOf_31 : decode cJ18_valueOf 31 = .ok (.areturn, 1) := dk_176 (dk_at dksJ18_valueOf_1 8 rfl rfl)
abbrev cJ18_init : ByteArray := prog_27_method_23_code
def yJ18_init : MethodName := ⟨RJ18, "<init>", "(I)V"⟩
def dkwJ18_init_0 : List UInt8 := [42, 183, 0, 202, 42, 27, 181, 0, 205, 177]
abbrev dktJ18_init_0 : List UInt8 := dkwJ18_init_0 ++ []
theorem dksJ18_init_0 : cJ18_init.data.toList.drop 0 = dktJ18_init_0 := by decide +kernel
theorem dJ18_init_0 : decode cJ18_init 0 = .ok (.aload_n 0, 1) := dk_42 (dk_at dksJ18_init_0 0 rfl rfl)
theorem dJ18_init_1 : decode cJ18_init 1 = .ok (.invokespecial 202, 3) := dk_183 0 202 (dk_at dksJ18_init_0 1 rfl rfl)
theorem dJ18_init_4 : decode cJ18_init 4 = .ok (.aload_n 0, 1) := dk_42 (dk_at dksJ18_init_0 4 rfl rfl)
theorem dJ18_init_5 : decode cJ18_init 5 = .ok (.iload_n 1, 1) := dk_27 (dk_at dksJ18_init_0 5 rfl rfl)
theorem dJ18_init_6 : decode cJ18_init 6 = .ok (.putfield 205, 3) := dk_181 0 205 (dk_at dksJ18_init_0 6 rfl rfl)
theorem dJ18_init_9 : decode cJ18_init 9 = .ok (.return_, 1) := dk_177 (dk_at dksJ18_init_0 9 rfl rfl)
abbrev cJ18_equals : ByteArray := prog_27_method_34_code
def yJ18_equals : MethodName := ⟨RJ18, "equals", "(Ljava/lang/Object;)Z"⟩
def dkwJ18_equals_1 : List UInt8 := [167, 0, 4, 3, 172, 3, 172]
abbrev dktJ18_equals_1 : List UInt8 := dkwJ18_equals_1 ++ []
def dkwJ18_equals_0 : List UInt8 := [43, 193, 0, 1, 153, 0, 23, 42, 180, 0, 205, 43, 192, 0, 1, 182, 0, 211, 160, 0, 7, 4]
abbrev dktJ18_equals_0 : List UInt8 := dkwJ18_equals_0 ++ dktJ18_equals_1
theorem dksJ18_equals_0 : cJ18_equals.data.toList.drop 0 = dktJ18_equals_0 := by decide +kernel
theorem dksJ18_equals_1 : cJ18_equals.data.toList.drop 22 = dktJ18_equals_1 := dk_seg dksJ18_equals_0 22 rfl rfl
theorem dJ18_equals_0 : decode cJ18_equals 0 = .ok (.aload_n 1, 1) := dk_43 (dk_at dksJ18_equals_0 0 rfl rfl)
theorem dJ18_equals_1 : decode cJ18_equals 1 = .ok (.instanceof 1, 3) := dk_193 0 1 (dk_at dksJ18_equals_0 1 rfl rfl)
theorem dJ18_equals_4 : decode cJ18_equals 4 = .ok (.ifCond .eq 23, 3) := dk_153 0 23 (dk_at dksJ18_equals_0 4 rfl rfl)
theorem dJ18_equals_7 : decode cJ18_equals 7 = .ok (.aload_n 0, 1) := dk_42 (dk_at dksJ18_equals_0 7 rfl rfl)
theorem dJ18_equals_8 : decode cJ18_equals 8 = .ok (.getfield 205, 3) := dk_180 0 205 (dk_at dksJ18_equals_0 8 rfl rfl)
theorem dJ18_equals_11 : decode cJ18_equals 11 = .ok (.aload_n 1, 1) := dk_43 (dk_at dksJ18_equals_0 11 rfl rfl)
theorem dJ18_equals_12 : decode cJ18_equals 12 = .ok (.checkcast 1, 3) := dk_192 0 1 (dk_at dksJ18_equals_0 12 rfl rfl)
theorem dJ18_equals_15 : decode cJ18_equals 15 = .ok (.invokevirtual 211, 3) := dk_182 0 211 (dk_at dksJ18_equals_0 15 rfl rfl)
theorem dJ18_equals_18 : decode cJ18_equals 18 = .ok (.if_icmp .ne 7, 3) := dk_160 0 7 (dk_at dksJ18_equals_0 18 rfl rfl)
theorem dJ18_equals_21 : decode cJ18_equals 21 = .ok (.iconst 1, 1) := dk_4 (dk_at dksJ18_equals_0 21 rfl rfl)
theorem dJ18_equals_22 : decode cJ18_equals 22 = .ok (.goto 4, 3) := dk_167 0 4 (dk_at dksJ18_equals_1 0 rfl rfl)
theorem dJ18_equals_25 : decode cJ18_equals 25 = .ok (.iconst 0, 1) := dk_3 (dk_at dksJ18_equals_1 3 rfl rfl)
theorem dJ18_equals_26 : decode cJ18_equals 26 = .ok (.ireturn, 1) := dk_172 (dk_at dksJ18_equals_1 4 rfl rfl)
theorem dJ18_equals_27 : decode cJ18_equals 27 = .ok (.iconst 0, 1) := dk_3 (dk_at dksJ18_equals_1 5 rfl rfl)
theorem dJ18_equals_28 : decode cJ18_equals 28 = .ok (.ireturn, 1) := dk_172 (dk_at dksJ18_equals_1 6 rfl rfl)
abbrev MJ18_intValue : zM := (yJ18_intValue, cJ18_intValue, 1, (Option.some Jvm.ClassFile.FieldType.int), [])
theorem kJ18_intValue : zMk MJ18_intValue := ⟨zt (lw_at lw_m2 154 rfl), zt (lw_at lw_m1 25 rfl), by decide +kernel, by decide, by decide +kernel⟩
abbrev MJ18_stringSize : zM := (yJ18_stringSize, cJ18_stringSize, 4, (Option.some Jvm.ClassFile.FieldType.int), [])
theorem kJ18_stringSize : zMk MJ18_stringSize := ⟨zt (lw_at lw_m3 96 rfl), zt (lw_at lw_m1 25 rfl), by decide +kernel, by decide, by decide +kernel⟩
abbrev MJ18_getChars : zM := (yJ18_getChars, cJ18_getChars, 7, (Option.some Jvm.ClassFile.FieldType.int), [])
theorem kJ18_getChars : zMk MJ18_getChars := ⟨zt (lw_at lw_m3 99 rfl), zt (lw_at lw_m1 25 rfl), by decide +kernel, by decide, by decide +kernel⟩
abbrev MJ18_toString : zM := (yJ18_toString, cJ18_toString, 1, (Option.some (Jvm.ClassFile.FieldType.object "java/lang/String")), [])
theorem kJ18_toString : zMk MJ18_toString := ⟨zt (lw_at lw_m4 106 rfl), zt (lw_at lw_m1 25 rfl), by decide +kernel, by decide, by decide +kernel⟩
abbrev MJ18_toString_2 : zM := (yJ18_toString_2, cJ18_toString_2, 3, (Option.some (Jvm.ClassFile.FieldType.object "java/lang/String")), [])
theorem kJ18_toString_2 : zMk MJ18_toString_2 := ⟨zt (lw_at lw_m4 109 rfl), zt (lw_at lw_m1 25 rfl), by decide +kernel, by decide, by decide +kernel⟩
abbrev MJ18_valueOf : zM := (yJ18_valueOf, cJ18_valueOf, 1, (Option.some (Jvm.ClassFile.FieldType.object "java/lang/Integer")), [])
theorem kJ18_valueOf : zMk MJ18_valueOf := ⟨zt (lw_at lw_m6 13 rfl), zt (lw_at lw_m1 25 rfl), by decide +kernel, by decide, by decide +kernel⟩
abbrev MJ18_init : zM := (yJ18_init, cJ18_init, 2, (Option.none : Option Jvm.ClassFile.FieldType), [])
theorem kJ18_init : zMk MJ18_init := ⟨zt (lw_at lw_m6 22 rfl), zt (lw_at lw_m1 25 rfl), by decide +kernel, by decide, by decide +kernel⟩
abbrev MJ18_equals : zM := (yJ18_equals, cJ18_equals, 2, (Option.some Jvm.ClassFile.FieldType.boolean), [])
theorem kJ18_equals : zMk MJ18_equals := ⟨zt (lw_at lw_m7 160 rfl), zt (lw_at lw_m1 25 rfl), by decide +kernel, by decide, by decide +kernel⟩
/-! java/util/Objects -/
set_option maxRecDepth 100000
abbrev cJ20_checkIndex : ByteArray := prog_55_method_17_code
def yJ20_checkIndex : MethodName := ⟨RJ20, "checkIndex", "(II)I"⟩
def dkwJ20_checkIndex_0 : List UInt8 := [26, 27, 1, 184, 0, 105, 172]
abbrev dktJ20_checkIndex_0 : List UInt8 := dkwJ20_checkIndex_0 ++ []
theorem dksJ20_checkIndex_0 : cJ20_checkIndex.data.toList.drop 0 = dktJ20_checkIndex_0 := by decide +kernel
theorem dJ20_checkIndex_0 : decode cJ20_checkIndex 0 = .ok (.iload_n 0, 1) := dk_26 (dk_at dksJ20_checkIndex_0 0 rfl rfl)
theorem dJ20_checkIndex_1 : decode cJ20_checkIndex 1 = .ok (.iload_n 1, 1) := dk_27 (dk_at dksJ20_checkIndex_0 1 rfl rfl)
theorem dJ20_checkIndex_2 : decode cJ20_checkIndex 2 = .ok (.aconst_null, 1) := dk_1 (dk_at dksJ20_checkIndex_0 2 rfl rfl)
theorem dJ20_checkIndex_3 : decode cJ20_checkIndex 3 = .ok (.invokestatic 105, 3) := dk_184 0 105 (dk_at dksJ20_checkIndex_0 3 rfl rfl)
theorem dJ20_checkIndex_6 : decode cJ20_checkIndex 6 = .ok (.ireturn, 1) := dk_172 (dk_at dksJ20_checkIndex_0 6 rfl rfl)
abbrev MJ20_checkIndex : zM := (yJ20_checkIndex, cJ20_checkIndex, 2, (Option.some Jvm.ClassFile.FieldType.int), [])
theorem kJ20_checkIndex : zMk MJ20_checkIndex := ⟨zt (lw_at lw_m2 1 rfl), zt (lw_at lw_m1 28 rfl), by decide +kernel, by decide, by decide +kernel⟩
/-! jdk/internal/util/Preconditions -/
set_option maxRecDepth 100000
abbrev cJ21_checkIndex : ByteArray := prog_61_method_11_code
def yJ21_checkIndex : MethodName := ⟨RJ21, "checkIndex", "(IILjava/util/function/BiFunction;)I"⟩
def dkwJ21_checkIndex_0 : List UInt8 := [26, 155, 0, 8, 26, 27, 161, 0, 10, 44, 26, 27, 184, 0, 95, 191, 26, 172]
abbrev dktJ21_checkIndex_0 : List UInt8 := dkwJ21_checkIndex_0 ++ []
theorem dksJ21_checkIndex_0 : cJ21_checkIndex.data.toList.drop 0 = dktJ21_checkIndex_0 := by decide +kernel
theorem dJ21_checkIndex_0 : decode cJ21_checkIndex 0 = .ok (.iload_n 0, 1) := dk_26 (dk_at dksJ21_checkIndex_0 0 rfl rfl)
theorem dJ21_checkIndex_1 : decode cJ21_checkIndex 1 = .ok (.ifCond .lt 8, 3) := dk_155 0 8 (dk_at dksJ21_checkIndex_0 1 rfl rfl)
theorem dJ21_checkIndex_4 : decode cJ21_checkIndex 4 = .ok (.iload_n 0, 1) := dk_26 (dk_at dksJ21_checkIndex_0 4 rfl rfl)
theorem dJ21_checkIndex_5 : decode cJ21_checkIndex 5 = .ok (.iload_n 1, 1) := dk_27 (dk_at dksJ21_checkIndex_0 5 rfl rfl)
theorem dJ21_checkIndex_6 : decode cJ21_checkIndex 6 = .ok (.if_icmp .lt 10, 3) := dk_161 0 10 (dk_at dksJ21_checkIndex_0 6 rfl rfl)
theorem dJ21_checkIndex_9 : decode cJ21_checkIndex 9 = .ok (.aload_n 2, 1) := dk_44 (dk_at dksJ21_checkIndex_0 9 rfl rfl)
theorem dJ21_checkIndex_10 : decode cJ21_checkIndex 10 = .ok (.iload_n 0, 1) := dk_26 (dk_at dksJ21_checkIndex_0 10 rfl rfl)
theorem dJ21_checkIndex_11 : decode cJ21_checkIndex 11 = .ok (.iload_n 1, 1) := dk_27 (dk_at dksJ21_checkIndex_0 11 rfl rfl)
theorem dJ21_checkIndex_12 : decode cJ21_checkIndex 12 = .ok (.invokestatic 95, 3) := dk_184 0 95 (dk_at dksJ21_checkIndex_0 12 rfl rfl)
theorem dJ21_checkIndex_15 : decode cJ21_checkIndex 15 = .ok (.athrow, 1) := dk_191 (dk_at dksJ21_checkIndex_0 15 rfl rfl)
theorem dJ21_checkIndex_16 : decode cJ21_checkIndex 16 = .ok (.iload_n 0, 1) := dk_26 (dk_at dksJ21_checkIndex_0 16 rfl rfl)
theorem dJ21_checkIndex_17 : decode cJ21_checkIndex 17 = .ok (.ireturn, 1) := dk_172 (dk_at dksJ21_checkIndex_0 17 rfl rfl)
abbrev cJ21_checkFromToIndex : ByteArray := prog_61_method_12_code
def yJ21_checkFromToIndex : MethodName := ⟨RJ21, "checkFromToIndex", "(IIILjava/util/function/BiFunction;)I"⟩
def dkwJ21_checkFromToIndex_0 : List UInt8 := [26, 155, 0, 13, 26, 27, 163, 0, 8, 27, 28, 164, 0, 11, 45, 26, 27, 28, 184, 0, 99, 191, 26, 172]
abbrev dktJ21_checkFromToIndex_0 : List UInt8 := dkwJ21_checkFromToIndex_0 ++ []
theorem dksJ21_checkFromToIndex_0 : cJ21_checkFromToIndex.data.toList.drop 0 = dktJ21_checkFromToIndex_0 := by decide +kernel
theorem dJ21_checkFromToIndex_0 : decode cJ21_checkFromToIndex 0 = .ok (.iload_n 0, 1) := dk_26 (dk_at dksJ21_checkFromToIndex_0 0 rfl rfl)
theorem dJ21_checkFromToIndex_1 : decode cJ21_checkFromToIndex 1 = .ok (.ifCond .lt 13, 3) := dk_155 0 13 (dk_at dksJ21_checkFromToIndex_0 1 rfl rfl)
theorem dJ21_checkFromToIndex_4 : decode cJ21_checkFromToIndex 4 = .ok (.iload_n 0, 1) := dk_26 (dk_at dksJ21_checkFromToIndex_0 4 rfl rfl)
theorem dJ21_checkFromToIndex_5 : decode cJ21_checkFromToIndex 5 = .ok (.iload_n 1, 1) := dk_27 (dk_at dksJ21_checkFromToIndex_0 5 rfl rfl)
theorem dJ21_checkFromToIndex_6 : decode cJ21_checkFromToIndex 6 = .ok (.if_icmp .gt 8, 3) := dk_163 0 8 (dk_at dksJ21_checkFromToIndex_0 6 rfl rfl)
theorem dJ21_checkFromToIndex_9 : decode cJ21_checkFromToIndex 9 = .ok (.iload_n 1, 1) := dk_27 (dk_at dksJ21_checkFromToIndex_0 9 rfl rfl)
theorem dJ21_checkFromToIndex_10 : decode cJ21_checkFromToIndex 10 = .ok (.iload_n 2, 1) := dk_28 (dk_at dksJ21_checkFromToIndex_0 10 rfl rfl)
theorem dJ21_checkFromToIndex_11 : decode cJ21_checkFromToIndex 11 = .ok (.if_icmp .le 11, 3) := dk_164 0 11 (dk_at dksJ21_checkFromToIndex_0 11 rfl rfl)
theorem dJ21_checkFromToIndex_14 : decode cJ21_checkFromToIndex 14 = .ok (.aload_n 3, 1) := dk_45 (dk_at dksJ21_checkFromToIndex_0 14 rfl rfl)
theorem dJ21_checkFromToIndex_15 : decode cJ21_checkFromToIndex 15 = .ok (.iload_n 0, 1) := dk_26 (dk_at dksJ21_checkFromToIndex_0 15 rfl rfl)
theorem dJ21_checkFromToIndex_16 : decode cJ21_checkFromToIndex 16 = .ok (.iload_n 1, 1) := dk_27 (dk_at dksJ21_checkFromToIndex_0 16 rfl rfl)
theorem dJ21_checkFromToIndex_17 : decode cJ21_checkFromToIndex 17 = .ok (.iload_n 2, 1) := dk_28 (dk_at dksJ21_checkFromToIndex_0 17 rfl rfl)
theorem dJ21_checkFromToIndex_18 : decode cJ21_checkFromToIndex 18 = .ok (.invokestatic 99, 3) := dk_184 0 99 (dk_at dksJ21_checkFromToIndex_0 18 rfl rfl)
theorem dJ21_checkFromToIndex_21 : decode cJ21_checkFromToIndex 21 = .ok (.athrow, 1) := dk_191 (dk_at dksJ21_checkFromToIndex_0 21 rfl rfl)
theorem dJ21_checkFromToIndex_22 : decode cJ21_checkFromToIndex 22 = .ok (.iload_n 0, 1) := dk_26 (dk_at dksJ21_checkFromToIndex_0 22 rfl rfl)
theorem dJ21_checkFromToIndex_23 : decode cJ21_checkFromToIndex 23 = .ok (.ireturn, 1) := dk_172 (dk_at dksJ21_checkFromToIndex_0 23 rfl rfl)
abbrev cJ21_checkFromIndexSize : ByteArray := prog_61_method_13_code
def yJ21_checkFromIndexSize : MethodName := ⟨RJ21, "checkFromIndexSize", "(IIILjava/util/function/BiFunction;)I"⟩
def dkwJ21_checkFromIndexSize_1 : List UInt8 := [172]
abbrev dktJ21_checkFromIndexSize_1 : List UInt8 := dkwJ21_checkFromIndexSize_1 ++ []
def dkwJ21_checkFromIndexSize_0 : List UInt8 := [28, 26, 128, 27, 128, 155, 0, 10, 27, 28, 26, 100, 164, 0, 11, 45, 26, 27, 28, 184, 0, 103, 191, 26]
abbrev dktJ21_checkFromIndexSize_0 : List UInt8 := dkwJ21_checkFromIndexSize_0 ++ dktJ21_checkFromIndexSize_1
theorem dksJ21_checkFromIndexSize_0 : cJ21_checkFromIndexSize.data.toList.drop 0 = dktJ21_checkFromIndexSize_0 := by decide +kernel
theorem dksJ21_checkFromIndexSize_1 : cJ21_checkFromIndexSize.data.toList.drop 24 = dktJ21_checkFromIndexSize_1 := dk_seg dksJ21_checkFromIndexSize_0 24 rfl rfl
theorem dJ21_checkFromIndexSize_0 : decode cJ21_checkFromIndexSize 0 = .ok (.iload_n 2, 1) := dk_28 (dk_at dksJ21_checkFromIndexSize_0 0 rfl rfl)
theorem dJ21_checkFromIndexSize_1 : decode cJ21_checkFromIndexSize 1 = .ok (.iload_n 0, 1) := dk_26 (dk_at dksJ21_checkFromIndexSize_0 1 rfl rfl)
theorem dJ21_checkFromIndexSize_2 : decode cJ21_checkFromIndexSize 2 = .ok (.ior, 1) := dk_128 (dk_at dksJ21_checkFromIndexSize_0 2 rfl rfl)
theorem dJ21_checkFromIndexSize_3 : decode cJ21_checkFromIndexSize 3 = .ok (.iload_n 1, 1) := dk_27 (dk_at dksJ21_checkFromIndexSize_0 3 rfl rfl)
theorem dJ21_checkFromIndexSize_4 : decode cJ21_checkFromIndexSize 4 = .ok (.ior, 1) := dk_128 (dk_at dksJ21_checkFromIndexSize_0 4 rfl rfl)
theorem dJ21_checkFromIndexSize_5 : decode cJ21_checkFromIndexSize 5 = .ok (.ifCond .lt 10, 3) := dk_155 0 10 (dk_at dksJ21_checkFromIndexSize_0 5 rfl rfl)
theorem dJ21_checkFromIndexSize_8 : decode cJ21_checkFromIndexSize 8 = .ok (.iload_n 1, 1) := dk_27 (dk_at dksJ21_checkFromIndexSize_0 8 rfl rfl)
theorem dJ21_checkFromIndexSize_9 : decode cJ21_checkFromIndexSize 9 = .ok (.iload_n 2, 1) := dk_28 (dk_at dksJ21_checkFromIndexSize_0 9 rfl rfl)
theorem dJ21_checkFromIndexSize_10 : decode cJ21_checkFromIndexSize 10 = .ok (.iload_n 0, 1) := dk_26 (dk_at dksJ21_checkFromIndexSize_0 10 rfl rfl)
theorem dJ21_checkFromIndexSize_11 : decode cJ21_checkFromIndexSize 11 = .ok (.isub, 1) := dk_100 (dk_at dksJ21_checkFromIndexSize_0 11 rfl rfl)
theorem dJ21_checkFromIndexSize_12 : decode cJ21_checkFromIndexSize 12 = .ok (.if_icmp .le 11, 3) := dk_164 0 11 (dk_at dksJ21_checkFromIndexSize_0 12 rfl rfl)
theorem dJ21_checkFromIndexSize_15 : decode cJ21_checkFromIndexSize 15 = .ok (.aload_n 3, 1) := dk_45 (dk_at dksJ21_checkFromIndexSize_0 15 rfl rfl)
theorem dJ21_checkFromIndexSize_16 : decode cJ21_checkFromIndexSize 16 = .ok (.iload_n 0, 1) := dk_26 (dk_at dksJ21_checkFromIndexSize_0 16 rfl rfl)
theorem dJ21_checkFromIndexSize_17 : decode cJ21_checkFromIndexSize 17 = .ok (.iload_n 1, 1) := dk_27 (dk_at dksJ21_checkFromIndexSize_0 17 rfl rfl)
theorem dJ21_checkFromIndexSize_18 : decode cJ21_checkFromIndexSize 18 = .ok (.iload_n 2, 1) := dk_28 (dk_at dksJ21_checkFromIndexSize_0 18 rfl rfl)
theorem dJ21_checkFromIndexSize_19 : decode cJ21_checkFromIndexSize 19 = .ok (.invokestatic 103, 3) := dk_184 0 103 (dk_at dksJ21_checkFromIndexSize_0 19 rfl rfl)
theorem dJ21_checkFromIndexSize_22 : decode cJ21_checkFromIndexSize 22 = .ok (.athrow, 1) := dk_191 (dk_at dksJ21_checkFromIndexSize_0 22 rfl rfl)
theorem dJ21_checkFromIndexSize_23 : decode cJ21_checkFromIndexSize 23 = .ok (.iload_n 0, 1) := dk_26 (dk_at dksJ21_checkFromIndexSize_0 23 rfl rfl)
theorem dJ21_checkFromIndexSize_24 : decode cJ21_checkFromIndexSize 24 = .ok (.ireturn, 1) := dk_172 (dk_at dksJ21_checkFromIndexSize_1 0 rfl rfl)
abbrev MJ21_checkIndex : zM := (yJ21_checkIndex, cJ21_checkIndex, 3, (Option.some Jvm.ClassFile.FieldType.int), [])
theorem kJ21_checkIndex : zMk MJ21_checkIndex := ⟨zt (lw_at lw_m2 4 rfl), zt (lw_at lw_m1 29 rfl), by decide +kernel, by decide, by decide +kernel⟩
abbrev MJ21_checkFromToIndex : zM := (yJ21_checkFromToIndex, cJ21_checkFromToIndex, 4, (Option.some Jvm.ClassFile.FieldType.int), [])
theorem kJ21_checkFromToIndex : zMk MJ21_checkFromToIndex := ⟨zt (lw_at lw_m3 34 rfl), zt (lw_at lw_m1 29 rfl), by decide +kernel, by decide, by decide +kernel⟩
abbrev MJ21_checkFromIndexSize : zM := (yJ21_checkFromIndexSize, cJ21_checkFromIndexSize, 4, (Option.some Jvm.ClassFile.FieldType.int), [])
theorem kJ21_checkFromIndexSize : zMk MJ21_checkFromIndexSize := ⟨zt (lw_at lw_m3 80 rfl), zt (lw_at lw_m1 29 rfl), by decide +kernel, by decide, by decide +kernel⟩
/-! java/lang/StringLatin1 -/
set_option maxRecDepth 100000
abbrev cJ23_inflate : ByteArray := prog_36_method_50_code
def yJ23_inflate : MethodName := ⟨RJ23, "inflate", "([BI[BII)V"⟩
def dkwJ23_inflate_0 : List UInt8 := [42, 27, 44, 29, 21, 4, 184, 0, 240, 177]
abbrev dktJ23_inflate_0 : List UInt8 := dkwJ23_inflate_0 ++ []
theorem dksJ23_inflate_0 : cJ23_inflate.data.toList.drop 0 = dktJ23_inflate_0 := by decide +kernel
theorem dJ23_inflate_0 : decode cJ23_inflate 0 = .ok (.aload_n 0, 1) := dk_42 (dk_at dksJ23_inflate_0 0 rfl rfl)
theorem dJ23_inflate_1 : decode cJ23_inflate 1 = .ok (.iload_n 1, 1) := dk_27 (dk_at dksJ23_inflate_0 1 rfl rfl)
theorem dJ23_inflate_2 : decode cJ23_inflate 2 = .ok (.aload_n 2, 1) := dk_44 (dk_at dksJ23_inflate_0 2 rfl rfl)
theorem dJ23_inflate_3 : decode cJ23_inflate 3 = .ok (.iload_n 3, 1) := dk_29 (dk_at dksJ23_inflate_0 3 rfl rfl)
theorem dJ23_inflate_4 : decode cJ23_inflate 4 = .ok (.iload 4, 2) := dk_21 4 (dk_at dksJ23_inflate_0 4 rfl rfl)
theorem dJ23_inflate_6 : decode cJ23_inflate 6 = .ok (.invokestatic 240, 3) := dk_184 0 240 (dk_at dksJ23_inflate_0 6 rfl rfl)
theorem dJ23_inflate_9 : decode cJ23_inflate 9 = .ok (.return_, 1) := dk_177 (dk_at dksJ23_inflate_0 9 rfl rfl)
abbrev cJ23_fillNull : ByteArray := prog_36_method_48_code
def yJ23_fillNull : MethodName := ⟨RJ23, "fillNull", "([BII)V"⟩
def dkwJ23_fillNull_0 : List UInt8 := [42, 27, 28, 3, 184, 0, 236, 177]
abbrev dktJ23_fillNull_0 : List UInt8 := dkwJ23_fillNull_0 ++ []
theorem dksJ23_fillNull_0 : cJ23_fillNull.data.toList.drop 0 = dktJ23_fillNull_0 := by decide +kernel
theorem dJ23_fillNull_0 : decode cJ23_fillNull 0 = .ok (.aload_n 0, 1) := dk_42 (dk_at dksJ23_fillNull_0 0 rfl rfl)
theorem dJ23_fillNull_1 : decode cJ23_fillNull 1 = .ok (.iload_n 1, 1) := dk_27 (dk_at dksJ23_fillNull_0 1 rfl rfl)
theorem dJ23_fillNull_2 : decode cJ23_fillNull 2 = .ok (.iload_n 2, 1) := dk_28 (dk_at dksJ23_fillNull_0 2 rfl rfl)
theorem dJ23_fillNull_3 : decode cJ23_fillNull 3 = .ok (.iconst 0, 1) := dk_3 (dk_at dksJ23_fillNull_0 3 rfl rfl)
theorem dJ23_fillNull_4 : decode cJ23_fillNull 4 = .ok (.invokestatic 236, 3) := dk_184 0 236 (dk_at dksJ23_fillNull_0 4 rfl rfl)
theorem dJ23_fillNull_7 : decode cJ23_fillNull 7 = .ok (.return_, 1) := dk_177 (dk_at dksJ23_fillNull_0 7 rfl rfl)
abbrev cJ23_charAt : ByteArray := prog_36_method_2_code
def yJ23_charAt : MethodName := ⟨RJ23, "charAt", "([BI)C"⟩
def dkwJ23_charAt_0 : List UInt8 := [27, 42, 190, 184, 0, 9, 42, 27, 51, 17, 0, 255, 126, 146, 172]
abbrev dktJ23_charAt_0 : List UInt8 := dkwJ23_charAt_0 ++ []
theorem dksJ23_charAt_0 : cJ23_charAt.data.toList.drop 0 = dktJ23_charAt_0 := by decide +kernel
theorem dJ23_charAt_0 : decode cJ23_charAt 0 = .ok (.iload_n 1, 1) := dk_27 (dk_at dksJ23_charAt_0 0 rfl rfl)
theorem dJ23_charAt_1 : decode cJ23_charAt 1 = .ok (.aload_n 0, 1) := dk_42 (dk_at dksJ23_charAt_0 1 rfl rfl)
theorem dJ23_charAt_2 : decode cJ23_charAt 2 = .ok (.arraylength, 1) := dk_190 (dk_at dksJ23_charAt_0 2 rfl rfl)
theorem dJ23_charAt_3 : decode cJ23_charAt 3 = .ok (.invokestatic 9, 3) := dk_184 0 9 (dk_at dksJ23_charAt_0 3 rfl rfl)
theorem dJ23_charAt_6 : decode cJ23_charAt 6 = .ok (.aload_n 0, 1) := dk_42 (dk_at dksJ23_charAt_0 6 rfl rfl)
theorem dJ23_charAt_7 : decode cJ23_charAt 7 = .ok (.iload_n 1, 1) := dk_27 (dk_at dksJ23_charAt_0 7 rfl rfl)
theorem dJ23_charAt_8 : decode cJ23_charAt 8 = .ok (.baload, 1) := dk_51 (dk_at dksJ23_charAt_0 8 rfl rfl)
theorem dJ23_charAt_9 : decode cJ23_charAt 9 = .ok (.sipush 255, 3) := dk_17 0 255 (dk_at dksJ23_charAt_0 9 rfl rfl)
theorem dJ23_charAt_12 : decode cJ23_charAt 12 = .ok (.iand, 1) := dk_126 (dk_at dksJ23_charAt_0 12 rfl rfl)
theorem dJ23_charAt_13 : decode cJ23_charAt 13 = .ok (.i2c, 1) := dk_146 (dk_at dksJ23_charAt_0 13 rfl rfl)
theorem dJ23_charAt_14 : decode cJ23_charAt 14 = .ok (.ireturn, 1) := dk_172 (dk_at dksJ23_charAt_0 14 rfl rfl)
abbrev cJ23_canEncode : ByteArray := prog_36_method_3_code
def yJ23_canEncode : MethodName := ⟨RJ23, "canEncode", "(C)Z"⟩
def dkwJ23_canEncode_0 : List UInt8 := [26, 17, 0, 255, 163, 0, 7, 4, 167, 0, 4, 3, 172]
abbrev dktJ23_canEncode_0 : List UInt8 := dkwJ23_canEncode_0 ++ []
theorem dksJ23_canEncode_0 : cJ23_canEncode.data.toList.drop 0 = dktJ23_canEncode_0 := by decide +kernel
theorem dJ23_canEncode_0 : decode cJ23_canEncode 0 = .ok (.iload_n 0, 1) := dk_26 (dk_at dksJ23_canEncode_0 0 rfl rfl)
theorem dJ23_canEncode_1 : decode cJ23_canEncode 1 = .ok (.sipush 255, 3) := dk_17 0 255 (dk_at dksJ23_canEncode_0 1 rfl rfl)
theorem dJ23_canEncode_4 : decode cJ23_canEncode 4 = .ok (.if_icmp .gt 7, 3) := dk_163 0 7 (dk_at dksJ23_canEncode_0 4 rfl rfl)
theorem dJ23_canEncode_7 : decode cJ23_canEncode 7 = .ok (.iconst 1, 1) := dk_4 (dk_at dksJ23_canEncode_0 7 rfl rfl)
theorem dJ23_canEncode_8 : decode cJ23_canEncode 8 = .ok (.goto 4, 3) := dk_167 0 4 (dk_at dksJ23_canEncode_0 8 rfl rfl)
theorem dJ23_canEncode_11 : decode cJ23_canEncode 11 = .ok (.iconst 0, 1) := dk_3 (dk_at dksJ23_canEncode_0 11 rfl rfl)
theorem dJ23_canEncode_12 : decode cJ23_canEncode 12 = .ok (.ireturn, 1) := dk_172 (dk_at dksJ23_canEncode_0 12 rfl rfl)
abbrev cJ23_equals : ByteArray := prog_36_method_13_code
def yJ23_equals : MethodName := ⟨RJ23, "equals", "([B[B)Z"⟩
def dkwJ23_equals_1 : List UInt8 := [3, 172, 132, 2, 1, 167, 255, 236, 4, 172, 3, 172]
abbrev dktJ23_equals_1 : List UInt8 := dkwJ23_equals_1 ++ []
def dkwJ23_equals_0 : List UInt8 := [42, 190, 43, 190, 160, 0, 30, 3, 61, 28, 42, 190, 162, 0, 20, 42, 28, 51, 43, 28, 51, 159, 0, 5]
abbrev dktJ23_equals_0 : List UInt8 := dkwJ23_equals_0 ++ dktJ23_equals_1
theorem dksJ23_equals_0 : cJ23_equals.data.toList.drop 0 = dktJ23_equals_0 := by decide +kernel
theorem dksJ23_equals_1 : cJ23_equals.data.toList.drop 24 = dktJ23_equals_1 := dk_seg dksJ23_equals_0 24 rfl rfl
theorem dJ23_equals_0 : decode cJ23_equals 0 = .ok (.aload_n 0, 1) := dk_42 (dk_at dksJ23_equals_0 0 rfl rfl)
theorem dJ23_equals_1 : decode cJ23_equals 1 = .ok (.arraylength, 1) := dk_190 (dk_at dksJ23_equals_0 1 rfl rfl)
theorem dJ23_equals_2 : decode cJ23_equals 2 = .ok (.aload_n 1, 1) := dk_43 (dk_at dksJ23_equals_0 2 rfl rfl)
theorem dJ23_equals_3 : decode cJ23_equals 3 = .ok (.arraylength, 1) := dk_190 (dk_at dksJ23_equals_0 3 rfl rfl)
theorem dJ23_equals_4 : decode cJ23_equals 4 = .ok (.if_icmp .ne 30, 3) := dk_160 0 30 (dk_at dksJ23_equals_0 4 rfl rfl)
theorem dJ23_equals_7 : decode cJ23_equals 7 = .ok (.iconst 0, 1) := dk_3 (dk_at dksJ23_equals_0 7 rfl rfl)
theorem dJ23_equals_8 : decode cJ23_equals 8 = .ok (.istore_n 2, 1) := dk_61 (dk_at dksJ23_equals_0 8 rfl rfl)
theorem dJ23_equals_9 : decode cJ23_equals 9 = .ok (.iload_n 2, 1) := dk_28 (dk_at dksJ23_equals_0 9 rfl rfl)
theorem dJ23_equals_10 : decode cJ23_equals 10 = .ok (.aload_n 0, 1) := dk_42 (dk_at dksJ23_equals_0 10 rfl rfl)
theorem dJ23_equals_11 : decode cJ23_equals 11 = .ok (.arraylength, 1) := dk_190 (dk_at dksJ23_equals_0 11 rfl rfl)
theorem dJ23_equals_12 : decode cJ23_equals 12 = .ok (.if_icmp .ge 20, 3) := dk_162 0 20 (dk_at dksJ23_equals_0 12 rfl rfl)
theorem dJ23_equals_15 : decode cJ23_equals 15 = .ok (.aload_n 0, 1) := dk_42 (dk_at dksJ23_equals_0 15 rfl rfl)
theorem dJ23_equals_16 : decode cJ23_equals 16 = .ok (.iload_n 2, 1) := dk_28 (dk_at dksJ23_equals_0 16 rfl rfl)
theorem dJ23_equals_17 : decode cJ23_equals 17 = .ok (.baload, 1) := dk_51 (dk_at dksJ23_equals_0 17 rfl rfl)
theorem dJ23_equals_18 : decode cJ23_equals 18 = .ok (.aload_n 1, 1) := dk_43 (dk_at dksJ23_equals_0 18 rfl rfl)
theorem dJ23_equals_19 : decode cJ23_equals 19 = .ok (.iload_n 2, 1) := dk_28 (dk_at dksJ23_equals_0 19 rfl rfl)
theorem dJ23_equals_20 : decode cJ23_equals 20 = .ok (.baload, 1) := dk_51 (dk_at dksJ23_equals_0 20 rfl rfl)
theorem dJ23_equals_21 : decode cJ23_equals 21 = .ok (.if_icmp .eq 5, 3) := dk_159 0 5 (dk_at dksJ23_equals_0 21 rfl rfl)
theorem dJ23_equals_24 : decode cJ23_equals 24 = .ok (.iconst 0, 1) := dk_3 (dk_at dksJ23_equals_1 0 rfl rfl)
theorem dJ23_equals_25 : decode cJ23_equals 25 = .ok (.ireturn, 1) := dk_172 (dk_at dksJ23_equals_1 1 rfl rfl)
theorem dJ23_equals_26 : decode cJ23_equals 26 = .ok (.iinc 2 1, 3) := dk_132 2 1 (dk_at dksJ23_equals_1 2 rfl rfl)
theorem dJ23_equals_29 : decode cJ23_equals 29 = .ok (.goto (-20), 3) := dk_167 255 236 (dk_at dksJ23_equals_1 5 rfl rfl)
theorem dJ23_equals_32 : decode cJ23_equals 32 = .ok (.iconst 1, 1) := dk_4 (dk_at dksJ23_equals_1 8 rfl rfl)
theorem dJ23_equals_33 : decode cJ23_equals 33 = .ok (.ireturn, 1) := dk_172 (dk_at dksJ23_equals_1 9 rfl rfl)
theorem dJ23_equals_34 : decode cJ23_equals 34 = .ok (.iconst 0, 1) := dk_3 (dk_at dksJ23_equals_1 10 rfl rfl)
theorem dJ23_equals_35 : decode cJ23_equals 35 = .ok (.ireturn, 1) := dk_172 (dk_at dksJ23_equals_1 11 rfl rfl)
abbrev cJ23_hashCode : ByteArray := prog_36_method_21_code
def yJ23_hashCode : MethodName := ⟨RJ23, "hashCode", "([B)I"⟩
def dkwJ23_hashCode_2 : List UInt8 := [3, 167, 0, 22, 42, 3, 51, 17, 0, 255, 126, 167, 0, 12, 42, 3, 42, 190, 3, 7, 184, 0, 84, 172]
abbrev dktJ23_hashCode_2 : List UInt8 := dkwJ23_hashCode_2 ++ []
def dkwJ23_hashCode_1 : List UInt8 := [171, 0, 0, 0, 0, 40, 0, 0, 0, 2, 0, 0, 0, 0, 0, 0, 0, 26, 0, 0, 0, 1, 0, 0, 0, 30]
abbrev dktJ23_hashCode_1 : List UInt8 := dkwJ23_hashCode_1 ++ dktJ23_hashCode_2
def dkwJ23_hashCode_0 : List UInt8 := [42, 190]
abbrev dktJ23_hashCode_0 : List UInt8 := dkwJ23_hashCode_0 ++ dktJ23_hashCode_1
theorem dksJ23_hashCode_0 : cJ23_hashCode.data.toList.drop 0 = dktJ23_hashCode_0 := by decide +kernel
theorem dksJ23_hashCode_1 : cJ23_hashCode.data.toList.drop 2 = dktJ23_hashCode_1 := dk_seg dksJ23_hashCode_0 2 rfl rfl
theorem dksJ23_hashCode_2 : cJ23_hashCode.data.toList.drop 28 = dktJ23_hashCode_2 := dk_seg dksJ23_hashCode_1 26 rfl rfl
theorem dJ23_hashCode_0 : decode cJ23_hashCode 0 = .ok (.aload_n 0, 1) := dk_42 (dk_at dksJ23_hashCode_0 0 rfl rfl)
theorem dJ23_hashCode_1 : decode cJ23_hashCode 1 = .ok (.arraylength, 1) := dk_190 (dk_at dksJ23_hashCode_0 1 rfl rfl)
theorem dJ23_hashCode_2 : decode cJ23_hashCode 2 = .ok (.lookupswitch 40 #[(0, 26), (1, 30)], 26) := by decide +kernel
theorem dJ23_hashCode_28 : decode cJ23_hashCode 28 = .ok (.iconst 0, 1) := dk_3 (dk_at dksJ23_hashCode_2 0 rfl rfl)
theorem dJ23_hashCode_29 : decode cJ23_hashCode 29 = .ok (.goto 22, 3) := dk_167 0 22 (dk_at dksJ23_hashCode_2 1 rfl rfl)
theorem dJ23_hashCode_32 : decode cJ23_hashCode 32 = .ok (.aload_n 0, 1) := dk_42 (dk_at dksJ23_hashCode_2 4 rfl rfl)
theorem dJ23_hashCode_33 : decode cJ23_hashCode 33 = .ok (.iconst 0, 1) := dk_3 (dk_at dksJ23_hashCode_2 5 rfl rfl)
theorem dJ23_hashCode_34 : decode cJ23_hashCode 34 = .ok (.baload, 1) := dk_51 (dk_at dksJ23_hashCode_2 6 rfl rfl)
theorem dJ23_hashCode_35 : decode cJ23_hashCode 35 = .ok (.sipush 255, 3) := dk_17 0 255 (dk_at dksJ23_hashCode_2 7 rfl rfl)
theorem dJ23_hashCode_38 : decode cJ23_hashCode 38 = .ok (.iand, 1) := dk_126 (dk_at dksJ23_hashCode_2 10 rfl rfl)
theorem dJ23_hashCode_39 : decode cJ23_hashCode 39 = .ok (.goto 12, 3) := dk_167 0 12 (dk_at dksJ23_hashCode_2 11 rfl rfl)
theorem dJ23_hashCode_42 : decode cJ23_hashCode 42 = .ok (.aload_n 0, 1) := dk_42 (dk_at dksJ23_hashCode_2 14 rfl rfl)
theorem dJ23_hashCode_43 : decode cJ23_hashCode 43 = .ok (.iconst 0, 1) := dk_3 (dk_at dksJ23_hashCode_2 15 rfl rfl)
theorem dJ23_hashCode_44 : decode cJ23_hashCode 44 = .ok (.aload_n 0, 1) := dk_42 (dk_at dksJ23_hashCode_2 16 rfl rfl)
theorem dJ23_hashCode_45 : decode cJ23_hashCode 45 = .ok (.arraylength, 1) := dk_190 (dk_at dksJ23_hashCode_2 17 rfl rfl)
theorem dJ23_hashCode_46 : decode cJ23_hashCode 46 = .ok (.iconst 0, 1) := dk_3 (dk_at dksJ23_hashCode_2 18 rfl rfl)
theorem dJ23_hashCode_47 : decode cJ23_hashCode 47 = .ok (.iconst 4, 1) := dk_7 (dk_at dksJ23_hashCode_2 19 rfl rfl)
theorem dJ23_hashCode_48 : decode cJ23_hashCode 48 = .ok (.invokestatic 84, 3) := dk_184 0 84 (dk_at dksJ23_hashCode_2 20 rfl rfl)
theorem dJ23_hashCode_51 : decode cJ23_hashCode 51 = .ok (.ireturn, 1) := dk_172 (dk_at dksJ23_hashCode_2 23 rfl rfl)
abbrev MJ23_inflate : zM := (yJ23_inflate, cJ23_inflate, 5, (Option.none : Option Jvm.ClassFile.FieldType), [])
theorem kJ23_inflate : zMk MJ23_inflate := ⟨zt (lw_at lw_m3 68 rfl), zt (lw_at lw_m1 31 rfl), by decide +kernel, by decide, by decide +kernel⟩
abbrev MJ23_fillNull : zM := (yJ23_fillNull, cJ23_fillNull, 3, (Option.none : Option Jvm.ClassFile.FieldType), [])
theorem kJ23_fillNull : zMk MJ23_fillNull := ⟨zt (lw_at lw_m3 216 rfl), zt (lw_at lw_m1 31 rfl), by decide +kernel, by decide, by decide +kernel⟩
abbrev MJ23_charAt : zM := (yJ23_charAt, cJ23_charAt, 2, (Option.some Jvm.ClassFile.FieldType.char), [])
theorem kJ23_charAt : zMk MJ23_charAt := ⟨zt (lw_at lw_m4 219 rfl), zt (lw_at lw_m1 31 rfl), by decide +kernel, by decide, by decide +kernel⟩
abbrev MJ23_canEncode : zM := (yJ23_canEncode, cJ23_canEncode, 1, (Option.some Jvm.ClassFile.FieldType.boolean), [])
theorem kJ23_canEncode : zMk MJ23_canEncode := ⟨zt (lw_at lw_m4 233 rfl), zt (lw_at lw_m1 31 rfl), by decide +kernel, by decide, by decide +kernel⟩
abbrev MJ23_equals : zM := (yJ23_equals, cJ23_equals, 3, (Option.some Jvm.ClassFile.FieldType.boolean), [])
theorem kJ23_equals : zMk MJ23_equals := ⟨zt (lw_at lw_m7 168 rfl), zt (lw_at lw_m1 31 rfl), by decide +kernel, by decide, by decide +kernel⟩
abbrev MJ23_hashCode : zM := (yJ23_hashCode, cJ23_hashCode, 1, (Option.some Jvm.ClassFile.FieldType.int), [])
theorem kJ23_hashCode : zMk MJ23_hashCode := ⟨zt (lw_at lw_m9 17 rfl), zt (lw_at lw_m1 31 rfl), by decide +kernel, by decide, by decide +kernel⟩
