set_option maxRecDepth 100000
abbrev cJ0_init : ByteArray := prog_33_method_1_code
def yJ0_init : MethodName := ⟨RJ0, "<init>", "()V"⟩
def dkwJ0_init_1 : List UInt8 := [182, 0, 27, 87, 177]
abbrev dktJ0_init_1 : List UInt8 := dkwJ0_init_1 ++ []
def dkwJ0_init_0 : List UInt8 := [42, 183, 0, 1, 42, 42, 181, 0, 7, 42, 178, 0, 13, 181, 0, 17, 42, 178, 0, 20, 181, 0, 24, 42]
abbrev dktJ0_init_0 : List UInt8 := dkwJ0_init_0 ++ dktJ0_init_1
theorem dksJ0_init_0 : cJ0_init.data.toList.drop 0 = dktJ0_init_0 := by decide +kernel
theorem dksJ0_init_1 : cJ0_init.data.toList.drop 24 = dktJ0_init_1 := dk_seg dksJ0_init_0 24 rfl rfl
theorem dJ0_init_0 : decode cJ0_init 0 = .ok (.aload_n 0, 1) := dk_42 (dk_at dksJ0_init_0 0 rfl rfl)
theorem dJ0_init_1 : decode cJ0_init 1 = .ok (.invokespecial 1, 3) := dk_183 0 1 (dk_at dksJ0_init_0 1 rfl rfl)
theorem dJ0_init_4 : decode cJ0_init 4 = .ok (.aload_n 0, 1) := dk_42 (dk_at dksJ0_init_0 4 rfl rfl)
theorem dJ0_init_5 : decode cJ0_init 5 = .ok (.aload_n 0, 1) := dk_42 (dk_at dksJ0_init_0 5 rfl rfl)
theorem dJ0_init_6 : decode cJ0_init 6 = .ok (.putfield 7, 3) := dk_181 0 7 (dk_at dksJ0_init_0 6 rfl rfl)
theorem dJ0_init_9 : decode cJ0_init 9 = .ok (.aload_n 0, 1) := dk_42 (dk_at dksJ0_init_0 9 rfl rfl)
theorem dJ0_init_10 : decode cJ0_init 10 = .ok (.getstatic 13, 3) := dk_178 0 13 (dk_at dksJ0_init_0 10 rfl rfl)
theorem dJ0_init_13 : decode cJ0_init 13 = .ok (.putfield 17, 3) := dk_181 0 17 (dk_at dksJ0_init_0 13 rfl rfl)
theorem dJ0_init_16 : decode cJ0_init 16 = .ok (.aload_n 0, 1) := dk_42 (dk_at dksJ0_init_0 16 rfl rfl)
theorem dJ0_init_17 : decode cJ0_init 17 = .ok (.getstatic 20, 3) := dk_178 0 20 (dk_at dksJ0_init_0 17 rfl rfl)
theorem dJ0_init_20 : decode cJ0_init 20 = .ok (.putfield 24, 3) := dk_181 0 24 (dk_at dksJ0_init_0 20 rfl rfl)
theorem dJ0_init_23 : decode cJ0_init 23 = .ok (.aload_n 0, 1) := dk_42 (dk_at dksJ0_init_0 23 rfl rfl)
theorem dJ0_init_24 : decode cJ0_init 24 = .ok (.invokevirtual 27, 3) := dk_182 0 27 (dk_at dksJ0_init_1 0 rfl rfl)
theorem dJ0_init_27 : decode cJ0_init 27 = .ok (.pop, 1) := dk_87 (dk_at dksJ0_init_1 3 rfl rfl)
theorem dJ0_init_28 : decode cJ0_init 28 = .ok (.return_, 1) := dk_177 (dk_at dksJ0_init_1 4 rfl rfl)
abbrev cJ0_init_2 : ByteArray := prog_33_method_2_code
def yJ0_init_2 : MethodName := ⟨RJ0, "<init>", "(Ljava/lang/String;)V"⟩
def dkwJ0_init_2_1 : List UInt8 := [182, 0, 27, 87, 42, 43, 181, 0, 31, 177]
abbrev dktJ0_init_2_1 : List UInt8 := dkwJ0_init_2_1 ++ []
def dkwJ0_init_2_0 : List UInt8 := [42, 183, 0, 1, 42, 42, 181, 0, 7, 42, 178, 0, 13, 181, 0, 17, 42, 178, 0, 20, 181, 0, 24, 42]
abbrev dktJ0_init_2_0 : List UInt8 := dkwJ0_init_2_0 ++ dktJ0_init_2_1
theorem dksJ0_init_2_0 : cJ0_init_2.data.toList.drop 0 = dktJ0_init_2_0 := by decide +kernel
theorem dksJ0_init_2_1 : cJ0_init_2.data.toList.drop 24 = dktJ0_init_2_1 := dk_seg dksJ0_init_2_0 24 rfl rfl
theorem dJ0_init_2_0 : decode cJ0_init_2 0 = .ok (.aload_n 0, 1) := dk_42 (dk_at dksJ0_init_2_0 0 rfl rfl)
theorem dJ0_init_2_1 : decode cJ0_init_2 1 = .ok (.invokespecial 1, 3) := dk_183 0 1 (dk_at dksJ0_init_2_0 1 rfl rfl)
theorem dJ0_init_2_4 : decode cJ0_init_2 4 = .ok (.aload_n 0, 1) := dk_42 (dk_at dksJ0_init_2_0 4 rfl rfl)
theorem dJ0_init_2_5 : decode cJ0_init_2 5 = .ok (.aload_n 0, 1) := dk_42 (dk_at dksJ0_init_2_0 5 rfl rfl)
theorem dJ0_init_2_6 : decode cJ0_init_2 6 = .ok (.putfield 7, 3) := dk_181 0 7 (dk_at dksJ0_init_2_0 6 rfl rfl)
theorem dJ0_init_2_9 : decode cJ0_init_2 9 = .ok (.aload_n 0, 1) := dk_42 (dk_at dksJ0_init_2_0 9 rfl rfl)
theorem dJ0_init_2_10 : decode cJ0_init_2 10 = .ok (.getstatic 13, 3) := dk_178 0 13 (dk_at dksJ0_init_2_0 10 rfl rfl)
theorem dJ0_init_2_13 : decode cJ0_init_2 13 = .ok (.putfield 17, 3) := dk_181 0 17 (dk_at dksJ0_init_2_0 13 rfl rfl)
theorem dJ0_init_2_16 : decode cJ0_init_2 16 = .ok (.aload_n 0, 1) := dk_42 (dk_at dksJ0_init_2_0 16 rfl rfl)
theorem dJ0_init_2_17 : decode cJ0_init_2 17 = .ok (.getstatic 20, 3) := dk_178 0 20 (dk_at dksJ0_init_2_0 17 rfl rfl)
theorem dJ0_init_2_20 : decode cJ0_init_2 20 = .ok (.putfield 24, 3) := dk_181 0 24 (dk_at dksJ0_init_2_0 20 rfl rfl)
theorem dJ0_init_2_23 : decode cJ0_init_2 23 = .ok (.aload_n 0, 1) := dk_42 (dk_at dksJ0_init_2_0 23 rfl rfl)
theorem dJ0_init_2_24 : decode cJ0_init_2 24 = .ok (.invokevirtual 27, 3) := dk_182 0 27 (dk_at dksJ0_init_2_1 0 rfl rfl)
theorem dJ0_init_2_27 : decode cJ0_init_2 27 = .ok (.pop, 1) := dk_87 (dk_at dksJ0_init_2_1 3 rfl rfl)
theorem dJ0_init_2_28 : decode cJ0_init_2 28 = .ok (.aload_n 0, 1) := dk_42 (dk_at dksJ0_init_2_1 4 rfl rfl)
theorem dJ0_init_2_29 : decode cJ0_init_2 29 = .ok (.aload_n 1, 1) := dk_43 (dk_at dksJ0_init_2_1 5 rfl rfl)
theorem dJ0_init_2_30 : decode cJ0_init_2 30 = .ok (.putfield 31, 3) := dk_181 0 31 (dk_at dksJ0_init_2_1 6 rfl rfl)
theorem dJ0_init_2_33 : decode cJ0_init_2 33 = .ok (.return_, 1) := dk_177 (dk_at dksJ0_init_2_1 9 rfl rfl)
abbrev cJ1_init : ByteArray := prog_22_method_1_code
def yJ1_init : MethodName := ⟨RJ1, "<init>", "()V"⟩
theorem dJ1_init_0 : decode cJ1_init 0 = .ok (.aload_n 0, 1) := by decide +kernel
theorem dJ1_init_1 : decode cJ1_init 1 = .ok (.invokespecial 1, 3) := by decide +kernel
theorem dJ1_init_4 : decode cJ1_init 4 = .ok (.return_, 1) := by decide +kernel
abbrev cJ1_init_2 : ByteArray := prog_22_method_2_code
def yJ1_init_2 : MethodName := ⟨RJ1, "<init>", "(Ljava/lang/String;)V"⟩
def dkwJ1_init_2_0 : List UInt8 := [42, 43, 183, 0, 7, 177]
abbrev dktJ1_init_2_0 : List UInt8 := dkwJ1_init_2_0 ++ []
theorem dksJ1_init_2_0 : cJ1_init_2.data.toList.drop 0 = dktJ1_init_2_0 := by decide +kernel
theorem dJ1_init_2_0 : decode cJ1_init_2 0 = .ok (.aload_n 0, 1) := dk_42 (dk_at dksJ1_init_2_0 0 rfl rfl)
theorem dJ1_init_2_1 : decode cJ1_init_2 1 = .ok (.aload_n 1, 1) := dk_43 (dk_at dksJ1_init_2_0 1 rfl rfl)
theorem dJ1_init_2_2 : decode cJ1_init_2 2 = .ok (.invokespecial 7, 3) := dk_183 0 7 (dk_at dksJ1_init_2_0 2 rfl rfl)
theorem dJ1_init_2_5 : decode cJ1_init_2 5 = .ok (.return_, 1) := dk_177 (dk_at dksJ1_init_2_0 5 rfl rfl)
abbrev cJ2_init : ByteArray := prog_30_method_1_code
def yJ2_init : MethodName := ⟨RJ2, "<init>", "()V"⟩
theorem dJ2_init_0 : decode cJ2_init 0 = .ok (.aload_n 0, 1) := by decide +kernel
theorem dJ2_init_1 : decode cJ2_init 1 = .ok (.invokespecial 1, 3) := by decide +kernel
theorem dJ2_init_4 : decode cJ2_init 4 = .ok (.return_, 1) := by decide +kernel
abbrev cJ2_init_2 : ByteArray := prog_30_method_2_code
def yJ2_init_2 : MethodName := ⟨RJ2, "<init>", "(Ljava/lang/String;)V"⟩
def dkwJ2_init_2_0 : List UInt8 := [42, 43, 183, 0, 7, 177]
abbrev dktJ2_init_2_0 : List UInt8 := dkwJ2_init_2_0 ++ []
theorem dksJ2_init_2_0 : cJ2_init_2.data.toList.drop 0 = dktJ2_init_2_0 := by decide +kernel
theorem dJ2_init_2_0 : decode cJ2_init_2 0 = .ok (.aload_n 0, 1) := dk_42 (dk_at dksJ2_init_2_0 0 rfl rfl)
theorem dJ2_init_2_1 : decode cJ2_init_2 1 = .ok (.aload_n 1, 1) := dk_43 (dk_at dksJ2_init_2_0 1 rfl rfl)
theorem dJ2_init_2_2 : decode cJ2_init_2 2 = .ok (.invokespecial 7, 3) := dk_183 0 7 (dk_at dksJ2_init_2_0 2 rfl rfl)
theorem dJ2_init_2_5 : decode cJ2_init_2 5 = .ok (.return_, 1) := dk_177 (dk_at dksJ2_init_2_0 5 rfl rfl)
abbrev cJ3_init : ByteArray := prog_36_method_1_code
def yJ3_init : MethodName := ⟨RJ3, "<init>", "()V"⟩
theorem dJ3_init_0 : decode cJ3_init 0 = .ok (.aload_n 0, 1) := by decide +kernel
theorem dJ3_init_1 : decode cJ3_init 1 = .ok (.invokespecial 1, 3) := by decide +kernel
theorem dJ3_init_4 : decode cJ3_init 4 = .ok (.return_, 1) := by decide +kernel
abbrev cJ4_init : ByteArray := prog_37_method_1_code
def yJ4_init : MethodName := ⟨RJ4, "<init>", "()V"⟩
def dkwJ4_init_0 : List UInt8 := [42, 183, 0, 1, 42, 3, 181, 0, 7, 177]
abbrev dktJ4_init_0 : List UInt8 := dkwJ4_init_0 ++ []
theorem dksJ4_init_0 : cJ4_init.data.toList.drop 0 = dktJ4_init_0 := by decide +kernel
theorem dJ4_init_0 : decode cJ4_init 0 = .ok (.aload_n 0, 1) := dk_42 (dk_at dksJ4_init_0 0 rfl rfl)
theorem dJ4_init_1 : decode cJ4_init 1 = .ok (.invokespecial 1, 3) := dk_183 0 1 (dk_at dksJ4_init_0 1 rfl rfl)
theorem dJ4_init_4 : decode cJ4_init 4 = .ok (.aload_n 0, 1) := dk_42 (dk_at dksJ4_init_0 4 rfl rfl)
theorem dJ4_init_5 : decode cJ4_init 5 = .ok (.iconst 0, 1) := dk_3 (dk_at dksJ4_init_0 5 rfl rfl)
theorem dJ4_init_6 : decode cJ4_init 6 = .ok (.putfield 7, 3) := dk_181 0 7 (dk_at dksJ4_init_0 6 rfl rfl)
theorem dJ4_init_9 : decode cJ4_init 9 = .ok (.return_, 1) := dk_177 (dk_at dksJ4_init_0 9 rfl rfl)
abbrev cJ5_init : ByteArray := prog_38_method_2_code
def yJ5_init : MethodName := ⟨RJ5, "<init>", "()V"⟩
def dkwJ5_init_0 : List UInt8 := [42, 183, 0, 1, 42, 178, 0, 39, 181, 0, 9, 177]
abbrev dktJ5_init_0 : List UInt8 := dkwJ5_init_0 ++ []
theorem dksJ5_init_0 : cJ5_init.data.toList.drop 0 = dktJ5_init_0 := by decide +kernel
theorem dJ5_init_0 : decode cJ5_init 0 = .ok (.aload_n 0, 1) := dk_42 (dk_at dksJ5_init_0 0 rfl rfl)
theorem dJ5_init_1 : decode cJ5_init 1 = .ok (.invokespecial 1, 3) := dk_183 0 1 (dk_at dksJ5_init_0 1 rfl rfl)
theorem dJ5_init_4 : decode cJ5_init 4 = .ok (.aload_n 0, 1) := dk_42 (dk_at dksJ5_init_0 4 rfl rfl)
theorem dJ5_init_5 : decode cJ5_init 5 = .ok (.getstatic 39, 3) := dk_178 0 39 (dk_at dksJ5_init_0 5 rfl rfl)
theorem dJ5_init_8 : decode cJ5_init 8 = .ok (.putfield 9, 3) := dk_181 0 9 (dk_at dksJ5_init_0 8 rfl rfl)
theorem dJ5_init_11 : decode cJ5_init 11 = .ok (.return_, 1) := dk_177 (dk_at dksJ5_init_0 11 rfl rfl)
abbrev cJ5_size : ByteArray := prog_38_method_8_code
def yJ5_size : MethodName := ⟨RJ5, "size", "()I"⟩
theorem dJ5_size_0 : decode cJ5_size 0 = .ok (.aload_n 0, 1) := by decide +kernel
theorem dJ5_size_1 : decode cJ5_size 1 = .ok (.getfield 48, 3) := by decide +kernel
theorem dJ5_size_4 : decode cJ5_size 4 = .ok (.ireturn, 1) := by decide +kernel
abbrev cJ5_get : ByteArray := prog_38_method_20_code
def yJ5_get : MethodName := ⟨RJ5, "get", "(I)Ljava/lang/Object;"⟩
def dkwJ5_get_0 : List UInt8 := [27, 42, 180, 0, 48, 184, 0, 118, 87, 42, 27, 182, 0, 123, 176]
abbrev dktJ5_get_0 : List UInt8 := dkwJ5_get_0 ++ []
theorem dksJ5_get_0 : cJ5_get.data.toList.drop 0 = dktJ5_get_0 := by decide +kernel
theorem dJ5_get_0 : decode cJ5_get 0 = .ok (.iload_n 1, 1) := dk_27 (dk_at dksJ5_get_0 0 rfl rfl)
theorem dJ5_get_1 : decode cJ5_get 1 = .ok (.aload_n 0, 1) := dk_42 (dk_at dksJ5_get_0 1 rfl rfl)
theorem dJ5_get_2 : decode cJ5_get 2 = .ok (.getfield 48, 3) := dk_180 0 48 (dk_at dksJ5_get_0 2 rfl rfl)
theorem dJ5_get_5 : decode cJ5_get 5 = .ok (.invokestatic 118, 3) := dk_184 0 118 (dk_at dksJ5_get_0 5 rfl rfl)
theorem dJ5_get_8 : decode cJ5_get 8 = .ok (.pop, 1) := dk_87 (dk_at dksJ5_get_0 8 rfl rfl)
theorem dJ5_get_9 : decode cJ5_get 9 = .ok (.aload_n 0, 1) := dk_42 (dk_at dksJ5_get_0 9 rfl rfl)
theorem dJ5_get_10 : decode cJ5_get 10 = .ok (.iload_n 1, 1) := dk_27 (dk_at dksJ5_get_0 10 rfl rfl)
theorem dJ5_get_11 : decode cJ5_get 11 = .ok (.invokevirtual 123, 3) := dk_182 0 123 (dk_at dksJ5_get_0 11 rfl rfl)
theorem dJ5_get_14 : decode cJ5_get 14 = .ok (.areturn, 1) := dk_176 (dk_at dksJ5_get_0 14 rfl rfl)
abbrev cJ5_elementData : ByteArray := prog_38_method_18_code
def yJ5_elementData : MethodName := ⟨RJ5, "elementData", "(I)Ljava/lang/Object;"⟩
def dkwJ5_elementData_0 : List UInt8 := [42, 180, 0, 9, 27, 50, 176]
abbrev dktJ5_elementData_0 : List UInt8 := dkwJ5_elementData_0 ++ []
theorem dksJ5_elementData_0 : cJ5_elementData.data.toList.drop 0 = dktJ5_elementData_0 := by decide +kernel
theorem dJ5_elementData_0 : decode cJ5_elementData 0 = .ok (.aload_n 0, 1) := dk_42 (dk_at dksJ5_elementData_0 0 rfl rfl)
theorem dJ5_elementData_1 : decode cJ5_elementData 1 = .ok (.getfield 9, 3) := dk_180 0 9 (dk_at dksJ5_elementData_0 1 rfl rfl)
theorem dJ5_elementData_4 : decode cJ5_elementData 4 = .ok (.iload_n 1, 1) := dk_27 (dk_at dksJ5_elementData_0 4 rfl rfl)
theorem dJ5_elementData_5 : decode cJ5_elementData 5 = .ok (.aaload, 1) := dk_50 (dk_at dksJ5_elementData_0 5 rfl rfl)
theorem dJ5_elementData_6 : decode cJ5_elementData 6 = .ok (.areturn, 1) := dk_176 (dk_at dksJ5_elementData_0 6 rfl rfl)
abbrev cJ5_add : ByteArray := prog_38_method_25_code
def yJ5_add : MethodName := ⟨RJ5, "add", "(Ljava/lang/Object;)Z"⟩
def dkwJ5_add_1 : List UInt8 := [172]
abbrev dktJ5_add_1 : List UInt8 := dkwJ5_add_1 ++ []
def dkwJ5_add_0 : List UInt8 := [42, 89, 180, 0, 63, 4, 96, 181, 0, 63, 42, 43, 42, 180, 0, 9, 42, 180, 0, 48, 182, 0, 131, 4]
abbrev dktJ5_add_0 : List UInt8 := dkwJ5_add_0 ++ dktJ5_add_1
theorem dksJ5_add_0 : cJ5_add.data.toList.drop 0 = dktJ5_add_0 := by decide +kernel
theorem dksJ5_add_1 : cJ5_add.data.toList.drop 24 = dktJ5_add_1 := dk_seg dksJ5_add_0 24 rfl rfl
theorem dJ5_add_0 : decode cJ5_add 0 = .ok (.aload_n 0, 1) := dk_42 (dk_at dksJ5_add_0 0 rfl rfl)
theorem dJ5_add_1 : decode cJ5_add 1 = .ok (.dup, 1) := dk_89 (dk_at dksJ5_add_0 1 rfl rfl)
theorem dJ5_add_2 : decode cJ5_add 2 = .ok (.getfield 63, 3) := dk_180 0 63 (dk_at dksJ5_add_0 2 rfl rfl)
theorem dJ5_add_5 : decode cJ5_add 5 = .ok (.iconst 1, 1) := dk_4 (dk_at dksJ5_add_0 5 rfl rfl)
theorem dJ5_add_6 : decode cJ5_add 6 = .ok (.iadd, 1) := dk_96 (dk_at dksJ5_add_0 6 rfl rfl)
theorem dJ5_add_7 : decode cJ5_add 7 = .ok (.putfield 63, 3) := dk_181 0 63 (dk_at dksJ5_add_0 7 rfl rfl)
theorem dJ5_add_10 : decode cJ5_add 10 = .ok (.aload_n 0, 1) := dk_42 (dk_at dksJ5_add_0 10 rfl rfl)
theorem dJ5_add_11 : decode cJ5_add 11 = .ok (.aload_n 1, 1) := dk_43 (dk_at dksJ5_add_0 11 rfl rfl)
theorem dJ5_add_12 : decode cJ5_add 12 = .ok (.aload_n 0, 1) := dk_42 (dk_at dksJ5_add_0 12 rfl rfl)
theorem dJ5_add_13 : decode cJ5_add 13 = .ok (.getfield 9, 3) := dk_180 0 9 (dk_at dksJ5_add_0 13 rfl rfl)
theorem dJ5_add_16 : decode cJ5_add 16 = .ok (.aload_n 0, 1) := dk_42 (dk_at dksJ5_add_0 16 rfl rfl)
theorem dJ5_add_17 : decode cJ5_add 17 = .ok (.getfield 48, 3) := dk_180 0 48 (dk_at dksJ5_add_0 17 rfl rfl)
theorem dJ5_add_20 : decode cJ5_add 20 = .ok (.invokevirtual 131, 3) := dk_182 0 131 (dk_at dksJ5_add_0 20 rfl rfl)
theorem dJ5_add_23 : decode cJ5_add 23 = .ok (.iconst 1, 1) := dk_4 (dk_at dksJ5_add_0 23 rfl rfl)
theorem dJ5_add_24 : decode cJ5_add 24 = .ok (.ireturn, 1) := dk_172 (dk_at dksJ5_add_1 0 rfl rfl)
abbrev cJ5_add_2 : ByteArray := prog_38_method_24_code
def yJ5_add_2 : MethodName := ⟨RJ5, "add", "(Ljava/lang/Object;[Ljava/lang/Object;I)V"⟩
def dkwJ5_add_2_0 : List UInt8 := [29, 44, 190, 160, 0, 8, 42, 182, 0, 129, 77, 44, 29, 43, 83, 42, 29, 4, 96, 181, 0, 48, 177]
abbrev dktJ5_add_2_0 : List UInt8 := dkwJ5_add_2_0 ++ []
theorem dksJ5_add_2_0 : cJ5_add_2.data.toList.drop 0 = dktJ5_add_2_0 := by decide +kernel
theorem dJ5_add_2_0 : decode cJ5_add_2 0 = .ok (.iload_n 3, 1) := dk_29 (dk_at dksJ5_add_2_0 0 rfl rfl)
theorem dJ5_add_2_1 : decode cJ5_add_2 1 = .ok (.aload_n 2, 1) := dk_44 (dk_at dksJ5_add_2_0 1 rfl rfl)
theorem dJ5_add_2_2 : decode cJ5_add_2 2 = .ok (.arraylength, 1) := dk_190 (dk_at dksJ5_add_2_0 2 rfl rfl)
theorem dJ5_add_2_3 : decode cJ5_add_2 3 = .ok (.if_icmp .ne 8, 3) := dk_160 0 8 (dk_at dksJ5_add_2_0 3 rfl rfl)
theorem dJ5_add_2_6 : decode cJ5_add_2 6 = .ok (.aload_n 0, 1) := dk_42 (dk_at dksJ5_add_2_0 6 rfl rfl)
theorem dJ5_add_2_7 : decode cJ5_add_2 7 = .ok (.invokevirtual 129, 3) := dk_182 0 129 (dk_at dksJ5_add_2_0 7 rfl rfl)
theorem dJ5_add_2_10 : decode cJ5_add_2 10 = .ok (.astore_n 2, 1) := dk_77 (dk_at dksJ5_add_2_0 10 rfl rfl)
theorem dJ5_add_2_11 : decode cJ5_add_2 11 = .ok (.aload_n 2, 1) := dk_44 (dk_at dksJ5_add_2_0 11 rfl rfl)
theorem dJ5_add_2_12 : decode cJ5_add_2 12 = .ok (.iload_n 3, 1) := dk_29 (dk_at dksJ5_add_2_0 12 rfl rfl)
theorem dJ5_add_2_13 : decode cJ5_add_2 13 = .ok (.aload_n 1, 1) := dk_43 (dk_at dksJ5_add_2_0 13 rfl rfl)
theorem dJ5_add_2_14 : decode cJ5_add_2 14 = .ok (.aastore, 1) := dk_83 (dk_at dksJ5_add_2_0 14 rfl rfl)
theorem dJ5_add_2_15 : decode cJ5_add_2 15 = .ok (.aload_n 0, 1) := dk_42 (dk_at dksJ5_add_2_0 15 rfl rfl)
theorem dJ5_add_2_16 : decode cJ5_add_2 16 = .ok (.iload_n 3, 1) := dk_29 (dk_at dksJ5_add_2_0 16 rfl rfl)
theorem dJ5_add_2_17 : decode cJ5_add_2 17 = .ok (.iconst 1, 1) := dk_4 (dk_at dksJ5_add_2_0 17 rfl rfl)
theorem dJ5_add_2_18 : decode cJ5_add_2 18 = .ok (.iadd, 1) := dk_96 (dk_at dksJ5_add_2_0 18 rfl rfl)
theorem dJ5_add_2_19 : decode cJ5_add_2 19 = .ok (.putfield 48, 3) := dk_181 0 48 (dk_at dksJ5_add_2_0 19 rfl rfl)
theorem dJ5_add_2_22 : decode cJ5_add_2 22 = .ok (.return_, 1) := dk_177 (dk_at dksJ5_add_2_0 22 rfl rfl)
abbrev cJ5_grow : ByteArray := prog_38_method_7_code
def yJ5_grow : MethodName := ⟨RJ5, "grow", "()[Ljava/lang/Object;"⟩
def dkwJ5_grow_0 : List UInt8 := [42, 42, 180, 0, 48, 4, 96, 182, 0, 69, 176]
abbrev dktJ5_grow_0 : List UInt8 := dkwJ5_grow_0 ++ []
theorem dksJ5_grow_0 : cJ5_grow.data.toList.drop 0 = dktJ5_grow_0 := by decide +kernel
theorem dJ5_grow_0 : decode cJ5_grow 0 = .ok (.aload_n 0, 1) := dk_42 (dk_at dksJ5_grow_0 0 rfl rfl)
theorem dJ5_grow_1 : decode cJ5_grow 1 = .ok (.aload_n 0, 1) := dk_42 (dk_at dksJ5_grow_0 1 rfl rfl)
theorem dJ5_grow_2 : decode cJ5_grow 2 = .ok (.getfield 48, 3) := dk_180 0 48 (dk_at dksJ5_grow_0 2 rfl rfl)
theorem dJ5_grow_5 : decode cJ5_grow 5 = .ok (.iconst 1, 1) := dk_4 (dk_at dksJ5_grow_0 5 rfl rfl)
theorem dJ5_grow_6 : decode cJ5_grow 6 = .ok (.iadd, 1) := dk_96 (dk_at dksJ5_grow_0 6 rfl rfl)
theorem dJ5_grow_7 : decode cJ5_grow 7 = .ok (.invokevirtual 69, 3) := dk_182 0 69 (dk_at dksJ5_grow_0 7 rfl rfl)
theorem dJ5_grow_10 : decode cJ5_grow 10 = .ok (.areturn, 1) := dk_176 (dk_at dksJ5_grow_0 10 rfl rfl)
abbrev cJ5_grow_2 : ByteArray := prog_38_method_6_code
def yJ5_grow_2 : MethodName := ⟨RJ5, "grow", "(I)[Ljava/lang/Object;"⟩
def dkwJ5_grow_2_2 : List UInt8 := [27, 184, 0, 79, 189, 0, 7, 90, 181, 0, 9, 176]
abbrev dktJ5_grow_2_2 : List UInt8 := dkwJ5_grow_2_2 ++ []
def dkwJ5_grow_2_1 : List UInt8 := [28, 4, 122, 184, 0, 73, 62, 42, 42, 180, 0, 9, 29, 184, 0, 66, 90, 181, 0, 9, 176, 42, 16, 10]
abbrev dktJ5_grow_2_1 : List UInt8 := dkwJ5_grow_2_1 ++ dktJ5_grow_2_2
def dkwJ5_grow_2_0 : List UInt8 := [42, 180, 0, 9, 190, 61, 28, 157, 0, 13, 42, 180, 0, 9, 178, 0, 39, 165, 0, 28, 28, 27, 28, 100]
abbrev dktJ5_grow_2_0 : List UInt8 := dkwJ5_grow_2_0 ++ dktJ5_grow_2_1
theorem dksJ5_grow_2_0 : cJ5_grow_2.data.toList.drop 0 = dktJ5_grow_2_0 := by decide +kernel
theorem dksJ5_grow_2_1 : cJ5_grow_2.data.toList.drop 24 = dktJ5_grow_2_1 := dk_seg dksJ5_grow_2_0 24 rfl rfl
theorem dksJ5_grow_2_2 : cJ5_grow_2.data.toList.drop 48 = dktJ5_grow_2_2 := dk_seg dksJ5_grow_2_1 24 rfl rfl
theorem dJ5_grow_2_0 : decode cJ5_grow_2 0 = .ok (.aload_n 0, 1) := dk_42 (dk_at dksJ5_grow_2_0 0 rfl rfl)
theorem dJ5_grow_2_1 : decode cJ5_grow_2 1 = .ok (.getfield 9, 3) := dk_180 0 9 (dk_at dksJ5_grow_2_0 1 rfl rfl)
theorem dJ5_grow_2_4 : decode cJ5_grow_2 4 = .ok (.arraylength, 1) := dk_190 (dk_at dksJ5_grow_2_0 4 rfl rfl)
theorem dJ5_grow_2_5 : decode cJ5_grow_2 5 = .ok (.istore_n 2, 1) := dk_61 (dk_at dksJ5_grow_2_0 5 rfl rfl)
theorem dJ5_grow_2_6 : decode cJ5_grow_2 6 = .ok (.iload_n 2, 1) := dk_28 (dk_at dksJ5_grow_2_0 6 rfl rfl)
theorem dJ5_grow_2_7 : decode cJ5_grow_2 7 = .ok (.ifCond .gt 13, 3) := dk_157 0 13 (dk_at dksJ5_grow_2_0 7 rfl rfl)
theorem dJ5_grow_2_10 : decode cJ5_grow_2 10 = .ok (.aload_n 0, 1) := dk_42 (dk_at dksJ5_grow_2_0 10 rfl rfl)
theorem dJ5_grow_2_11 : decode cJ5_grow_2 11 = .ok (.getfield 9, 3) := dk_180 0 9 (dk_at dksJ5_grow_2_0 11 rfl rfl)
theorem dJ5_grow_2_14 : decode cJ5_grow_2 14 = .ok (.getstatic 39, 3) := dk_178 0 39 (dk_at dksJ5_grow_2_0 14 rfl rfl)
theorem dJ5_grow_2_17 : decode cJ5_grow_2 17 = .ok (.if_acmp .eq 28, 3) := dk_165 0 28 (dk_at dksJ5_grow_2_0 17 rfl rfl)
theorem dJ5_grow_2_20 : decode cJ5_grow_2 20 = .ok (.iload_n 2, 1) := dk_28 (dk_at dksJ5_grow_2_0 20 rfl rfl)
theorem dJ5_grow_2_21 : decode cJ5_grow_2 21 = .ok (.iload_n 1, 1) := dk_27 (dk_at dksJ5_grow_2_0 21 rfl rfl)
theorem dJ5_grow_2_22 : decode cJ5_grow_2 22 = .ok (.iload_n 2, 1) := dk_28 (dk_at dksJ5_grow_2_0 22 rfl rfl)
theorem dJ5_grow_2_23 : decode cJ5_grow_2 23 = .ok (.isub, 1) := dk_100 (dk_at dksJ5_grow_2_0 23 rfl rfl)
theorem dJ5_grow_2_24 : decode cJ5_grow_2 24 = .ok (.iload_n 2, 1) := dk_28 (dk_at dksJ5_grow_2_1 0 rfl rfl)
theorem dJ5_grow_2_25 : decode cJ5_grow_2 25 = .ok (.iconst 1, 1) := dk_4 (dk_at dksJ5_grow_2_1 1 rfl rfl)
theorem dJ5_grow_2_26 : decode cJ5_grow_2 26 = .ok (.ishr, 1) := dk_122 (dk_at dksJ5_grow_2_1 2 rfl rfl)
theorem dJ5_grow_2_27 : decode cJ5_grow_2 27 = .ok (.invokestatic 73, 3) := dk_184 0 73 (dk_at dksJ5_grow_2_1 3 rfl rfl)
theorem dJ5_grow_2_30 : decode cJ5_grow_2 30 = .ok (.istore_n 3, 1) := dk_62 (dk_at dksJ5_grow_2_1 6 rfl rfl)
theorem dJ5_grow_2_31 : decode cJ5_grow_2 31 = .ok (.aload_n 0, 1) := dk_42 (dk_at dksJ5_grow_2_1 7 rfl rfl)
theorem dJ5_grow_2_32 : decode cJ5_grow_2 32 = .ok (.aload_n 0, 1) := dk_42 (dk_at dksJ5_grow_2_1 8 rfl rfl)
theorem dJ5_grow_2_33 : decode cJ5_grow_2 33 = .ok (.getfield 9, 3) := dk_180 0 9 (dk_at dksJ5_grow_2_1 9 rfl rfl)
theorem dJ5_grow_2_36 : decode cJ5_grow_2 36 = .ok (.iload_n 3, 1) := dk_29 (dk_at dksJ5_grow_2_1 12 rfl rfl)
theorem dJ5_grow_2_37 : decode cJ5_grow_2 37 = .ok (.invokestatic 66, 3) := dk_184 0 66 (dk_at dksJ5_grow_2_1 13 rfl rfl)
theorem dJ5_grow_2_40 : decode cJ5_grow_2 40 = .ok (.dup_x1, 1) := dk_90 (dk_at dksJ5_grow_2_1 16 rfl rfl)
theorem dJ5_grow_2_41 : decode cJ5_grow_2 41 = .ok (.putfield 9, 3) := dk_181 0 9 (dk_at dksJ5_grow_2_1 17 rfl rfl)
theorem dJ5_grow_2_44 : decode cJ5_grow_2 44 = .ok (.areturn, 1) := dk_176 (dk_at dksJ5_grow_2_1 20 rfl rfl)
theorem dJ5_grow_2_45 : decode cJ5_grow_2 45 = .ok (.aload_n 0, 1) := dk_42 (dk_at dksJ5_grow_2_1 21 rfl rfl)
theorem dJ5_grow_2_46 : decode cJ5_grow_2 46 = .ok (.bipush 10, 2) := dk_16 10 (dk_at dksJ5_grow_2_1 22 rfl rfl)
theorem dJ5_grow_2_48 : decode cJ5_grow_2 48 = .ok (.iload_n 1, 1) := dk_27 (dk_at dksJ5_grow_2_2 0 rfl rfl)
theorem dJ5_grow_2_49 : decode cJ5_grow_2 49 = .ok (.invokestatic 79, 3) := dk_184 0 79 (dk_at dksJ5_grow_2_2 1 rfl rfl)
theorem dJ5_grow_2_52 : decode cJ5_grow_2 52 = .ok (.anewarray 7, 3) := dk_189 0 7 (dk_at dksJ5_grow_2_2 4 rfl rfl)
theorem dJ5_grow_2_55 : decode cJ5_grow_2 55 = .ok (.dup_x1, 1) := dk_90 (dk_at dksJ5_grow_2_2 7 rfl rfl)
theorem dJ5_grow_2_56 : decode cJ5_grow_2 56 = .ok (.putfield 9, 3) := dk_181 0 9 (dk_at dksJ5_grow_2_2 8 rfl rfl)
theorem dJ5_grow_2_59 : decode cJ5_grow_2 59 = .ok (.areturn, 1) := dk_176 (dk_at dksJ5_grow_2_2 11 rfl rfl)
abbrev cJ5_remove : ByteArray := prog_38_method_29_code
def yJ5_remove : MethodName := ⟨RJ5, "remove", "(I)Ljava/lang/Object;"⟩
def dkwJ5_remove_1 : List UInt8 := [45, 176]
abbrev dktJ5_remove_1 : List UInt8 := dkwJ5_remove_1 ++ []
def dkwJ5_remove_0 : List UInt8 := [27, 42, 180, 0, 48, 184, 0, 118, 87, 42, 180, 0, 9, 77, 44, 27, 50, 78, 42, 44, 27, 182, 0, 144]
abbrev dktJ5_remove_0 : List UInt8 := dkwJ5_remove_0 ++ dktJ5_remove_1
theorem dksJ5_remove_0 : cJ5_remove.data.toList.drop 0 = dktJ5_remove_0 := by decide +kernel
theorem dksJ5_remove_1 : cJ5_remove.data.toList.drop 24 = dktJ5_remove_1 := dk_seg dksJ5_remove_0 24 rfl rfl
theorem dJ5_remove_0 : decode cJ5_remove 0 = .ok (.iload_n 1, 1) := dk_27 (dk_at dksJ5_remove_0 0 rfl rfl)
theorem dJ5_remove_1 : decode cJ5_remove 1 = .ok (.aload_n 0, 1) := dk_42 (dk_at dksJ5_remove_0 1 rfl rfl)
theorem dJ5_remove_2 : decode cJ5_remove 2 = .ok (.getfield 48, 3) := dk_180 0 48 (dk_at dksJ5_remove_0 2 rfl rfl)
theorem dJ5_remove_5 : decode cJ5_remove 5 = .ok (.invokestatic 118, 3) := dk_184 0 118 (dk_at dksJ5_remove_0 5 rfl rfl)
theorem dJ5_remove_8 : decode cJ5_remove 8 = .ok (.pop, 1) := dk_87 (dk_at dksJ5_remove_0 8 rfl rfl)
theorem dJ5_remove_9 : decode cJ5_remove 9 = .ok (.aload_n 0, 1) := dk_42 (dk_at dksJ5_remove_0 9 rfl rfl)
theorem dJ5_remove_10 : decode cJ5_remove 10 = .ok (.getfield 9, 3) := dk_180 0 9 (dk_at dksJ5_remove_0 10 rfl rfl)
theorem dJ5_remove_13 : decode cJ5_remove 13 = .ok (.astore_n 2, 1) := dk_77 (dk_at dksJ5_remove_0 13 rfl rfl)
theorem dJ5_remove_14 : decode cJ5_remove 14 = .ok (.aload_n 2, 1) := dk_44 (dk_at dksJ5_remove_0 14 rfl rfl)
theorem dJ5_remove_15 : decode cJ5_remove 15 = .ok (.iload_n 1, 1) := dk_27 (dk_at dksJ5_remove_0 15 rfl rfl)
theorem dJ5_remove_16 : decode cJ5_remove 16 = .ok (.aaload, 1) := dk_50 (dk_at dksJ5_remove_0 16 rfl rfl)
theorem dJ5_remove_17 : decode cJ5_remove 17 = .ok (.astore_n 3, 1) := dk_78 (dk_at dksJ5_remove_0 17 rfl rfl)
theorem dJ5_remove_18 : decode cJ5_remove 18 = .ok (.aload_n 0, 1) := dk_42 (dk_at dksJ5_remove_0 18 rfl rfl)
theorem dJ5_remove_19 : decode cJ5_remove 19 = .ok (.aload_n 2, 1) := dk_44 (dk_at dksJ5_remove_0 19 rfl rfl)
theorem dJ5_remove_20 : decode cJ5_remove 20 = .ok (.iload_n 1, 1) := dk_27 (dk_at dksJ5_remove_0 20 rfl rfl)
theorem dJ5_remove_21 : decode cJ5_remove 21 = .ok (.invokevirtual 144, 3) := dk_182 0 144 (dk_at dksJ5_remove_0 21 rfl rfl)
theorem dJ5_remove_24 : decode cJ5_remove 24 = .ok (.aload_n 3, 1) := dk_45 (dk_at dksJ5_remove_1 0 rfl rfl)
theorem dJ5_remove_25 : decode cJ5_remove 25 = .ok (.areturn, 1) := dk_176 (dk_at dksJ5_remove_1 1 rfl rfl)
abbrev cJ5_fastRemove : ByteArray := prog_38_method_39_code
def yJ5_fastRemove : MethodName := ⟨RJ5, "fastRemove", "([Ljava/lang/Object;I)V"⟩
def dkwJ5_fastRemove_1 : List UInt8 := [4, 96, 43, 28, 29, 28, 100, 184, 0, 112, 43, 42, 29, 90, 181, 0, 48, 1, 83, 177]
abbrev dktJ5_fastRemove_1 : List UInt8 := dkwJ5_fastRemove_1 ++ []
def dkwJ5_fastRemove_0 : List UInt8 := [42, 89, 180, 0, 63, 4, 96, 181, 0, 63, 42, 180, 0, 48, 4, 100, 89, 62, 28, 164, 0, 15, 43, 28]
abbrev dktJ5_fastRemove_0 : List UInt8 := dkwJ5_fastRemove_0 ++ dktJ5_fastRemove_1
theorem dksJ5_fastRemove_0 : cJ5_fastRemove.data.toList.drop 0 = dktJ5_fastRemove_0 := by decide +kernel
theorem dksJ5_fastRemove_1 : cJ5_fastRemove.data.toList.drop 24 = dktJ5_fastRemove_1 := dk_seg dksJ5_fastRemove_0 24 rfl rfl
theorem dJ5_fastRemove_0 : decode cJ5_fastRemove 0 = .ok (.aload_n 0, 1) := dk_42 (dk_at dksJ5_fastRemove_0 0 rfl rfl)
theorem dJ5_fastRemove_1 : decode cJ5_fastRemove 1 = .ok (.dup, 1) := dk_89 (dk_at dksJ5_fastRemove_0 1 rfl rfl)
theorem dJ5_fastRemove_2 : decode cJ5_fastRemove 2 = .ok (.getfield 63, 3) := dk_180 0 63 (dk_at dksJ5_fastRemove_0 2 rfl rfl)
theorem dJ5_fastRemove_5 : decode cJ5_fastRemove 5 = .ok (.iconst 1, 1) := dk_4 (dk_at dksJ5_fastRemove_0 5 rfl rfl)
theorem dJ5_fastRemove_6 : decode cJ5_fastRemove 6 = .ok (.iadd, 1) := dk_96 (dk_at dksJ5_fastRemove_0 6 rfl rfl)
theorem dJ5_fastRemove_7 : decode cJ5_fastRemove 7 = .ok (.putfield 63, 3) := dk_181 0 63 (dk_at dksJ5_fastRemove_0 7 rfl rfl)
theorem dJ5_fastRemove_10 : decode cJ5_fastRemove 10 = .ok (.aload_n 0, 1) := dk_42 (dk_at dksJ5_fastRemove_0 10 rfl rfl)
theorem dJ5_fastRemove_11 : decode cJ5_fastRemove 11 = .ok (.getfield 48, 3) := dk_180 0 48 (dk_at dksJ5_fastRemove_0 11 rfl rfl)
theorem dJ5_fastRemove_14 : decode cJ5_fastRemove 14 = .ok (.iconst 1, 1) := dk_4 (dk_at dksJ5_fastRemove_0 14 rfl rfl)
theorem dJ5_fastRemove_15 : decode cJ5_fastRemove 15 = .ok (.isub, 1) := dk_100 (dk_at dksJ5_fastRemove_0 15 rfl rfl)
theorem dJ5_fastRemove_16 : decode cJ5_fastRemove 16 = .ok (.dup, 1) := dk_89 (dk_at dksJ5_fastRemove_0 16 rfl rfl)
theorem dJ5_fastRemove_17 : decode cJ5_fastRemove 17 = .ok (.istore_n 3, 1) := dk_62 (dk_at dksJ5_fastRemove_0 17 rfl rfl)
theorem dJ5_fastRemove_18 : decode cJ5_fastRemove 18 = .ok (.iload_n 2, 1) := dk_28 (dk_at dksJ5_fastRemove_0 18 rfl rfl)
theorem dJ5_fastRemove_19 : decode cJ5_fastRemove 19 = .ok (.if_icmp .le 15, 3) := dk_164 0 15 (dk_at dksJ5_fastRemove_0 19 rfl rfl)
theorem dJ5_fastRemove_22 : decode cJ5_fastRemove 22 = .ok (.aload_n 1, 1) := dk_43 (dk_at dksJ5_fastRemove_0 22 rfl rfl)
theorem dJ5_fastRemove_23 : decode cJ5_fastRemove 23 = .ok (.iload_n 2, 1) := dk_28 (dk_at dksJ5_fastRemove_0 23 rfl rfl)
theorem dJ5_fastRemove_24 : decode cJ5_fastRemove 24 = .ok (.iconst 1, 1) := dk_4 (dk_at dksJ5_fastRemove_1 0 rfl rfl)
theorem dJ5_fastRemove_25 : decode cJ5_fastRemove 25 = .ok (.iadd, 1) := dk_96 (dk_at dksJ5_fastRemove_1 1 rfl rfl)
theorem dJ5_fastRemove_26 : decode cJ5_fastRemove 26 = .ok (.aload_n 1, 1) := dk_43 (dk_at dksJ5_fastRemove_1 2 rfl rfl)
theorem dJ5_fastRemove_27 : decode cJ5_fastRemove 27 = .ok (.iload_n 2, 1) := dk_28 (dk_at dksJ5_fastRemove_1 3 rfl rfl)
theorem dJ5_fastRemove_28 : decode cJ5_fastRemove 28 = .ok (.iload_n 3, 1) := dk_29 (dk_at dksJ5_fastRemove_1 4 rfl rfl)
theorem dJ5_fastRemove_29 : decode cJ5_fastRemove 29 = .ok (.iload_n 2, 1) := dk_28 (dk_at dksJ5_fastRemove_1 5 rfl rfl)
theorem dJ5_fastRemove_30 : decode cJ5_fastRemove 30 = .ok (.isub, 1) := dk_100 (dk_at dksJ5_fastRemove_1 6 rfl rfl)
theorem dJ5_fastRemove_31 : decode cJ5_fastRemove 31 = .ok (.invokestatic 112, 3) := dk_184 0 112 (dk_at dksJ5_fastRemove_1 7 rfl rfl)
theorem dJ5_fastRemove_34 : decode cJ5_fastRemove 34 = .ok (.aload_n 1, 1) := dk_43 (dk_at dksJ5_fastRemove_1 10 rfl rfl)
theorem dJ5_fastRemove_35 : decode cJ5_fastRemove 35 = .ok (.aload_n 0, 1) := dk_42 (dk_at dksJ5_fastRemove_1 11 rfl rfl)
theorem dJ5_fastRemove_36 : decode cJ5_fastRemove 36 = .ok (.iload_n 3, 1) := dk_29 (dk_at dksJ5_fastRemove_1 12 rfl rfl)
theorem dJ5_fastRemove_37 : decode cJ5_fastRemove 37 = .ok (.dup_x1, 1) := dk_90 (dk_at dksJ5_fastRemove_1 13 rfl rfl)
theorem dJ5_fastRemove_38 : decode cJ5_fastRemove 38 = .ok (.putfield 48, 3) := dk_181 0 48 (dk_at dksJ5_fastRemove_1 14 rfl rfl)
theorem dJ5_fastRemove_41 : decode cJ5_fastRemove 41 = .ok (.aconst_null, 1) := dk_1 (dk_at dksJ5_fastRemove_1 17 rfl rfl)
theorem dJ5_fastRemove_42 : decode cJ5_fastRemove 42 = .ok (.aastore, 1) := dk_83 (dk_at dksJ5_fastRemove_1 18 rfl rfl)
theorem dJ5_fastRemove_43 : decode cJ5_fastRemove 43 = .ok (.return_, 1) := dk_177 (dk_at dksJ5_fastRemove_1 19 rfl rfl)
abbrev cJ5_add_3 : ByteArray := prog_38_method_26_code
def yJ5_add_3 : MethodName := ⟨RJ5, "add", "(ILjava/lang/Object;)V"⟩
def dkwJ5_add_3_2 : List UInt8 := [29, 27, 100, 184, 0, 112, 25, 4, 27, 44, 83, 42, 29, 4, 96, 181, 0, 48, 177]
abbrev dktJ5_add_3_2 : List UInt8 := dkwJ5_add_3_2 ++ []
def dkwJ5_add_3_1 : List UInt8 := [180, 0, 9, 89, 58, 4, 190, 160, 0, 9, 42, 182, 0, 129, 58, 4, 25, 4, 27, 25, 4, 27, 4, 96]
abbrev dktJ5_add_3_1 : List UInt8 := dkwJ5_add_3_1 ++ dktJ5_add_3_2
def dkwJ5_add_3_0 : List UInt8 := [42, 27, 182, 0, 135, 42, 89, 180, 0, 63, 4, 96, 181, 0, 63, 42, 180, 0, 48, 89, 62, 42]
abbrev dktJ5_add_3_0 : List UInt8 := dkwJ5_add_3_0 ++ dktJ5_add_3_1
theorem dksJ5_add_3_0 : cJ5_add_3.data.toList.drop 0 = dktJ5_add_3_0 := by decide +kernel
theorem dksJ5_add_3_1 : cJ5_add_3.data.toList.drop 22 = dktJ5_add_3_1 := dk_seg dksJ5_add_3_0 22 rfl rfl
theorem dksJ5_add_3_2 : cJ5_add_3.data.toList.drop 46 = dktJ5_add_3_2 := dk_seg dksJ5_add_3_1 24 rfl rfl
theorem dJ5_add_3_0 : decode cJ5_add_3 0 = .ok (.aload_n 0, 1) := dk_42 (dk_at dksJ5_add_3_0 0 rfl rfl)
theorem dJ5_add_3_1 : decode cJ5_add_3 1 = .ok (.iload_n 1, 1) := dk_27 (dk_at dksJ5_add_3_0 1 rfl rfl)
theorem dJ5_add_3_2 : decode cJ5_add_3 2 = .ok (.invokevirtual 135, 3) := dk_182 0 135 (dk_at dksJ5_add_3_0 2 rfl rfl)
theorem dJ5_add_3_5 : decode cJ5_add_3 5 = .ok (.aload_n 0, 1) := dk_42 (dk_at dksJ5_add_3_0 5 rfl rfl)
theorem dJ5_add_3_6 : decode cJ5_add_3 6 = .ok (.dup, 1) := dk_89 (dk_at dksJ5_add_3_0 6 rfl rfl)
theorem dJ5_add_3_7 : decode cJ5_add_3 7 = .ok (.getfield 63, 3) := dk_180 0 63 (dk_at dksJ5_add_3_0 7 rfl rfl)
theorem dJ5_add_3_10 : decode cJ5_add_3 10 = .ok (.iconst 1, 1) := dk_4 (dk_at dksJ5_add_3_0 10 rfl rfl)
theorem dJ5_add_3_11 : decode cJ5_add_3 11 = .ok (.iadd, 1) := dk_96 (dk_at dksJ5_add_3_0 11 rfl rfl)
theorem dJ5_add_3_12 : decode cJ5_add_3 12 = .ok (.putfield 63, 3) := dk_181 0 63 (dk_at dksJ5_add_3_0 12 rfl rfl)
theorem dJ5_add_3_15 : decode cJ5_add_3 15 = .ok (.aload_n 0, 1) := dk_42 (dk_at dksJ5_add_3_0 15 rfl rfl)
theorem dJ5_add_3_16 : decode cJ5_add_3 16 = .ok (.getfield 48, 3) := dk_180 0 48 (dk_at dksJ5_add_3_0 16 rfl rfl)
theorem dJ5_add_3_19 : decode cJ5_add_3 19 = .ok (.dup, 1) := dk_89 (dk_at dksJ5_add_3_0 19 rfl rfl)
theorem dJ5_add_3_20 : decode cJ5_add_3 20 = .ok (.istore_n 3, 1) := dk_62 (dk_at dksJ5_add_3_0 20 rfl rfl)
theorem dJ5_add_3_21 : decode cJ5_add_3 21 = .ok (.aload_n 0, 1) := dk_42 (dk_at dksJ5_add_3_0 21 rfl rfl)
theorem dJ5_add_3_22 : decode cJ5_add_3 22 = .ok (.getfield 9, 3) := dk_180 0 9 (dk_at dksJ5_add_3_1 0 rfl rfl)
theorem dJ5_add_3_25 : decode cJ5_add_3 25 = .ok (.dup, 1) := dk_89 (dk_at dksJ5_add_3_1 3 rfl rfl)
theorem dJ5_add_3_26 : decode cJ5_add_3 26 = .ok (.astore 4, 2) := dk_58 4 (dk_at dksJ5_add_3_1 4 rfl rfl)
theorem dJ5_add_3_28 : decode cJ5_add_3 28 = .ok (.arraylength, 1) := dk_190 (dk_at dksJ5_add_3_1 6 rfl rfl)
theorem dJ5_add_3_29 : decode cJ5_add_3 29 = .ok (.if_icmp .ne 9, 3) := dk_160 0 9 (dk_at dksJ5_add_3_1 7 rfl rfl)
theorem dJ5_add_3_32 : decode cJ5_add_3 32 = .ok (.aload_n 0, 1) := dk_42 (dk_at dksJ5_add_3_1 10 rfl rfl)
theorem dJ5_add_3_33 : decode cJ5_add_3 33 = .ok (.invokevirtual 129, 3) := dk_182 0 129 (dk_at dksJ5_add_3_1 11 rfl rfl)
theorem dJ5_add_3_36 : decode cJ5_add_3 36 = .ok (.astore 4, 2) := dk_58 4 (dk_at dksJ5_add_3_1 14 rfl rfl)
theorem dJ5_add_3_38 : decode cJ5_add_3 38 = .ok (.aload 4, 2) := dk_25 4 (dk_at dksJ5_add_3_1 16 rfl rfl)
theorem dJ5_add_3_40 : decode cJ5_add_3 40 = .ok (.iload_n 1, 1) := dk_27 (dk_at dksJ5_add_3_1 18 rfl rfl)
theorem dJ5_add_3_41 : decode cJ5_add_3 41 = .ok (.aload 4, 2) := dk_25 4 (dk_at dksJ5_add_3_1 19 rfl rfl)
theorem dJ5_add_3_43 : decode cJ5_add_3 43 = .ok (.iload_n 1, 1) := dk_27 (dk_at dksJ5_add_3_1 21 rfl rfl)
theorem dJ5_add_3_44 : decode cJ5_add_3 44 = .ok (.iconst 1, 1) := dk_4 (dk_at dksJ5_add_3_1 22 rfl rfl)
theorem dJ5_add_3_45 : decode cJ5_add_3 45 = .ok (.iadd, 1) := dk_96 (dk_at dksJ5_add_3_1 23 rfl rfl)
theorem dJ5_add_3_46 : decode cJ5_add_3 46 = .ok (.iload_n 3, 1) := dk_29 (dk_at dksJ5_add_3_2 0 rfl rfl)
theorem dJ5_add_3_47 : decode cJ5_add_3 47 = .ok (.iload_n 1, 1) := dk_27 (dk_at dksJ5_add_3_2 1 rfl rfl)
theorem dJ5_add_3_48 : decode cJ5_add_3 48 = .ok (.isub, 1) := dk_100 (dk_at dksJ5_add_3_2 2 rfl rfl)
theorem dJ5_add_3_49 : decode cJ5_add_3 49 = .ok (.invokestatic 112, 3) := dk_184 0 112 (dk_at dksJ5_add_3_2 3 rfl rfl)
theorem dJ5_add_3_52 : decode cJ5_add_3 52 = .ok (.aload 4, 2) := dk_25 4 (dk_at dksJ5_add_3_2 6 rfl rfl)
theorem dJ5_add_3_54 : decode cJ5_add_3 54 = .ok (.iload_n 1, 1) := dk_27 (dk_at dksJ5_add_3_2 8 rfl rfl)
theorem dJ5_add_3_55 : decode cJ5_add_3 55 = .ok (.aload_n 2, 1) := dk_44 (dk_at dksJ5_add_3_2 9 rfl rfl)
theorem dJ5_add_3_56 : decode cJ5_add_3 56 = .ok (.aastore, 1) := dk_83 (dk_at dksJ5_add_3_2 10 rfl rfl)
theorem dJ5_add_3_57 : decode cJ5_add_3 57 = .ok (.aload_n 0, 1) := dk_42 (dk_at dksJ5_add_3_2 11 rfl rfl)
theorem dJ5_add_3_58 : decode cJ5_add_3 58 = .ok (.iload_n 3, 1) := dk_29 (dk_at dksJ5_add_3_2 12 rfl rfl)
theorem dJ5_add_3_59 : decode cJ5_add_3 59 = .ok (.iconst 1, 1) := dk_4 (dk_at dksJ5_add_3_2 13 rfl rfl)
theorem dJ5_add_3_60 : decode cJ5_add_3 60 = .ok (.iadd, 1) := dk_96 (dk_at dksJ5_add_3_2 14 rfl rfl)
theorem dJ5_add_3_61 : decode cJ5_add_3 61 = .ok (.putfield 48, 3) := dk_181 0 48 (dk_at dksJ5_add_3_2 15 rfl rfl)
theorem dJ5_add_3_64 : decode cJ5_add_3 64 = .ok (.return_, 1) := dk_177 (dk_at dksJ5_add_3_2 18 rfl rfl)
abbrev cJ5_rangeCheckForAdd : ByteArray := prog_38_method_45_code
def yJ5_rangeCheckForAdd : MethodName := ⟨RJ5, "rangeCheckForAdd", "(I)V"⟩
def dkwJ5_rangeCheckForAdd_1 : List UInt8 := [191, 177]
abbrev dktJ5_rangeCheckForAdd_1 : List UInt8 := dkwJ5_rangeCheckForAdd_1 ++ []
def dkwJ5_rangeCheckForAdd_0 : List UInt8 := [27, 42, 180, 0, 48, 163, 0, 7, 27, 156, 0, 16, 187, 0, 187, 89, 42, 27, 182, 0, 198, 183, 0, 193]
abbrev dktJ5_rangeCheckForAdd_0 : List UInt8 := dkwJ5_rangeCheckForAdd_0 ++ dktJ5_rangeCheckForAdd_1
theorem dksJ5_rangeCheckForAdd_0 : cJ5_rangeCheckForAdd.data.toList.drop 0 = dktJ5_rangeCheckForAdd_0 := by decide +kernel
theorem dksJ5_rangeCheckForAdd_1 : cJ5_rangeCheckForAdd.data.toList.drop 24 = dktJ5_rangeCheckForAdd_1 := dk_seg dksJ5_rangeCheckForAdd_0 24 rfl rfl
theorem dJ5_rangeCheckForAdd_0 : decode cJ5_rangeCheckForAdd 0 = .ok (.iload_n 1, 1) := dk_27 (dk_at dksJ5_rangeCheckForAdd_0 0 rfl rfl)
theorem dJ5_rangeCheckForAdd_1 : decode cJ5_rangeCheckForAdd 1 = .ok (.aload_n 0, 1) := dk_42 (dk_at dksJ5_rangeCheckForAdd_0 1 rfl rfl)
theorem dJ5_rangeCheckForAdd_2 : decode cJ5_rangeCheckForAdd 2 = .ok (.getfield 48, 3) := dk_180 0 48 (dk_at dksJ5_rangeCheckForAdd_0 2 rfl rfl)
theorem dJ5_rangeCheckForAdd_5 : decode cJ5_rangeCheckForAdd 5 = .ok (.if_icmp .gt 7, 3) := dk_163 0 7 (dk_at dksJ5_rangeCheckForAdd_0 5 rfl rfl)
theorem dJ5_rangeCheckForAdd_8 : decode cJ5_rangeCheckForAdd 8 = .ok (.iload_n 1, 1) := dk_27 (dk_at dksJ5_rangeCheckForAdd_0 8 rfl rfl)
theorem dJ5_rangeCheckForAdd_9 : decode cJ5_rangeCheckForAdd 9 = .ok (.ifCond .ge 16, 3) := dk_156 0 16 (dk_at dksJ5_rangeCheckForAdd_0 9 rfl rfl)
theorem dJ5_rangeCheckForAdd_12 : decode cJ5_rangeCheckForAdd 12 = .ok (.new 187, 3) := dk_187 0 187 (dk_at dksJ5_rangeCheckForAdd_0 12 rfl rfl)
theorem dJ5_rangeCheckForAdd_15 : decode cJ5_rangeCheckForAdd 15 = .ok (.dup, 1) := dk_89 (dk_at dksJ5_rangeCheckForAdd_0 15 rfl rfl)
theorem dJ5_rangeCheckForAdd_16 : decode cJ5_rangeCheckForAdd 16 = .ok (.aload_n 0, 1) := dk_42 (dk_at dksJ5_rangeCheckForAdd_0 16 rfl rfl)
theorem dJ5_rangeCheckForAdd_17 : decode cJ5_rangeCheckForAdd 17 = .ok (.iload_n 1, 1) := dk_27 (dk_at dksJ5_rangeCheckForAdd_0 17 rfl rfl)
theorem dJ5_rangeCheckForAdd_18 : decode cJ5_rangeCheckForAdd 18 = .ok (.invokevirtual 198, 3) := dk_182 0 198 (dk_at dksJ5_rangeCheckForAdd_0 18 rfl rfl)
theorem dJ5_rangeCheckForAdd_21 : decode cJ5_rangeCheckForAdd 21 = .ok (.invokespecial 193, 3) := dk_183 0 193 (dk_at dksJ5_rangeCheckForAdd_0 21 rfl rfl)
theorem dJ5_rangeCheckForAdd_24 : decode cJ5_rangeCheckForAdd 24 = .ok (.athrow, 1) := dk_191 (dk_at dksJ5_rangeCheckForAdd_1 0 rfl rfl)
theorem dJ5_rangeCheckForAdd_25 : decode cJ5_rangeCheckForAdd 25 = .ok (.return_, 1) := dk_177 (dk_at dksJ5_rangeCheckForAdd_1 1 rfl rfl)
abbrev cJ5_indexOf : ByteArray := prog_38_method_11_code
def yJ5_indexOf : MethodName := ⟨RJ5, "indexOf", "(Ljava/lang/Object;)I"⟩
def dkwJ5_indexOf_0 : List UInt8 := [42, 43, 3, 42, 180, 0, 48, 182, 0, 89, 172]
abbrev dktJ5_indexOf_0 : List UInt8 := dkwJ5_indexOf_0 ++ []
theorem dksJ5_indexOf_0 : cJ5_indexOf.data.toList.drop 0 = dktJ5_indexOf_0 := by decide +kernel
theorem dJ5_indexOf_0 : decode cJ5_indexOf 0 = .ok (.aload_n 0, 1) := dk_42 (dk_at dksJ5_indexOf_0 0 rfl rfl)
theorem dJ5_indexOf_1 : decode cJ5_indexOf 1 = .ok (.aload_n 1, 1) := dk_43 (dk_at dksJ5_indexOf_0 1 rfl rfl)
theorem dJ5_indexOf_2 : decode cJ5_indexOf 2 = .ok (.iconst 0, 1) := dk_3 (dk_at dksJ5_indexOf_0 2 rfl rfl)
theorem dJ5_indexOf_3 : decode cJ5_indexOf 3 = .ok (.aload_n 0, 1) := dk_42 (dk_at dksJ5_indexOf_0 3 rfl rfl)
theorem dJ5_indexOf_4 : decode cJ5_indexOf 4 = .ok (.getfield 48, 3) := dk_180 0 48 (dk_at dksJ5_indexOf_0 4 rfl rfl)
theorem dJ5_indexOf_7 : decode cJ5_indexOf 7 = .ok (.invokevirtual 89, 3) := dk_182 0 89 (dk_at dksJ5_indexOf_0 7 rfl rfl)
theorem dJ5_indexOf_10 : decode cJ5_indexOf 10 = .ok (.ireturn, 1) := dk_172 (dk_at dksJ5_indexOf_0 10 rfl rfl)
abbrev cJ5_indexOfRange : ByteArray := prog_38_method_12_code
def yJ5_indexOfRange : MethodName := ⟨RJ5, "indexOfRange", "(Ljava/lang/Object;II)I"⟩
def dkwJ5_indexOfRange_2 : List UInt8 := [43, 25, 4, 21, 5, 50, 182, 0, 93, 153, 0, 6, 21, 5, 172, 132, 5, 1, 167, 255, 232, 2, 172]
abbrev dktJ5_indexOfRange_2 : List UInt8 := dkwJ5_indexOfRange_2 ++ []
def dkwJ5_indexOfRange_1 : List UInt8 := [199, 0, 6, 21, 5, 172, 132, 5, 1, 167, 255, 236, 167, 0, 33, 28, 54, 5, 21, 5, 29, 162, 0, 24]
abbrev dktJ5_indexOfRange_1 : List UInt8 := dkwJ5_indexOfRange_1 ++ dktJ5_indexOfRange_2
def dkwJ5_indexOfRange_0 : List UInt8 := [42, 180, 0, 9, 58, 4, 43, 199, 0, 32, 28, 54, 5, 21, 5, 29, 162, 0, 20, 25, 4, 21, 5, 50]
abbrev dktJ5_indexOfRange_0 : List UInt8 := dkwJ5_indexOfRange_0 ++ dktJ5_indexOfRange_1
theorem dksJ5_indexOfRange_0 : cJ5_indexOfRange.data.toList.drop 0 = dktJ5_indexOfRange_0 := by decide +kernel
theorem dksJ5_indexOfRange_1 : cJ5_indexOfRange.data.toList.drop 24 = dktJ5_indexOfRange_1 := dk_seg dksJ5_indexOfRange_0 24 rfl rfl
theorem dksJ5_indexOfRange_2 : cJ5_indexOfRange.data.toList.drop 48 = dktJ5_indexOfRange_2 := dk_seg dksJ5_indexOfRange_1 24 rfl rfl
theorem dJ5_indexOfRange_0 : decode cJ5_indexOfRange 0 = .ok (.aload_n 0, 1) := dk_42 (dk_at dksJ5_indexOfRange_0 0 rfl rfl)
theorem dJ5_indexOfRange_1 : decode cJ5_indexOfRange 1 = .ok (.getfield 9, 3) := dk_180 0 9 (dk_at dksJ5_indexOfRange_0 1 rfl rfl)
theorem dJ5_indexOfRange_4 : decode cJ5_indexOfRange 4 = .ok (.astore 4, 2) := dk_58 4 (dk_at dksJ5_indexOfRange_0 4 rfl rfl)
theorem dJ5_indexOfRange_6 : decode cJ5_indexOfRange 6 = .ok (.aload_n 1, 1) := dk_43 (dk_at dksJ5_indexOfRange_0 6 rfl rfl)
theorem dJ5_indexOfRange_7 : decode cJ5_indexOfRange 7 = .ok (.ifnonnull 32, 3) := dk_199 0 32 (dk_at dksJ5_indexOfRange_0 7 rfl rfl)
theorem dJ5_indexOfRange_10 : decode cJ5_indexOfRange 10 = .ok (.iload_n 2, 1) := dk_28 (dk_at dksJ5_indexOfRange_0 10 rfl rfl)
theorem dJ5_indexOfRange_11 : decode cJ5_indexOfRange 11 = .ok (.istore 5, 2) := dk_54 5 (dk_at dksJ5_indexOfRange_0 11 rfl rfl)
theorem dJ5_indexOfRange_13 : decode cJ5_indexOfRange 13 = .ok (.iload 5, 2) := dk_21 5 (dk_at dksJ5_indexOfRange_0 13 rfl rfl)
theorem dJ5_indexOfRange_15 : decode cJ5_indexOfRange 15 = .ok (.iload_n 3, 1) := dk_29 (dk_at dksJ5_indexOfRange_0 15 rfl rfl)
theorem dJ5_indexOfRange_16 : decode cJ5_indexOfRange 16 = .ok (.if_icmp .ge 20, 3) := dk_162 0 20 (dk_at dksJ5_indexOfRange_0 16 rfl rfl)
theorem dJ5_indexOfRange_19 : decode cJ5_indexOfRange 19 = .ok (.aload 4, 2) := dk_25 4 (dk_at dksJ5_indexOfRange_0 19 rfl rfl)
theorem dJ5_indexOfRange_21 : decode cJ5_indexOfRange 21 = .ok (.iload 5, 2) := dk_21 5 (dk_at dksJ5_indexOfRange_0 21 rfl rfl)
theorem dJ5_indexOfRange_23 : decode cJ5_indexOfRange 23 = .ok (.aaload, 1) := dk_50 (dk_at dksJ5_indexOfRange_0 23 rfl rfl)
theorem dJ5_indexOfRange_24 : decode cJ5_indexOfRange 24 = .ok (.ifnonnull 6, 3) := dk_199 0 6 (dk_at dksJ5_indexOfRange_1 0 rfl rfl)
theorem dJ5_indexOfRange_27 : decode cJ5_indexOfRange 27 = .ok (.iload 5, 2) := dk_21 5 (dk_at dksJ5_indexOfRange_1 3 rfl rfl)
theorem dJ5_indexOfRange_29 : decode cJ5_indexOfRange 29 = .ok (.ireturn, 1) := dk_172 (dk_at dksJ5_indexOfRange_1 5 rfl rfl)
theorem dJ5_indexOfRange_30 : decode cJ5_indexOfRange 30 = .ok (.iinc 5 1, 3) := dk_132 5 1 (dk_at dksJ5_indexOfRange_1 6 rfl rfl)
theorem dJ5_indexOfRange_33 : decode cJ5_indexOfRange 33 = .ok (.goto (-20), 3) := dk_167 255 236 (dk_at dksJ5_indexOfRange_1 9 rfl rfl)
theorem dJ5_indexOfRange_36 : decode cJ5_indexOfRange 36 = .ok (.goto 33, 3) := dk_167 0 33 (dk_at dksJ5_indexOfRange_1 12 rfl rfl)
theorem dJ5_indexOfRange_39 : decode cJ5_indexOfRange 39 = .ok (.iload_n 2, 1) := dk_28 (dk_at dksJ5_indexOfRange_1 15 rfl rfl)
theorem dJ5_indexOfRange_40 : decode cJ5_indexOfRange 40 = .ok (.istore 5, 2) := dk_54 5 (dk_at dksJ5_indexOfRange_1 16 rfl rfl)
theorem dJ5_indexOfRange_42 : decode cJ5_indexOfRange 42 = .ok (.iload 5, 2) := dk_21 5 (dk_at dksJ5_indexOfRange_1 18 rfl rfl)
theorem dJ5_indexOfRange_44 : decode cJ5_indexOfRange 44 = .ok (.iload_n 3, 1) := dk_29 (dk_at dksJ5_indexOfRange_1 20 rfl rfl)
theorem dJ5_indexOfRange_45 : decode cJ5_indexOfRange 45 = .ok (.if_icmp .ge 24, 3) := dk_162 0 24 (dk_at dksJ5_indexOfRange_1 21 rfl rfl)
theorem dJ5_indexOfRange_48 : decode cJ5_indexOfRange 48 = .ok (.aload_n 1, 1) := dk_43 (dk_at dksJ5_indexOfRange_2 0 rfl rfl)
theorem dJ5_indexOfRange_49 : decode cJ5_indexOfRange 49 = .ok (.aload 4, 2) := dk_25 4 (dk_at dksJ5_indexOfRange_2 1 rfl rfl)
theorem dJ5_indexOfRange_51 : decode cJ5_indexOfRange 51 = .ok (.iload 5, 2) := dk_21 5 (dk_at dksJ5_indexOfRange_2 3 rfl rfl)
theorem dJ5_indexOfRange_53 : decode cJ5_indexOfRange 53 = .ok (.aaload, 1) := dk_50 (dk_at dksJ5_indexOfRange_2 5 rfl rfl)
theorem dJ5_indexOfRange_54 : decode cJ5_indexOfRange 54 = .ok (.invokevirtual 93, 3) := dk_182 0 93 (dk_at dksJ5_indexOfRange_2 6 rfl rfl)
theorem dJ5_indexOfRange_57 : decode cJ5_indexOfRange 57 = .ok (.ifCond .eq 6, 3) := dk_153 0 6 (dk_at dksJ5_indexOfRange_2 9 rfl rfl)
theorem dJ5_indexOfRange_60 : decode cJ5_indexOfRange 60 = .ok (.iload 5, 2) := dk_21 5 (dk_at dksJ5_indexOfRange_2 12 rfl rfl)
theorem dJ5_indexOfRange_62 : decode cJ5_indexOfRange 62 = .ok (.ireturn, 1) := dk_172 (dk_at dksJ5_indexOfRange_2 14 rfl rfl)
theorem dJ5_indexOfRange_63 : decode cJ5_indexOfRange 63 = .ok (.iinc 5 1, 3) := dk_132 5 1 (dk_at dksJ5_indexOfRange_2 15 rfl rfl)
theorem dJ5_indexOfRange_66 : decode cJ5_indexOfRange 66 = .ok (.goto (-24), 3) := dk_167 255 232 (dk_at dksJ5_indexOfRange_2 18 rfl rfl)
theorem dJ5_indexOfRange_69 : decode cJ5_indexOfRange 69 = .ok (.iconst (-1), 1) := dk_2 (dk_at dksJ5_indexOfRange_2 21 rfl rfl)
theorem dJ5_indexOfRange_70 : decode cJ5_indexOfRange 70 = .ok (.ireturn, 1) := dk_172 (dk_at dksJ5_indexOfRange_2 22 rfl rfl)
abbrev cJ5_remove_2 : ByteArray := prog_38_method_38_code
def yJ5_remove_2 : MethodName := ⟨RJ5, "remove", "(Ljava/lang/Object;)Z"⟩
def dkwJ5_remove_2_3 : List UInt8 := [182, 0, 144, 4, 172]
abbrev dktJ5_remove_2_3 : List UInt8 := dkwJ5_remove_2_3 ++ []
def dkwJ5_remove_2_2 : List UInt8 := [21, 4, 50, 182, 0, 93, 153, 0, 6, 167, 0, 11, 132, 4, 1, 167, 255, 233, 3, 172, 42, 44, 21, 4]
abbrev dktJ5_remove_2_2 : List UInt8 := dkwJ5_remove_2_2 ++ dktJ5_remove_2_3
def dkwJ5_remove_2_1 : List UInt8 := [21, 4, 50, 199, 0, 6, 167, 0, 37, 132, 4, 1, 167, 255, 237, 21, 4, 29, 162, 0, 23, 43, 44]
abbrev dktJ5_remove_2_1 : List UInt8 := dkwJ5_remove_2_1 ++ dktJ5_remove_2_2
def dkwJ5_remove_2_0 : List UInt8 := [42, 180, 0, 9, 77, 42, 180, 0, 48, 62, 3, 54, 4, 43, 199, 0, 25, 21, 4, 29, 162, 0, 45, 44]
abbrev dktJ5_remove_2_0 : List UInt8 := dkwJ5_remove_2_0 ++ dktJ5_remove_2_1
theorem dksJ5_remove_2_0 : cJ5_remove_2.data.toList.drop 0 = dktJ5_remove_2_0 := by decide +kernel
theorem dksJ5_remove_2_1 : cJ5_remove_2.data.toList.drop 24 = dktJ5_remove_2_1 := dk_seg dksJ5_remove_2_0 24 rfl rfl
theorem dksJ5_remove_2_2 : cJ5_remove_2.data.toList.drop 47 = dktJ5_remove_2_2 := dk_seg dksJ5_remove_2_1 23 rfl rfl
theorem dksJ5_remove_2_3 : cJ5_remove_2.data.toList.drop 71 = dktJ5_remove_2_3 := dk_seg dksJ5_remove_2_2 24 rfl rfl
theorem dJ5_remove_2_0 : decode cJ5_remove_2 0 = .ok (.aload_n 0, 1) := dk_42 (dk_at dksJ5_remove_2_0 0 rfl rfl)
theorem dJ5_remove_2_1 : decode cJ5_remove_2 1 = .ok (.getfield 9, 3) := dk_180 0 9 (dk_at dksJ5_remove_2_0 1 rfl rfl)
theorem dJ5_remove_2_4 : decode cJ5_remove_2 4 = .ok (.astore_n 2, 1) := dk_77 (dk_at dksJ5_remove_2_0 4 rfl rfl)
theorem dJ5_remove_2_5 : decode cJ5_remove_2 5 = .ok (.aload_n 0, 1) := dk_42 (dk_at dksJ5_remove_2_0 5 rfl rfl)
theorem dJ5_remove_2_6 : decode cJ5_remove_2 6 = .ok (.getfield 48, 3) := dk_180 0 48 (dk_at dksJ5_remove_2_0 6 rfl rfl)
theorem dJ5_remove_2_9 : decode cJ5_remove_2 9 = .ok (.istore_n 3, 1) := dk_62 (dk_at dksJ5_remove_2_0 9 rfl rfl)
theorem dJ5_remove_2_10 : decode cJ5_remove_2 10 = .ok (.iconst 0, 1) := dk_3 (dk_at dksJ5_remove_2_0 10 rfl rfl)
theorem dJ5_remove_2_11 : decode cJ5_remove_2 11 = .ok (.istore 4, 2) := dk_54 4 (dk_at dksJ5_remove_2_0 11 rfl rfl)
theorem dJ5_remove_2_13 : decode cJ5_remove_2 13 = .ok (.aload_n 1, 1) := dk_43 (dk_at dksJ5_remove_2_0 13 rfl rfl)
theorem dJ5_remove_2_14 : decode cJ5_remove_2 14 = .ok (.ifnonnull 25, 3) := dk_199 0 25 (dk_at dksJ5_remove_2_0 14 rfl rfl)
theorem dJ5_remove_2_17 : decode cJ5_remove_2 17 = .ok (.iload 4, 2) := dk_21 4 (dk_at dksJ5_remove_2_0 17 rfl rfl)
theorem dJ5_remove_2_19 : decode cJ5_remove_2 19 = .ok (.iload_n 3, 1) := dk_29 (dk_at dksJ5_remove_2_0 19 rfl rfl)
theorem dJ5_remove_2_20 : decode cJ5_remove_2 20 = .ok (.if_icmp .ge 45, 3) := dk_162 0 45 (dk_at dksJ5_remove_2_0 20 rfl rfl)
theorem dJ5_remove_2_23 : decode cJ5_remove_2 23 = .ok (.aload_n 2, 1) := dk_44 (dk_at dksJ5_remove_2_0 23 rfl rfl)
theorem dJ5_remove_2_24 : decode cJ5_remove_2 24 = .ok (.iload 4, 2) := dk_21 4 (dk_at dksJ5_remove_2_1 0 rfl rfl)
theorem dJ5_remove_2_26 : decode cJ5_remove_2 26 = .ok (.aaload, 1) := dk_50 (dk_at dksJ5_remove_2_1 2 rfl rfl)
theorem dJ5_remove_2_27 : decode cJ5_remove_2 27 = .ok (.ifnonnull 6, 3) := dk_199 0 6 (dk_at dksJ5_remove_2_1 3 rfl rfl)
theorem dJ5_remove_2_30 : decode cJ5_remove_2 30 = .ok (.goto 37, 3) := dk_167 0 37 (dk_at dksJ5_remove_2_1 6 rfl rfl)
theorem dJ5_remove_2_33 : decode cJ5_remove_2 33 = .ok (.iinc 4 1, 3) := dk_132 4 1 (dk_at dksJ5_remove_2_1 9 rfl rfl)
theorem dJ5_remove_2_36 : decode cJ5_remove_2 36 = .ok (.goto (-19), 3) := dk_167 255 237 (dk_at dksJ5_remove_2_1 12 rfl rfl)
theorem dJ5_remove_2_39 : decode cJ5_remove_2 39 = .ok (.iload 4, 2) := dk_21 4 (dk_at dksJ5_remove_2_1 15 rfl rfl)
theorem dJ5_remove_2_41 : decode cJ5_remove_2 41 = .ok (.iload_n 3, 1) := dk_29 (dk_at dksJ5_remove_2_1 17 rfl rfl)
theorem dJ5_remove_2_42 : decode cJ5_remove_2 42 = .ok (.if_icmp .ge 23, 3) := dk_162 0 23 (dk_at dksJ5_remove_2_1 18 rfl rfl)
theorem dJ5_remove_2_45 : decode cJ5_remove_2 45 = .ok (.aload_n 1, 1) := dk_43 (dk_at dksJ5_remove_2_1 21 rfl rfl)
theorem dJ5_remove_2_46 : decode cJ5_remove_2 46 = .ok (.aload_n 2, 1) := dk_44 (dk_at dksJ5_remove_2_1 22 rfl rfl)
theorem dJ5_remove_2_47 : decode cJ5_remove_2 47 = .ok (.iload 4, 2) := dk_21 4 (dk_at dksJ5_remove_2_2 0 rfl rfl)
theorem dJ5_remove_2_49 : decode cJ5_remove_2 49 = .ok (.aaload, 1) := dk_50 (dk_at dksJ5_remove_2_2 2 rfl rfl)
theorem dJ5_remove_2_50 : decode cJ5_remove_2 50 = .ok (.invokevirtual 93, 3) := dk_182 0 93 (dk_at dksJ5_remove_2_2 3 rfl rfl)
theorem dJ5_remove_2_53 : decode cJ5_remove_2 53 = .ok (.ifCond .eq 6, 3) := dk_153 0 6 (dk_at dksJ5_remove_2_2 6 rfl rfl)
theorem dJ5_remove_2_56 : decode cJ5_remove_2 56 = .ok (.goto 11, 3) := dk_167 0 11 (dk_at dksJ5_remove_2_2 9 rfl rfl)
theorem dJ5_remove_2_59 : decode cJ5_remove_2 59 = .ok (.iinc 4 1, 3) := dk_132 4 1 (dk_at dksJ5_remove_2_2 12 rfl rfl)
theorem dJ5_remove_2_62 : decode cJ5_remove_2 62 = .ok (.goto (-23), 3) := dk_167 255 233 (dk_at dksJ5_remove_2_2 15 rfl rfl)
theorem dJ5_remove_2_65 : decode cJ5_remove_2 65 = .ok (.iconst 0, 1) := dk_3 (dk_at dksJ5_remove_2_2 18 rfl rfl)
theorem dJ5_remove_2_66 : decode cJ5_remove_2 66 = .ok (.ireturn, 1) := dk_172 (dk_at dksJ5_remove_2_2 19 rfl rfl)
theorem dJ5_remove_2_67 : decode cJ5_remove_2 67 = .ok (.aload_n 0, 1) := dk_42 (dk_at dksJ5_remove_2_2 20 rfl rfl)
theorem dJ5_remove_2_68 : decode cJ5_remove_2 68 = .ok (.aload_n 2, 1) := dk_44 (dk_at dksJ5_remove_2_2 21 rfl rfl)
theorem dJ5_remove_2_69 : decode cJ5_remove_2 69 = .ok (.iload 4, 2) := dk_21 4 (dk_at dksJ5_remove_2_2 22 rfl rfl)
theorem dJ5_remove_2_71 : decode cJ5_remove_2 71 = .ok (.invokevirtual 144, 3) := dk_182 0 144 (dk_at dksJ5_remove_2_3 0 rfl rfl)
theorem dJ5_remove_2_74 : decode cJ5_remove_2 74 = .ok (.iconst 1, 1) := dk_4 (dk_at dksJ5_remove_2_3 3 rfl rfl)
theorem dJ5_remove_2_75 : decode cJ5_remove_2 75 = .ok (.ireturn, 1) := dk_172 (dk_at dksJ5_remove_2_3 4 rfl rfl)
abbrev cJ5_clear : ByteArray := prog_38_method_40_code
def yJ5_clear : MethodName := ⟨RJ5, "clear", "()V"⟩
def dkwJ5_clear_1 : List UInt8 := [181, 0, 48, 62, 29, 28, 162, 0, 13, 43, 29, 1, 83, 132, 3, 1, 167, 255, 244, 177]
abbrev dktJ5_clear_1 : List UInt8 := dkwJ5_clear_1 ++ []
def dkwJ5_clear_0 : List UInt8 := [42, 89, 180, 0, 63, 4, 96, 181, 0, 63, 42, 180, 0, 9, 76, 42, 180, 0, 48, 61, 42, 3, 90]
abbrev dktJ5_clear_0 : List UInt8 := dkwJ5_clear_0 ++ dktJ5_clear_1
theorem dksJ5_clear_0 : cJ5_clear.data.toList.drop 0 = dktJ5_clear_0 := by decide +kernel
theorem dksJ5_clear_1 : cJ5_clear.data.toList.drop 23 = dktJ5_clear_1 := dk_seg dksJ5_clear_0 23 rfl rfl
theorem dJ5_clear_0 : decode cJ5_clear 0 = .ok (.aload_n 0, 1) := dk_42 (dk_at dksJ5_clear_0 0 rfl rfl)
theorem dJ5_clear_1 : decode cJ5_clear 1 = .ok (.dup, 1) := dk_89 (dk_at dksJ5_clear_0 1 rfl rfl)
theorem dJ5_clear_2 : decode cJ5_clear 2 = .ok (.getfield 63, 3) := dk_180 0 63 (dk_at dksJ5_clear_0 2 rfl rfl)
theorem dJ5_clear_5 : decode cJ5_clear 5 = .ok (.iconst 1, 1) := dk_4 (dk_at dksJ5_clear_0 5 rfl rfl)
theorem dJ5_clear_6 : decode cJ5_clear 6 = .ok (.iadd, 1) := dk_96 (dk_at dksJ5_clear_0 6 rfl rfl)
theorem dJ5_clear_7 : decode cJ5_clear 7 = .ok (.putfield 63, 3) := dk_181 0 63 (dk_at dksJ5_clear_0 7 rfl rfl)
theorem dJ5_clear_10 : decode cJ5_clear 10 = .ok (.aload_n 0, 1) := dk_42 (dk_at dksJ5_clear_0 10 rfl rfl)
theorem dJ5_clear_11 : decode cJ5_clear 11 = .ok (.getfield 9, 3) := dk_180 0 9 (dk_at dksJ5_clear_0 11 rfl rfl)
theorem dJ5_clear_14 : decode cJ5_clear 14 = .ok (.astore_n 1, 1) := dk_76 (dk_at dksJ5_clear_0 14 rfl rfl)
theorem dJ5_clear_15 : decode cJ5_clear 15 = .ok (.aload_n 0, 1) := dk_42 (dk_at dksJ5_clear_0 15 rfl rfl)
theorem dJ5_clear_16 : decode cJ5_clear 16 = .ok (.getfield 48, 3) := dk_180 0 48 (dk_at dksJ5_clear_0 16 rfl rfl)
theorem dJ5_clear_19 : decode cJ5_clear 19 = .ok (.istore_n 2, 1) := dk_61 (dk_at dksJ5_clear_0 19 rfl rfl)
theorem dJ5_clear_20 : decode cJ5_clear 20 = .ok (.aload_n 0, 1) := dk_42 (dk_at dksJ5_clear_0 20 rfl rfl)
theorem dJ5_clear_21 : decode cJ5_clear 21 = .ok (.iconst 0, 1) := dk_3 (dk_at dksJ5_clear_0 21 rfl rfl)
theorem dJ5_clear_22 : decode cJ5_clear 22 = .ok (.dup_x1, 1) := dk_90 (dk_at dksJ5_clear_0 22 rfl rfl)
theorem dJ5_clear_23 : decode cJ5_clear 23 = .ok (.putfield 48, 3) := dk_181 0 48 (dk_at dksJ5_clear_1 0 rfl rfl)
theorem dJ5_clear_26 : decode cJ5_clear 26 = .ok (.istore_n 3, 1) := dk_62 (dk_at dksJ5_clear_1 3 rfl rfl)
theorem dJ5_clear_27 : decode cJ5_clear 27 = .ok (.iload_n 3, 1) := dk_29 (dk_at dksJ5_clear_1 4 rfl rfl)
theorem dJ5_clear_28 : decode cJ5_clear 28 = .ok (.iload_n 2, 1) := dk_28 (dk_at dksJ5_clear_1 5 rfl rfl)
theorem dJ5_clear_29 : decode cJ5_clear 29 = .ok (.if_icmp .ge 13, 3) := dk_162 0 13 (dk_at dksJ5_clear_1 6 rfl rfl)
theorem dJ5_clear_32 : decode cJ5_clear 32 = .ok (.aload_n 1, 1) := dk_43 (dk_at dksJ5_clear_1 9 rfl rfl)
theorem dJ5_clear_33 : decode cJ5_clear 33 = .ok (.iload_n 3, 1) := dk_29 (dk_at dksJ5_clear_1 10 rfl rfl)
theorem dJ5_clear_34 : decode cJ5_clear 34 = .ok (.aconst_null, 1) := dk_1 (dk_at dksJ5_clear_1 11 rfl rfl)
theorem dJ5_clear_35 : decode cJ5_clear 35 = .ok (.aastore, 1) := dk_83 (dk_at dksJ5_clear_1 12 rfl rfl)
theorem dJ5_clear_36 : decode cJ5_clear 36 = .ok (.iinc 3 1, 3) := dk_132 3 1 (dk_at dksJ5_clear_1 13 rfl rfl)
theorem dJ5_clear_39 : decode cJ5_clear 39 = .ok (.goto (-12), 3) := dk_167 255 244 (dk_at dksJ5_clear_1 16 rfl rfl)
theorem dJ5_clear_42 : decode cJ5_clear 42 = .ok (.return_, 1) := dk_177 (dk_at dksJ5_clear_1 19 rfl rfl)
abbrev cJ6_checkIndex : ByteArray := prog_42_method_17_code
def yJ6_checkIndex : MethodName := ⟨RJ6, "checkIndex", "(II)I"⟩
def dkwJ6_checkIndex_0 : List UInt8 := [26, 27, 1, 184, 0, 105, 172]
abbrev dktJ6_checkIndex_0 : List UInt8 := dkwJ6_checkIndex_0 ++ []
theorem dksJ6_checkIndex_0 : cJ6_checkIndex.data.toList.drop 0 = dktJ6_checkIndex_0 := by decide +kernel
theorem dJ6_checkIndex_0 : decode cJ6_checkIndex 0 = .ok (.iload_n 0, 1) := dk_26 (dk_at dksJ6_checkIndex_0 0 rfl rfl)
theorem dJ6_checkIndex_1 : decode cJ6_checkIndex 1 = .ok (.iload_n 1, 1) := dk_27 (dk_at dksJ6_checkIndex_0 1 rfl rfl)
theorem dJ6_checkIndex_2 : decode cJ6_checkIndex 2 = .ok (.aconst_null, 1) := dk_1 (dk_at dksJ6_checkIndex_0 2 rfl rfl)
theorem dJ6_checkIndex_3 : decode cJ6_checkIndex 3 = .ok (.invokestatic 105, 3) := dk_184 0 105 (dk_at dksJ6_checkIndex_0 3 rfl rfl)
theorem dJ6_checkIndex_6 : decode cJ6_checkIndex 6 = .ok (.ireturn, 1) := dk_172 (dk_at dksJ6_checkIndex_0 6 rfl rfl)
abbrev cJ7_checkIndex : ByteArray := prog_46_method_11_code
def yJ7_checkIndex : MethodName := ⟨RJ7, "checkIndex", "(IILjava/util/function/BiFunction;)I"⟩
def dkwJ7_checkIndex_0 : List UInt8 := [26, 155, 0, 8, 26, 27, 161, 0, 10, 44, 26, 27, 184, 0, 95, 191, 26, 172]
abbrev dktJ7_checkIndex_0 : List UInt8 := dkwJ7_checkIndex_0 ++ []
theorem dksJ7_checkIndex_0 : cJ7_checkIndex.data.toList.drop 0 = dktJ7_checkIndex_0 := by decide +kernel
theorem dJ7_checkIndex_0 : decode cJ7_checkIndex 0 = .ok (.iload_n 0, 1) := dk_26 (dk_at dksJ7_checkIndex_0 0 rfl rfl)
theorem dJ7_checkIndex_1 : decode cJ7_checkIndex 1 = .ok (.ifCond .lt 8, 3) := dk_155 0 8 (dk_at dksJ7_checkIndex_0 1 rfl rfl)
theorem dJ7_checkIndex_4 : decode cJ7_checkIndex 4 = .ok (.iload_n 0, 1) := dk_26 (dk_at dksJ7_checkIndex_0 4 rfl rfl)
theorem dJ7_checkIndex_5 : decode cJ7_checkIndex 5 = .ok (.iload_n 1, 1) := dk_27 (dk_at dksJ7_checkIndex_0 5 rfl rfl)
theorem dJ7_checkIndex_6 : decode cJ7_checkIndex 6 = .ok (.if_icmp .lt 10, 3) := dk_161 0 10 (dk_at dksJ7_checkIndex_0 6 rfl rfl)
theorem dJ7_checkIndex_9 : decode cJ7_checkIndex 9 = .ok (.aload_n 2, 1) := dk_44 (dk_at dksJ7_checkIndex_0 9 rfl rfl)
theorem dJ7_checkIndex_10 : decode cJ7_checkIndex 10 = .ok (.iload_n 0, 1) := dk_26 (dk_at dksJ7_checkIndex_0 10 rfl rfl)
theorem dJ7_checkIndex_11 : decode cJ7_checkIndex 11 = .ok (.iload_n 1, 1) := dk_27 (dk_at dksJ7_checkIndex_0 11 rfl rfl)
theorem dJ7_checkIndex_12 : decode cJ7_checkIndex 12 = .ok (.invokestatic 95, 3) := dk_184 0 95 (dk_at dksJ7_checkIndex_0 12 rfl rfl)
theorem dJ7_checkIndex_15 : decode cJ7_checkIndex 15 = .ok (.athrow, 1) := dk_191 (dk_at dksJ7_checkIndex_0 15 rfl rfl)
theorem dJ7_checkIndex_16 : decode cJ7_checkIndex 16 = .ok (.iload_n 0, 1) := dk_26 (dk_at dksJ7_checkIndex_0 16 rfl rfl)
theorem dJ7_checkIndex_17 : decode cJ7_checkIndex 17 = .ok (.ireturn, 1) := dk_172 (dk_at dksJ7_checkIndex_0 17 rfl rfl)
abbrev cJ8_newLength : ByteArray := prog_45_method_27_code
def yJ8_newLength : MethodName := ⟨RJ8, "newLength", "(III)I"⟩
def dkwJ8_newLength_1 : List UInt8 := [184, 0, 201, 172]
abbrev dktJ8_newLength_1 : List UInt8 := dkwJ8_newLength_1 ++ []
def dkwJ8_newLength_0 : List UInt8 := [26, 27, 28, 184, 0, 194, 96, 62, 3, 29, 162, 0, 11, 29, 18, 200, 163, 0, 5, 29, 172, 26, 27]
abbrev dktJ8_newLength_0 : List UInt8 := dkwJ8_newLength_0 ++ dktJ8_newLength_1
theorem dksJ8_newLength_0 : cJ8_newLength.data.toList.drop 0 = dktJ8_newLength_0 := by decide +kernel
theorem dksJ8_newLength_1 : cJ8_newLength.data.toList.drop 23 = dktJ8_newLength_1 := dk_seg dksJ8_newLength_0 23 rfl rfl
theorem dJ8_newLength_0 : decode cJ8_newLength 0 = .ok (.iload_n 0, 1) := dk_26 (dk_at dksJ8_newLength_0 0 rfl rfl)
theorem dJ8_newLength_1 : decode cJ8_newLength 1 = .ok (.iload_n 1, 1) := dk_27 (dk_at dksJ8_newLength_0 1 rfl rfl)
theorem dJ8_newLength_2 : decode cJ8_newLength 2 = .ok (.iload_n 2, 1) := dk_28 (dk_at dksJ8_newLength_0 2 rfl rfl)
theorem dJ8_newLength_3 : decode cJ8_newLength 3 = .ok (.invokestatic 194, 3) := dk_184 0 194 (dk_at dksJ8_newLength_0 3 rfl rfl)
theorem dJ8_newLength_6 : decode cJ8_newLength 6 = .ok (.iadd, 1) := dk_96 (dk_at dksJ8_newLength_0 6 rfl rfl)
theorem dJ8_newLength_7 : decode cJ8_newLength 7 = .ok (.istore_n 3, 1) := dk_62 (dk_at dksJ8_newLength_0 7 rfl rfl)
theorem dJ8_newLength_8 : decode cJ8_newLength 8 = .ok (.iconst 0, 1) := dk_3 (dk_at dksJ8_newLength_0 8 rfl rfl)
theorem dJ8_newLength_9 : decode cJ8_newLength 9 = .ok (.iload_n 3, 1) := dk_29 (dk_at dksJ8_newLength_0 9 rfl rfl)
theorem dJ8_newLength_10 : decode cJ8_newLength 10 = .ok (.if_icmp .ge 11, 3) := dk_162 0 11 (dk_at dksJ8_newLength_0 10 rfl rfl)
theorem dJ8_newLength_13 : decode cJ8_newLength 13 = .ok (.iload_n 3, 1) := dk_29 (dk_at dksJ8_newLength_0 13 rfl rfl)
theorem dJ8_newLength_14 : decode cJ8_newLength 14 = .ok (.ldc 200, 2) := dk_18 200 (dk_at dksJ8_newLength_0 14 rfl rfl)
theorem dJ8_newLength_16 : decode cJ8_newLength 16 = .ok (.if_icmp .gt 5, 3) := dk_163 0 5 (dk_at dksJ8_newLength_0 16 rfl rfl)
theorem dJ8_newLength_19 : decode cJ8_newLength 19 = .ok (.iload_n 3, 1) := dk_29 (dk_at dksJ8_newLength_0 19 rfl rfl)
theorem dJ8_newLength_20 : decode cJ8_newLength 20 = .ok (.ireturn, 1) := dk_172 (dk_at dksJ8_newLength_0 20 rfl rfl)
theorem dJ8_newLength_21 : decode cJ8_newLength 21 = .ok (.iload_n 0, 1) := dk_26 (dk_at dksJ8_newLength_0 21 rfl rfl)
theorem dJ8_newLength_22 : decode cJ8_newLength 22 = .ok (.iload_n 1, 1) := dk_27 (dk_at dksJ8_newLength_0 22 rfl rfl)
theorem dJ8_newLength_23 : decode cJ8_newLength 23 = .ok (.invokestatic 201, 3) := dk_184 0 201 (dk_at dksJ8_newLength_1 0 rfl rfl)
theorem dJ8_newLength_26 : decode cJ8_newLength 26 = .ok (.ireturn, 1) := dk_172 (dk_at dksJ8_newLength_1 3 rfl rfl)
abbrev cJ8_hugeLength : ByteArray := prog_45_method_28_code
def yJ8_hugeLength : MethodName := ⟨RJ8, "hugeLength", "(II)I"⟩
def dkwJ8_hugeLength_2 : List UInt8 := [191, 28, 18, 200, 163, 0, 6, 18, 200, 172, 28, 172]
abbrev dktJ8_hugeLength_2 : List UInt8 := dkwJ8_hugeLength_2 ++ []
def dkwJ8_hugeLength_1 : List UInt8 := [26, 182, 0, 98, 18, 208, 182, 0, 94, 27, 182, 0, 98, 18, 210, 182, 0, 94, 182, 0, 101, 183, 0, 212]
abbrev dktJ8_hugeLength_1 : List UInt8 := dkwJ8_hugeLength_1 ++ dktJ8_hugeLength_2
def dkwJ8_hugeLength_0 : List UInt8 := [26, 27, 96, 61, 28, 156, 0, 44, 187, 0, 204, 89, 187, 0, 89, 89, 183, 0, 91, 18, 206, 182, 0, 94]
abbrev dktJ8_hugeLength_0 : List UInt8 := dkwJ8_hugeLength_0 ++ dktJ8_hugeLength_1
theorem dksJ8_hugeLength_0 : cJ8_hugeLength.data.toList.drop 0 = dktJ8_hugeLength_0 := by decide +kernel
theorem dksJ8_hugeLength_1 : cJ8_hugeLength.data.toList.drop 24 = dktJ8_hugeLength_1 := dk_seg dksJ8_hugeLength_0 24 rfl rfl
theorem dksJ8_hugeLength_2 : cJ8_hugeLength.data.toList.drop 48 = dktJ8_hugeLength_2 := dk_seg dksJ8_hugeLength_1 24 rfl rfl
theorem dJ8_hugeLength_0 : decode cJ8_hugeLength 0 = .ok (.iload_n 0, 1) := dk_26 (dk_at dksJ8_hugeLength_0 0 rfl rfl)
theorem dJ8_hugeLength_1 : decode cJ8_hugeLength 1 = .ok (.iload_n 1, 1) := dk_27 (dk_at dksJ8_hugeLength_0 1 rfl rfl)
theorem dJ8_hugeLength_2 : decode cJ8_hugeLength 2 = .ok (.iadd, 1) := dk_96 (dk_at dksJ8_hugeLength_0 2 rfl rfl)
theorem dJ8_hugeLength_3 : decode cJ8_hugeLength 3 = .ok (.istore_n 2, 1) := dk_61 (dk_at dksJ8_hugeLength_0 3 rfl rfl)
theorem dJ8_hugeLength_4 : decode cJ8_hugeLength 4 = .ok (.iload_n 2, 1) := dk_28 (dk_at dksJ8_hugeLength_0 4 rfl rfl)
theorem dJ8_hugeLength_5 : decode cJ8_hugeLength 5 = .ok (.ifCond .ge 44, 3) := dk_156 0 44 (dk_at dksJ8_hugeLength_0 5 rfl rfl)
theorem dJ8_hugeLength_8 : decode cJ8_hugeLength 8 = .ok (.new 204, 3) := dk_187 0 204 (dk_at dksJ8_hugeLength_0 8 rfl rfl)
theorem dJ8_hugeLength_11 : decode cJ8_hugeLength 11 = .ok (.dup, 1) := dk_89 (dk_at dksJ8_hugeLength_0 11 rfl rfl)
theorem dJ8_hugeLength_12 : decode cJ8_hugeLength 12 = .ok (.new 89, 3) := dk_187 0 89 (dk_at dksJ8_hugeLength_0 12 rfl rfl)
theorem dJ8_hugeLength_15 : decode cJ8_hugeLength 15 = .ok (.dup, 1) := dk_89 (dk_at dksJ8_hugeLength_0 15 rfl rfl)
theorem dJ8_hugeLength_16 : decode cJ8_hugeLength 16 = .ok (.invokespecial 91, 3) := dk_183 0 91 (dk_at dksJ8_hugeLength_0 16 rfl rfl)
theorem dJ8_hugeLength_19 : decode cJ8_hugeLength 19 = .ok (.ldc 206, 2) := dk_18 206 (dk_at dksJ8_hugeLength_0 19 rfl rfl)
theorem dJ8_hugeLength_21 : decode cJ8_hugeLength 21 = .ok (.invokevirtual 94, 3) := dk_182 0 94 (dk_at dksJ8_hugeLength_0 21 rfl rfl)
theorem dJ8_hugeLength_24 : decode cJ8_hugeLength 24 = .ok (.iload_n 0, 1) := dk_26 (dk_at dksJ8_hugeLength_1 0 rfl rfl)
theorem dJ8_hugeLength_25 : decode cJ8_hugeLength 25 = .ok (.invokevirtual 98, 3) := dk_182 0 98 (dk_at dksJ8_hugeLength_1 1 rfl rfl)
theorem dJ8_hugeLength_28 : decode cJ8_hugeLength 28 = .ok (.ldc 208, 2) := dk_18 208 (dk_at dksJ8_hugeLength_1 4 rfl rfl)
theorem dJ8_hugeLength_30 : decode cJ8_hugeLength 30 = .ok (.invokevirtual 94, 3) := dk_182 0 94 (dk_at dksJ8_hugeLength_1 6 rfl rfl)
theorem dJ8_hugeLength_33 : decode cJ8_hugeLength 33 = .ok (.iload_n 1, 1) := dk_27 (dk_at dksJ8_hugeLength_1 9 rfl rfl)
theorem dJ8_hugeLength_34 : decode cJ8_hugeLength 34 = .ok (.invokevirtual 98, 3) := dk_182 0 98 (dk_at dksJ8_hugeLength_1 10 rfl rfl)
theorem dJ8_hugeLength_37 : decode cJ8_hugeLength 37 = .ok (.ldc 210, 2) := dk_18 210 (dk_at dksJ8_hugeLength_1 13 rfl rfl)
theorem dJ8_hugeLength_39 : decode cJ8_hugeLength 39 = .ok (.invokevirtual 94, 3) := dk_182 0 94 (dk_at dksJ8_hugeLength_1 15 rfl rfl)
theorem dJ8_hugeLength_42 : decode cJ8_hugeLength 42 = .ok (.invokevirtual 101, 3) := dk_182 0 101 (dk_at dksJ8_hugeLength_1 18 rfl rfl)
theorem dJ8_hugeLength_45 : decode cJ8_hugeLength 45 = .ok (.invokespecial 212, 3) := dk_183 0 212 (dk_at dksJ8_hugeLength_1 21 rfl rfl)
theorem dJ8_hugeLength_48 : decode cJ8_hugeLength 48 = .ok (.athrow, 1) := dk_191 (dk_at dksJ8_hugeLength_2 0 rfl rfl)
theorem dJ8_hugeLength_49 : decode cJ8_hugeLength 49 = .ok (.iload_n 2, 1) := dk_28 (dk_at dksJ8_hugeLength_2 1 rfl rfl)
theorem dJ8_hugeLength_50 : decode cJ8_hugeLength 50 = .ok (.ldc 200, 2) := dk_18 200 (dk_at dksJ8_hugeLength_2 2 rfl rfl)
theorem dJ8_hugeLength_52 : decode cJ8_hugeLength 52 = .ok (.if_icmp .gt 6, 3) := dk_163 0 6 (dk_at dksJ8_hugeLength_2 4 rfl rfl)
theorem dJ8_hugeLength_55 : decode cJ8_hugeLength 55 = .ok (.ldc 200, 2) := dk_18 200 (dk_at dksJ8_hugeLength_2 7 rfl rfl)
theorem dJ8_hugeLength_57 : decode cJ8_hugeLength 57 = .ok (.ireturn, 1) := dk_172 (dk_at dksJ8_hugeLength_2 9 rfl rfl)
theorem dJ8_hugeLength_58 : decode cJ8_hugeLength 58 = .ok (.iload_n 2, 1) := dk_28 (dk_at dksJ8_hugeLength_2 10 rfl rfl)
theorem dJ8_hugeLength_59 : decode cJ8_hugeLength 59 = .ok (.ireturn, 1) := dk_172 (dk_at dksJ8_hugeLength_2 11 rfl rfl)
abbrev cJ9_max : ByteArray := prog_27_method_65_code
def yJ9_max : MethodName := ⟨RJ9, "max", "(II)I"⟩
def dkwJ9_max_0 : List UInt8 := [26, 27, 161, 0, 7, 26, 167, 0, 4, 27, 172]
abbrev dktJ9_max_0 : List UInt8 := dkwJ9_max_0 ++ []
theorem dksJ9_max_0 : cJ9_max.data.toList.drop 0 = dktJ9_max_0 := by decide +kernel
theorem dJ9_max_0 : decode cJ9_max 0 = .ok (.iload_n 0, 1) := dk_26 (dk_at dksJ9_max_0 0 rfl rfl)
theorem dJ9_max_1 : decode cJ9_max 1 = .ok (.iload_n 1, 1) := dk_27 (dk_at dksJ9_max_0 1 rfl rfl)
theorem dJ9_max_2 : decode cJ9_max 2 = .ok (.if_icmp .lt 7, 3) := dk_161 0 7 (dk_at dksJ9_max_0 2 rfl rfl)
theorem dJ9_max_5 : decode cJ9_max 5 = .ok (.iload_n 0, 1) := dk_26 (dk_at dksJ9_max_0 5 rfl rfl)
theorem dJ9_max_6 : decode cJ9_max 6 = .ok (.goto 4, 3) := dk_167 0 4 (dk_at dksJ9_max_0 6 rfl rfl)
theorem dJ9_max_9 : decode cJ9_max 9 = .ok (.iload_n 1, 1) := dk_27 (dk_at dksJ9_max_0 9 rfl rfl)
theorem dJ9_max_10 : decode cJ9_max 10 = .ok (.ireturn, 1) := dk_172 (dk_at dksJ9_max_0 10 rfl rfl)
abbrev cJ9_min : ByteArray := prog_27_method_69_code
def yJ9_min : MethodName := ⟨RJ9, "min", "(II)I"⟩
def dkwJ9_min_0 : List UInt8 := [26, 27, 163, 0, 7, 26, 167, 0, 4, 27, 172]
abbrev dktJ9_min_0 : List UInt8 := dkwJ9_min_0 ++ []
theorem dksJ9_min_0 : cJ9_min.data.toList.drop 0 = dktJ9_min_0 := by decide +kernel
theorem dJ9_min_0 : decode cJ9_min 0 = .ok (.iload_n 0, 1) := dk_26 (dk_at dksJ9_min_0 0 rfl rfl)
theorem dJ9_min_1 : decode cJ9_min 1 = .ok (.iload_n 1, 1) := dk_27 (dk_at dksJ9_min_0 1 rfl rfl)
theorem dJ9_min_2 : decode cJ9_min 2 = .ok (.if_icmp .gt 7, 3) := dk_163 0 7 (dk_at dksJ9_min_0 2 rfl rfl)
theorem dJ9_min_5 : decode cJ9_min 5 = .ok (.iload_n 0, 1) := dk_26 (dk_at dksJ9_min_0 5 rfl rfl)
theorem dJ9_min_6 : decode cJ9_min 6 = .ok (.goto 4, 3) := dk_167 0 4 (dk_at dksJ9_min_0 6 rfl rfl)
theorem dJ9_min_9 : decode cJ9_min 9 = .ok (.iload_n 1, 1) := dk_27 (dk_at dksJ9_min_0 9 rfl rfl)
theorem dJ9_min_10 : decode cJ9_min 10 = .ok (.ireturn, 1) := dk_172 (dk_at dksJ9_min_0 10 rfl rfl)
abbrev cJ10_copyOf : ByteArray := prog_39_method_119_code
def yJ10_copyOf : MethodName := ⟨RJ10, "copyOf", "([Ljava/lang/Object;I)[Ljava/lang/Object;"⟩
def dkwJ10_copyOf_0 : List UInt8 := [42, 27, 42, 182, 0, 86, 184, 1, 44, 176]
abbrev dktJ10_copyOf_0 : List UInt8 := dkwJ10_copyOf_0 ++ []
theorem dksJ10_copyOf_0 : cJ10_copyOf.data.toList.drop 0 = dktJ10_copyOf_0 := by decide +kernel
theorem dJ10_copyOf_0 : decode cJ10_copyOf 0 = .ok (.aload_n 0, 1) := dk_42 (dk_at dksJ10_copyOf_0 0 rfl rfl)
theorem dJ10_copyOf_1 : decode cJ10_copyOf 1 = .ok (.iload_n 1, 1) := dk_27 (dk_at dksJ10_copyOf_0 1 rfl rfl)
theorem dJ10_copyOf_2 : decode cJ10_copyOf 2 = .ok (.aload_n 0, 1) := dk_42 (dk_at dksJ10_copyOf_0 2 rfl rfl)
theorem dJ10_copyOf_3 : decode cJ10_copyOf 3 = .ok (.invokevirtual 86, 3) := dk_182 0 86 (dk_at dksJ10_copyOf_0 3 rfl rfl)
theorem dJ10_copyOf_6 : decode cJ10_copyOf 6 = .ok (.invokestatic 300, 3) := dk_184 1 44 (dk_at dksJ10_copyOf_0 6 rfl rfl)
theorem dJ10_copyOf_9 : decode cJ10_copyOf 9 = .ok (.areturn, 1) := dk_176 (dk_at dksJ10_copyOf_0 9 rfl rfl)
abbrev cJ10_copyOf_2 : ByteArray := prog_39_method_120_code
def yJ10_copyOf_2 : MethodName := ⟨RJ10, "copyOf", "([Ljava/lang/Object;ILjava/lang/Class;)[Ljava/lang/Object;"⟩
def dkwJ10_copyOf_2_1 : List UInt8 := [78, 42, 3, 45, 3, 42, 190, 27, 184, 1, 48, 184, 0, 150, 45, 176]
abbrev dktJ10_copyOf_2_1 : List UInt8 := dkwJ10_copyOf_2_1 ++ []
def dkwJ10_copyOf_2_0 : List UInt8 := [44, 18, 110, 166, 0, 10, 27, 189, 0, 2, 167, 0, 14, 44, 182, 0, 90, 27, 184, 0, 95, 192, 0, 110]
abbrev dktJ10_copyOf_2_0 : List UInt8 := dkwJ10_copyOf_2_0 ++ dktJ10_copyOf_2_1
theorem dksJ10_copyOf_2_0 : cJ10_copyOf_2.data.toList.drop 0 = dktJ10_copyOf_2_0 := by decide +kernel
theorem dksJ10_copyOf_2_1 : cJ10_copyOf_2.data.toList.drop 24 = dktJ10_copyOf_2_1 := dk_seg dksJ10_copyOf_2_0 24 rfl rfl
theorem dJ10_copyOf_2_0 : decode cJ10_copyOf_2 0 = .ok (.aload_n 2, 1) := dk_44 (dk_at dksJ10_copyOf_2_0 0 rfl rfl)
theorem dJ10_copyOf_2_1 : decode cJ10_copyOf_2 1 = .ok (.ldc 110, 2) := dk_18 110 (dk_at dksJ10_copyOf_2_0 1 rfl rfl)
theorem dJ10_copyOf_2_3 : decode cJ10_copyOf_2 3 = .ok (.if_acmp .ne 10, 3) := dk_166 0 10 (dk_at dksJ10_copyOf_2_0 3 rfl rfl)
theorem dJ10_copyOf_2_6 : decode cJ10_copyOf_2 6 = .ok (.iload_n 1, 1) := dk_27 (dk_at dksJ10_copyOf_2_0 6 rfl rfl)
theorem dJ10_copyOf_2_7 : decode cJ10_copyOf_2 7 = .ok (.anewarray 2, 3) := dk_189 0 2 (dk_at dksJ10_copyOf_2_0 7 rfl rfl)
theorem dJ10_copyOf_2_10 : decode cJ10_copyOf_2 10 = .ok (.goto 14, 3) := dk_167 0 14 (dk_at dksJ10_copyOf_2_0 10 rfl rfl)
theorem dJ10_copyOf_2_13 : decode cJ10_copyOf_2 13 = .ok (.aload_n 2, 1) := dk_44 (dk_at dksJ10_copyOf_2_0 13 rfl rfl)
theorem dJ10_copyOf_2_14 : decode cJ10_copyOf_2 14 = .ok (.invokevirtual 90, 3) := dk_182 0 90 (dk_at dksJ10_copyOf_2_0 14 rfl rfl)
theorem dJ10_copyOf_2_17 : decode cJ10_copyOf_2 17 = .ok (.iload_n 1, 1) := dk_27 (dk_at dksJ10_copyOf_2_0 17 rfl rfl)
theorem dJ10_copyOf_2_18 : decode cJ10_copyOf_2 18 = .ok (.invokestatic 95, 3) := dk_184 0 95 (dk_at dksJ10_copyOf_2_0 18 rfl rfl)
theorem dJ10_copyOf_2_21 : decode cJ10_copyOf_2 21 = .ok (.checkcast 110, 3) := dk_192 0 110 (dk_at dksJ10_copyOf_2_0 21 rfl rfl)
theorem dJ10_copyOf_2_24 : decode cJ10_copyOf_2 24 = .ok (.astore_n 3, 1) := dk_78 (dk_at dksJ10_copyOf_2_1 0 rfl rfl)
theorem dJ10_copyOf_2_25 : decode cJ10_copyOf_2 25 = .ok (.aload_n 0, 1) := dk_42 (dk_at dksJ10_copyOf_2_1 1 rfl rfl)
theorem dJ10_copyOf_2_26 : decode cJ10_copyOf_2 26 = .ok (.iconst 0, 1) := dk_3 (dk_at dksJ10_copyOf_2_1 2 rfl rfl)
theorem dJ10_copyOf_2_27 : decode cJ10_copyOf_2 27 = .ok (.aload_n 3, 1) := dk_45 (dk_at dksJ10_copyOf_2_1 3 rfl rfl)
theorem dJ10_copyOf_2_28 : decode cJ10_copyOf_2 28 = .ok (.iconst 0, 1) := dk_3 (dk_at dksJ10_copyOf_2_1 4 rfl rfl)
theorem dJ10_copyOf_2_29 : decode cJ10_copyOf_2 29 = .ok (.aload_n 0, 1) := dk_42 (dk_at dksJ10_copyOf_2_1 5 rfl rfl)
theorem dJ10_copyOf_2_30 : decode cJ10_copyOf_2 30 = .ok (.arraylength, 1) := dk_190 (dk_at dksJ10_copyOf_2_1 6 rfl rfl)
theorem dJ10_copyOf_2_31 : decode cJ10_copyOf_2 31 = .ok (.iload_n 1, 1) := dk_27 (dk_at dksJ10_copyOf_2_1 7 rfl rfl)
theorem dJ10_copyOf_2_32 : decode cJ10_copyOf_2 32 = .ok (.invokestatic 304, 3) := dk_184 1 48 (dk_at dksJ10_copyOf_2_1 8 rfl rfl)
theorem dJ10_copyOf_2_35 : decode cJ10_copyOf_2 35 = .ok (.invokestatic 150, 3) := dk_184 0 150 (dk_at dksJ10_copyOf_2_1 11 rfl rfl)
theorem dJ10_copyOf_2_38 : decode cJ10_copyOf_2 38 = .ok (.aload_n 3, 1) := dk_45 (dk_at dksJ10_copyOf_2_1 14 rfl rfl)
theorem dJ10_copyOf_2_39 : decode cJ10_copyOf_2 39 = .ok (.areturn, 1) := dk_176 (dk_at dksJ10_copyOf_2_1 15 rfl rfl)
abbrev cJ11_init : ByteArray := prog_23_method_2_code
def yJ11_init : MethodName := ⟨RJ11, "<init>", "(Ljava/lang/String;)V"⟩
def dkwJ11_init_0 : List UInt8 := [42, 43, 183, 0, 7, 177]
abbrev dktJ11_init_0 : List UInt8 := dkwJ11_init_0 ++ []
theorem dksJ11_init_0 : cJ11_init.data.toList.drop 0 = dktJ11_init_0 := by decide +kernel
theorem dJ11_init_0 : decode cJ11_init 0 = .ok (.aload_n 0, 1) := dk_42 (dk_at dksJ11_init_0 0 rfl rfl)
theorem dJ11_init_1 : decode cJ11_init 1 = .ok (.aload_n 1, 1) := dk_43 (dk_at dksJ11_init_0 1 rfl rfl)
theorem dJ11_init_2 : decode cJ11_init 2 = .ok (.invokespecial 7, 3) := dk_183 0 7 (dk_at dksJ11_init_0 2 rfl rfl)
theorem dJ11_init_5 : decode cJ11_init 5 = .ok (.return_, 1) := dk_177 (dk_at dksJ11_init_0 5 rfl rfl)
abbrev cJ12_init : ByteArray := prog_19_method_2_code
def yJ12_init : MethodName := ⟨RJ12, "<init>", "(Ljava/lang/String;)V"⟩
def dkwJ12_init_0 : List UInt8 := [42, 43, 183, 0, 7, 177]
abbrev dktJ12_init_0 : List UInt8 := dkwJ12_init_0 ++ []
theorem dksJ12_init_0 : cJ12_init.data.toList.drop 0 = dktJ12_init_0 := by decide +kernel
theorem dJ12_init_0 : decode cJ12_init 0 = .ok (.aload_n 0, 1) := dk_42 (dk_at dksJ12_init_0 0 rfl rfl)
theorem dJ12_init_1 : decode cJ12_init 1 = .ok (.aload_n 1, 1) := dk_43 (dk_at dksJ12_init_0 1 rfl rfl)
theorem dJ12_init_2 : decode cJ12_init 2 = .ok (.invokespecial 7, 3) := dk_183 0 7 (dk_at dksJ12_init_0 2 rfl rfl)
theorem dJ12_init_5 : decode cJ12_init 5 = .ok (.return_, 1) := dk_177 (dk_at dksJ12_init_0 5 rfl rfl)

abbrev cJ14_init : ByteArray := prog_28_method_1_code
def yJ14_init : MethodName := ⟨RJ14, "<init>", "()V"⟩
theorem dJ14_init_0 : decode cJ14_init 0 = .ok (.aload_n 0, 1) := by decide +kernel
theorem dJ14_init_1 : decode cJ14_init 1 = .ok (.invokespecial 1, 3) := by decide +kernel
theorem dJ14_init_4 : decode cJ14_init 4 = .ok (.return_, 1) := by decide +kernel
abbrev cJ15_init : ByteArray := prog_29_method_1_code
def yJ15_init : MethodName := ⟨RJ15, "<init>", "()V"⟩
theorem dJ15_init_0 : decode cJ15_init 0 = .ok (.aload_n 0, 1) := by decide +kernel
theorem dJ15_init_1 : decode cJ15_init 1 = .ok (.invokespecial 1, 3) := by decide +kernel
theorem dJ15_init_4 : decode cJ15_init 4 = .ok (.return_, 1) := by decide +kernel
abbrev cJ16_equals : ByteArray := prog_24_method_34_code
def yJ16_equals : MethodName := ⟨RJ16, "equals", "(Ljava/lang/Object;)Z"⟩
def dkwJ16_equals_1 : List UInt8 := [167, 0, 4, 3, 172, 3, 172]
abbrev dktJ16_equals_1 : List UInt8 := dkwJ16_equals_1 ++ []
def dkwJ16_equals_0 : List UInt8 := [43, 193, 0, 1, 153, 0, 23, 42, 180, 0, 205, 43, 192, 0, 1, 182, 0, 211, 160, 0, 7, 4]
abbrev dktJ16_equals_0 : List UInt8 := dkwJ16_equals_0 ++ dktJ16_equals_1
theorem dksJ16_equals_0 : cJ16_equals.data.toList.drop 0 = dktJ16_equals_0 := by decide +kernel
theorem dksJ16_equals_1 : cJ16_equals.data.toList.drop 22 = dktJ16_equals_1 := dk_seg dksJ16_equals_0 22 rfl rfl
theorem dJ16_equals_0 : decode cJ16_equals 0 = .ok (.aload_n 1, 1) := dk_43 (dk_at dksJ16_equals_0 0 rfl rfl)
theorem dJ16_equals_1 : decode cJ16_equals 1 = .ok (.instanceof 1, 3) := dk_193 0 1 (dk_at dksJ16_equals_0 1 rfl rfl)
theorem dJ16_equals_4 : decode cJ16_equals 4 = .ok (.ifCond .eq 23, 3) := dk_153 0 23 (dk_at dksJ16_equals_0 4 rfl rfl)
theorem dJ16_equals_7 : decode cJ16_equals 7 = .ok (.aload_n 0, 1) := dk_42 (dk_at dksJ16_equals_0 7 rfl rfl)
theorem dJ16_equals_8 : decode cJ16_equals 8 = .ok (.getfield 205, 3) := dk_180 0 205 (dk_at dksJ16_equals_0 8 rfl rfl)
theorem dJ16_equals_11 : decode cJ16_equals 11 = .ok (.aload_n 1, 1) := dk_43 (dk_at dksJ16_equals_0 11 rfl rfl)
theorem dJ16_equals_12 : decode cJ16_equals 12 = .ok (.checkcast 1, 3) := dk_192 0 1 (dk_at dksJ16_equals_0 12 rfl rfl)
theorem dJ16_equals_15 : decode cJ16_equals 15 = .ok (.invokevirtual 211, 3) := dk_182 0 211 (dk_at dksJ16_equals_0 15 rfl rfl)
theorem dJ16_equals_18 : decode cJ16_equals 18 = .ok (.if_icmp .ne 7, 3) := dk_160 0 7 (dk_at dksJ16_equals_0 18 rfl rfl)
theorem dJ16_equals_21 : decode cJ16_equals 21 = .ok (.iconst 1, 1) := dk_4 (dk_at dksJ16_equals_0 21 rfl rfl)
theorem dJ16_equals_22 : decode cJ16_equals 22 = .ok (.goto 4, 3) := dk_167 0 4 (dk_at dksJ16_equals_1 0 rfl rfl)
theorem dJ16_equals_25 : decode cJ16_equals 25 = .ok (.iconst 0, 1) := dk_3 (dk_at dksJ16_equals_1 3 rfl rfl)
theorem dJ16_equals_26 : decode cJ16_equals 26 = .ok (.ireturn, 1) := dk_172 (dk_at dksJ16_equals_1 4 rfl rfl)
theorem dJ16_equals_27 : decode cJ16_equals 27 = .ok (.iconst 0, 1) := dk_3 (dk_at dksJ16_equals_1 5 rfl rfl)
theorem dJ16_equals_28 : decode cJ16_equals 28 = .ok (.ireturn, 1) := dk_172 (dk_at dksJ16_equals_1 6 rfl rfl)
abbrev cJ16_intValue : ByteArray := prog_24_method_27_code
def yJ16_intValue : MethodName := ⟨RJ16, "intValue", "()I"⟩
theorem dJ16_intValue_0 : decode cJ16_intValue 0 = .ok (.aload_n 0, 1) := by decide +kernel
theorem dJ16_intValue_1 : decode cJ16_intValue 1 = .ok (.getfield 205, 3) := by decide +kernel
theorem dJ16_intValue_4 : decode cJ16_intValue 4 = .ok (.ireturn, 1) := by decide +kernel
abbrev cJ16_valueOf : ByteArray := prog_24_method_22_code
def yJ16_valueOf : MethodName := ⟨RJ16, "valueOf", "(I)Ljava/lang/Integer;"⟩
def dkwJ16_valueOf_1 : List UInt8 := [187, 0, 1, 89, 26, 183, 0, 199, 176]
abbrev dktJ16_valueOf_1 : List UInt8 := dkwJ16_valueOf_1 ++ []
def dkwJ16_valueOf_0 : List UInt8 := [26, 16, 128, 161, 0, 20, 26, 178, 0, 191, 163, 0, 13, 178, 0, 195, 26, 17, 0, 128, 96, 50, 176]
abbrev dktJ16_valueOf_0 : List UInt8 := dkwJ16_valueOf_0 ++ dktJ16_valueOf_1
theorem dksJ16_valueOf_0 : cJ16_valueOf.data.toList.drop 0 = dktJ16_valueOf_0 := by decide +kernel
theorem dksJ16_valueOf_1 : cJ16_valueOf.data.toList.drop 23 = dktJ16_valueOf_1 := dk_seg dksJ16_valueOf_0 23 rfl rfl
theorem dJ16_valueOf_0 : decode cJ16_valueOf 0 = .ok (.iload_n 0, 1) := dk_26 (dk_at dksJ16_valueOf_0 0 rfl rfl)
theorem dJ16_valueOf_1 : decode cJ16_valueOf 1 = .ok (.bipush (-128), 2) := dk_16 128 (dk_at dksJ16_valueOf_0 1 rfl rfl)
theorem dJ16_valueOf_3 : decode cJ16_valueOf 3 = .ok (.if_icmp .lt 20, 3) := dk_161 0 20 (dk_at dksJ16_valueOf_0 3 rfl rfl)
theorem dJ16_valueOf_6 : decode cJ16_valueOf 6 = .ok (.iload_n 0, 1) := dk_26 (dk_at dksJ16_valueOf_0 6 rfl rfl)
theorem dJ16_valueOf_7 : decode cJ16_valueOf 7 = .ok (.getstatic 191, 3) := dk_178 0 191 (dk_at dksJ16_valueOf_0 7 rfl rfl)
theorem dJ16_valueOf_10 : decode cJ16_valueOf 10 = .ok (.if_icmp .gt 13, 3) := dk_163 0 13 (dk_at dksJ16_valueOf_0 10 rfl rfl)
theorem dJ16_valueOf_13 : decode cJ16_valueOf 13 = .ok (.getstatic 195, 3) := dk_178 0 195 (dk_at dksJ16_valueOf_0 13 rfl rfl)
theorem dJ16_valueOf_16 : decode cJ16_valueOf 16 = .ok (.iload_n 0, 1) := dk_26 (dk_at dksJ16_valueOf_0 16 rfl rfl)
theorem dJ16_valueOf_17 : decode cJ16_valueOf 17 = .ok (.sipush 128, 3) := dk_17 0 128 (dk_at dksJ16_valueOf_0 17 rfl rfl)
theorem dJ16_valueOf_20 : decode cJ16_valueOf 20 = .ok (.iadd, 1) := dk_96 (dk_at dksJ16_valueOf_0 20 rfl rfl)
theorem dJ16_valueOf_21 : decode cJ16_valueOf 21 = .ok (.aaload, 1) := dk_50 (dk_at dksJ16_valueOf_0 21 rfl rfl)
theorem dJ16_valueOf_22 : decode cJ16_valueOf 22 = .ok (.areturn, 1) := dk_176 (dk_at dksJ16_valueOf_0 22 rfl rfl)
theorem dJ16_valueOf_23 : decode cJ16_valueOf 23 = .ok (.new 1, 3) := dk_187 0 1 (dk_at dksJ16_valueOf_1 0 rfl rfl)
theorem dJ16_valueOf_26 : decode cJ16_valueOf 26 = .ok (.dup, 1) := dk_89 (dk_at dksJ16_valueOf_1 3 rfl rfl)
theorem dJ16_valueOf_27 : decode cJ16_valueOf 27 = .ok (.iload_n 0, 1) := dk_26 (dk_at dksJ16_valueOf_1 4 rfl rfl)
theorem dJ16_valueOf_28 : decode cJ16_valueOf 28 = .ok (.invokespecial 199, 3) := dk_183 0 199 (dk_at dksJ16_valueOf_1 5 rfl rfl)
theorem dJ16_valueOf_31 : decode cJ16_valueOf 31 = .ok (.areturn, 1) := dk_176 (dk_at dksJ16_valueOf_1 8 rfl rfl)
abbrev cJ16_init : ByteArray := prog_24_method_23_code
def yJ16_init : MethodName := ⟨RJ16, "<init>", "(I)V"⟩
def dkwJ16_init_0 : List UInt8 := [42, 183, 0, 202, 42, 27, 181, 0, 205, 177]
abbrev dktJ16_init_0 : List UInt8 := dkwJ16_init_0 ++ []
theorem dksJ16_init_0 : cJ16_init.data.toList.drop 0 = dktJ16_init_0 := by decide +kernel
theorem dJ16_init_0 : decode cJ16_init 0 = .ok (.aload_n 0, 1) := dk_42 (dk_at dksJ16_init_0 0 rfl rfl)
theorem dJ16_init_1 : decode cJ16_init 1 = .ok (.invokespecial 202, 3) := dk_183 0 202 (dk_at dksJ16_init_0 1 rfl rfl)
theorem dJ16_init_4 : decode cJ16_init 4 = .ok (.aload_n 0, 1) := dk_42 (dk_at dksJ16_init_0 4 rfl rfl)
theorem dJ16_init_5 : decode cJ16_init 5 = .ok (.iload_n 1, 1) := dk_27 (dk_at dksJ16_init_0 5 rfl rfl)
theorem dJ16_init_6 : decode cJ16_init 6 = .ok (.putfield 205, 3) := dk_181 0 205 (dk_at dksJ16_init_0 6 rfl rfl)
theorem dJ16_init_9 : decode cJ16_init 9 = .ok (.return_, 1) := dk_177 (dk_at dksJ16_init_0 9 rfl rfl)
abbrev cJ17_init : ByteArray := object_method_1_code
def yJ17_init : MethodName := ⟨RJ17, "<init>", "()V"⟩
theorem dJ17_init_0 : decode cJ17_init 0 = .ok (.return_, 1) := by decide +kernel
abbrev cJ17_equals : ByteArray := object_method_4_code
def yJ17_equals : MethodName := ⟨RJ17, "equals", "(Ljava/lang/Object;)Z"⟩
def dkwJ17_equals_0 : List UInt8 := [42, 43, 166, 0, 7, 4, 167, 0, 4, 3, 172]
abbrev dktJ17_equals_0 : List UInt8 := dkwJ17_equals_0 ++ []
theorem dksJ17_equals_0 : cJ17_equals.data.toList.drop 0 = dktJ17_equals_0 := by decide +kernel
theorem dJ17_equals_0 : decode cJ17_equals 0 = .ok (.aload_n 0, 1) := dk_42 (dk_at dksJ17_equals_0 0 rfl rfl)
theorem dJ17_equals_1 : decode cJ17_equals 1 = .ok (.aload_n 1, 1) := dk_43 (dk_at dksJ17_equals_0 1 rfl rfl)
theorem dJ17_equals_2 : decode cJ17_equals 2 = .ok (.if_acmp .ne 7, 3) := dk_166 0 7 (dk_at dksJ17_equals_0 2 rfl rfl)
theorem dJ17_equals_5 : decode cJ17_equals 5 = .ok (.iconst 1, 1) := dk_4 (dk_at dksJ17_equals_0 5 rfl rfl)
theorem dJ17_equals_6 : decode cJ17_equals 6 = .ok (.goto 4, 3) := dk_167 0 4 (dk_at dksJ17_equals_0 6 rfl rfl)
theorem dJ17_equals_9 : decode cJ17_equals 9 = .ok (.iconst 0, 1) := dk_3 (dk_at dksJ17_equals_0 9 rfl rfl)
theorem dJ17_equals_10 : decode cJ17_equals 10 = .ok (.ireturn, 1) := dk_172 (dk_at dksJ17_equals_0 10 rfl rfl)
