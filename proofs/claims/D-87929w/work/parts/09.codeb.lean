set_option maxRecDepth 100000
abbrev cX1_init : ByteArray := prog_4_method_1_code
def yX1_init : MethodName := ⟨RX1, "<init>", "()V"⟩
theorem dX1_init_0 : decode cX1_init 0 = .ok (.aload_n 0, 1) := by decide +kernel
theorem dX1_init_1 : decode cX1_init 1 = .ok (.invokespecial 1, 3) := by decide +kernel
theorem dX1_init_4 : decode cX1_init 4 = .ok (.return_, 1) := by decide +kernel
abbrev cX1_of : ByteArray := prog_4_method_2_code
def yX1_of : MethodName := ⟨RX1, "of", "(I)LBranchMender$Finding;"⟩
def dkwX1_of_0 : List UInt8 := [42, 27, 181, 0, 7, 42, 176]
abbrev dktX1_of_0 : List UInt8 := dkwX1_of_0 ++ []
theorem dksX1_of_0 : cX1_of.data.toList.drop 0 = dktX1_of_0 := by decide +kernel
theorem dX1_of_0 : decode cX1_of 0 = .ok (.aload_n 0, 1) := dk_42 (dk_at dksX1_of_0 0 rfl rfl)
theorem dX1_of_1 : decode cX1_of 1 = .ok (.iload_n 1, 1) := dk_27 (dk_at dksX1_of_0 1 rfl rfl)
theorem dX1_of_2 : decode cX1_of 2 = .ok (.putfield 7, 3) := dk_181 0 7 (dk_at dksX1_of_0 2 rfl rfl)
theorem dX1_of_5 : decode cX1_of 5 = .ok (.aload_n 0, 1) := dk_42 (dk_at dksX1_of_0 5 rfl rfl)
theorem dX1_of_6 : decode cX1_of 6 = .ok (.areturn, 1) := dk_176 (dk_at dksX1_of_0 6 rfl rfl)
abbrev cX2_init : ByteArray := prog_13_method_1_code
def yX2_init : MethodName := ⟨RX2, "<init>", "(LBranchMender$Finding;)V"⟩
def dkwX2_init_0 : List UInt8 := [42, 183, 0, 3, 42, 43, 181, 0, 9, 177]
abbrev dktX2_init_0 : List UInt8 := dkwX2_init_0 ++ []
theorem dksX2_init_0 : cX2_init.data.toList.drop 0 = dktX2_init_0 := by decide +kernel
theorem dX2_init_0 : decode cX2_init 0 = .ok (.aload_n 0, 1) := dk_42 (dk_at dksX2_init_0 0 rfl rfl)
theorem dX2_init_1 : decode cX2_init 1 = .ok (.invokespecial 3, 3) := dk_183 0 3 (dk_at dksX2_init_0 1 rfl rfl)
theorem dX2_init_4 : decode cX2_init 4 = .ok (.aload_n 0, 1) := dk_42 (dk_at dksX2_init_0 4 rfl rfl)
theorem dX2_init_5 : decode cX2_init 5 = .ok (.aload_n 1, 1) := dk_43 (dk_at dksX2_init_0 5 rfl rfl)
theorem dX2_init_6 : decode cX2_init 6 = .ok (.putfield 9, 3) := dk_181 0 9 (dk_at dksX2_init_0 6 rfl rfl)
theorem dX2_init_9 : decode cX2_init 9 = .ok (.return_, 1) := dk_177 (dk_at dksX2_init_0 9 rfl rfl)
abbrev cX2_read : ByteArray := prog_13_method_5_code
def yX2_read : MethodName := ⟨RX2, "read", "([BI)LBranchMender$Node;"⟩
def dkwX2_read_1 : List UInt8 := [182, 0, 35, 78, 42, 180, 0, 21, 28, 162, 0, 12, 42, 42, 180, 0, 21, 182, 0, 39, 191, 45, 176]
abbrev dktX2_read_1 : List UInt8 := dkwX2_read_1 ++ []
def dkwX2_read_0 : List UInt8 := [42, 43, 181, 0, 28, 42, 28, 181, 0, 25, 42, 3, 181, 0, 21, 42, 3, 181, 0, 32, 42, 3, 1]
abbrev dktX2_read_0 : List UInt8 := dkwX2_read_0 ++ dktX2_read_1
theorem dksX2_read_0 : cX2_read.data.toList.drop 0 = dktX2_read_0 := by decide +kernel
theorem dksX2_read_1 : cX2_read.data.toList.drop 23 = dktX2_read_1 := dk_seg dksX2_read_0 23 rfl rfl
theorem dX2_read_0 : decode cX2_read 0 = .ok (.aload_n 0, 1) := dk_42 (dk_at dksX2_read_0 0 rfl rfl)
theorem dX2_read_1 : decode cX2_read 1 = .ok (.aload_n 1, 1) := dk_43 (dk_at dksX2_read_0 1 rfl rfl)
theorem dX2_read_2 : decode cX2_read 2 = .ok (.putfield 28, 3) := dk_181 0 28 (dk_at dksX2_read_0 2 rfl rfl)
theorem dX2_read_5 : decode cX2_read 5 = .ok (.aload_n 0, 1) := dk_42 (dk_at dksX2_read_0 5 rfl rfl)
theorem dX2_read_6 : decode cX2_read 6 = .ok (.iload_n 2, 1) := dk_28 (dk_at dksX2_read_0 6 rfl rfl)
theorem dX2_read_7 : decode cX2_read 7 = .ok (.putfield 25, 3) := dk_181 0 25 (dk_at dksX2_read_0 7 rfl rfl)
theorem dX2_read_10 : decode cX2_read 10 = .ok (.aload_n 0, 1) := dk_42 (dk_at dksX2_read_0 10 rfl rfl)
theorem dX2_read_11 : decode cX2_read 11 = .ok (.iconst 0, 1) := dk_3 (dk_at dksX2_read_0 11 rfl rfl)
theorem dX2_read_12 : decode cX2_read 12 = .ok (.putfield 21, 3) := dk_181 0 21 (dk_at dksX2_read_0 12 rfl rfl)
theorem dX2_read_15 : decode cX2_read 15 = .ok (.aload_n 0, 1) := dk_42 (dk_at dksX2_read_0 15 rfl rfl)
theorem dX2_read_16 : decode cX2_read 16 = .ok (.iconst 0, 1) := dk_3 (dk_at dksX2_read_0 16 rfl rfl)
theorem dX2_read_17 : decode cX2_read 17 = .ok (.putfield 32, 3) := dk_181 0 32 (dk_at dksX2_read_0 17 rfl rfl)
theorem dX2_read_20 : decode cX2_read 20 = .ok (.aload_n 0, 1) := dk_42 (dk_at dksX2_read_0 20 rfl rfl)
theorem dX2_read_21 : decode cX2_read 21 = .ok (.iconst 0, 1) := dk_3 (dk_at dksX2_read_0 21 rfl rfl)
theorem dX2_read_22 : decode cX2_read 22 = .ok (.aconst_null, 1) := dk_1 (dk_at dksX2_read_0 22 rfl rfl)
theorem dX2_read_23 : decode cX2_read 23 = .ok (.invokevirtual 35, 3) := dk_182 0 35 (dk_at dksX2_read_1 0 rfl rfl)
theorem dX2_read_26 : decode cX2_read 26 = .ok (.astore_n 3, 1) := dk_78 (dk_at dksX2_read_1 3 rfl rfl)
theorem dX2_read_27 : decode cX2_read 27 = .ok (.aload_n 0, 1) := dk_42 (dk_at dksX2_read_1 4 rfl rfl)
theorem dX2_read_28 : decode cX2_read 28 = .ok (.getfield 21, 3) := dk_180 0 21 (dk_at dksX2_read_1 5 rfl rfl)
theorem dX2_read_31 : decode cX2_read 31 = .ok (.iload_n 2, 1) := dk_28 (dk_at dksX2_read_1 8 rfl rfl)
theorem dX2_read_32 : decode cX2_read 32 = .ok (.if_icmp .ge 12, 3) := dk_162 0 12 (dk_at dksX2_read_1 9 rfl rfl)
theorem dX2_read_35 : decode cX2_read 35 = .ok (.aload_n 0, 1) := dk_42 (dk_at dksX2_read_1 12 rfl rfl)
theorem dX2_read_36 : decode cX2_read 36 = .ok (.aload_n 0, 1) := dk_42 (dk_at dksX2_read_1 13 rfl rfl)
theorem dX2_read_37 : decode cX2_read 37 = .ok (.getfield 21, 3) := dk_180 0 21 (dk_at dksX2_read_1 14 rfl rfl)
theorem dX2_read_40 : decode cX2_read 40 = .ok (.invokevirtual 39, 3) := dk_182 0 39 (dk_at dksX2_read_1 17 rfl rfl)
theorem dX2_read_43 : decode cX2_read 43 = .ok (.athrow, 1) := dk_191 (dk_at dksX2_read_1 20 rfl rfl)
theorem dX2_read_44 : decode cX2_read 44 = .ok (.aload_n 3, 1) := dk_45 (dk_at dksX2_read_1 21 rfl rfl)
theorem dX2_read_45 : decode cX2_read 45 = .ok (.areturn, 1) := dk_176 (dk_at dksX2_read_1 22 rfl rfl)
abbrev cX2_node : ByteArray := prog_13_method_6_code
def yX2_node : MethodName := ⟨RX2, "node", "(ILjava/util/ArrayList;)LBranchMender$Node;"⟩
def dkwX2_node_22 : List UInt8 := [182, 0, 39, 191, 25, 8, 176]
abbrev dktX2_node_22 : List UInt8 := dkwX2_node_22 ++ []
def dkwX2_node_21 : List UInt8 := [16, 44, 182, 0, 72, 154, 255, 223, 42, 21, 9, 182, 0, 72, 154, 0, 12, 42, 42, 180, 0, 21]
abbrev dktX2_node_21 : List UInt8 := dkwX2_node_21 ++ dktX2_node_22
def dkwX2_node_20 : List UInt8 := [96, 21, 7, 5, 160, 0, 11, 25, 8, 180, 0, 82, 167, 0, 4, 1, 182, 0, 35, 182, 0, 86, 42]
abbrev dktX2_node_20 : List UInt8 := dkwX2_node_20 ++ dktX2_node_21
def dkwX2_node_19 : List UInt8 := [54, 9, 21, 7, 158, 0, 15, 42, 21, 9, 182, 0, 72, 153, 0, 6, 25, 8, 176, 25, 8, 42, 27, 4]
abbrev dktX2_node_19 : List UInt8 := dkwX2_node_19 ++ dktX2_node_20
def dkwX2_node_18 : List UInt8 := [16, 40, 160, 0, 8, 16, 41, 167, 0, 17, 21, 6, 16, 123, 160, 0, 8, 16, 125, 167, 0, 5, 16, 62]
abbrev dktX2_node_18 : List UInt8 := dkwX2_node_18 ++ dktX2_node_19
def dkwX2_node_17 : List UInt8 := [21, 7, 6, 159, 0, 15, 21, 7, 154, 0, 13, 21, 6, 16, 40, 159, 0, 6, 25, 8, 176, 21, 6]
abbrev dktX2_node_17 : List UInt8 := dkwX2_node_17 ++ dktX2_node_18
def dkwX2_node_16 : List UInt8 := [58, 8, 21, 7, 157, 0, 10, 21, 6, 16, 40, 160, 0, 13, 42, 89, 180, 0, 21, 4, 96, 181, 0, 21]
abbrev dktX2_node_16 : List UInt8 := dkwX2_node_16 ++ dktX2_node_17
def dkwX2_node_15 : List UInt8 := [21, 6, 16, 33, 160, 0, 7, 6, 167, 0, 4, 3, 54, 7, 21, 7, 3, 25, 4, 25, 5, 184, 0, 78]
abbrev dktX2_node_15 : List UInt8 := dkwX2_node_15 ++ dktX2_node_16
def dkwX2_node_14 : List UInt8 := [54, 6, 21, 6, 16, 123, 160, 0, 7, 4, 167, 0, 26, 21, 6, 16, 60, 160, 0, 7, 5, 167, 0, 15]
abbrev dktX2_node_14 : List UInt8 := dkwX2_node_14 ++ dktX2_node_15
def dkwX2_node_13 : List UInt8 := [180, 0, 21, 42, 180, 0, 25, 162, 0, 15, 42, 180, 0, 28, 42, 180, 0, 21, 51, 167, 0, 4, 3]
abbrev dktX2_node_13 : List UInt8 := dkwX2_node_13 ++ dktX2_node_14
def dkwX2_node_12 : List UInt8 := [180, 0, 21, 182, 0, 39, 191, 42, 180, 0, 28, 21, 6, 42, 180, 0, 21, 184, 0, 46, 58, 5, 42]
abbrev dktX2_node_12 : List UInt8 := dkwX2_node_12 ++ dktX2_node_13
def dkwX2_node_11 : List UInt8 := [180, 0, 21, 4, 96, 181, 0, 21, 167, 255, 199, 42, 180, 0, 21, 21, 6, 160, 0, 12, 42, 42]
abbrev dktX2_node_11 : List UInt8 := dkwX2_node_11 ++ dktX2_node_12
def dkwX2_node_10 : List UInt8 := [180, 0, 21, 21, 6, 100, 16, 8, 160, 0, 12, 42, 42, 180, 0, 21, 182, 0, 39, 191, 42, 89]
abbrev dktX2_node_10 : List UInt8 := dkwX2_node_10 ++ dktX2_node_11
def dkwX2_node_9 : List UInt8 := [42, 180, 0, 25, 162, 0, 52, 42, 180, 0, 28, 42, 180, 0, 21, 51, 184, 0, 75, 153, 0, 37, 42]
abbrev dktX2_node_9 : List UInt8 := dkwX2_node_9 ++ dktX2_node_10
def dkwX2_node_8 : List UInt8 := [178, 0, 69, 58, 5, 42, 16, 61, 182, 0, 72, 153, 0, 102, 42, 180, 0, 21, 54, 6, 42, 180, 0, 21]
abbrev dktX2_node_8 : List UInt8 := dkwX2_node_8 ++ dktX2_node_9
def dkwX2_node_7 : List UInt8 := [180, 0, 62, 25, 4, 184, 0, 65, 153, 0, 9, 42, 29, 182, 0, 39, 191, 132, 5, 1, 167, 255, 214]
abbrev dktX2_node_7 : List UInt8 := dkwX2_node_7 ++ dktX2_node_8
def dkwX2_node_6 : List UInt8 := [54, 5, 44, 198, 0, 44, 21, 5, 44, 182, 0, 50, 162, 0, 35, 44, 21, 5, 182, 0, 56, 192, 0, 60]
abbrev dktX2_node_6 : List UInt8 := dkwX2_node_6 ++ dktX2_node_7
def dkwX2_node_5 : List UInt8 := [4, 96, 181, 0, 21, 167, 255, 200, 42, 180, 0, 28, 29, 42, 180, 0, 21, 184, 0, 46, 58, 4, 3]
abbrev dktX2_node_5 : List UInt8 := dkwX2_node_5 ++ dktX2_node_6
def dkwX2_node_4 : List UInt8 := [180, 0, 21, 29, 100, 16, 6, 160, 0, 12, 42, 42, 180, 0, 21, 182, 0, 39, 191, 42, 89, 180, 0, 21]
abbrev dktX2_node_4 : List UInt8 := dkwX2_node_4 ++ dktX2_node_5
def dkwX2_node_3 : List UInt8 := [180, 0, 25, 162, 0, 51, 42, 180, 0, 28, 42, 180, 0, 21, 51, 184, 0, 42, 153, 0, 36, 42]
abbrev dktX2_node_3 : List UInt8 := dkwX2_node_3 ++ dktX2_node_4
def dkwX2_node_2 : List UInt8 := [180, 0, 21, 182, 0, 39, 191, 42, 89, 180, 0, 32, 4, 96, 181, 0, 32, 42, 180, 0, 21, 42]
abbrev dktX2_node_2 : List UInt8 := dkwX2_node_2 ++ dktX2_node_3
def dkwX2_node_1 : List UInt8 := [51, 184, 0, 42, 153, 0, 18, 42, 180, 0, 32, 16, 30, 159, 0, 9, 27, 16, 12, 160, 0, 12, 42, 42]
abbrev dktX2_node_1 : List UInt8 := dkwX2_node_1 ++ dktX2_node_2
def dkwX2_node_0 : List UInt8 := [42, 180, 0, 21, 62, 42, 180, 0, 21, 42, 180, 0, 25, 159, 0, 33, 42, 180, 0, 28, 42, 180, 0, 21]
abbrev dktX2_node_0 : List UInt8 := dkwX2_node_0 ++ dktX2_node_1
theorem dksX2_node_0 : cX2_node.data.toList.drop 0 = dktX2_node_0 := by decide +kernel
theorem dksX2_node_1 : cX2_node.data.toList.drop 24 = dktX2_node_1 := dk_seg dksX2_node_0 24 rfl rfl
theorem dksX2_node_2 : cX2_node.data.toList.drop 48 = dktX2_node_2 := dk_seg dksX2_node_1 24 rfl rfl
theorem dksX2_node_3 : cX2_node.data.toList.drop 70 = dktX2_node_3 := dk_seg dksX2_node_2 22 rfl rfl
theorem dksX2_node_4 : cX2_node.data.toList.drop 92 = dktX2_node_4 := dk_seg dksX2_node_3 22 rfl rfl
theorem dksX2_node_5 : cX2_node.data.toList.drop 116 = dktX2_node_5 := dk_seg dksX2_node_4 24 rfl rfl
theorem dksX2_node_6 : cX2_node.data.toList.drop 139 = dktX2_node_6 := dk_seg dksX2_node_5 23 rfl rfl
theorem dksX2_node_7 : cX2_node.data.toList.drop 163 = dktX2_node_7 := dk_seg dksX2_node_6 24 rfl rfl
theorem dksX2_node_8 : cX2_node.data.toList.drop 186 = dktX2_node_8 := dk_seg dksX2_node_7 23 rfl rfl
theorem dksX2_node_9 : cX2_node.data.toList.drop 210 = dktX2_node_9 := dk_seg dksX2_node_8 24 rfl rfl
theorem dksX2_node_10 : cX2_node.data.toList.drop 233 = dktX2_node_10 := dk_seg dksX2_node_9 23 rfl rfl
theorem dksX2_node_11 : cX2_node.data.toList.drop 255 = dktX2_node_11 := dk_seg dksX2_node_10 22 rfl rfl
theorem dksX2_node_12 : cX2_node.data.toList.drop 277 = dktX2_node_12 := dk_seg dksX2_node_11 22 rfl rfl
theorem dksX2_node_13 : cX2_node.data.toList.drop 300 = dktX2_node_13 := dk_seg dksX2_node_12 23 rfl rfl
theorem dksX2_node_14 : cX2_node.data.toList.drop 323 = dktX2_node_14 := dk_seg dksX2_node_13 23 rfl rfl
theorem dksX2_node_15 : cX2_node.data.toList.drop 347 = dktX2_node_15 := dk_seg dksX2_node_14 24 rfl rfl
theorem dksX2_node_16 : cX2_node.data.toList.drop 371 = dktX2_node_16 := dk_seg dksX2_node_15 24 rfl rfl
theorem dksX2_node_17 : cX2_node.data.toList.drop 395 = dktX2_node_17 := dk_seg dksX2_node_16 24 rfl rfl
theorem dksX2_node_18 : cX2_node.data.toList.drop 418 = dktX2_node_18 := dk_seg dksX2_node_17 23 rfl rfl
theorem dksX2_node_19 : cX2_node.data.toList.drop 442 = dktX2_node_19 := dk_seg dksX2_node_18 24 rfl rfl
theorem dksX2_node_20 : cX2_node.data.toList.drop 466 = dktX2_node_20 := dk_seg dksX2_node_19 24 rfl rfl
theorem dksX2_node_21 : cX2_node.data.toList.drop 489 = dktX2_node_21 := dk_seg dksX2_node_20 23 rfl rfl
theorem dksX2_node_22 : cX2_node.data.toList.drop 511 = dktX2_node_22 := dk_seg dksX2_node_21 22 rfl rfl
theorem dX2_node_0 : decode cX2_node 0 = .ok (.aload_n 0, 1) := dk_42 (dk_at dksX2_node_0 0 rfl rfl)
theorem dX2_node_1 : decode cX2_node 1 = .ok (.getfield 21, 3) := dk_180 0 21 (dk_at dksX2_node_0 1 rfl rfl)
theorem dX2_node_4 : decode cX2_node 4 = .ok (.istore_n 3, 1) := dk_62 (dk_at dksX2_node_0 4 rfl rfl)
theorem dX2_node_5 : decode cX2_node 5 = .ok (.aload_n 0, 1) := dk_42 (dk_at dksX2_node_0 5 rfl rfl)
theorem dX2_node_6 : decode cX2_node 6 = .ok (.getfield 21, 3) := dk_180 0 21 (dk_at dksX2_node_0 6 rfl rfl)
theorem dX2_node_9 : decode cX2_node 9 = .ok (.aload_n 0, 1) := dk_42 (dk_at dksX2_node_0 9 rfl rfl)
theorem dX2_node_10 : decode cX2_node 10 = .ok (.getfield 25, 3) := dk_180 0 25 (dk_at dksX2_node_0 10 rfl rfl)
theorem dX2_node_13 : decode cX2_node 13 = .ok (.if_icmp .eq 33, 3) := dk_159 0 33 (dk_at dksX2_node_0 13 rfl rfl)
theorem dX2_node_16 : decode cX2_node 16 = .ok (.aload_n 0, 1) := dk_42 (dk_at dksX2_node_0 16 rfl rfl)
theorem dX2_node_17 : decode cX2_node 17 = .ok (.getfield 28, 3) := dk_180 0 28 (dk_at dksX2_node_0 17 rfl rfl)
theorem dX2_node_20 : decode cX2_node 20 = .ok (.aload_n 0, 1) := dk_42 (dk_at dksX2_node_0 20 rfl rfl)
theorem dX2_node_21 : decode cX2_node 21 = .ok (.getfield 21, 3) := dk_180 0 21 (dk_at dksX2_node_0 21 rfl rfl)
theorem dX2_node_24 : decode cX2_node 24 = .ok (.baload, 1) := dk_51 (dk_at dksX2_node_1 0 rfl rfl)
theorem dX2_node_25 : decode cX2_node 25 = .ok (.invokestatic 42, 3) := dk_184 0 42 (dk_at dksX2_node_1 1 rfl rfl)
theorem dX2_node_28 : decode cX2_node 28 = .ok (.ifCond .eq 18, 3) := dk_153 0 18 (dk_at dksX2_node_1 4 rfl rfl)
theorem dX2_node_31 : decode cX2_node 31 = .ok (.aload_n 0, 1) := dk_42 (dk_at dksX2_node_1 7 rfl rfl)
theorem dX2_node_32 : decode cX2_node 32 = .ok (.getfield 32, 3) := dk_180 0 32 (dk_at dksX2_node_1 8 rfl rfl)
theorem dX2_node_35 : decode cX2_node 35 = .ok (.bipush 30, 2) := dk_16 30 (dk_at dksX2_node_1 11 rfl rfl)
theorem dX2_node_37 : decode cX2_node 37 = .ok (.if_icmp .eq 9, 3) := dk_159 0 9 (dk_at dksX2_node_1 13 rfl rfl)
theorem dX2_node_40 : decode cX2_node 40 = .ok (.iload_n 1, 1) := dk_27 (dk_at dksX2_node_1 16 rfl rfl)
theorem dX2_node_41 : decode cX2_node 41 = .ok (.bipush 12, 2) := dk_16 12 (dk_at dksX2_node_1 17 rfl rfl)
theorem dX2_node_43 : decode cX2_node 43 = .ok (.if_icmp .ne 12, 3) := dk_160 0 12 (dk_at dksX2_node_1 19 rfl rfl)
theorem dX2_node_46 : decode cX2_node 46 = .ok (.aload_n 0, 1) := dk_42 (dk_at dksX2_node_1 22 rfl rfl)
theorem dX2_node_47 : decode cX2_node 47 = .ok (.aload_n 0, 1) := dk_42 (dk_at dksX2_node_1 23 rfl rfl)
theorem dX2_node_48 : decode cX2_node 48 = .ok (.getfield 21, 3) := dk_180 0 21 (dk_at dksX2_node_2 0 rfl rfl)
theorem dX2_node_51 : decode cX2_node 51 = .ok (.invokevirtual 39, 3) := dk_182 0 39 (dk_at dksX2_node_2 3 rfl rfl)
theorem dX2_node_54 : decode cX2_node 54 = .ok (.athrow, 1) := dk_191 (dk_at dksX2_node_2 6 rfl rfl)
theorem dX2_node_55 : decode cX2_node 55 = .ok (.aload_n 0, 1) := dk_42 (dk_at dksX2_node_2 7 rfl rfl)
theorem dX2_node_56 : decode cX2_node 56 = .ok (.dup, 1) := dk_89 (dk_at dksX2_node_2 8 rfl rfl)
theorem dX2_node_57 : decode cX2_node 57 = .ok (.getfield 32, 3) := dk_180 0 32 (dk_at dksX2_node_2 9 rfl rfl)
theorem dX2_node_60 : decode cX2_node 60 = .ok (.iconst 1, 1) := dk_4 (dk_at dksX2_node_2 12 rfl rfl)
theorem dX2_node_61 : decode cX2_node 61 = .ok (.iadd, 1) := dk_96 (dk_at dksX2_node_2 13 rfl rfl)
theorem dX2_node_62 : decode cX2_node 62 = .ok (.putfield 32, 3) := dk_181 0 32 (dk_at dksX2_node_2 14 rfl rfl)
theorem dX2_node_65 : decode cX2_node 65 = .ok (.aload_n 0, 1) := dk_42 (dk_at dksX2_node_2 17 rfl rfl)
theorem dX2_node_66 : decode cX2_node 66 = .ok (.getfield 21, 3) := dk_180 0 21 (dk_at dksX2_node_2 18 rfl rfl)
theorem dX2_node_69 : decode cX2_node 69 = .ok (.aload_n 0, 1) := dk_42 (dk_at dksX2_node_2 21 rfl rfl)
theorem dX2_node_70 : decode cX2_node 70 = .ok (.getfield 25, 3) := dk_180 0 25 (dk_at dksX2_node_3 0 rfl rfl)
theorem dX2_node_73 : decode cX2_node 73 = .ok (.if_icmp .ge 51, 3) := dk_162 0 51 (dk_at dksX2_node_3 3 rfl rfl)
theorem dX2_node_76 : decode cX2_node 76 = .ok (.aload_n 0, 1) := dk_42 (dk_at dksX2_node_3 6 rfl rfl)
theorem dX2_node_77 : decode cX2_node 77 = .ok (.getfield 28, 3) := dk_180 0 28 (dk_at dksX2_node_3 7 rfl rfl)
theorem dX2_node_80 : decode cX2_node 80 = .ok (.aload_n 0, 1) := dk_42 (dk_at dksX2_node_3 10 rfl rfl)
theorem dX2_node_81 : decode cX2_node 81 = .ok (.getfield 21, 3) := dk_180 0 21 (dk_at dksX2_node_3 11 rfl rfl)
theorem dX2_node_84 : decode cX2_node 84 = .ok (.baload, 1) := dk_51 (dk_at dksX2_node_3 14 rfl rfl)
theorem dX2_node_85 : decode cX2_node 85 = .ok (.invokestatic 42, 3) := dk_184 0 42 (dk_at dksX2_node_3 15 rfl rfl)
theorem dX2_node_88 : decode cX2_node 88 = .ok (.ifCond .eq 36, 3) := dk_153 0 36 (dk_at dksX2_node_3 18 rfl rfl)
theorem dX2_node_91 : decode cX2_node 91 = .ok (.aload_n 0, 1) := dk_42 (dk_at dksX2_node_3 21 rfl rfl)
theorem dX2_node_92 : decode cX2_node 92 = .ok (.getfield 21, 3) := dk_180 0 21 (dk_at dksX2_node_4 0 rfl rfl)
theorem dX2_node_95 : decode cX2_node 95 = .ok (.iload_n 3, 1) := dk_29 (dk_at dksX2_node_4 3 rfl rfl)
theorem dX2_node_96 : decode cX2_node 96 = .ok (.isub, 1) := dk_100 (dk_at dksX2_node_4 4 rfl rfl)
theorem dX2_node_97 : decode cX2_node 97 = .ok (.bipush 6, 2) := dk_16 6 (dk_at dksX2_node_4 5 rfl rfl)
theorem dX2_node_99 : decode cX2_node 99 = .ok (.if_icmp .ne 12, 3) := dk_160 0 12 (dk_at dksX2_node_4 7 rfl rfl)
theorem dX2_node_102 : decode cX2_node 102 = .ok (.aload_n 0, 1) := dk_42 (dk_at dksX2_node_4 10 rfl rfl)
theorem dX2_node_103 : decode cX2_node 103 = .ok (.aload_n 0, 1) := dk_42 (dk_at dksX2_node_4 11 rfl rfl)
theorem dX2_node_104 : decode cX2_node 104 = .ok (.getfield 21, 3) := dk_180 0 21 (dk_at dksX2_node_4 12 rfl rfl)
theorem dX2_node_107 : decode cX2_node 107 = .ok (.invokevirtual 39, 3) := dk_182 0 39 (dk_at dksX2_node_4 15 rfl rfl)
theorem dX2_node_110 : decode cX2_node 110 = .ok (.athrow, 1) := dk_191 (dk_at dksX2_node_4 18 rfl rfl)
theorem dX2_node_111 : decode cX2_node 111 = .ok (.aload_n 0, 1) := dk_42 (dk_at dksX2_node_4 19 rfl rfl)
theorem dX2_node_112 : decode cX2_node 112 = .ok (.dup, 1) := dk_89 (dk_at dksX2_node_4 20 rfl rfl)
theorem dX2_node_113 : decode cX2_node 113 = .ok (.getfield 21, 3) := dk_180 0 21 (dk_at dksX2_node_4 21 rfl rfl)
theorem dX2_node_116 : decode cX2_node 116 = .ok (.iconst 1, 1) := dk_4 (dk_at dksX2_node_5 0 rfl rfl)
theorem dX2_node_117 : decode cX2_node 117 = .ok (.iadd, 1) := dk_96 (dk_at dksX2_node_5 1 rfl rfl)
theorem dX2_node_118 : decode cX2_node 118 = .ok (.putfield 21, 3) := dk_181 0 21 (dk_at dksX2_node_5 2 rfl rfl)
theorem dX2_node_121 : decode cX2_node 121 = .ok (.goto (-56), 3) := dk_167 255 200 (dk_at dksX2_node_5 5 rfl rfl)
theorem dX2_node_124 : decode cX2_node 124 = .ok (.aload_n 0, 1) := dk_42 (dk_at dksX2_node_5 8 rfl rfl)
theorem dX2_node_125 : decode cX2_node 125 = .ok (.getfield 28, 3) := dk_180 0 28 (dk_at dksX2_node_5 9 rfl rfl)
theorem dX2_node_128 : decode cX2_node 128 = .ok (.iload_n 3, 1) := dk_29 (dk_at dksX2_node_5 12 rfl rfl)
theorem dX2_node_129 : decode cX2_node 129 = .ok (.aload_n 0, 1) := dk_42 (dk_at dksX2_node_5 13 rfl rfl)
theorem dX2_node_130 : decode cX2_node 130 = .ok (.getfield 21, 3) := dk_180 0 21 (dk_at dksX2_node_5 14 rfl rfl)
theorem dX2_node_133 : decode cX2_node 133 = .ok (.invokestatic 46, 3) := dk_184 0 46 (dk_at dksX2_node_5 17 rfl rfl)
theorem dX2_node_136 : decode cX2_node 136 = .ok (.astore 4, 2) := dk_58 4 (dk_at dksX2_node_5 20 rfl rfl)
theorem dX2_node_138 : decode cX2_node 138 = .ok (.iconst 0, 1) := dk_3 (dk_at dksX2_node_5 22 rfl rfl)
theorem dX2_node_139 : decode cX2_node 139 = .ok (.istore 5, 2) := dk_54 5 (dk_at dksX2_node_6 0 rfl rfl)
theorem dX2_node_141 : decode cX2_node 141 = .ok (.aload_n 2, 1) := dk_44 (dk_at dksX2_node_6 2 rfl rfl)
theorem dX2_node_142 : decode cX2_node 142 = .ok (.ifnull 44, 3) := dk_198 0 44 (dk_at dksX2_node_6 3 rfl rfl)
theorem dX2_node_145 : decode cX2_node 145 = .ok (.iload 5, 2) := dk_21 5 (dk_at dksX2_node_6 6 rfl rfl)
theorem dX2_node_147 : decode cX2_node 147 = .ok (.aload_n 2, 1) := dk_44 (dk_at dksX2_node_6 8 rfl rfl)
theorem dX2_node_148 : decode cX2_node 148 = .ok (.invokevirtual 50, 3) := dk_182 0 50 (dk_at dksX2_node_6 9 rfl rfl)
theorem dX2_node_151 : decode cX2_node 151 = .ok (.if_icmp .ge 35, 3) := dk_162 0 35 (dk_at dksX2_node_6 12 rfl rfl)
theorem dX2_node_154 : decode cX2_node 154 = .ok (.aload_n 2, 1) := dk_44 (dk_at dksX2_node_6 15 rfl rfl)
theorem dX2_node_155 : decode cX2_node 155 = .ok (.iload 5, 2) := dk_21 5 (dk_at dksX2_node_6 16 rfl rfl)
theorem dX2_node_157 : decode cX2_node 157 = .ok (.invokevirtual 56, 3) := dk_182 0 56 (dk_at dksX2_node_6 18 rfl rfl)
theorem dX2_node_160 : decode cX2_node 160 = .ok (.checkcast 60, 3) := dk_192 0 60 (dk_at dksX2_node_6 21 rfl rfl)
theorem dX2_node_163 : decode cX2_node 163 = .ok (.getfield 62, 3) := dk_180 0 62 (dk_at dksX2_node_7 0 rfl rfl)
theorem dX2_node_166 : decode cX2_node 166 = .ok (.aload 4, 2) := dk_25 4 (dk_at dksX2_node_7 3 rfl rfl)
theorem dX2_node_168 : decode cX2_node 168 = .ok (.invokestatic 65, 3) := dk_184 0 65 (dk_at dksX2_node_7 5 rfl rfl)
theorem dX2_node_171 : decode cX2_node 171 = .ok (.ifCond .eq 9, 3) := dk_153 0 9 (dk_at dksX2_node_7 8 rfl rfl)
theorem dX2_node_174 : decode cX2_node 174 = .ok (.aload_n 0, 1) := dk_42 (dk_at dksX2_node_7 11 rfl rfl)
theorem dX2_node_175 : decode cX2_node 175 = .ok (.iload_n 3, 1) := dk_29 (dk_at dksX2_node_7 12 rfl rfl)
theorem dX2_node_176 : decode cX2_node 176 = .ok (.invokevirtual 39, 3) := dk_182 0 39 (dk_at dksX2_node_7 13 rfl rfl)
theorem dX2_node_179 : decode cX2_node 179 = .ok (.athrow, 1) := dk_191 (dk_at dksX2_node_7 16 rfl rfl)
theorem dX2_node_180 : decode cX2_node 180 = .ok (.iinc 5 1, 3) := dk_132 5 1 (dk_at dksX2_node_7 17 rfl rfl)
theorem dX2_node_183 : decode cX2_node 183 = .ok (.goto (-42), 3) := dk_167 255 214 (dk_at dksX2_node_7 20 rfl rfl)
theorem dX2_node_186 : decode cX2_node 186 = .ok (.getstatic 69, 3) := dk_178 0 69 (dk_at dksX2_node_8 0 rfl rfl)
theorem dX2_node_189 : decode cX2_node 189 = .ok (.astore 5, 2) := dk_58 5 (dk_at dksX2_node_8 3 rfl rfl)
theorem dX2_node_191 : decode cX2_node 191 = .ok (.aload_n 0, 1) := dk_42 (dk_at dksX2_node_8 5 rfl rfl)
theorem dX2_node_192 : decode cX2_node 192 = .ok (.bipush 61, 2) := dk_16 61 (dk_at dksX2_node_8 6 rfl rfl)
theorem dX2_node_194 : decode cX2_node 194 = .ok (.invokevirtual 72, 3) := dk_182 0 72 (dk_at dksX2_node_8 8 rfl rfl)
theorem dX2_node_197 : decode cX2_node 197 = .ok (.ifCond .eq 102, 3) := dk_153 0 102 (dk_at dksX2_node_8 11 rfl rfl)
theorem dX2_node_200 : decode cX2_node 200 = .ok (.aload_n 0, 1) := dk_42 (dk_at dksX2_node_8 14 rfl rfl)
theorem dX2_node_201 : decode cX2_node 201 = .ok (.getfield 21, 3) := dk_180 0 21 (dk_at dksX2_node_8 15 rfl rfl)
theorem dX2_node_204 : decode cX2_node 204 = .ok (.istore 6, 2) := dk_54 6 (dk_at dksX2_node_8 18 rfl rfl)
theorem dX2_node_206 : decode cX2_node 206 = .ok (.aload_n 0, 1) := dk_42 (dk_at dksX2_node_8 20 rfl rfl)
theorem dX2_node_207 : decode cX2_node 207 = .ok (.getfield 21, 3) := dk_180 0 21 (dk_at dksX2_node_8 21 rfl rfl)
theorem dX2_node_210 : decode cX2_node 210 = .ok (.aload_n 0, 1) := dk_42 (dk_at dksX2_node_9 0 rfl rfl)
theorem dX2_node_211 : decode cX2_node 211 = .ok (.getfield 25, 3) := dk_180 0 25 (dk_at dksX2_node_9 1 rfl rfl)
theorem dX2_node_214 : decode cX2_node 214 = .ok (.if_icmp .ge 52, 3) := dk_162 0 52 (dk_at dksX2_node_9 4 rfl rfl)
theorem dX2_node_217 : decode cX2_node 217 = .ok (.aload_n 0, 1) := dk_42 (dk_at dksX2_node_9 7 rfl rfl)
theorem dX2_node_218 : decode cX2_node 218 = .ok (.getfield 28, 3) := dk_180 0 28 (dk_at dksX2_node_9 8 rfl rfl)
theorem dX2_node_221 : decode cX2_node 221 = .ok (.aload_n 0, 1) := dk_42 (dk_at dksX2_node_9 11 rfl rfl)
theorem dX2_node_222 : decode cX2_node 222 = .ok (.getfield 21, 3) := dk_180 0 21 (dk_at dksX2_node_9 12 rfl rfl)
theorem dX2_node_225 : decode cX2_node 225 = .ok (.baload, 1) := dk_51 (dk_at dksX2_node_9 15 rfl rfl)
theorem dX2_node_226 : decode cX2_node 226 = .ok (.invokestatic 75, 3) := dk_184 0 75 (dk_at dksX2_node_9 16 rfl rfl)
theorem dX2_node_229 : decode cX2_node 229 = .ok (.ifCond .eq 37, 3) := dk_153 0 37 (dk_at dksX2_node_9 19 rfl rfl)
theorem dX2_node_232 : decode cX2_node 232 = .ok (.aload_n 0, 1) := dk_42 (dk_at dksX2_node_9 22 rfl rfl)
theorem dX2_node_233 : decode cX2_node 233 = .ok (.getfield 21, 3) := dk_180 0 21 (dk_at dksX2_node_10 0 rfl rfl)
theorem dX2_node_236 : decode cX2_node 236 = .ok (.iload 6, 2) := dk_21 6 (dk_at dksX2_node_10 3 rfl rfl)
theorem dX2_node_238 : decode cX2_node 238 = .ok (.isub, 1) := dk_100 (dk_at dksX2_node_10 5 rfl rfl)
theorem dX2_node_239 : decode cX2_node 239 = .ok (.bipush 8, 2) := dk_16 8 (dk_at dksX2_node_10 6 rfl rfl)
theorem dX2_node_241 : decode cX2_node 241 = .ok (.if_icmp .ne 12, 3) := dk_160 0 12 (dk_at dksX2_node_10 8 rfl rfl)
theorem dX2_node_244 : decode cX2_node 244 = .ok (.aload_n 0, 1) := dk_42 (dk_at dksX2_node_10 11 rfl rfl)
theorem dX2_node_245 : decode cX2_node 245 = .ok (.aload_n 0, 1) := dk_42 (dk_at dksX2_node_10 12 rfl rfl)
theorem dX2_node_246 : decode cX2_node 246 = .ok (.getfield 21, 3) := dk_180 0 21 (dk_at dksX2_node_10 13 rfl rfl)
theorem dX2_node_249 : decode cX2_node 249 = .ok (.invokevirtual 39, 3) := dk_182 0 39 (dk_at dksX2_node_10 16 rfl rfl)
theorem dX2_node_252 : decode cX2_node 252 = .ok (.athrow, 1) := dk_191 (dk_at dksX2_node_10 19 rfl rfl)
theorem dX2_node_253 : decode cX2_node 253 = .ok (.aload_n 0, 1) := dk_42 (dk_at dksX2_node_10 20 rfl rfl)
theorem dX2_node_254 : decode cX2_node 254 = .ok (.dup, 1) := dk_89 (dk_at dksX2_node_10 21 rfl rfl)
theorem dX2_node_255 : decode cX2_node 255 = .ok (.getfield 21, 3) := dk_180 0 21 (dk_at dksX2_node_11 0 rfl rfl)
theorem dX2_node_258 : decode cX2_node 258 = .ok (.iconst 1, 1) := dk_4 (dk_at dksX2_node_11 3 rfl rfl)
theorem dX2_node_259 : decode cX2_node 259 = .ok (.iadd, 1) := dk_96 (dk_at dksX2_node_11 4 rfl rfl)
theorem dX2_node_260 : decode cX2_node 260 = .ok (.putfield 21, 3) := dk_181 0 21 (dk_at dksX2_node_11 5 rfl rfl)
theorem dX2_node_263 : decode cX2_node 263 = .ok (.goto (-57), 3) := dk_167 255 199 (dk_at dksX2_node_11 8 rfl rfl)
theorem dX2_node_266 : decode cX2_node 266 = .ok (.aload_n 0, 1) := dk_42 (dk_at dksX2_node_11 11 rfl rfl)
theorem dX2_node_267 : decode cX2_node 267 = .ok (.getfield 21, 3) := dk_180 0 21 (dk_at dksX2_node_11 12 rfl rfl)
theorem dX2_node_270 : decode cX2_node 270 = .ok (.iload 6, 2) := dk_21 6 (dk_at dksX2_node_11 15 rfl rfl)
theorem dX2_node_272 : decode cX2_node 272 = .ok (.if_icmp .ne 12, 3) := dk_160 0 12 (dk_at dksX2_node_11 17 rfl rfl)
theorem dX2_node_275 : decode cX2_node 275 = .ok (.aload_n 0, 1) := dk_42 (dk_at dksX2_node_11 20 rfl rfl)
theorem dX2_node_276 : decode cX2_node 276 = .ok (.aload_n 0, 1) := dk_42 (dk_at dksX2_node_11 21 rfl rfl)
theorem dX2_node_277 : decode cX2_node 277 = .ok (.getfield 21, 3) := dk_180 0 21 (dk_at dksX2_node_12 0 rfl rfl)
theorem dX2_node_280 : decode cX2_node 280 = .ok (.invokevirtual 39, 3) := dk_182 0 39 (dk_at dksX2_node_12 3 rfl rfl)
theorem dX2_node_283 : decode cX2_node 283 = .ok (.athrow, 1) := dk_191 (dk_at dksX2_node_12 6 rfl rfl)
theorem dX2_node_284 : decode cX2_node 284 = .ok (.aload_n 0, 1) := dk_42 (dk_at dksX2_node_12 7 rfl rfl)
theorem dX2_node_285 : decode cX2_node 285 = .ok (.getfield 28, 3) := dk_180 0 28 (dk_at dksX2_node_12 8 rfl rfl)
theorem dX2_node_288 : decode cX2_node 288 = .ok (.iload 6, 2) := dk_21 6 (dk_at dksX2_node_12 11 rfl rfl)
theorem dX2_node_290 : decode cX2_node 290 = .ok (.aload_n 0, 1) := dk_42 (dk_at dksX2_node_12 13 rfl rfl)
theorem dX2_node_291 : decode cX2_node 291 = .ok (.getfield 21, 3) := dk_180 0 21 (dk_at dksX2_node_12 14 rfl rfl)
theorem dX2_node_294 : decode cX2_node 294 = .ok (.invokestatic 46, 3) := dk_184 0 46 (dk_at dksX2_node_12 17 rfl rfl)
theorem dX2_node_297 : decode cX2_node 297 = .ok (.astore 5, 2) := dk_58 5 (dk_at dksX2_node_12 20 rfl rfl)
theorem dX2_node_299 : decode cX2_node 299 = .ok (.aload_n 0, 1) := dk_42 (dk_at dksX2_node_12 22 rfl rfl)
theorem dX2_node_300 : decode cX2_node 300 = .ok (.getfield 21, 3) := dk_180 0 21 (dk_at dksX2_node_13 0 rfl rfl)
theorem dX2_node_303 : decode cX2_node 303 = .ok (.aload_n 0, 1) := dk_42 (dk_at dksX2_node_13 3 rfl rfl)
theorem dX2_node_304 : decode cX2_node 304 = .ok (.getfield 25, 3) := dk_180 0 25 (dk_at dksX2_node_13 4 rfl rfl)
theorem dX2_node_307 : decode cX2_node 307 = .ok (.if_icmp .ge 15, 3) := dk_162 0 15 (dk_at dksX2_node_13 7 rfl rfl)
theorem dX2_node_310 : decode cX2_node 310 = .ok (.aload_n 0, 1) := dk_42 (dk_at dksX2_node_13 10 rfl rfl)
theorem dX2_node_311 : decode cX2_node 311 = .ok (.getfield 28, 3) := dk_180 0 28 (dk_at dksX2_node_13 11 rfl rfl)
theorem dX2_node_314 : decode cX2_node 314 = .ok (.aload_n 0, 1) := dk_42 (dk_at dksX2_node_13 14 rfl rfl)
theorem dX2_node_315 : decode cX2_node 315 = .ok (.getfield 21, 3) := dk_180 0 21 (dk_at dksX2_node_13 15 rfl rfl)
theorem dX2_node_318 : decode cX2_node 318 = .ok (.baload, 1) := dk_51 (dk_at dksX2_node_13 18 rfl rfl)
theorem dX2_node_319 : decode cX2_node 319 = .ok (.goto 4, 3) := dk_167 0 4 (dk_at dksX2_node_13 19 rfl rfl)
theorem dX2_node_322 : decode cX2_node 322 = .ok (.iconst 0, 1) := dk_3 (dk_at dksX2_node_13 22 rfl rfl)
theorem dX2_node_323 : decode cX2_node 323 = .ok (.istore 6, 2) := dk_54 6 (dk_at dksX2_node_14 0 rfl rfl)
theorem dX2_node_325 : decode cX2_node 325 = .ok (.iload 6, 2) := dk_21 6 (dk_at dksX2_node_14 2 rfl rfl)
theorem dX2_node_327 : decode cX2_node 327 = .ok (.bipush 123, 2) := dk_16 123 (dk_at dksX2_node_14 4 rfl rfl)
theorem dX2_node_329 : decode cX2_node 329 = .ok (.if_icmp .ne 7, 3) := dk_160 0 7 (dk_at dksX2_node_14 6 rfl rfl)
theorem dX2_node_332 : decode cX2_node 332 = .ok (.iconst 1, 1) := dk_4 (dk_at dksX2_node_14 9 rfl rfl)
theorem dX2_node_333 : decode cX2_node 333 = .ok (.goto 26, 3) := dk_167 0 26 (dk_at dksX2_node_14 10 rfl rfl)
theorem dX2_node_336 : decode cX2_node 336 = .ok (.iload 6, 2) := dk_21 6 (dk_at dksX2_node_14 13 rfl rfl)
theorem dX2_node_338 : decode cX2_node 338 = .ok (.bipush 60, 2) := dk_16 60 (dk_at dksX2_node_14 15 rfl rfl)
theorem dX2_node_340 : decode cX2_node 340 = .ok (.if_icmp .ne 7, 3) := dk_160 0 7 (dk_at dksX2_node_14 17 rfl rfl)
theorem dX2_node_343 : decode cX2_node 343 = .ok (.iconst 2, 1) := dk_5 (dk_at dksX2_node_14 20 rfl rfl)
theorem dX2_node_344 : decode cX2_node 344 = .ok (.goto 15, 3) := dk_167 0 15 (dk_at dksX2_node_14 21 rfl rfl)
theorem dX2_node_347 : decode cX2_node 347 = .ok (.iload 6, 2) := dk_21 6 (dk_at dksX2_node_15 0 rfl rfl)
theorem dX2_node_349 : decode cX2_node 349 = .ok (.bipush 33, 2) := dk_16 33 (dk_at dksX2_node_15 2 rfl rfl)
theorem dX2_node_351 : decode cX2_node 351 = .ok (.if_icmp .ne 7, 3) := dk_160 0 7 (dk_at dksX2_node_15 4 rfl rfl)
theorem dX2_node_354 : decode cX2_node 354 = .ok (.iconst 3, 1) := dk_6 (dk_at dksX2_node_15 7 rfl rfl)
theorem dX2_node_355 : decode cX2_node 355 = .ok (.goto 4, 3) := dk_167 0 4 (dk_at dksX2_node_15 8 rfl rfl)
theorem dX2_node_358 : decode cX2_node 358 = .ok (.iconst 0, 1) := dk_3 (dk_at dksX2_node_15 11 rfl rfl)
theorem dX2_node_359 : decode cX2_node 359 = .ok (.istore 7, 2) := dk_54 7 (dk_at dksX2_node_15 12 rfl rfl)
theorem dX2_node_361 : decode cX2_node 361 = .ok (.iload 7, 2) := dk_21 7 (dk_at dksX2_node_15 14 rfl rfl)
theorem dX2_node_363 : decode cX2_node 363 = .ok (.iconst 0, 1) := dk_3 (dk_at dksX2_node_15 16 rfl rfl)
theorem dX2_node_364 : decode cX2_node 364 = .ok (.aload 4, 2) := dk_25 4 (dk_at dksX2_node_15 17 rfl rfl)
theorem dX2_node_366 : decode cX2_node 366 = .ok (.aload 5, 2) := dk_25 5 (dk_at dksX2_node_15 19 rfl rfl)
theorem dX2_node_368 : decode cX2_node 368 = .ok (.invokestatic 78, 3) := dk_184 0 78 (dk_at dksX2_node_15 21 rfl rfl)
theorem dX2_node_371 : decode cX2_node 371 = .ok (.astore 8, 2) := dk_58 8 (dk_at dksX2_node_16 0 rfl rfl)
theorem dX2_node_373 : decode cX2_node 373 = .ok (.iload 7, 2) := dk_21 7 (dk_at dksX2_node_16 2 rfl rfl)
theorem dX2_node_375 : decode cX2_node 375 = .ok (.ifCond .gt 10, 3) := dk_157 0 10 (dk_at dksX2_node_16 4 rfl rfl)
theorem dX2_node_378 : decode cX2_node 378 = .ok (.iload 6, 2) := dk_21 6 (dk_at dksX2_node_16 7 rfl rfl)
theorem dX2_node_380 : decode cX2_node 380 = .ok (.bipush 40, 2) := dk_16 40 (dk_at dksX2_node_16 9 rfl rfl)
theorem dX2_node_382 : decode cX2_node 382 = .ok (.if_icmp .ne 13, 3) := dk_160 0 13 (dk_at dksX2_node_16 11 rfl rfl)
theorem dX2_node_385 : decode cX2_node 385 = .ok (.aload_n 0, 1) := dk_42 (dk_at dksX2_node_16 14 rfl rfl)
theorem dX2_node_386 : decode cX2_node 386 = .ok (.dup, 1) := dk_89 (dk_at dksX2_node_16 15 rfl rfl)
theorem dX2_node_387 : decode cX2_node 387 = .ok (.getfield 21, 3) := dk_180 0 21 (dk_at dksX2_node_16 16 rfl rfl)
theorem dX2_node_390 : decode cX2_node 390 = .ok (.iconst 1, 1) := dk_4 (dk_at dksX2_node_16 19 rfl rfl)
theorem dX2_node_391 : decode cX2_node 391 = .ok (.iadd, 1) := dk_96 (dk_at dksX2_node_16 20 rfl rfl)
theorem dX2_node_392 : decode cX2_node 392 = .ok (.putfield 21, 3) := dk_181 0 21 (dk_at dksX2_node_16 21 rfl rfl)
theorem dX2_node_395 : decode cX2_node 395 = .ok (.iload 7, 2) := dk_21 7 (dk_at dksX2_node_17 0 rfl rfl)
theorem dX2_node_397 : decode cX2_node 397 = .ok (.iconst 3, 1) := dk_6 (dk_at dksX2_node_17 2 rfl rfl)
theorem dX2_node_398 : decode cX2_node 398 = .ok (.if_icmp .eq 15, 3) := dk_159 0 15 (dk_at dksX2_node_17 3 rfl rfl)
theorem dX2_node_401 : decode cX2_node 401 = .ok (.iload 7, 2) := dk_21 7 (dk_at dksX2_node_17 6 rfl rfl)
theorem dX2_node_403 : decode cX2_node 403 = .ok (.ifCond .ne 13, 3) := dk_154 0 13 (dk_at dksX2_node_17 8 rfl rfl)
theorem dX2_node_406 : decode cX2_node 406 = .ok (.iload 6, 2) := dk_21 6 (dk_at dksX2_node_17 11 rfl rfl)
theorem dX2_node_408 : decode cX2_node 408 = .ok (.bipush 40, 2) := dk_16 40 (dk_at dksX2_node_17 13 rfl rfl)
theorem dX2_node_410 : decode cX2_node 410 = .ok (.if_icmp .eq 6, 3) := dk_159 0 6 (dk_at dksX2_node_17 15 rfl rfl)
theorem dX2_node_413 : decode cX2_node 413 = .ok (.aload 8, 2) := dk_25 8 (dk_at dksX2_node_17 18 rfl rfl)
theorem dX2_node_415 : decode cX2_node 415 = .ok (.areturn, 1) := dk_176 (dk_at dksX2_node_17 20 rfl rfl)
theorem dX2_node_416 : decode cX2_node 416 = .ok (.iload 6, 2) := dk_21 6 (dk_at dksX2_node_17 21 rfl rfl)
theorem dX2_node_418 : decode cX2_node 418 = .ok (.bipush 40, 2) := dk_16 40 (dk_at dksX2_node_18 0 rfl rfl)
theorem dX2_node_420 : decode cX2_node 420 = .ok (.if_icmp .ne 8, 3) := dk_160 0 8 (dk_at dksX2_node_18 2 rfl rfl)
theorem dX2_node_423 : decode cX2_node 423 = .ok (.bipush 41, 2) := dk_16 41 (dk_at dksX2_node_18 5 rfl rfl)
theorem dX2_node_425 : decode cX2_node 425 = .ok (.goto 17, 3) := dk_167 0 17 (dk_at dksX2_node_18 7 rfl rfl)
theorem dX2_node_428 : decode cX2_node 428 = .ok (.iload 6, 2) := dk_21 6 (dk_at dksX2_node_18 10 rfl rfl)
theorem dX2_node_430 : decode cX2_node 430 = .ok (.bipush 123, 2) := dk_16 123 (dk_at dksX2_node_18 12 rfl rfl)
theorem dX2_node_432 : decode cX2_node 432 = .ok (.if_icmp .ne 8, 3) := dk_160 0 8 (dk_at dksX2_node_18 14 rfl rfl)
theorem dX2_node_435 : decode cX2_node 435 = .ok (.bipush 125, 2) := dk_16 125 (dk_at dksX2_node_18 17 rfl rfl)
theorem dX2_node_437 : decode cX2_node 437 = .ok (.goto 5, 3) := dk_167 0 5 (dk_at dksX2_node_18 19 rfl rfl)
theorem dX2_node_440 : decode cX2_node 440 = .ok (.bipush 62, 2) := dk_16 62 (dk_at dksX2_node_18 22 rfl rfl)
theorem dX2_node_442 : decode cX2_node 442 = .ok (.istore 9, 2) := dk_54 9 (dk_at dksX2_node_19 0 rfl rfl)
theorem dX2_node_444 : decode cX2_node 444 = .ok (.iload 7, 2) := dk_21 7 (dk_at dksX2_node_19 2 rfl rfl)
theorem dX2_node_446 : decode cX2_node 446 = .ok (.ifCond .le 15, 3) := dk_158 0 15 (dk_at dksX2_node_19 4 rfl rfl)
theorem dX2_node_449 : decode cX2_node 449 = .ok (.aload_n 0, 1) := dk_42 (dk_at dksX2_node_19 7 rfl rfl)
theorem dX2_node_450 : decode cX2_node 450 = .ok (.iload 9, 2) := dk_21 9 (dk_at dksX2_node_19 8 rfl rfl)
theorem dX2_node_452 : decode cX2_node 452 = .ok (.invokevirtual 72, 3) := dk_182 0 72 (dk_at dksX2_node_19 10 rfl rfl)
theorem dX2_node_455 : decode cX2_node 455 = .ok (.ifCond .eq 6, 3) := dk_153 0 6 (dk_at dksX2_node_19 13 rfl rfl)
theorem dX2_node_458 : decode cX2_node 458 = .ok (.aload 8, 2) := dk_25 8 (dk_at dksX2_node_19 16 rfl rfl)
theorem dX2_node_460 : decode cX2_node 460 = .ok (.areturn, 1) := dk_176 (dk_at dksX2_node_19 18 rfl rfl)
theorem dX2_node_461 : decode cX2_node 461 = .ok (.aload 8, 2) := dk_25 8 (dk_at dksX2_node_19 19 rfl rfl)
theorem dX2_node_463 : decode cX2_node 463 = .ok (.aload_n 0, 1) := dk_42 (dk_at dksX2_node_19 21 rfl rfl)
theorem dX2_node_464 : decode cX2_node 464 = .ok (.iload_n 1, 1) := dk_27 (dk_at dksX2_node_19 22 rfl rfl)
theorem dX2_node_465 : decode cX2_node 465 = .ok (.iconst 1, 1) := dk_4 (dk_at dksX2_node_19 23 rfl rfl)
theorem dX2_node_466 : decode cX2_node 466 = .ok (.iadd, 1) := dk_96 (dk_at dksX2_node_20 0 rfl rfl)
theorem dX2_node_467 : decode cX2_node 467 = .ok (.iload 7, 2) := dk_21 7 (dk_at dksX2_node_20 1 rfl rfl)
theorem dX2_node_469 : decode cX2_node 469 = .ok (.iconst 2, 1) := dk_5 (dk_at dksX2_node_20 3 rfl rfl)
theorem dX2_node_470 : decode cX2_node 470 = .ok (.if_icmp .ne 11, 3) := dk_160 0 11 (dk_at dksX2_node_20 4 rfl rfl)
theorem dX2_node_473 : decode cX2_node 473 = .ok (.aload 8, 2) := dk_25 8 (dk_at dksX2_node_20 7 rfl rfl)
theorem dX2_node_475 : decode cX2_node 475 = .ok (.getfield 82, 3) := dk_180 0 82 (dk_at dksX2_node_20 9 rfl rfl)
theorem dX2_node_478 : decode cX2_node 478 = .ok (.goto 4, 3) := dk_167 0 4 (dk_at dksX2_node_20 12 rfl rfl)
theorem dX2_node_481 : decode cX2_node 481 = .ok (.aconst_null, 1) := dk_1 (dk_at dksX2_node_20 15 rfl rfl)
theorem dX2_node_482 : decode cX2_node 482 = .ok (.invokevirtual 35, 3) := dk_182 0 35 (dk_at dksX2_node_20 16 rfl rfl)
theorem dX2_node_485 : decode cX2_node 485 = .ok (.invokevirtual 86, 3) := dk_182 0 86 (dk_at dksX2_node_20 19 rfl rfl)
theorem dX2_node_488 : decode cX2_node 488 = .ok (.aload_n 0, 1) := dk_42 (dk_at dksX2_node_20 22 rfl rfl)
theorem dX2_node_489 : decode cX2_node 489 = .ok (.bipush 44, 2) := dk_16 44 (dk_at dksX2_node_21 0 rfl rfl)
theorem dX2_node_491 : decode cX2_node 491 = .ok (.invokevirtual 72, 3) := dk_182 0 72 (dk_at dksX2_node_21 2 rfl rfl)
theorem dX2_node_494 : decode cX2_node 494 = .ok (.ifCond .ne (-33), 3) := dk_154 255 223 (dk_at dksX2_node_21 5 rfl rfl)
theorem dX2_node_497 : decode cX2_node 497 = .ok (.aload_n 0, 1) := dk_42 (dk_at dksX2_node_21 8 rfl rfl)
theorem dX2_node_498 : decode cX2_node 498 = .ok (.iload 9, 2) := dk_21 9 (dk_at dksX2_node_21 9 rfl rfl)
theorem dX2_node_500 : decode cX2_node 500 = .ok (.invokevirtual 72, 3) := dk_182 0 72 (dk_at dksX2_node_21 11 rfl rfl)
theorem dX2_node_503 : decode cX2_node 503 = .ok (.ifCond .ne 12, 3) := dk_154 0 12 (dk_at dksX2_node_21 14 rfl rfl)
theorem dX2_node_506 : decode cX2_node 506 = .ok (.aload_n 0, 1) := dk_42 (dk_at dksX2_node_21 17 rfl rfl)
theorem dX2_node_507 : decode cX2_node 507 = .ok (.aload_n 0, 1) := dk_42 (dk_at dksX2_node_21 18 rfl rfl)
theorem dX2_node_508 : decode cX2_node 508 = .ok (.getfield 21, 3) := dk_180 0 21 (dk_at dksX2_node_21 19 rfl rfl)
theorem dX2_node_511 : decode cX2_node 511 = .ok (.invokevirtual 39, 3) := dk_182 0 39 (dk_at dksX2_node_22 0 rfl rfl)
theorem dX2_node_514 : decode cX2_node 514 = .ok (.athrow, 1) := dk_191 (dk_at dksX2_node_22 3 rfl rfl)
theorem dX2_node_515 : decode cX2_node 515 = .ok (.aload 8, 2) := dk_25 8 (dk_at dksX2_node_22 4 rfl rfl)
theorem dX2_node_517 : decode cX2_node 517 = .ok (.areturn, 1) := dk_176 (dk_at dksX2_node_22 6 rfl rfl)
abbrev cX2_wrong : ByteArray := prog_13_method_2_code
def yX2_wrong : MethodName := ⟨RX2, "wrong", "(I)LBranchMender$Finding;"⟩
def dkwX2_wrong_0 : List UInt8 := [42, 180, 0, 9, 16, 246, 27, 100, 182, 0, 15, 176]
abbrev dktX2_wrong_0 : List UInt8 := dkwX2_wrong_0 ++ []
theorem dksX2_wrong_0 : cX2_wrong.data.toList.drop 0 = dktX2_wrong_0 := by decide +kernel
theorem dX2_wrong_0 : decode cX2_wrong 0 = .ok (.aload_n 0, 1) := dk_42 (dk_at dksX2_wrong_0 0 rfl rfl)
theorem dX2_wrong_1 : decode cX2_wrong 1 = .ok (.getfield 9, 3) := dk_180 0 9 (dk_at dksX2_wrong_0 1 rfl rfl)
theorem dX2_wrong_4 : decode cX2_wrong 4 = .ok (.bipush (-10), 2) := dk_16 246 (dk_at dksX2_wrong_0 4 rfl rfl)
theorem dX2_wrong_6 : decode cX2_wrong 6 = .ok (.iload_n 1, 1) := dk_27 (dk_at dksX2_wrong_0 6 rfl rfl)
theorem dX2_wrong_7 : decode cX2_wrong 7 = .ok (.isub, 1) := dk_100 (dk_at dksX2_wrong_0 7 rfl rfl)
theorem dX2_wrong_8 : decode cX2_wrong 8 = .ok (.invokevirtual 15, 3) := dk_182 0 15 (dk_at dksX2_wrong_0 8 rfl rfl)
theorem dX2_wrong_11 : decode cX2_wrong 11 = .ok (.areturn, 1) := dk_176 (dk_at dksX2_wrong_0 11 rfl rfl)
abbrev cX2_takes : ByteArray := prog_13_method_4_code
def yX2_takes : MethodName := ⟨RX2, "takes", "(I)Z"⟩
def dkwX2_takes_1 : List UInt8 := [3, 172, 42, 89, 180, 0, 21, 4, 96, 181, 0, 21, 4, 172]
abbrev dktX2_takes_1 : List UInt8 := dkwX2_takes_1 ++ []
def dkwX2_takes_0 : List UInt8 := [42, 180, 0, 21, 42, 180, 0, 25, 159, 0, 16, 42, 180, 0, 28, 42, 180, 0, 21, 51, 27, 159, 0, 5]
abbrev dktX2_takes_0 : List UInt8 := dkwX2_takes_0 ++ dktX2_takes_1
theorem dksX2_takes_0 : cX2_takes.data.toList.drop 0 = dktX2_takes_0 := by decide +kernel
theorem dksX2_takes_1 : cX2_takes.data.toList.drop 24 = dktX2_takes_1 := dk_seg dksX2_takes_0 24 rfl rfl
theorem dX2_takes_0 : decode cX2_takes 0 = .ok (.aload_n 0, 1) := dk_42 (dk_at dksX2_takes_0 0 rfl rfl)
theorem dX2_takes_1 : decode cX2_takes 1 = .ok (.getfield 21, 3) := dk_180 0 21 (dk_at dksX2_takes_0 1 rfl rfl)
theorem dX2_takes_4 : decode cX2_takes 4 = .ok (.aload_n 0, 1) := dk_42 (dk_at dksX2_takes_0 4 rfl rfl)
theorem dX2_takes_5 : decode cX2_takes 5 = .ok (.getfield 25, 3) := dk_180 0 25 (dk_at dksX2_takes_0 5 rfl rfl)
theorem dX2_takes_8 : decode cX2_takes 8 = .ok (.if_icmp .eq 16, 3) := dk_159 0 16 (dk_at dksX2_takes_0 8 rfl rfl)
theorem dX2_takes_11 : decode cX2_takes 11 = .ok (.aload_n 0, 1) := dk_42 (dk_at dksX2_takes_0 11 rfl rfl)
theorem dX2_takes_12 : decode cX2_takes 12 = .ok (.getfield 28, 3) := dk_180 0 28 (dk_at dksX2_takes_0 12 rfl rfl)
theorem dX2_takes_15 : decode cX2_takes 15 = .ok (.aload_n 0, 1) := dk_42 (dk_at dksX2_takes_0 15 rfl rfl)
theorem dX2_takes_16 : decode cX2_takes 16 = .ok (.getfield 21, 3) := dk_180 0 21 (dk_at dksX2_takes_0 16 rfl rfl)
theorem dX2_takes_19 : decode cX2_takes 19 = .ok (.baload, 1) := dk_51 (dk_at dksX2_takes_0 19 rfl rfl)
theorem dX2_takes_20 : decode cX2_takes 20 = .ok (.iload_n 1, 1) := dk_27 (dk_at dksX2_takes_0 20 rfl rfl)
theorem dX2_takes_21 : decode cX2_takes 21 = .ok (.if_icmp .eq 5, 3) := dk_159 0 5 (dk_at dksX2_takes_0 21 rfl rfl)
theorem dX2_takes_24 : decode cX2_takes 24 = .ok (.iconst 0, 1) := dk_3 (dk_at dksX2_takes_1 0 rfl rfl)
theorem dX2_takes_25 : decode cX2_takes 25 = .ok (.ireturn, 1) := dk_172 (dk_at dksX2_takes_1 1 rfl rfl)
theorem dX2_takes_26 : decode cX2_takes 26 = .ok (.aload_n 0, 1) := dk_42 (dk_at dksX2_takes_1 2 rfl rfl)
theorem dX2_takes_27 : decode cX2_takes 27 = .ok (.dup, 1) := dk_89 (dk_at dksX2_takes_1 3 rfl rfl)
theorem dX2_takes_28 : decode cX2_takes 28 = .ok (.getfield 21, 3) := dk_180 0 21 (dk_at dksX2_takes_1 4 rfl rfl)
theorem dX2_takes_31 : decode cX2_takes 31 = .ok (.iconst 1, 1) := dk_4 (dk_at dksX2_takes_1 7 rfl rfl)
theorem dX2_takes_32 : decode cX2_takes 32 = .ok (.iadd, 1) := dk_96 (dk_at dksX2_takes_1 8 rfl rfl)
theorem dX2_takes_33 : decode cX2_takes 33 = .ok (.putfield 21, 3) := dk_181 0 21 (dk_at dksX2_takes_1 9 rfl rfl)
theorem dX2_takes_36 : decode cX2_takes 36 = .ok (.iconst 1, 1) := dk_4 (dk_at dksX2_takes_1 12 rfl rfl)
theorem dX2_takes_37 : decode cX2_takes 37 = .ok (.ireturn, 1) := dk_172 (dk_at dksX2_takes_1 13 rfl rfl)
abbrev cX3_init : ByteArray := prog_11_method_1_code
def yX3_init : MethodName := ⟨RX3, "<init>", "()V"⟩
def dkwX3_init_0 : List UInt8 := [42, 183, 0, 3, 42, 17, 3, 32, 188, 8, 181, 0, 9, 177]
abbrev dktX3_init_0 : List UInt8 := dkwX3_init_0 ++ []
theorem dksX3_init_0 : cX3_init.data.toList.drop 0 = dktX3_init_0 := by decide +kernel
theorem dX3_init_0 : decode cX3_init 0 = .ok (.aload_n 0, 1) := dk_42 (dk_at dksX3_init_0 0 rfl rfl)
theorem dX3_init_1 : decode cX3_init 1 = .ok (.invokespecial 3, 3) := dk_183 0 3 (dk_at dksX3_init_0 1 rfl rfl)
theorem dX3_init_4 : decode cX3_init 4 = .ok (.aload_n 0, 1) := dk_42 (dk_at dksX3_init_0 4 rfl rfl)
theorem dX3_init_5 : decode cX3_init 5 = .ok (.sipush 800, 3) := dk_17 3 32 (dk_at dksX3_init_0 5 rfl rfl)
theorem dX3_init_8 : decode cX3_init 8 = .ok (.newarray .byte, 2) := dk_188_8 (dk_at dksX3_init_0 8 rfl rfl)
theorem dX3_init_10 : decode cX3_init 10 = .ok (.putfield 9, 3) := dk_181 0 9 (dk_at dksX3_init_0 10 rfl rfl)
theorem dX3_init_13 : decode cX3_init 13 = .ok (.return_, 1) := dk_177 (dk_at dksX3_init_0 13 rfl rfl)
abbrev cX3_node : ByteArray := prog_11_method_4_code
def yX3_node : MethodName := ⟨RX3, "node", "(LBranchMender$Node;)V"⟩
def dkwX3_node_3 : List UInt8 := [182, 0, 51, 132, 2, 1, 167, 255, 217, 43, 42, 182, 0, 55, 177]
abbrev dktX3_node_3 : List UInt8 := dkwX3_node_3 ++ []
def dkwX3_node_2 : List UInt8 := [28, 158, 0, 9, 42, 16, 44, 182, 0, 19, 42, 43, 180, 0, 38, 28, 182, 0, 47, 192, 0, 24]
abbrev dktX3_node_2 : List UInt8 := dkwX3_node_2 ++ dktX3_node_3
def dkwX3_node_1 : List UInt8 := [180, 0, 31, 182, 0, 28, 43, 42, 182, 0, 34, 3, 61, 28, 43, 180, 0, 38, 182, 0, 42, 162, 0, 34]
abbrev dktX3_node_1 : List UInt8 := dkwX3_node_1 ++ dktX3_node_2
def dkwX3_node_0 : List UInt8 := [42, 43, 180, 0, 23, 182, 0, 28, 43, 180, 0, 31, 190, 158, 0, 9, 42, 16, 61, 182, 0, 19, 42, 43]
abbrev dktX3_node_0 : List UInt8 := dkwX3_node_0 ++ dktX3_node_1
theorem dksX3_node_0 : cX3_node.data.toList.drop 0 = dktX3_node_0 := by decide +kernel
theorem dksX3_node_1 : cX3_node.data.toList.drop 24 = dktX3_node_1 := dk_seg dksX3_node_0 24 rfl rfl
theorem dksX3_node_2 : cX3_node.data.toList.drop 48 = dktX3_node_2 := dk_seg dksX3_node_1 24 rfl rfl
theorem dksX3_node_3 : cX3_node.data.toList.drop 70 = dktX3_node_3 := dk_seg dksX3_node_2 22 rfl rfl
theorem dX3_node_0 : decode cX3_node 0 = .ok (.aload_n 0, 1) := dk_42 (dk_at dksX3_node_0 0 rfl rfl)
theorem dX3_node_1 : decode cX3_node 1 = .ok (.aload_n 1, 1) := dk_43 (dk_at dksX3_node_0 1 rfl rfl)
theorem dX3_node_2 : decode cX3_node 2 = .ok (.getfield 23, 3) := dk_180 0 23 (dk_at dksX3_node_0 2 rfl rfl)
theorem dX3_node_5 : decode cX3_node 5 = .ok (.invokevirtual 28, 3) := dk_182 0 28 (dk_at dksX3_node_0 5 rfl rfl)
theorem dX3_node_8 : decode cX3_node 8 = .ok (.aload_n 1, 1) := dk_43 (dk_at dksX3_node_0 8 rfl rfl)
theorem dX3_node_9 : decode cX3_node 9 = .ok (.getfield 31, 3) := dk_180 0 31 (dk_at dksX3_node_0 9 rfl rfl)
theorem dX3_node_12 : decode cX3_node 12 = .ok (.arraylength, 1) := dk_190 (dk_at dksX3_node_0 12 rfl rfl)
theorem dX3_node_13 : decode cX3_node 13 = .ok (.ifCond .le 9, 3) := dk_158 0 9 (dk_at dksX3_node_0 13 rfl rfl)
theorem dX3_node_16 : decode cX3_node 16 = .ok (.aload_n 0, 1) := dk_42 (dk_at dksX3_node_0 16 rfl rfl)
theorem dX3_node_17 : decode cX3_node 17 = .ok (.bipush 61, 2) := dk_16 61 (dk_at dksX3_node_0 17 rfl rfl)
theorem dX3_node_19 : decode cX3_node 19 = .ok (.invokevirtual 19, 3) := dk_182 0 19 (dk_at dksX3_node_0 19 rfl rfl)
theorem dX3_node_22 : decode cX3_node 22 = .ok (.aload_n 0, 1) := dk_42 (dk_at dksX3_node_0 22 rfl rfl)
theorem dX3_node_23 : decode cX3_node 23 = .ok (.aload_n 1, 1) := dk_43 (dk_at dksX3_node_0 23 rfl rfl)
theorem dX3_node_24 : decode cX3_node 24 = .ok (.getfield 31, 3) := dk_180 0 31 (dk_at dksX3_node_1 0 rfl rfl)
theorem dX3_node_27 : decode cX3_node 27 = .ok (.invokevirtual 28, 3) := dk_182 0 28 (dk_at dksX3_node_1 3 rfl rfl)
theorem dX3_node_30 : decode cX3_node 30 = .ok (.aload_n 1, 1) := dk_43 (dk_at dksX3_node_1 6 rfl rfl)
theorem dX3_node_31 : decode cX3_node 31 = .ok (.aload_n 0, 1) := dk_42 (dk_at dksX3_node_1 7 rfl rfl)
theorem dX3_node_32 : decode cX3_node 32 = .ok (.invokevirtual 34, 3) := dk_182 0 34 (dk_at dksX3_node_1 8 rfl rfl)
theorem dX3_node_35 : decode cX3_node 35 = .ok (.iconst 0, 1) := dk_3 (dk_at dksX3_node_1 11 rfl rfl)
theorem dX3_node_36 : decode cX3_node 36 = .ok (.istore_n 2, 1) := dk_61 (dk_at dksX3_node_1 12 rfl rfl)
theorem dX3_node_37 : decode cX3_node 37 = .ok (.iload_n 2, 1) := dk_28 (dk_at dksX3_node_1 13 rfl rfl)
theorem dX3_node_38 : decode cX3_node 38 = .ok (.aload_n 1, 1) := dk_43 (dk_at dksX3_node_1 14 rfl rfl)
theorem dX3_node_39 : decode cX3_node 39 = .ok (.getfield 38, 3) := dk_180 0 38 (dk_at dksX3_node_1 15 rfl rfl)
theorem dX3_node_42 : decode cX3_node 42 = .ok (.invokevirtual 42, 3) := dk_182 0 42 (dk_at dksX3_node_1 18 rfl rfl)
theorem dX3_node_45 : decode cX3_node 45 = .ok (.if_icmp .ge 34, 3) := dk_162 0 34 (dk_at dksX3_node_1 21 rfl rfl)
theorem dX3_node_48 : decode cX3_node 48 = .ok (.iload_n 2, 1) := dk_28 (dk_at dksX3_node_2 0 rfl rfl)
theorem dX3_node_49 : decode cX3_node 49 = .ok (.ifCond .le 9, 3) := dk_158 0 9 (dk_at dksX3_node_2 1 rfl rfl)
theorem dX3_node_52 : decode cX3_node 52 = .ok (.aload_n 0, 1) := dk_42 (dk_at dksX3_node_2 4 rfl rfl)
theorem dX3_node_53 : decode cX3_node 53 = .ok (.bipush 44, 2) := dk_16 44 (dk_at dksX3_node_2 5 rfl rfl)
theorem dX3_node_55 : decode cX3_node 55 = .ok (.invokevirtual 19, 3) := dk_182 0 19 (dk_at dksX3_node_2 7 rfl rfl)
theorem dX3_node_58 : decode cX3_node 58 = .ok (.aload_n 0, 1) := dk_42 (dk_at dksX3_node_2 10 rfl rfl)
theorem dX3_node_59 : decode cX3_node 59 = .ok (.aload_n 1, 1) := dk_43 (dk_at dksX3_node_2 11 rfl rfl)
theorem dX3_node_60 : decode cX3_node 60 = .ok (.getfield 38, 3) := dk_180 0 38 (dk_at dksX3_node_2 12 rfl rfl)
theorem dX3_node_63 : decode cX3_node 63 = .ok (.iload_n 2, 1) := dk_28 (dk_at dksX3_node_2 15 rfl rfl)
theorem dX3_node_64 : decode cX3_node 64 = .ok (.invokevirtual 47, 3) := dk_182 0 47 (dk_at dksX3_node_2 16 rfl rfl)
theorem dX3_node_67 : decode cX3_node 67 = .ok (.checkcast 24, 3) := dk_192 0 24 (dk_at dksX3_node_2 19 rfl rfl)
theorem dX3_node_70 : decode cX3_node 70 = .ok (.invokevirtual 51, 3) := dk_182 0 51 (dk_at dksX3_node_3 0 rfl rfl)
theorem dX3_node_73 : decode cX3_node 73 = .ok (.iinc 2 1, 3) := dk_132 2 1 (dk_at dksX3_node_3 3 rfl rfl)
theorem dX3_node_76 : decode cX3_node 76 = .ok (.goto (-39), 3) := dk_167 255 217 (dk_at dksX3_node_3 6 rfl rfl)
theorem dX3_node_79 : decode cX3_node 79 = .ok (.aload_n 1, 1) := dk_43 (dk_at dksX3_node_3 9 rfl rfl)
theorem dX3_node_80 : decode cX3_node 80 = .ok (.aload_n 0, 1) := dk_42 (dk_at dksX3_node_3 10 rfl rfl)
theorem dX3_node_81 : decode cX3_node 81 = .ok (.invokevirtual 55, 3) := dk_182 0 55 (dk_at dksX3_node_3 11 rfl rfl)
theorem dX3_node_84 : decode cX3_node 84 = .ok (.return_, 1) := dk_177 (dk_at dksX3_node_3 14 rfl rfl)
abbrev cX3_say : ByteArray := prog_11_method_3_code
def yX3_say : MethodName := ⟨RX3, "say", "([B)V"⟩
def dkwX3_say_0 : List UInt8 := [3, 61, 28, 43, 190, 162, 0, 16, 42, 43, 28, 51, 182, 0, 19, 132, 2, 1, 167, 255, 240, 177]
abbrev dktX3_say_0 : List UInt8 := dkwX3_say_0 ++ []
theorem dksX3_say_0 : cX3_say.data.toList.drop 0 = dktX3_say_0 := by decide +kernel
theorem dX3_say_0 : decode cX3_say 0 = .ok (.iconst 0, 1) := dk_3 (dk_at dksX3_say_0 0 rfl rfl)
theorem dX3_say_1 : decode cX3_say 1 = .ok (.istore_n 2, 1) := dk_61 (dk_at dksX3_say_0 1 rfl rfl)
theorem dX3_say_2 : decode cX3_say 2 = .ok (.iload_n 2, 1) := dk_28 (dk_at dksX3_say_0 2 rfl rfl)
theorem dX3_say_3 : decode cX3_say 3 = .ok (.aload_n 1, 1) := dk_43 (dk_at dksX3_say_0 3 rfl rfl)
theorem dX3_say_4 : decode cX3_say 4 = .ok (.arraylength, 1) := dk_190 (dk_at dksX3_say_0 4 rfl rfl)
theorem dX3_say_5 : decode cX3_say 5 = .ok (.if_icmp .ge 16, 3) := dk_162 0 16 (dk_at dksX3_say_0 5 rfl rfl)
theorem dX3_say_8 : decode cX3_say 8 = .ok (.aload_n 0, 1) := dk_42 (dk_at dksX3_say_0 8 rfl rfl)
theorem dX3_say_9 : decode cX3_say 9 = .ok (.aload_n 1, 1) := dk_43 (dk_at dksX3_say_0 9 rfl rfl)
theorem dX3_say_10 : decode cX3_say 10 = .ok (.iload_n 2, 1) := dk_28 (dk_at dksX3_say_0 10 rfl rfl)
theorem dX3_say_11 : decode cX3_say 11 = .ok (.baload, 1) := dk_51 (dk_at dksX3_say_0 11 rfl rfl)
theorem dX3_say_12 : decode cX3_say 12 = .ok (.invokevirtual 19, 3) := dk_182 0 19 (dk_at dksX3_say_0 12 rfl rfl)
theorem dX3_say_15 : decode cX3_say 15 = .ok (.iinc 2 1, 3) := dk_132 2 1 (dk_at dksX3_say_0 15 rfl rfl)
theorem dX3_say_18 : decode cX3_say 18 = .ok (.goto (-16), 3) := dk_167 255 240 (dk_at dksX3_say_0 18 rfl rfl)
theorem dX3_say_21 : decode cX3_say 21 = .ok (.return_, 1) := dk_177 (dk_at dksX3_say_0 21 rfl rfl)
abbrev cX3_say_2 : ByteArray := prog_11_method_2_code
def yX3_say_2 : MethodName := ⟨RX3, "say", "(I)V"⟩
def dkwX3_say_2_0 : List UInt8 := [42, 180, 0, 9, 42, 180, 0, 15, 27, 145, 84, 42, 89, 180, 0, 15, 4, 96, 181, 0, 15, 177]
abbrev dktX3_say_2_0 : List UInt8 := dkwX3_say_2_0 ++ []
theorem dksX3_say_2_0 : cX3_say_2.data.toList.drop 0 = dktX3_say_2_0 := by decide +kernel
theorem dX3_say_2_0 : decode cX3_say_2 0 = .ok (.aload_n 0, 1) := dk_42 (dk_at dksX3_say_2_0 0 rfl rfl)
theorem dX3_say_2_1 : decode cX3_say_2 1 = .ok (.getfield 9, 3) := dk_180 0 9 (dk_at dksX3_say_2_0 1 rfl rfl)
theorem dX3_say_2_4 : decode cX3_say_2 4 = .ok (.aload_n 0, 1) := dk_42 (dk_at dksX3_say_2_0 4 rfl rfl)
theorem dX3_say_2_5 : decode cX3_say_2 5 = .ok (.getfield 15, 3) := dk_180 0 15 (dk_at dksX3_say_2_0 5 rfl rfl)
theorem dX3_say_2_8 : decode cX3_say_2 8 = .ok (.iload_n 1, 1) := dk_27 (dk_at dksX3_say_2_0 8 rfl rfl)
theorem dX3_say_2_9 : decode cX3_say_2 9 = .ok (.i2b, 1) := dk_145 (dk_at dksX3_say_2_0 9 rfl rfl)
theorem dX3_say_2_10 : decode cX3_say_2 10 = .ok (.bastore, 1) := dk_84 (dk_at dksX3_say_2_0 10 rfl rfl)
theorem dX3_say_2_11 : decode cX3_say_2 11 = .ok (.aload_n 0, 1) := dk_42 (dk_at dksX3_say_2_0 11 rfl rfl)
theorem dX3_say_2_12 : decode cX3_say_2 12 = .ok (.dup, 1) := dk_89 (dk_at dksX3_say_2_0 12 rfl rfl)
theorem dX3_say_2_13 : decode cX3_say_2 13 = .ok (.getfield 15, 3) := dk_180 0 15 (dk_at dksX3_say_2_0 13 rfl rfl)
theorem dX3_say_2_16 : decode cX3_say_2 16 = .ok (.iconst 1, 1) := dk_4 (dk_at dksX3_say_2_0 16 rfl rfl)
theorem dX3_say_2_17 : decode cX3_say_2 17 = .ok (.iadd, 1) := dk_96 (dk_at dksX3_say_2_0 17 rfl rfl)
theorem dX3_say_2_18 : decode cX3_say_2 18 = .ok (.putfield 15, 3) := dk_181 0 15 (dk_at dksX3_say_2_0 18 rfl rfl)
theorem dX3_say_2_21 : decode cX3_say_2 21 = .ok (.return_, 1) := dk_177 (dk_at dksX3_say_2_0 21 rfl rfl)
abbrev cX5_init : ByteArray := prog_7_method_1_code
def yX5_init : MethodName := ⟨RX5, "<init>", "()V"⟩
def dkwX5_init_0 : List UInt8 := [42, 183, 0, 3, 42, 16, 60, 189, 0, 9, 181, 0, 11, 177]
abbrev dktX5_init_0 : List UInt8 := dkwX5_init_0 ++ []
theorem dksX5_init_0 : cX5_init.data.toList.drop 0 = dktX5_init_0 := by decide +kernel
theorem dX5_init_0 : decode cX5_init 0 = .ok (.aload_n 0, 1) := dk_42 (dk_at dksX5_init_0 0 rfl rfl)
theorem dX5_init_1 : decode cX5_init 1 = .ok (.invokespecial 3, 3) := dk_183 0 3 (dk_at dksX5_init_0 1 rfl rfl)
theorem dX5_init_4 : decode cX5_init 4 = .ok (.aload_n 0, 1) := dk_42 (dk_at dksX5_init_0 4 rfl rfl)
theorem dX5_init_5 : decode cX5_init 5 = .ok (.bipush 60, 2) := dk_16 60 (dk_at dksX5_init_0 5 rfl rfl)
theorem dX5_init_7 : decode cX5_init 7 = .ok (.anewarray 9, 3) := dk_189 0 9 (dk_at dksX5_init_0 7 rfl rfl)
theorem dX5_init_10 : decode cX5_init 10 = .ok (.putfield 11, 3) := dk_181 0 11 (dk_at dksX5_init_0 10 rfl rfl)
theorem dX5_init_13 : decode cX5_init 13 = .ok (.return_, 1) := dk_177 (dk_at dksX5_init_0 13 rfl rfl)
abbrev cX5_clear : ByteArray := prog_7_method_2_code
def yX5_clear : MethodName := ⟨RX5, "clear", "()V"⟩
def dkwX5_clear_0 : List UInt8 := [42, 3, 181, 0, 17, 177]
abbrev dktX5_clear_0 : List UInt8 := dkwX5_clear_0 ++ []
theorem dksX5_clear_0 : cX5_clear.data.toList.drop 0 = dktX5_clear_0 := by decide +kernel
theorem dX5_clear_0 : decode cX5_clear 0 = .ok (.aload_n 0, 1) := dk_42 (dk_at dksX5_clear_0 0 rfl rfl)
theorem dX5_clear_1 : decode cX5_clear 1 = .ok (.iconst 0, 1) := dk_3 (dk_at dksX5_clear_0 1 rfl rfl)
theorem dX5_clear_2 : decode cX5_clear 2 = .ok (.putfield 17, 3) := dk_181 0 17 (dk_at dksX5_clear_0 2 rfl rfl)
theorem dX5_clear_5 : decode cX5_clear 5 = .ok (.return_, 1) := dk_177 (dk_at dksX5_clear_0 5 rfl rfl)
abbrev cX5_number : ByteArray := prog_7_method_3_code
def yX5_number : MethodName := ⟨RX5, "number", "(LBranchMender$Tree;)V"⟩
def dkwX5_number_1 : List UInt8 := [182, 0, 30, 181, 0, 34, 132, 2, 1, 167, 255, 226, 177]
abbrev dktX5_number_1 : List UInt8 := dkwX5_number_1 ++ []
def dkwX5_number_0 : List UInt8 := [3, 61, 28, 43, 180, 0, 21, 162, 0, 28, 43, 180, 0, 26, 28, 50, 42, 43, 180, 0, 26, 28, 50]
abbrev dktX5_number_0 : List UInt8 := dkwX5_number_0 ++ dktX5_number_1
theorem dksX5_number_0 : cX5_number.data.toList.drop 0 = dktX5_number_0 := by decide +kernel
theorem dksX5_number_1 : cX5_number.data.toList.drop 23 = dktX5_number_1 := dk_seg dksX5_number_0 23 rfl rfl
theorem dX5_number_0 : decode cX5_number 0 = .ok (.iconst 0, 1) := dk_3 (dk_at dksX5_number_0 0 rfl rfl)
theorem dX5_number_1 : decode cX5_number 1 = .ok (.istore_n 2, 1) := dk_61 (dk_at dksX5_number_0 1 rfl rfl)
theorem dX5_number_2 : decode cX5_number 2 = .ok (.iload_n 2, 1) := dk_28 (dk_at dksX5_number_0 2 rfl rfl)
theorem dX5_number_3 : decode cX5_number 3 = .ok (.aload_n 1, 1) := dk_43 (dk_at dksX5_number_0 3 rfl rfl)
theorem dX5_number_4 : decode cX5_number 4 = .ok (.getfield 21, 3) := dk_180 0 21 (dk_at dksX5_number_0 4 rfl rfl)
theorem dX5_number_7 : decode cX5_number 7 = .ok (.if_icmp .ge 28, 3) := dk_162 0 28 (dk_at dksX5_number_0 7 rfl rfl)
theorem dX5_number_10 : decode cX5_number 10 = .ok (.aload_n 1, 1) := dk_43 (dk_at dksX5_number_0 10 rfl rfl)
theorem dX5_number_11 : decode cX5_number 11 = .ok (.getfield 26, 3) := dk_180 0 26 (dk_at dksX5_number_0 11 rfl rfl)
theorem dX5_number_14 : decode cX5_number 14 = .ok (.iload_n 2, 1) := dk_28 (dk_at dksX5_number_0 14 rfl rfl)
theorem dX5_number_15 : decode cX5_number 15 = .ok (.aaload, 1) := dk_50 (dk_at dksX5_number_0 15 rfl rfl)
theorem dX5_number_16 : decode cX5_number 16 = .ok (.aload_n 0, 1) := dk_42 (dk_at dksX5_number_0 16 rfl rfl)
theorem dX5_number_17 : decode cX5_number 17 = .ok (.aload_n 1, 1) := dk_43 (dk_at dksX5_number_0 17 rfl rfl)
theorem dX5_number_18 : decode cX5_number 18 = .ok (.getfield 26, 3) := dk_180 0 26 (dk_at dksX5_number_0 18 rfl rfl)
theorem dX5_number_21 : decode cX5_number 21 = .ok (.iload_n 2, 1) := dk_28 (dk_at dksX5_number_0 21 rfl rfl)
theorem dX5_number_22 : decode cX5_number 22 = .ok (.aaload, 1) := dk_50 (dk_at dksX5_number_0 22 rfl rfl)
theorem dX5_number_23 : decode cX5_number 23 = .ok (.invokevirtual 30, 3) := dk_182 0 30 (dk_at dksX5_number_1 0 rfl rfl)
theorem dX5_number_26 : decode cX5_number 26 = .ok (.putfield 34, 3) := dk_181 0 34 (dk_at dksX5_number_1 3 rfl rfl)
theorem dX5_number_29 : decode cX5_number 29 = .ok (.iinc 2 1, 3) := dk_132 2 1 (dk_at dksX5_number_1 6 rfl rfl)
theorem dX5_number_32 : decode cX5_number 32 = .ok (.goto (-30), 3) := dk_167 255 226 (dk_at dksX5_number_1 9 rfl rfl)
theorem dX5_number_35 : decode cX5_number 35 = .ok (.return_, 1) := dk_177 (dk_at dksX5_number_1 12 rfl rfl)
abbrev cX5_which : ByteArray := prog_7_method_4_code
def yX5_which : MethodName := ⟨RX5, "which", "(LBranchMender$Node;)I"⟩
def dkwX5_which_10 : List UInt8 := [180, 0, 17, 4, 96, 181, 0, 17, 42, 180, 0, 17, 4, 100, 172]
abbrev dktX5_which_10 : List UInt8 := dkwX5_which_10 ++ []
def dkwX5_which_9 : List UInt8 := [153, 0, 6, 21, 5, 172, 132, 5, 1, 167, 255, 227, 42, 180, 0, 11, 42, 180, 0, 17, 45, 83, 42, 89]
abbrev dktX5_which_9 : List UInt8 := dkwX5_which_9 ++ dktX5_which_10
def dkwX5_which_8 : List UInt8 := [54, 5, 21, 5, 42, 180, 0, 17, 162, 0, 26, 42, 180, 0, 11, 21, 5, 50, 45, 184, 0, 69]
abbrev dktX5_which_8 : List UInt8 := dkwX5_which_8 ++ dktX5_which_9
def dkwX5_which_7 : List UInt8 := [180, 0, 34, 79, 132, 5, 1, 167, 255, 225, 43, 182, 0, 61, 154, 0, 9, 45, 21, 4, 184, 0, 65, 3]
abbrev dktX5_which_7 : List UInt8 := dkwX5_which_7 ++ dktX5_which_8
def dkwX5_which_6 : List UInt8 := [21, 5, 28, 162, 0, 31, 45, 21, 4, 21, 5, 96, 43, 180, 0, 38, 21, 5, 182, 0, 57, 192, 0, 35]
abbrev dktX5_which_6 : List UInt8 := dkwX5_which_6 ++ dktX5_which_7
def dkwX5_which_5 : List UInt8 := [21, 5, 51, 79, 132, 5, 1, 167, 255, 229, 21, 4, 43, 180, 0, 51, 190, 96, 54, 4, 3, 54, 5]
abbrev dktX5_which_5 : List UInt8 := dkwX5_which_5 ++ dktX5_which_6
def dkwX5_which_4 : List UInt8 := [3, 54, 5, 21, 5, 43, 180, 0, 51, 190, 162, 0, 23, 45, 21, 4, 21, 5, 96, 43, 180, 0, 51]
abbrev dktX5_which_4 : List UInt8 := dkwX5_which_4 ++ dktX5_which_5
def dkwX5_which_3 : List UInt8 := [43, 180, 0, 47, 21, 5, 51, 79, 132, 5, 1, 167, 255, 229, 21, 4, 43, 180, 0, 47, 190, 96, 54, 4]
abbrev dktX5_which_3 : List UInt8 := dkwX5_which_3 ++ dktX5_which_4
def dkwX5_which_2 : List UInt8 := [190, 79, 6, 54, 4, 3, 54, 5, 21, 5, 43, 180, 0, 47, 190, 162, 0, 23, 45, 21, 4, 21, 5, 96]
abbrev dktX5_which_2 : List UInt8 := dkwX5_which_2 ++ dktX5_which_3
def dkwX5_which_1 : List UInt8 := [188, 10, 78, 45, 3, 43, 182, 0, 54, 79, 45, 4, 43, 180, 0, 47, 190, 79, 45, 5, 43, 180, 0, 51]
abbrev dktX5_which_1 : List UInt8 := dkwX5_which_1 ++ dktX5_which_2
def dkwX5_which_0 : List UInt8 := [43, 180, 0, 38, 182, 0, 42, 61, 6, 43, 180, 0, 47, 190, 96, 43, 180, 0, 51, 190, 96, 28, 96]
abbrev dktX5_which_0 : List UInt8 := dkwX5_which_0 ++ dktX5_which_1
theorem dksX5_which_0 : cX5_which.data.toList.drop 0 = dktX5_which_0 := by decide +kernel
theorem dksX5_which_1 : cX5_which.data.toList.drop 23 = dktX5_which_1 := dk_seg dksX5_which_0 23 rfl rfl
theorem dksX5_which_2 : cX5_which.data.toList.drop 47 = dktX5_which_2 := dk_seg dksX5_which_1 24 rfl rfl
theorem dksX5_which_3 : cX5_which.data.toList.drop 71 = dktX5_which_3 := dk_seg dksX5_which_2 24 rfl rfl
theorem dksX5_which_4 : cX5_which.data.toList.drop 95 = dktX5_which_4 := dk_seg dksX5_which_3 24 rfl rfl
theorem dksX5_which_5 : cX5_which.data.toList.drop 118 = dktX5_which_5 := dk_seg dksX5_which_4 23 rfl rfl
theorem dksX5_which_6 : cX5_which.data.toList.drop 141 = dktX5_which_6 := dk_seg dksX5_which_5 23 rfl rfl
theorem dksX5_which_7 : cX5_which.data.toList.drop 165 = dktX5_which_7 := dk_seg dksX5_which_6 24 rfl rfl
theorem dksX5_which_8 : cX5_which.data.toList.drop 189 = dktX5_which_8 := dk_seg dksX5_which_7 24 rfl rfl
theorem dksX5_which_9 : cX5_which.data.toList.drop 211 = dktX5_which_9 := dk_seg dksX5_which_8 22 rfl rfl
theorem dksX5_which_10 : cX5_which.data.toList.drop 235 = dktX5_which_10 := dk_seg dksX5_which_9 24 rfl rfl
theorem dX5_which_0 : decode cX5_which 0 = .ok (.aload_n 1, 1) := dk_43 (dk_at dksX5_which_0 0 rfl rfl)
theorem dX5_which_1 : decode cX5_which 1 = .ok (.getfield 38, 3) := dk_180 0 38 (dk_at dksX5_which_0 1 rfl rfl)
theorem dX5_which_4 : decode cX5_which 4 = .ok (.invokevirtual 42, 3) := dk_182 0 42 (dk_at dksX5_which_0 4 rfl rfl)
theorem dX5_which_7 : decode cX5_which 7 = .ok (.istore_n 2, 1) := dk_61 (dk_at dksX5_which_0 7 rfl rfl)
theorem dX5_which_8 : decode cX5_which 8 = .ok (.iconst 3, 1) := dk_6 (dk_at dksX5_which_0 8 rfl rfl)
theorem dX5_which_9 : decode cX5_which 9 = .ok (.aload_n 1, 1) := dk_43 (dk_at dksX5_which_0 9 rfl rfl)
theorem dX5_which_10 : decode cX5_which 10 = .ok (.getfield 47, 3) := dk_180 0 47 (dk_at dksX5_which_0 10 rfl rfl)
theorem dX5_which_13 : decode cX5_which 13 = .ok (.arraylength, 1) := dk_190 (dk_at dksX5_which_0 13 rfl rfl)
theorem dX5_which_14 : decode cX5_which 14 = .ok (.iadd, 1) := dk_96 (dk_at dksX5_which_0 14 rfl rfl)
theorem dX5_which_15 : decode cX5_which 15 = .ok (.aload_n 1, 1) := dk_43 (dk_at dksX5_which_0 15 rfl rfl)
theorem dX5_which_16 : decode cX5_which 16 = .ok (.getfield 51, 3) := dk_180 0 51 (dk_at dksX5_which_0 16 rfl rfl)
theorem dX5_which_19 : decode cX5_which 19 = .ok (.arraylength, 1) := dk_190 (dk_at dksX5_which_0 19 rfl rfl)
theorem dX5_which_20 : decode cX5_which 20 = .ok (.iadd, 1) := dk_96 (dk_at dksX5_which_0 20 rfl rfl)
theorem dX5_which_21 : decode cX5_which 21 = .ok (.iload_n 2, 1) := dk_28 (dk_at dksX5_which_0 21 rfl rfl)
theorem dX5_which_22 : decode cX5_which 22 = .ok (.iadd, 1) := dk_96 (dk_at dksX5_which_0 22 rfl rfl)
theorem dX5_which_23 : decode cX5_which 23 = .ok (.newarray .int, 2) := dk_188_10 (dk_at dksX5_which_1 0 rfl rfl)
theorem dX5_which_25 : decode cX5_which 25 = .ok (.astore_n 3, 1) := dk_78 (dk_at dksX5_which_1 2 rfl rfl)
theorem dX5_which_26 : decode cX5_which 26 = .ok (.aload_n 3, 1) := dk_45 (dk_at dksX5_which_1 3 rfl rfl)
theorem dX5_which_27 : decode cX5_which 27 = .ok (.iconst 0, 1) := dk_3 (dk_at dksX5_which_1 4 rfl rfl)
theorem dX5_which_28 : decode cX5_which 28 = .ok (.aload_n 1, 1) := dk_43 (dk_at dksX5_which_1 5 rfl rfl)
theorem dX5_which_29 : decode cX5_which 29 = .ok (.invokevirtual 54, 3) := dk_182 0 54 (dk_at dksX5_which_1 6 rfl rfl)
theorem dX5_which_32 : decode cX5_which 32 = .ok (.iastore, 1) := dk_79 (dk_at dksX5_which_1 9 rfl rfl)
theorem dX5_which_33 : decode cX5_which 33 = .ok (.aload_n 3, 1) := dk_45 (dk_at dksX5_which_1 10 rfl rfl)
theorem dX5_which_34 : decode cX5_which 34 = .ok (.iconst 1, 1) := dk_4 (dk_at dksX5_which_1 11 rfl rfl)
theorem dX5_which_35 : decode cX5_which 35 = .ok (.aload_n 1, 1) := dk_43 (dk_at dksX5_which_1 12 rfl rfl)
theorem dX5_which_36 : decode cX5_which 36 = .ok (.getfield 47, 3) := dk_180 0 47 (dk_at dksX5_which_1 13 rfl rfl)
theorem dX5_which_39 : decode cX5_which 39 = .ok (.arraylength, 1) := dk_190 (dk_at dksX5_which_1 16 rfl rfl)
theorem dX5_which_40 : decode cX5_which 40 = .ok (.iastore, 1) := dk_79 (dk_at dksX5_which_1 17 rfl rfl)
theorem dX5_which_41 : decode cX5_which 41 = .ok (.aload_n 3, 1) := dk_45 (dk_at dksX5_which_1 18 rfl rfl)
theorem dX5_which_42 : decode cX5_which 42 = .ok (.iconst 2, 1) := dk_5 (dk_at dksX5_which_1 19 rfl rfl)
theorem dX5_which_43 : decode cX5_which 43 = .ok (.aload_n 1, 1) := dk_43 (dk_at dksX5_which_1 20 rfl rfl)
theorem dX5_which_44 : decode cX5_which 44 = .ok (.getfield 51, 3) := dk_180 0 51 (dk_at dksX5_which_1 21 rfl rfl)
theorem dX5_which_47 : decode cX5_which 47 = .ok (.arraylength, 1) := dk_190 (dk_at dksX5_which_2 0 rfl rfl)
theorem dX5_which_48 : decode cX5_which 48 = .ok (.iastore, 1) := dk_79 (dk_at dksX5_which_2 1 rfl rfl)
theorem dX5_which_49 : decode cX5_which 49 = .ok (.iconst 3, 1) := dk_6 (dk_at dksX5_which_2 2 rfl rfl)
theorem dX5_which_50 : decode cX5_which 50 = .ok (.istore 4, 2) := dk_54 4 (dk_at dksX5_which_2 3 rfl rfl)
theorem dX5_which_52 : decode cX5_which 52 = .ok (.iconst 0, 1) := dk_3 (dk_at dksX5_which_2 5 rfl rfl)
theorem dX5_which_53 : decode cX5_which 53 = .ok (.istore 5, 2) := dk_54 5 (dk_at dksX5_which_2 6 rfl rfl)
theorem dX5_which_55 : decode cX5_which 55 = .ok (.iload 5, 2) := dk_21 5 (dk_at dksX5_which_2 8 rfl rfl)
theorem dX5_which_57 : decode cX5_which 57 = .ok (.aload_n 1, 1) := dk_43 (dk_at dksX5_which_2 10 rfl rfl)
theorem dX5_which_58 : decode cX5_which 58 = .ok (.getfield 47, 3) := dk_180 0 47 (dk_at dksX5_which_2 11 rfl rfl)
theorem dX5_which_61 : decode cX5_which 61 = .ok (.arraylength, 1) := dk_190 (dk_at dksX5_which_2 14 rfl rfl)
theorem dX5_which_62 : decode cX5_which 62 = .ok (.if_icmp .ge 23, 3) := dk_162 0 23 (dk_at dksX5_which_2 15 rfl rfl)
theorem dX5_which_65 : decode cX5_which 65 = .ok (.aload_n 3, 1) := dk_45 (dk_at dksX5_which_2 18 rfl rfl)
theorem dX5_which_66 : decode cX5_which 66 = .ok (.iload 4, 2) := dk_21 4 (dk_at dksX5_which_2 19 rfl rfl)
theorem dX5_which_68 : decode cX5_which 68 = .ok (.iload 5, 2) := dk_21 5 (dk_at dksX5_which_2 21 rfl rfl)
theorem dX5_which_70 : decode cX5_which 70 = .ok (.iadd, 1) := dk_96 (dk_at dksX5_which_2 23 rfl rfl)
theorem dX5_which_71 : decode cX5_which 71 = .ok (.aload_n 1, 1) := dk_43 (dk_at dksX5_which_3 0 rfl rfl)
theorem dX5_which_72 : decode cX5_which 72 = .ok (.getfield 47, 3) := dk_180 0 47 (dk_at dksX5_which_3 1 rfl rfl)
theorem dX5_which_75 : decode cX5_which 75 = .ok (.iload 5, 2) := dk_21 5 (dk_at dksX5_which_3 4 rfl rfl)
theorem dX5_which_77 : decode cX5_which 77 = .ok (.baload, 1) := dk_51 (dk_at dksX5_which_3 6 rfl rfl)
theorem dX5_which_78 : decode cX5_which 78 = .ok (.iastore, 1) := dk_79 (dk_at dksX5_which_3 7 rfl rfl)
theorem dX5_which_79 : decode cX5_which 79 = .ok (.iinc 5 1, 3) := dk_132 5 1 (dk_at dksX5_which_3 8 rfl rfl)
theorem dX5_which_82 : decode cX5_which 82 = .ok (.goto (-27), 3) := dk_167 255 229 (dk_at dksX5_which_3 11 rfl rfl)
theorem dX5_which_85 : decode cX5_which 85 = .ok (.iload 4, 2) := dk_21 4 (dk_at dksX5_which_3 14 rfl rfl)
theorem dX5_which_87 : decode cX5_which 87 = .ok (.aload_n 1, 1) := dk_43 (dk_at dksX5_which_3 16 rfl rfl)
theorem dX5_which_88 : decode cX5_which 88 = .ok (.getfield 47, 3) := dk_180 0 47 (dk_at dksX5_which_3 17 rfl rfl)
theorem dX5_which_91 : decode cX5_which 91 = .ok (.arraylength, 1) := dk_190 (dk_at dksX5_which_3 20 rfl rfl)
theorem dX5_which_92 : decode cX5_which 92 = .ok (.iadd, 1) := dk_96 (dk_at dksX5_which_3 21 rfl rfl)
theorem dX5_which_93 : decode cX5_which 93 = .ok (.istore 4, 2) := dk_54 4 (dk_at dksX5_which_3 22 rfl rfl)
theorem dX5_which_95 : decode cX5_which 95 = .ok (.iconst 0, 1) := dk_3 (dk_at dksX5_which_4 0 rfl rfl)
theorem dX5_which_96 : decode cX5_which 96 = .ok (.istore 5, 2) := dk_54 5 (dk_at dksX5_which_4 1 rfl rfl)
theorem dX5_which_98 : decode cX5_which 98 = .ok (.iload 5, 2) := dk_21 5 (dk_at dksX5_which_4 3 rfl rfl)
theorem dX5_which_100 : decode cX5_which 100 = .ok (.aload_n 1, 1) := dk_43 (dk_at dksX5_which_4 5 rfl rfl)
theorem dX5_which_101 : decode cX5_which 101 = .ok (.getfield 51, 3) := dk_180 0 51 (dk_at dksX5_which_4 6 rfl rfl)
theorem dX5_which_104 : decode cX5_which 104 = .ok (.arraylength, 1) := dk_190 (dk_at dksX5_which_4 9 rfl rfl)
theorem dX5_which_105 : decode cX5_which 105 = .ok (.if_icmp .ge 23, 3) := dk_162 0 23 (dk_at dksX5_which_4 10 rfl rfl)
theorem dX5_which_108 : decode cX5_which 108 = .ok (.aload_n 3, 1) := dk_45 (dk_at dksX5_which_4 13 rfl rfl)
theorem dX5_which_109 : decode cX5_which 109 = .ok (.iload 4, 2) := dk_21 4 (dk_at dksX5_which_4 14 rfl rfl)
theorem dX5_which_111 : decode cX5_which 111 = .ok (.iload 5, 2) := dk_21 5 (dk_at dksX5_which_4 16 rfl rfl)
theorem dX5_which_113 : decode cX5_which 113 = .ok (.iadd, 1) := dk_96 (dk_at dksX5_which_4 18 rfl rfl)
theorem dX5_which_114 : decode cX5_which 114 = .ok (.aload_n 1, 1) := dk_43 (dk_at dksX5_which_4 19 rfl rfl)
theorem dX5_which_115 : decode cX5_which 115 = .ok (.getfield 51, 3) := dk_180 0 51 (dk_at dksX5_which_4 20 rfl rfl)
theorem dX5_which_118 : decode cX5_which 118 = .ok (.iload 5, 2) := dk_21 5 (dk_at dksX5_which_5 0 rfl rfl)
theorem dX5_which_120 : decode cX5_which 120 = .ok (.baload, 1) := dk_51 (dk_at dksX5_which_5 2 rfl rfl)
theorem dX5_which_121 : decode cX5_which 121 = .ok (.iastore, 1) := dk_79 (dk_at dksX5_which_5 3 rfl rfl)
theorem dX5_which_122 : decode cX5_which 122 = .ok (.iinc 5 1, 3) := dk_132 5 1 (dk_at dksX5_which_5 4 rfl rfl)
theorem dX5_which_125 : decode cX5_which 125 = .ok (.goto (-27), 3) := dk_167 255 229 (dk_at dksX5_which_5 7 rfl rfl)
theorem dX5_which_128 : decode cX5_which 128 = .ok (.iload 4, 2) := dk_21 4 (dk_at dksX5_which_5 10 rfl rfl)
theorem dX5_which_130 : decode cX5_which 130 = .ok (.aload_n 1, 1) := dk_43 (dk_at dksX5_which_5 12 rfl rfl)
theorem dX5_which_131 : decode cX5_which 131 = .ok (.getfield 51, 3) := dk_180 0 51 (dk_at dksX5_which_5 13 rfl rfl)
theorem dX5_which_134 : decode cX5_which 134 = .ok (.arraylength, 1) := dk_190 (dk_at dksX5_which_5 16 rfl rfl)
theorem dX5_which_135 : decode cX5_which 135 = .ok (.iadd, 1) := dk_96 (dk_at dksX5_which_5 17 rfl rfl)
theorem dX5_which_136 : decode cX5_which 136 = .ok (.istore 4, 2) := dk_54 4 (dk_at dksX5_which_5 18 rfl rfl)
theorem dX5_which_138 : decode cX5_which 138 = .ok (.iconst 0, 1) := dk_3 (dk_at dksX5_which_5 20 rfl rfl)
theorem dX5_which_139 : decode cX5_which 139 = .ok (.istore 5, 2) := dk_54 5 (dk_at dksX5_which_5 21 rfl rfl)
theorem dX5_which_141 : decode cX5_which 141 = .ok (.iload 5, 2) := dk_21 5 (dk_at dksX5_which_6 0 rfl rfl)
theorem dX5_which_143 : decode cX5_which 143 = .ok (.iload_n 2, 1) := dk_28 (dk_at dksX5_which_6 2 rfl rfl)
theorem dX5_which_144 : decode cX5_which 144 = .ok (.if_icmp .ge 31, 3) := dk_162 0 31 (dk_at dksX5_which_6 3 rfl rfl)
theorem dX5_which_147 : decode cX5_which 147 = .ok (.aload_n 3, 1) := dk_45 (dk_at dksX5_which_6 6 rfl rfl)
theorem dX5_which_148 : decode cX5_which 148 = .ok (.iload 4, 2) := dk_21 4 (dk_at dksX5_which_6 7 rfl rfl)
theorem dX5_which_150 : decode cX5_which 150 = .ok (.iload 5, 2) := dk_21 5 (dk_at dksX5_which_6 9 rfl rfl)
theorem dX5_which_152 : decode cX5_which 152 = .ok (.iadd, 1) := dk_96 (dk_at dksX5_which_6 11 rfl rfl)
theorem dX5_which_153 : decode cX5_which 153 = .ok (.aload_n 1, 1) := dk_43 (dk_at dksX5_which_6 12 rfl rfl)
theorem dX5_which_154 : decode cX5_which 154 = .ok (.getfield 38, 3) := dk_180 0 38 (dk_at dksX5_which_6 13 rfl rfl)
theorem dX5_which_157 : decode cX5_which 157 = .ok (.iload 5, 2) := dk_21 5 (dk_at dksX5_which_6 16 rfl rfl)
theorem dX5_which_159 : decode cX5_which 159 = .ok (.invokevirtual 57, 3) := dk_182 0 57 (dk_at dksX5_which_6 18 rfl rfl)
theorem dX5_which_162 : decode cX5_which 162 = .ok (.checkcast 35, 3) := dk_192 0 35 (dk_at dksX5_which_6 21 rfl rfl)
theorem dX5_which_165 : decode cX5_which 165 = .ok (.getfield 34, 3) := dk_180 0 34 (dk_at dksX5_which_7 0 rfl rfl)
theorem dX5_which_168 : decode cX5_which 168 = .ok (.iastore, 1) := dk_79 (dk_at dksX5_which_7 3 rfl rfl)
theorem dX5_which_169 : decode cX5_which 169 = .ok (.iinc 5 1, 3) := dk_132 5 1 (dk_at dksX5_which_7 4 rfl rfl)
theorem dX5_which_172 : decode cX5_which 172 = .ok (.goto (-31), 3) := dk_167 255 225 (dk_at dksX5_which_7 7 rfl rfl)
theorem dX5_which_175 : decode cX5_which 175 = .ok (.aload_n 1, 1) := dk_43 (dk_at dksX5_which_7 10 rfl rfl)
theorem dX5_which_176 : decode cX5_which 176 = .ok (.invokevirtual 61, 3) := dk_182 0 61 (dk_at dksX5_which_7 11 rfl rfl)
theorem dX5_which_179 : decode cX5_which 179 = .ok (.ifCond .ne 9, 3) := dk_154 0 9 (dk_at dksX5_which_7 14 rfl rfl)
theorem dX5_which_182 : decode cX5_which 182 = .ok (.aload_n 3, 1) := dk_45 (dk_at dksX5_which_7 17 rfl rfl)
theorem dX5_which_183 : decode cX5_which 183 = .ok (.iload 4, 2) := dk_21 4 (dk_at dksX5_which_7 18 rfl rfl)
theorem dX5_which_185 : decode cX5_which 185 = .ok (.invokestatic 65, 3) := dk_184 0 65 (dk_at dksX5_which_7 20 rfl rfl)
theorem dX5_which_188 : decode cX5_which 188 = .ok (.iconst 0, 1) := dk_3 (dk_at dksX5_which_7 23 rfl rfl)
theorem dX5_which_189 : decode cX5_which 189 = .ok (.istore 5, 2) := dk_54 5 (dk_at dksX5_which_8 0 rfl rfl)
theorem dX5_which_191 : decode cX5_which 191 = .ok (.iload 5, 2) := dk_21 5 (dk_at dksX5_which_8 2 rfl rfl)
theorem dX5_which_193 : decode cX5_which 193 = .ok (.aload_n 0, 1) := dk_42 (dk_at dksX5_which_8 4 rfl rfl)
theorem dX5_which_194 : decode cX5_which 194 = .ok (.getfield 17, 3) := dk_180 0 17 (dk_at dksX5_which_8 5 rfl rfl)
theorem dX5_which_197 : decode cX5_which 197 = .ok (.if_icmp .ge 26, 3) := dk_162 0 26 (dk_at dksX5_which_8 8 rfl rfl)
theorem dX5_which_200 : decode cX5_which 200 = .ok (.aload_n 0, 1) := dk_42 (dk_at dksX5_which_8 11 rfl rfl)
theorem dX5_which_201 : decode cX5_which 201 = .ok (.getfield 11, 3) := dk_180 0 11 (dk_at dksX5_which_8 12 rfl rfl)
theorem dX5_which_204 : decode cX5_which 204 = .ok (.iload 5, 2) := dk_21 5 (dk_at dksX5_which_8 15 rfl rfl)
theorem dX5_which_206 : decode cX5_which 206 = .ok (.aaload, 1) := dk_50 (dk_at dksX5_which_8 17 rfl rfl)
theorem dX5_which_207 : decode cX5_which 207 = .ok (.aload_n 3, 1) := dk_45 (dk_at dksX5_which_8 18 rfl rfl)
theorem dX5_which_208 : decode cX5_which 208 = .ok (.invokestatic 69, 3) := dk_184 0 69 (dk_at dksX5_which_8 19 rfl rfl)
theorem dX5_which_211 : decode cX5_which 211 = .ok (.ifCond .eq 6, 3) := dk_153 0 6 (dk_at dksX5_which_9 0 rfl rfl)
theorem dX5_which_214 : decode cX5_which 214 = .ok (.iload 5, 2) := dk_21 5 (dk_at dksX5_which_9 3 rfl rfl)
theorem dX5_which_216 : decode cX5_which 216 = .ok (.ireturn, 1) := dk_172 (dk_at dksX5_which_9 5 rfl rfl)
theorem dX5_which_217 : decode cX5_which 217 = .ok (.iinc 5 1, 3) := dk_132 5 1 (dk_at dksX5_which_9 6 rfl rfl)
theorem dX5_which_220 : decode cX5_which 220 = .ok (.goto (-29), 3) := dk_167 255 227 (dk_at dksX5_which_9 9 rfl rfl)
theorem dX5_which_223 : decode cX5_which 223 = .ok (.aload_n 0, 1) := dk_42 (dk_at dksX5_which_9 12 rfl rfl)
theorem dX5_which_224 : decode cX5_which 224 = .ok (.getfield 11, 3) := dk_180 0 11 (dk_at dksX5_which_9 13 rfl rfl)
theorem dX5_which_227 : decode cX5_which 227 = .ok (.aload_n 0, 1) := dk_42 (dk_at dksX5_which_9 16 rfl rfl)
theorem dX5_which_228 : decode cX5_which 228 = .ok (.getfield 17, 3) := dk_180 0 17 (dk_at dksX5_which_9 17 rfl rfl)
theorem dX5_which_231 : decode cX5_which 231 = .ok (.aload_n 3, 1) := dk_45 (dk_at dksX5_which_9 20 rfl rfl)
theorem dX5_which_232 : decode cX5_which 232 = .ok (.aastore, 1) := dk_83 (dk_at dksX5_which_9 21 rfl rfl)
theorem dX5_which_233 : decode cX5_which 233 = .ok (.aload_n 0, 1) := dk_42 (dk_at dksX5_which_9 22 rfl rfl)
theorem dX5_which_234 : decode cX5_which 234 = .ok (.dup, 1) := dk_89 (dk_at dksX5_which_9 23 rfl rfl)
theorem dX5_which_235 : decode cX5_which 235 = .ok (.getfield 17, 3) := dk_180 0 17 (dk_at dksX5_which_10 0 rfl rfl)
theorem dX5_which_238 : decode cX5_which 238 = .ok (.iconst 1, 1) := dk_4 (dk_at dksX5_which_10 3 rfl rfl)
theorem dX5_which_239 : decode cX5_which 239 = .ok (.iadd, 1) := dk_96 (dk_at dksX5_which_10 4 rfl rfl)
theorem dX5_which_240 : decode cX5_which 240 = .ok (.putfield 17, 3) := dk_181 0 17 (dk_at dksX5_which_10 5 rfl rfl)
theorem dX5_which_243 : decode cX5_which 243 = .ok (.aload_n 0, 1) := dk_42 (dk_at dksX5_which_10 8 rfl rfl)
theorem dX5_which_244 : decode cX5_which 244 = .ok (.getfield 17, 3) := dk_180 0 17 (dk_at dksX5_which_10 9 rfl rfl)
theorem dX5_which_247 : decode cX5_which 247 = .ok (.iconst 1, 1) := dk_4 (dk_at dksX5_which_10 12 rfl rfl)
theorem dX5_which_248 : decode cX5_which 248 = .ok (.isub, 1) := dk_100 (dk_at dksX5_which_10 13 rfl rfl)
theorem dX5_which_249 : decode cX5_which 249 = .ok (.ireturn, 1) := dk_172 (dk_at dksX5_which_10 14 rfl rfl)
abbrev cX5_sort : ByteArray := prog_7_method_5_code
def yX5_sort : MethodName := ⟨RX5, "sort", "([II)V"⟩
def dkwX5_sort_2 : List UInt8 := [167, 255, 227, 42, 21, 4, 29, 79, 132, 2, 1, 167, 255, 203, 177]
abbrev dktX5_sort_2 : List UInt8 := dkwX5_sort_2 ++ []
def dkwX5_sort_1 : List UInt8 := [21, 4, 4, 100, 46, 29, 164, 0, 19, 42, 21, 4, 42, 21, 4, 4, 100, 46, 79, 132, 4, 255]
abbrev dktX5_sort_1 : List UInt8 := dkwX5_sort_1 ++ dktX5_sort_2
def dkwX5_sort_0 : List UInt8 := [27, 4, 96, 61, 28, 42, 190, 162, 0, 53, 42, 28, 46, 62, 28, 54, 4, 21, 4, 27, 164, 0, 29, 42]
abbrev dktX5_sort_0 : List UInt8 := dkwX5_sort_0 ++ dktX5_sort_1
theorem dksX5_sort_0 : cX5_sort.data.toList.drop 0 = dktX5_sort_0 := by decide +kernel
theorem dksX5_sort_1 : cX5_sort.data.toList.drop 24 = dktX5_sort_1 := dk_seg dksX5_sort_0 24 rfl rfl
theorem dksX5_sort_2 : cX5_sort.data.toList.drop 46 = dktX5_sort_2 := dk_seg dksX5_sort_1 22 rfl rfl
theorem dX5_sort_0 : decode cX5_sort 0 = .ok (.iload_n 1, 1) := dk_27 (dk_at dksX5_sort_0 0 rfl rfl)
theorem dX5_sort_1 : decode cX5_sort 1 = .ok (.iconst 1, 1) := dk_4 (dk_at dksX5_sort_0 1 rfl rfl)
theorem dX5_sort_2 : decode cX5_sort 2 = .ok (.iadd, 1) := dk_96 (dk_at dksX5_sort_0 2 rfl rfl)
theorem dX5_sort_3 : decode cX5_sort 3 = .ok (.istore_n 2, 1) := dk_61 (dk_at dksX5_sort_0 3 rfl rfl)
theorem dX5_sort_4 : decode cX5_sort 4 = .ok (.iload_n 2, 1) := dk_28 (dk_at dksX5_sort_0 4 rfl rfl)
theorem dX5_sort_5 : decode cX5_sort 5 = .ok (.aload_n 0, 1) := dk_42 (dk_at dksX5_sort_0 5 rfl rfl)
theorem dX5_sort_6 : decode cX5_sort 6 = .ok (.arraylength, 1) := dk_190 (dk_at dksX5_sort_0 6 rfl rfl)
theorem dX5_sort_7 : decode cX5_sort 7 = .ok (.if_icmp .ge 53, 3) := dk_162 0 53 (dk_at dksX5_sort_0 7 rfl rfl)
theorem dX5_sort_10 : decode cX5_sort 10 = .ok (.aload_n 0, 1) := dk_42 (dk_at dksX5_sort_0 10 rfl rfl)
theorem dX5_sort_11 : decode cX5_sort 11 = .ok (.iload_n 2, 1) := dk_28 (dk_at dksX5_sort_0 11 rfl rfl)
theorem dX5_sort_12 : decode cX5_sort 12 = .ok (.iaload, 1) := dk_46 (dk_at dksX5_sort_0 12 rfl rfl)
theorem dX5_sort_13 : decode cX5_sort 13 = .ok (.istore_n 3, 1) := dk_62 (dk_at dksX5_sort_0 13 rfl rfl)
theorem dX5_sort_14 : decode cX5_sort 14 = .ok (.iload_n 2, 1) := dk_28 (dk_at dksX5_sort_0 14 rfl rfl)
theorem dX5_sort_15 : decode cX5_sort 15 = .ok (.istore 4, 2) := dk_54 4 (dk_at dksX5_sort_0 15 rfl rfl)
theorem dX5_sort_17 : decode cX5_sort 17 = .ok (.iload 4, 2) := dk_21 4 (dk_at dksX5_sort_0 17 rfl rfl)
theorem dX5_sort_19 : decode cX5_sort 19 = .ok (.iload_n 1, 1) := dk_27 (dk_at dksX5_sort_0 19 rfl rfl)
theorem dX5_sort_20 : decode cX5_sort 20 = .ok (.if_icmp .le 29, 3) := dk_164 0 29 (dk_at dksX5_sort_0 20 rfl rfl)
theorem dX5_sort_23 : decode cX5_sort 23 = .ok (.aload_n 0, 1) := dk_42 (dk_at dksX5_sort_0 23 rfl rfl)
theorem dX5_sort_24 : decode cX5_sort 24 = .ok (.iload 4, 2) := dk_21 4 (dk_at dksX5_sort_1 0 rfl rfl)
theorem dX5_sort_26 : decode cX5_sort 26 = .ok (.iconst 1, 1) := dk_4 (dk_at dksX5_sort_1 2 rfl rfl)
theorem dX5_sort_27 : decode cX5_sort 27 = .ok (.isub, 1) := dk_100 (dk_at dksX5_sort_1 3 rfl rfl)
theorem dX5_sort_28 : decode cX5_sort 28 = .ok (.iaload, 1) := dk_46 (dk_at dksX5_sort_1 4 rfl rfl)
theorem dX5_sort_29 : decode cX5_sort 29 = .ok (.iload_n 3, 1) := dk_29 (dk_at dksX5_sort_1 5 rfl rfl)
theorem dX5_sort_30 : decode cX5_sort 30 = .ok (.if_icmp .le 19, 3) := dk_164 0 19 (dk_at dksX5_sort_1 6 rfl rfl)
theorem dX5_sort_33 : decode cX5_sort 33 = .ok (.aload_n 0, 1) := dk_42 (dk_at dksX5_sort_1 9 rfl rfl)
theorem dX5_sort_34 : decode cX5_sort 34 = .ok (.iload 4, 2) := dk_21 4 (dk_at dksX5_sort_1 10 rfl rfl)
theorem dX5_sort_36 : decode cX5_sort 36 = .ok (.aload_n 0, 1) := dk_42 (dk_at dksX5_sort_1 12 rfl rfl)
theorem dX5_sort_37 : decode cX5_sort 37 = .ok (.iload 4, 2) := dk_21 4 (dk_at dksX5_sort_1 13 rfl rfl)
theorem dX5_sort_39 : decode cX5_sort 39 = .ok (.iconst 1, 1) := dk_4 (dk_at dksX5_sort_1 15 rfl rfl)
theorem dX5_sort_40 : decode cX5_sort 40 = .ok (.isub, 1) := dk_100 (dk_at dksX5_sort_1 16 rfl rfl)
theorem dX5_sort_41 : decode cX5_sort 41 = .ok (.iaload, 1) := dk_46 (dk_at dksX5_sort_1 17 rfl rfl)
theorem dX5_sort_42 : decode cX5_sort 42 = .ok (.iastore, 1) := dk_79 (dk_at dksX5_sort_1 18 rfl rfl)
theorem dX5_sort_43 : decode cX5_sort 43 = .ok (.iinc 4 (-1), 3) := dk_132 4 255 (dk_at dksX5_sort_1 19 rfl rfl)
theorem dX5_sort_46 : decode cX5_sort 46 = .ok (.goto (-29), 3) := dk_167 255 227 (dk_at dksX5_sort_2 0 rfl rfl)
theorem dX5_sort_49 : decode cX5_sort 49 = .ok (.aload_n 0, 1) := dk_42 (dk_at dksX5_sort_2 3 rfl rfl)
theorem dX5_sort_50 : decode cX5_sort 50 = .ok (.iload 4, 2) := dk_21 4 (dk_at dksX5_sort_2 4 rfl rfl)
theorem dX5_sort_52 : decode cX5_sort 52 = .ok (.iload_n 3, 1) := dk_29 (dk_at dksX5_sort_2 6 rfl rfl)
theorem dX5_sort_53 : decode cX5_sort 53 = .ok (.iastore, 1) := dk_79 (dk_at dksX5_sort_2 7 rfl rfl)
theorem dX5_sort_54 : decode cX5_sort 54 = .ok (.iinc 2 1, 3) := dk_132 2 1 (dk_at dksX5_sort_2 8 rfl rfl)
theorem dX5_sort_57 : decode cX5_sort 57 = .ok (.goto (-53), 3) := dk_167 255 203 (dk_at dksX5_sort_2 11 rfl rfl)
theorem dX5_sort_60 : decode cX5_sort 60 = .ok (.return_, 1) := dk_177 (dk_at dksX5_sort_2 14 rfl rfl)
abbrev cX5_isSame : ByteArray := prog_7_method_6_code
def yX5_isSame : MethodName := ⟨RX5, "isSame", "([I[I)Z"⟩
def dkwX5_isSame_2 : List UInt8 := [28, 172]
abbrev dktX5_isSame_2 : List UInt8 := dkwX5_isSame_2 ++ []
def dkwX5_isSame_1 : List UInt8 := [153, 0, 24, 42, 29, 46, 43, 29, 46, 160, 0, 7, 4, 167, 0, 4, 3, 61, 132, 3, 1, 167, 255, 228]
abbrev dktX5_isSame_1 : List UInt8 := dkwX5_isSame_1 ++ dktX5_isSame_2
def dkwX5_isSame_0 : List UInt8 := [42, 190, 43, 190, 160, 0, 7, 4, 167, 0, 4, 3, 61, 3, 62, 29, 42, 190, 162, 0, 28, 28]
abbrev dktX5_isSame_0 : List UInt8 := dkwX5_isSame_0 ++ dktX5_isSame_1
theorem dksX5_isSame_0 : cX5_isSame.data.toList.drop 0 = dktX5_isSame_0 := by decide +kernel
theorem dksX5_isSame_1 : cX5_isSame.data.toList.drop 22 = dktX5_isSame_1 := dk_seg dksX5_isSame_0 22 rfl rfl
theorem dksX5_isSame_2 : cX5_isSame.data.toList.drop 46 = dktX5_isSame_2 := dk_seg dksX5_isSame_1 24 rfl rfl
theorem dX5_isSame_0 : decode cX5_isSame 0 = .ok (.aload_n 0, 1) := dk_42 (dk_at dksX5_isSame_0 0 rfl rfl)
theorem dX5_isSame_1 : decode cX5_isSame 1 = .ok (.arraylength, 1) := dk_190 (dk_at dksX5_isSame_0 1 rfl rfl)
theorem dX5_isSame_2 : decode cX5_isSame 2 = .ok (.aload_n 1, 1) := dk_43 (dk_at dksX5_isSame_0 2 rfl rfl)
theorem dX5_isSame_3 : decode cX5_isSame 3 = .ok (.arraylength, 1) := dk_190 (dk_at dksX5_isSame_0 3 rfl rfl)
theorem dX5_isSame_4 : decode cX5_isSame 4 = .ok (.if_icmp .ne 7, 3) := dk_160 0 7 (dk_at dksX5_isSame_0 4 rfl rfl)
theorem dX5_isSame_7 : decode cX5_isSame 7 = .ok (.iconst 1, 1) := dk_4 (dk_at dksX5_isSame_0 7 rfl rfl)
theorem dX5_isSame_8 : decode cX5_isSame 8 = .ok (.goto 4, 3) := dk_167 0 4 (dk_at dksX5_isSame_0 8 rfl rfl)
theorem dX5_isSame_11 : decode cX5_isSame 11 = .ok (.iconst 0, 1) := dk_3 (dk_at dksX5_isSame_0 11 rfl rfl)
theorem dX5_isSame_12 : decode cX5_isSame 12 = .ok (.istore_n 2, 1) := dk_61 (dk_at dksX5_isSame_0 12 rfl rfl)
theorem dX5_isSame_13 : decode cX5_isSame 13 = .ok (.iconst 0, 1) := dk_3 (dk_at dksX5_isSame_0 13 rfl rfl)
theorem dX5_isSame_14 : decode cX5_isSame 14 = .ok (.istore_n 3, 1) := dk_62 (dk_at dksX5_isSame_0 14 rfl rfl)
theorem dX5_isSame_15 : decode cX5_isSame 15 = .ok (.iload_n 3, 1) := dk_29 (dk_at dksX5_isSame_0 15 rfl rfl)
theorem dX5_isSame_16 : decode cX5_isSame 16 = .ok (.aload_n 0, 1) := dk_42 (dk_at dksX5_isSame_0 16 rfl rfl)
theorem dX5_isSame_17 : decode cX5_isSame 17 = .ok (.arraylength, 1) := dk_190 (dk_at dksX5_isSame_0 17 rfl rfl)
theorem dX5_isSame_18 : decode cX5_isSame 18 = .ok (.if_icmp .ge 28, 3) := dk_162 0 28 (dk_at dksX5_isSame_0 18 rfl rfl)
theorem dX5_isSame_21 : decode cX5_isSame 21 = .ok (.iload_n 2, 1) := dk_28 (dk_at dksX5_isSame_0 21 rfl rfl)
theorem dX5_isSame_22 : decode cX5_isSame 22 = .ok (.ifCond .eq 24, 3) := dk_153 0 24 (dk_at dksX5_isSame_1 0 rfl rfl)
theorem dX5_isSame_25 : decode cX5_isSame 25 = .ok (.aload_n 0, 1) := dk_42 (dk_at dksX5_isSame_1 3 rfl rfl)
theorem dX5_isSame_26 : decode cX5_isSame 26 = .ok (.iload_n 3, 1) := dk_29 (dk_at dksX5_isSame_1 4 rfl rfl)
theorem dX5_isSame_27 : decode cX5_isSame 27 = .ok (.iaload, 1) := dk_46 (dk_at dksX5_isSame_1 5 rfl rfl)
theorem dX5_isSame_28 : decode cX5_isSame 28 = .ok (.aload_n 1, 1) := dk_43 (dk_at dksX5_isSame_1 6 rfl rfl)
theorem dX5_isSame_29 : decode cX5_isSame 29 = .ok (.iload_n 3, 1) := dk_29 (dk_at dksX5_isSame_1 7 rfl rfl)
theorem dX5_isSame_30 : decode cX5_isSame 30 = .ok (.iaload, 1) := dk_46 (dk_at dksX5_isSame_1 8 rfl rfl)
theorem dX5_isSame_31 : decode cX5_isSame 31 = .ok (.if_icmp .ne 7, 3) := dk_160 0 7 (dk_at dksX5_isSame_1 9 rfl rfl)
theorem dX5_isSame_34 : decode cX5_isSame 34 = .ok (.iconst 1, 1) := dk_4 (dk_at dksX5_isSame_1 12 rfl rfl)
theorem dX5_isSame_35 : decode cX5_isSame 35 = .ok (.goto 4, 3) := dk_167 0 4 (dk_at dksX5_isSame_1 13 rfl rfl)
theorem dX5_isSame_38 : decode cX5_isSame 38 = .ok (.iconst 0, 1) := dk_3 (dk_at dksX5_isSame_1 16 rfl rfl)
theorem dX5_isSame_39 : decode cX5_isSame 39 = .ok (.istore_n 2, 1) := dk_61 (dk_at dksX5_isSame_1 17 rfl rfl)
theorem dX5_isSame_40 : decode cX5_isSame 40 = .ok (.iinc 3 1, 3) := dk_132 3 1 (dk_at dksX5_isSame_1 18 rfl rfl)
theorem dX5_isSame_43 : decode cX5_isSame 43 = .ok (.goto (-28), 3) := dk_167 255 228 (dk_at dksX5_isSame_1 21 rfl rfl)
theorem dX5_isSame_46 : decode cX5_isSame 46 = .ok (.iload_n 2, 1) := dk_28 (dk_at dksX5_isSame_2 0 rfl rfl)
theorem dX5_isSame_47 : decode cX5_isSame 47 = .ok (.ireturn, 1) := dk_172 (dk_at dksX5_isSame_2 1 rfl rfl)
abbrev cX8_init : ByteArray := prog_14_method_1_code
def yX8_init : MethodName := ⟨RX8, "<init>", "(LBranchMender$Node;)V"⟩
def dkwX8_init_1 : List UInt8 := [181, 0, 20, 42, 182, 0, 24, 87, 177]
abbrev dktX8_init_1 : List UInt8 := dkwX8_init_1 ++ []
def dkwX8_init_0 : List UInt8 := [42, 183, 0, 3, 42, 16, 31, 189, 0, 9, 181, 0, 11, 42, 16, 31, 189, 0, 9, 181, 0, 17, 42, 43]
abbrev dktX8_init_0 : List UInt8 := dkwX8_init_0 ++ dktX8_init_1
theorem dksX8_init_0 : cX8_init.data.toList.drop 0 = dktX8_init_0 := by decide +kernel
theorem dksX8_init_1 : cX8_init.data.toList.drop 24 = dktX8_init_1 := dk_seg dksX8_init_0 24 rfl rfl
theorem dX8_init_0 : decode cX8_init 0 = .ok (.aload_n 0, 1) := dk_42 (dk_at dksX8_init_0 0 rfl rfl)
theorem dX8_init_1 : decode cX8_init 1 = .ok (.invokespecial 3, 3) := dk_183 0 3 (dk_at dksX8_init_0 1 rfl rfl)
theorem dX8_init_4 : decode cX8_init 4 = .ok (.aload_n 0, 1) := dk_42 (dk_at dksX8_init_0 4 rfl rfl)
theorem dX8_init_5 : decode cX8_init 5 = .ok (.bipush 31, 2) := dk_16 31 (dk_at dksX8_init_0 5 rfl rfl)
theorem dX8_init_7 : decode cX8_init 7 = .ok (.anewarray 9, 3) := dk_189 0 9 (dk_at dksX8_init_0 7 rfl rfl)
theorem dX8_init_10 : decode cX8_init 10 = .ok (.putfield 11, 3) := dk_181 0 11 (dk_at dksX8_init_0 10 rfl rfl)
theorem dX8_init_13 : decode cX8_init 13 = .ok (.aload_n 0, 1) := dk_42 (dk_at dksX8_init_0 13 rfl rfl)
theorem dX8_init_14 : decode cX8_init 14 = .ok (.bipush 31, 2) := dk_16 31 (dk_at dksX8_init_0 14 rfl rfl)
theorem dX8_init_16 : decode cX8_init 16 = .ok (.anewarray 9, 3) := dk_189 0 9 (dk_at dksX8_init_0 16 rfl rfl)
theorem dX8_init_19 : decode cX8_init 19 = .ok (.putfield 17, 3) := dk_181 0 17 (dk_at dksX8_init_0 19 rfl rfl)
theorem dX8_init_22 : decode cX8_init 22 = .ok (.aload_n 0, 1) := dk_42 (dk_at dksX8_init_0 22 rfl rfl)
theorem dX8_init_23 : decode cX8_init 23 = .ok (.aload_n 1, 1) := dk_43 (dk_at dksX8_init_0 23 rfl rfl)
theorem dX8_init_24 : decode cX8_init 24 = .ok (.putfield 20, 3) := dk_181 0 20 (dk_at dksX8_init_1 0 rfl rfl)
theorem dX8_init_27 : decode cX8_init 27 = .ok (.aload_n 0, 1) := dk_42 (dk_at dksX8_init_1 3 rfl rfl)
theorem dX8_init_28 : decode cX8_init 28 = .ok (.invokevirtual 24, 3) := dk_182 0 24 (dk_at dksX8_init_1 4 rfl rfl)
theorem dX8_init_31 : decode cX8_init 31 = .ok (.pop, 1) := dk_87 (dk_at dksX8_init_1 7 rfl rfl)
theorem dX8_init_32 : decode cX8_init 32 = .ok (.return_, 1) := dk_177 (dk_at dksX8_init_1 8 rfl rfl)
abbrev cX8_number : ByteArray := prog_14_method_2_code
def yX8_number : MethodName := ⟨RX8, "number", "()Z"⟩
def dkwX8_number_1 : List UInt8 := [182, 0, 38, 172]
abbrev dktX8_number_1 : List UInt8 := dkwX8_number_1 ++ []
def dkwX8_number_0 : List UInt8 := [42, 3, 181, 0, 28, 42, 3, 181, 0, 32, 42, 180, 0, 20, 3, 181, 0, 35, 42, 42, 180, 0, 20]
abbrev dktX8_number_0 : List UInt8 := dkwX8_number_0 ++ dktX8_number_1
theorem dksX8_number_0 : cX8_number.data.toList.drop 0 = dktX8_number_0 := by decide +kernel
theorem dksX8_number_1 : cX8_number.data.toList.drop 23 = dktX8_number_1 := dk_seg dksX8_number_0 23 rfl rfl
theorem dX8_number_0 : decode cX8_number 0 = .ok (.aload_n 0, 1) := dk_42 (dk_at dksX8_number_0 0 rfl rfl)
theorem dX8_number_1 : decode cX8_number 1 = .ok (.iconst 0, 1) := dk_3 (dk_at dksX8_number_0 1 rfl rfl)
theorem dX8_number_2 : decode cX8_number 2 = .ok (.putfield 28, 3) := dk_181 0 28 (dk_at dksX8_number_0 2 rfl rfl)
theorem dX8_number_5 : decode cX8_number 5 = .ok (.aload_n 0, 1) := dk_42 (dk_at dksX8_number_0 5 rfl rfl)
theorem dX8_number_6 : decode cX8_number 6 = .ok (.iconst 0, 1) := dk_3 (dk_at dksX8_number_0 6 rfl rfl)
theorem dX8_number_7 : decode cX8_number 7 = .ok (.putfield 32, 3) := dk_181 0 32 (dk_at dksX8_number_0 7 rfl rfl)
theorem dX8_number_10 : decode cX8_number 10 = .ok (.aload_n 0, 1) := dk_42 (dk_at dksX8_number_0 10 rfl rfl)
theorem dX8_number_11 : decode cX8_number 11 = .ok (.getfield 20, 3) := dk_180 0 20 (dk_at dksX8_number_0 11 rfl rfl)
theorem dX8_number_14 : decode cX8_number 14 = .ok (.iconst 0, 1) := dk_3 (dk_at dksX8_number_0 14 rfl rfl)
theorem dX8_number_15 : decode cX8_number 15 = .ok (.putfield 35, 3) := dk_181 0 35 (dk_at dksX8_number_0 15 rfl rfl)
theorem dX8_number_18 : decode cX8_number 18 = .ok (.aload_n 0, 1) := dk_42 (dk_at dksX8_number_0 18 rfl rfl)
theorem dX8_number_19 : decode cX8_number 19 = .ok (.aload_n 0, 1) := dk_42 (dk_at dksX8_number_0 19 rfl rfl)
theorem dX8_number_20 : decode cX8_number 20 = .ok (.getfield 20, 3) := dk_180 0 20 (dk_at dksX8_number_0 20 rfl rfl)
theorem dX8_number_23 : decode cX8_number 23 = .ok (.invokevirtual 38, 3) := dk_182 0 38 (dk_at dksX8_number_1 0 rfl rfl)
theorem dX8_number_26 : decode cX8_number 26 = .ok (.ireturn, 1) := dk_172 (dk_at dksX8_number_1 3 rfl rfl)
abbrev cX8_number_2 : ByteArray := prog_14_method_3_code
def yX8_number_2 : MethodName := ⟨RX8, "number", "(LBranchMender$Node;)Z"⟩
def dkwX8_number_2_6 : List UInt8 := [181, 0, 32, 4, 172]
abbrev dktX8_number_2_6 : List UInt8 := dkwX8_number_2_6 ++ []
def dkwX8_number_2_5 : List UInt8 := [180, 0, 17, 42, 180, 0, 32, 43, 83, 43, 42, 180, 0, 32, 181, 0, 59, 42, 89, 180, 0, 32, 4, 96]
abbrev dktX8_number_2_5 : List UInt8 := dkwX8_number_2_5 ++ dktX8_number_2_6
def dkwX8_number_2_4 : List UInt8 := [28, 182, 0, 55, 192, 0, 9, 182, 0, 38, 154, 0, 5, 3, 172, 132, 2, 1, 167, 255, 202, 42]
abbrev dktX8_number_2_4 : List UInt8 := dkwX8_number_2_4 ++ dktX8_number_2_5
def dkwX8_number_2_3 : List UInt8 := [180, 0, 46, 28, 182, 0, 55, 192, 0, 9, 43, 180, 0, 35, 4, 96, 181, 0, 35, 42, 43, 180, 0, 46]
abbrev dktX8_number_2_3 : List UInt8 := dkwX8_number_2_3 ++ dktX8_number_2_4
def dkwX8_number_2_2 : List UInt8 := [43, 42, 180, 0, 32, 181, 0, 43, 3, 61, 28, 43, 180, 0, 46, 182, 0, 50, 162, 0, 49, 43]
abbrev dktX8_number_2_2 : List UInt8 := dkwX8_number_2_2 ++ dktX8_number_2_3
def dkwX8_number_2_1 : List UInt8 := [42, 180, 0, 28, 43, 83, 43, 42, 180, 0, 28, 181, 0, 41, 42, 89, 180, 0, 28, 4, 96, 181, 0, 28]
abbrev dktX8_number_2_1 : List UInt8 := dkwX8_number_2_1 ++ dktX8_number_2_2
def dkwX8_number_2_0 : List UInt8 := [42, 180, 0, 28, 16, 30, 159, 0, 12, 43, 180, 0, 35, 16, 12, 161, 0, 5, 3, 172, 42, 180, 0, 11]
abbrev dktX8_number_2_0 : List UInt8 := dkwX8_number_2_0 ++ dktX8_number_2_1
theorem dksX8_number_2_0 : cX8_number_2.data.toList.drop 0 = dktX8_number_2_0 := by decide +kernel
theorem dksX8_number_2_1 : cX8_number_2.data.toList.drop 24 = dktX8_number_2_1 := dk_seg dksX8_number_2_0 24 rfl rfl
theorem dksX8_number_2_2 : cX8_number_2.data.toList.drop 48 = dktX8_number_2_2 := dk_seg dksX8_number_2_1 24 rfl rfl
theorem dksX8_number_2_3 : cX8_number_2.data.toList.drop 70 = dktX8_number_2_3 := dk_seg dksX8_number_2_2 22 rfl rfl
theorem dksX8_number_2_4 : cX8_number_2.data.toList.drop 94 = dktX8_number_2_4 := dk_seg dksX8_number_2_3 24 rfl rfl
theorem dksX8_number_2_5 : cX8_number_2.data.toList.drop 116 = dktX8_number_2_5 := dk_seg dksX8_number_2_4 22 rfl rfl
theorem dksX8_number_2_6 : cX8_number_2.data.toList.drop 140 = dktX8_number_2_6 := dk_seg dksX8_number_2_5 24 rfl rfl
theorem dX8_number_2_0 : decode cX8_number_2 0 = .ok (.aload_n 0, 1) := dk_42 (dk_at dksX8_number_2_0 0 rfl rfl)
theorem dX8_number_2_1 : decode cX8_number_2 1 = .ok (.getfield 28, 3) := dk_180 0 28 (dk_at dksX8_number_2_0 1 rfl rfl)
theorem dX8_number_2_4 : decode cX8_number_2 4 = .ok (.bipush 30, 2) := dk_16 30 (dk_at dksX8_number_2_0 4 rfl rfl)
theorem dX8_number_2_6 : decode cX8_number_2 6 = .ok (.if_icmp .eq 12, 3) := dk_159 0 12 (dk_at dksX8_number_2_0 6 rfl rfl)
theorem dX8_number_2_9 : decode cX8_number_2 9 = .ok (.aload_n 1, 1) := dk_43 (dk_at dksX8_number_2_0 9 rfl rfl)
theorem dX8_number_2_10 : decode cX8_number_2 10 = .ok (.getfield 35, 3) := dk_180 0 35 (dk_at dksX8_number_2_0 10 rfl rfl)
theorem dX8_number_2_13 : decode cX8_number_2 13 = .ok (.bipush 12, 2) := dk_16 12 (dk_at dksX8_number_2_0 13 rfl rfl)
theorem dX8_number_2_15 : decode cX8_number_2 15 = .ok (.if_icmp .lt 5, 3) := dk_161 0 5 (dk_at dksX8_number_2_0 15 rfl rfl)
theorem dX8_number_2_18 : decode cX8_number_2 18 = .ok (.iconst 0, 1) := dk_3 (dk_at dksX8_number_2_0 18 rfl rfl)
theorem dX8_number_2_19 : decode cX8_number_2 19 = .ok (.ireturn, 1) := dk_172 (dk_at dksX8_number_2_0 19 rfl rfl)
theorem dX8_number_2_20 : decode cX8_number_2 20 = .ok (.aload_n 0, 1) := dk_42 (dk_at dksX8_number_2_0 20 rfl rfl)
theorem dX8_number_2_21 : decode cX8_number_2 21 = .ok (.getfield 11, 3) := dk_180 0 11 (dk_at dksX8_number_2_0 21 rfl rfl)
theorem dX8_number_2_24 : decode cX8_number_2 24 = .ok (.aload_n 0, 1) := dk_42 (dk_at dksX8_number_2_1 0 rfl rfl)
theorem dX8_number_2_25 : decode cX8_number_2 25 = .ok (.getfield 28, 3) := dk_180 0 28 (dk_at dksX8_number_2_1 1 rfl rfl)
theorem dX8_number_2_28 : decode cX8_number_2 28 = .ok (.aload_n 1, 1) := dk_43 (dk_at dksX8_number_2_1 4 rfl rfl)
theorem dX8_number_2_29 : decode cX8_number_2 29 = .ok (.aastore, 1) := dk_83 (dk_at dksX8_number_2_1 5 rfl rfl)
theorem dX8_number_2_30 : decode cX8_number_2 30 = .ok (.aload_n 1, 1) := dk_43 (dk_at dksX8_number_2_1 6 rfl rfl)
theorem dX8_number_2_31 : decode cX8_number_2 31 = .ok (.aload_n 0, 1) := dk_42 (dk_at dksX8_number_2_1 7 rfl rfl)
theorem dX8_number_2_32 : decode cX8_number_2 32 = .ok (.getfield 28, 3) := dk_180 0 28 (dk_at dksX8_number_2_1 8 rfl rfl)
theorem dX8_number_2_35 : decode cX8_number_2 35 = .ok (.putfield 41, 3) := dk_181 0 41 (dk_at dksX8_number_2_1 11 rfl rfl)
theorem dX8_number_2_38 : decode cX8_number_2 38 = .ok (.aload_n 0, 1) := dk_42 (dk_at dksX8_number_2_1 14 rfl rfl)
theorem dX8_number_2_39 : decode cX8_number_2 39 = .ok (.dup, 1) := dk_89 (dk_at dksX8_number_2_1 15 rfl rfl)
theorem dX8_number_2_40 : decode cX8_number_2 40 = .ok (.getfield 28, 3) := dk_180 0 28 (dk_at dksX8_number_2_1 16 rfl rfl)
theorem dX8_number_2_43 : decode cX8_number_2 43 = .ok (.iconst 1, 1) := dk_4 (dk_at dksX8_number_2_1 19 rfl rfl)
theorem dX8_number_2_44 : decode cX8_number_2 44 = .ok (.iadd, 1) := dk_96 (dk_at dksX8_number_2_1 20 rfl rfl)
theorem dX8_number_2_45 : decode cX8_number_2 45 = .ok (.putfield 28, 3) := dk_181 0 28 (dk_at dksX8_number_2_1 21 rfl rfl)
theorem dX8_number_2_48 : decode cX8_number_2 48 = .ok (.aload_n 1, 1) := dk_43 (dk_at dksX8_number_2_2 0 rfl rfl)
theorem dX8_number_2_49 : decode cX8_number_2 49 = .ok (.aload_n 0, 1) := dk_42 (dk_at dksX8_number_2_2 1 rfl rfl)
theorem dX8_number_2_50 : decode cX8_number_2 50 = .ok (.getfield 32, 3) := dk_180 0 32 (dk_at dksX8_number_2_2 2 rfl rfl)
theorem dX8_number_2_53 : decode cX8_number_2 53 = .ok (.putfield 43, 3) := dk_181 0 43 (dk_at dksX8_number_2_2 5 rfl rfl)
theorem dX8_number_2_56 : decode cX8_number_2 56 = .ok (.iconst 0, 1) := dk_3 (dk_at dksX8_number_2_2 8 rfl rfl)
theorem dX8_number_2_57 : decode cX8_number_2 57 = .ok (.istore_n 2, 1) := dk_61 (dk_at dksX8_number_2_2 9 rfl rfl)
theorem dX8_number_2_58 : decode cX8_number_2 58 = .ok (.iload_n 2, 1) := dk_28 (dk_at dksX8_number_2_2 10 rfl rfl)
theorem dX8_number_2_59 : decode cX8_number_2 59 = .ok (.aload_n 1, 1) := dk_43 (dk_at dksX8_number_2_2 11 rfl rfl)
theorem dX8_number_2_60 : decode cX8_number_2 60 = .ok (.getfield 46, 3) := dk_180 0 46 (dk_at dksX8_number_2_2 12 rfl rfl)
theorem dX8_number_2_63 : decode cX8_number_2 63 = .ok (.invokevirtual 50, 3) := dk_182 0 50 (dk_at dksX8_number_2_2 15 rfl rfl)
theorem dX8_number_2_66 : decode cX8_number_2 66 = .ok (.if_icmp .ge 49, 3) := dk_162 0 49 (dk_at dksX8_number_2_2 18 rfl rfl)
theorem dX8_number_2_69 : decode cX8_number_2 69 = .ok (.aload_n 1, 1) := dk_43 (dk_at dksX8_number_2_2 21 rfl rfl)
theorem dX8_number_2_70 : decode cX8_number_2 70 = .ok (.getfield 46, 3) := dk_180 0 46 (dk_at dksX8_number_2_3 0 rfl rfl)
theorem dX8_number_2_73 : decode cX8_number_2 73 = .ok (.iload_n 2, 1) := dk_28 (dk_at dksX8_number_2_3 3 rfl rfl)
theorem dX8_number_2_74 : decode cX8_number_2 74 = .ok (.invokevirtual 55, 3) := dk_182 0 55 (dk_at dksX8_number_2_3 4 rfl rfl)
theorem dX8_number_2_77 : decode cX8_number_2 77 = .ok (.checkcast 9, 3) := dk_192 0 9 (dk_at dksX8_number_2_3 7 rfl rfl)
theorem dX8_number_2_80 : decode cX8_number_2 80 = .ok (.aload_n 1, 1) := dk_43 (dk_at dksX8_number_2_3 10 rfl rfl)
theorem dX8_number_2_81 : decode cX8_number_2 81 = .ok (.getfield 35, 3) := dk_180 0 35 (dk_at dksX8_number_2_3 11 rfl rfl)
theorem dX8_number_2_84 : decode cX8_number_2 84 = .ok (.iconst 1, 1) := dk_4 (dk_at dksX8_number_2_3 14 rfl rfl)
theorem dX8_number_2_85 : decode cX8_number_2 85 = .ok (.iadd, 1) := dk_96 (dk_at dksX8_number_2_3 15 rfl rfl)
theorem dX8_number_2_86 : decode cX8_number_2 86 = .ok (.putfield 35, 3) := dk_181 0 35 (dk_at dksX8_number_2_3 16 rfl rfl)
theorem dX8_number_2_89 : decode cX8_number_2 89 = .ok (.aload_n 0, 1) := dk_42 (dk_at dksX8_number_2_3 19 rfl rfl)
theorem dX8_number_2_90 : decode cX8_number_2 90 = .ok (.aload_n 1, 1) := dk_43 (dk_at dksX8_number_2_3 20 rfl rfl)
theorem dX8_number_2_91 : decode cX8_number_2 91 = .ok (.getfield 46, 3) := dk_180 0 46 (dk_at dksX8_number_2_3 21 rfl rfl)
theorem dX8_number_2_94 : decode cX8_number_2 94 = .ok (.iload_n 2, 1) := dk_28 (dk_at dksX8_number_2_4 0 rfl rfl)
theorem dX8_number_2_95 : decode cX8_number_2 95 = .ok (.invokevirtual 55, 3) := dk_182 0 55 (dk_at dksX8_number_2_4 1 rfl rfl)
theorem dX8_number_2_98 : decode cX8_number_2 98 = .ok (.checkcast 9, 3) := dk_192 0 9 (dk_at dksX8_number_2_4 4 rfl rfl)
theorem dX8_number_2_101 : decode cX8_number_2 101 = .ok (.invokevirtual 38, 3) := dk_182 0 38 (dk_at dksX8_number_2_4 7 rfl rfl)
theorem dX8_number_2_104 : decode cX8_number_2 104 = .ok (.ifCond .ne 5, 3) := dk_154 0 5 (dk_at dksX8_number_2_4 10 rfl rfl)
theorem dX8_number_2_107 : decode cX8_number_2 107 = .ok (.iconst 0, 1) := dk_3 (dk_at dksX8_number_2_4 13 rfl rfl)
theorem dX8_number_2_108 : decode cX8_number_2 108 = .ok (.ireturn, 1) := dk_172 (dk_at dksX8_number_2_4 14 rfl rfl)
theorem dX8_number_2_109 : decode cX8_number_2 109 = .ok (.iinc 2 1, 3) := dk_132 2 1 (dk_at dksX8_number_2_4 15 rfl rfl)
theorem dX8_number_2_112 : decode cX8_number_2 112 = .ok (.goto (-54), 3) := dk_167 255 202 (dk_at dksX8_number_2_4 18 rfl rfl)
theorem dX8_number_2_115 : decode cX8_number_2 115 = .ok (.aload_n 0, 1) := dk_42 (dk_at dksX8_number_2_4 21 rfl rfl)
theorem dX8_number_2_116 : decode cX8_number_2 116 = .ok (.getfield 17, 3) := dk_180 0 17 (dk_at dksX8_number_2_5 0 rfl rfl)
theorem dX8_number_2_119 : decode cX8_number_2 119 = .ok (.aload_n 0, 1) := dk_42 (dk_at dksX8_number_2_5 3 rfl rfl)
theorem dX8_number_2_120 : decode cX8_number_2 120 = .ok (.getfield 32, 3) := dk_180 0 32 (dk_at dksX8_number_2_5 4 rfl rfl)
theorem dX8_number_2_123 : decode cX8_number_2 123 = .ok (.aload_n 1, 1) := dk_43 (dk_at dksX8_number_2_5 7 rfl rfl)
theorem dX8_number_2_124 : decode cX8_number_2 124 = .ok (.aastore, 1) := dk_83 (dk_at dksX8_number_2_5 8 rfl rfl)
theorem dX8_number_2_125 : decode cX8_number_2 125 = .ok (.aload_n 1, 1) := dk_43 (dk_at dksX8_number_2_5 9 rfl rfl)
theorem dX8_number_2_126 : decode cX8_number_2 126 = .ok (.aload_n 0, 1) := dk_42 (dk_at dksX8_number_2_5 10 rfl rfl)
theorem dX8_number_2_127 : decode cX8_number_2 127 = .ok (.getfield 32, 3) := dk_180 0 32 (dk_at dksX8_number_2_5 11 rfl rfl)
theorem dX8_number_2_130 : decode cX8_number_2 130 = .ok (.putfield 59, 3) := dk_181 0 59 (dk_at dksX8_number_2_5 14 rfl rfl)
theorem dX8_number_2_133 : decode cX8_number_2 133 = .ok (.aload_n 0, 1) := dk_42 (dk_at dksX8_number_2_5 17 rfl rfl)
theorem dX8_number_2_134 : decode cX8_number_2 134 = .ok (.dup, 1) := dk_89 (dk_at dksX8_number_2_5 18 rfl rfl)
theorem dX8_number_2_135 : decode cX8_number_2 135 = .ok (.getfield 32, 3) := dk_180 0 32 (dk_at dksX8_number_2_5 19 rfl rfl)
theorem dX8_number_2_138 : decode cX8_number_2 138 = .ok (.iconst 1, 1) := dk_4 (dk_at dksX8_number_2_5 22 rfl rfl)
theorem dX8_number_2_139 : decode cX8_number_2 139 = .ok (.iadd, 1) := dk_96 (dk_at dksX8_number_2_5 23 rfl rfl)
theorem dX8_number_2_140 : decode cX8_number_2 140 = .ok (.putfield 32, 3) := dk_181 0 32 (dk_at dksX8_number_2_6 0 rfl rfl)
theorem dX8_number_2_143 : decode cX8_number_2 143 = .ok (.iconst 1, 1) := dk_4 (dk_at dksX8_number_2_6 3 rfl rfl)
theorem dX8_number_2_144 : decode cX8_number_2 144 = .ok (.ireturn, 1) := dk_172 (dk_at dksX8_number_2_6 4 rfl rfl)
abbrev cX8_copy : ByteArray := prog_14_method_5_code
def yX8_copy : MethodName := ⟨RX8, "copy", "()LBranchMender$Tree;"⟩
def dkwX8_copy_0 : List UInt8 := [187, 0, 12, 89, 42, 180, 0, 20, 184, 0, 64, 183, 0, 68, 176]
abbrev dktX8_copy_0 : List UInt8 := dkwX8_copy_0 ++ []
theorem dksX8_copy_0 : cX8_copy.data.toList.drop 0 = dktX8_copy_0 := by decide +kernel
theorem dX8_copy_0 : decode cX8_copy 0 = .ok (.new 12, 3) := dk_187 0 12 (dk_at dksX8_copy_0 0 rfl rfl)
theorem dX8_copy_3 : decode cX8_copy 3 = .ok (.dup, 1) := dk_89 (dk_at dksX8_copy_0 3 rfl rfl)
theorem dX8_copy_4 : decode cX8_copy 4 = .ok (.aload_n 0, 1) := dk_42 (dk_at dksX8_copy_0 4 rfl rfl)
theorem dX8_copy_5 : decode cX8_copy 5 = .ok (.getfield 20, 3) := dk_180 0 20 (dk_at dksX8_copy_0 5 rfl rfl)
theorem dX8_copy_8 : decode cX8_copy 8 = .ok (.invokestatic 64, 3) := dk_184 0 64 (dk_at dksX8_copy_0 8 rfl rfl)
theorem dX8_copy_11 : decode cX8_copy 11 = .ok (.invokespecial 68, 3) := dk_183 0 68 (dk_at dksX8_copy_0 11 rfl rfl)
theorem dX8_copy_14 : decode cX8_copy 14 = .ok (.areturn, 1) := dk_176 (dk_at dksX8_copy_0 14 rfl rfl)
abbrev cX8_copy_2 : ByteArray := prog_14_method_6_code
def yX8_copy_2 : MethodName := ⟨RX8, "copy", "(LBranchMender$Node;)LBranchMender$Node;"⟩
def dkwX8_copy_2_2 : List UInt8 := [182, 0, 85, 132, 2, 1, 167, 255, 224, 43, 176]
abbrev dktX8_copy_2_2 : List UInt8 := dkwX8_copy_2_2 ++ []
def dkwX8_copy_2_1 : List UInt8 := [180, 0, 46, 182, 0, 50, 162, 0, 27, 43, 42, 180, 0, 46, 28, 182, 0, 55, 192, 0, 9, 184, 0, 64]
abbrev dktX8_copy_2_1 : List UInt8 := dkwX8_copy_2_1 ++ dktX8_copy_2_2
def dkwX8_copy_2_0 : List UInt8 := [42, 182, 0, 71, 42, 180, 0, 61, 42, 180, 0, 74, 42, 180, 0, 78, 184, 0, 81, 76, 3, 61, 28, 42]
abbrev dktX8_copy_2_0 : List UInt8 := dkwX8_copy_2_0 ++ dktX8_copy_2_1
theorem dksX8_copy_2_0 : cX8_copy_2.data.toList.drop 0 = dktX8_copy_2_0 := by decide +kernel
theorem dksX8_copy_2_1 : cX8_copy_2.data.toList.drop 24 = dktX8_copy_2_1 := dk_seg dksX8_copy_2_0 24 rfl rfl
theorem dksX8_copy_2_2 : cX8_copy_2.data.toList.drop 48 = dktX8_copy_2_2 := dk_seg dksX8_copy_2_1 24 rfl rfl
theorem dX8_copy_2_0 : decode cX8_copy_2 0 = .ok (.aload_n 0, 1) := dk_42 (dk_at dksX8_copy_2_0 0 rfl rfl)
theorem dX8_copy_2_1 : decode cX8_copy_2 1 = .ok (.invokevirtual 71, 3) := dk_182 0 71 (dk_at dksX8_copy_2_0 1 rfl rfl)
theorem dX8_copy_2_4 : decode cX8_copy_2 4 = .ok (.aload_n 0, 1) := dk_42 (dk_at dksX8_copy_2_0 4 rfl rfl)
theorem dX8_copy_2_5 : decode cX8_copy_2 5 = .ok (.getfield 61, 3) := dk_180 0 61 (dk_at dksX8_copy_2_0 5 rfl rfl)
theorem dX8_copy_2_8 : decode cX8_copy_2 8 = .ok (.aload_n 0, 1) := dk_42 (dk_at dksX8_copy_2_0 8 rfl rfl)
theorem dX8_copy_2_9 : decode cX8_copy_2 9 = .ok (.getfield 74, 3) := dk_180 0 74 (dk_at dksX8_copy_2_0 9 rfl rfl)
theorem dX8_copy_2_12 : decode cX8_copy_2 12 = .ok (.aload_n 0, 1) := dk_42 (dk_at dksX8_copy_2_0 12 rfl rfl)
theorem dX8_copy_2_13 : decode cX8_copy_2 13 = .ok (.getfield 78, 3) := dk_180 0 78 (dk_at dksX8_copy_2_0 13 rfl rfl)
theorem dX8_copy_2_16 : decode cX8_copy_2 16 = .ok (.invokestatic 81, 3) := dk_184 0 81 (dk_at dksX8_copy_2_0 16 rfl rfl)
theorem dX8_copy_2_19 : decode cX8_copy_2 19 = .ok (.astore_n 1, 1) := dk_76 (dk_at dksX8_copy_2_0 19 rfl rfl)
theorem dX8_copy_2_20 : decode cX8_copy_2 20 = .ok (.iconst 0, 1) := dk_3 (dk_at dksX8_copy_2_0 20 rfl rfl)
theorem dX8_copy_2_21 : decode cX8_copy_2 21 = .ok (.istore_n 2, 1) := dk_61 (dk_at dksX8_copy_2_0 21 rfl rfl)
theorem dX8_copy_2_22 : decode cX8_copy_2 22 = .ok (.iload_n 2, 1) := dk_28 (dk_at dksX8_copy_2_0 22 rfl rfl)
theorem dX8_copy_2_23 : decode cX8_copy_2 23 = .ok (.aload_n 0, 1) := dk_42 (dk_at dksX8_copy_2_0 23 rfl rfl)
theorem dX8_copy_2_24 : decode cX8_copy_2 24 = .ok (.getfield 46, 3) := dk_180 0 46 (dk_at dksX8_copy_2_1 0 rfl rfl)
theorem dX8_copy_2_27 : decode cX8_copy_2 27 = .ok (.invokevirtual 50, 3) := dk_182 0 50 (dk_at dksX8_copy_2_1 3 rfl rfl)
theorem dX8_copy_2_30 : decode cX8_copy_2 30 = .ok (.if_icmp .ge 27, 3) := dk_162 0 27 (dk_at dksX8_copy_2_1 6 rfl rfl)
theorem dX8_copy_2_33 : decode cX8_copy_2 33 = .ok (.aload_n 1, 1) := dk_43 (dk_at dksX8_copy_2_1 9 rfl rfl)
theorem dX8_copy_2_34 : decode cX8_copy_2 34 = .ok (.aload_n 0, 1) := dk_42 (dk_at dksX8_copy_2_1 10 rfl rfl)
theorem dX8_copy_2_35 : decode cX8_copy_2 35 = .ok (.getfield 46, 3) := dk_180 0 46 (dk_at dksX8_copy_2_1 11 rfl rfl)
theorem dX8_copy_2_38 : decode cX8_copy_2 38 = .ok (.iload_n 2, 1) := dk_28 (dk_at dksX8_copy_2_1 14 rfl rfl)
theorem dX8_copy_2_39 : decode cX8_copy_2 39 = .ok (.invokevirtual 55, 3) := dk_182 0 55 (dk_at dksX8_copy_2_1 15 rfl rfl)
theorem dX8_copy_2_42 : decode cX8_copy_2 42 = .ok (.checkcast 9, 3) := dk_192 0 9 (dk_at dksX8_copy_2_1 18 rfl rfl)
theorem dX8_copy_2_45 : decode cX8_copy_2 45 = .ok (.invokestatic 64, 3) := dk_184 0 64 (dk_at dksX8_copy_2_1 21 rfl rfl)
theorem dX8_copy_2_48 : decode cX8_copy_2 48 = .ok (.invokevirtual 85, 3) := dk_182 0 85 (dk_at dksX8_copy_2_2 0 rfl rfl)
theorem dX8_copy_2_51 : decode cX8_copy_2 51 = .ok (.iinc 2 1, 3) := dk_132 2 1 (dk_at dksX8_copy_2_2 3 rfl rfl)
theorem dX8_copy_2_54 : decode cX8_copy_2 54 = .ok (.goto (-32), 3) := dk_167 255 224 (dk_at dksX8_copy_2_2 6 rfl rfl)
theorem dX8_copy_2_57 : decode cX8_copy_2 57 = .ok (.aload_n 1, 1) := dk_43 (dk_at dksX8_copy_2_2 9 rfl rfl)
theorem dX8_copy_2_58 : decode cX8_copy_2 58 = .ok (.areturn, 1) := dk_176 (dk_at dksX8_copy_2_2 10 rfl rfl)
abbrev cX8_find : ByteArray := prog_14_method_4_code
def yX8_find : MethodName := ⟨RX8, "find", "(I)LBranchMender$Node;"⟩
def dkwX8_find_1 : List UInt8 := [180, 0, 11, 28, 50, 176, 132, 2, 1, 167, 255, 225, 1, 176]
abbrev dktX8_find_1 : List UInt8 := dkwX8_find_1 ++ []
def dkwX8_find_0 : List UInt8 := [3, 61, 28, 42, 180, 0, 28, 162, 0, 29, 42, 180, 0, 11, 28, 50, 180, 0, 61, 27, 160, 0, 10, 42]
abbrev dktX8_find_0 : List UInt8 := dkwX8_find_0 ++ dktX8_find_1
theorem dksX8_find_0 : cX8_find.data.toList.drop 0 = dktX8_find_0 := by decide +kernel
theorem dksX8_find_1 : cX8_find.data.toList.drop 24 = dktX8_find_1 := dk_seg dksX8_find_0 24 rfl rfl
theorem dX8_find_0 : decode cX8_find 0 = .ok (.iconst 0, 1) := dk_3 (dk_at dksX8_find_0 0 rfl rfl)
theorem dX8_find_1 : decode cX8_find 1 = .ok (.istore_n 2, 1) := dk_61 (dk_at dksX8_find_0 1 rfl rfl)
theorem dX8_find_2 : decode cX8_find 2 = .ok (.iload_n 2, 1) := dk_28 (dk_at dksX8_find_0 2 rfl rfl)
theorem dX8_find_3 : decode cX8_find 3 = .ok (.aload_n 0, 1) := dk_42 (dk_at dksX8_find_0 3 rfl rfl)
theorem dX8_find_4 : decode cX8_find 4 = .ok (.getfield 28, 3) := dk_180 0 28 (dk_at dksX8_find_0 4 rfl rfl)
theorem dX8_find_7 : decode cX8_find 7 = .ok (.if_icmp .ge 29, 3) := dk_162 0 29 (dk_at dksX8_find_0 7 rfl rfl)
theorem dX8_find_10 : decode cX8_find 10 = .ok (.aload_n 0, 1) := dk_42 (dk_at dksX8_find_0 10 rfl rfl)
theorem dX8_find_11 : decode cX8_find 11 = .ok (.getfield 11, 3) := dk_180 0 11 (dk_at dksX8_find_0 11 rfl rfl)
theorem dX8_find_14 : decode cX8_find 14 = .ok (.iload_n 2, 1) := dk_28 (dk_at dksX8_find_0 14 rfl rfl)
theorem dX8_find_15 : decode cX8_find 15 = .ok (.aaload, 1) := dk_50 (dk_at dksX8_find_0 15 rfl rfl)
theorem dX8_find_16 : decode cX8_find 16 = .ok (.getfield 61, 3) := dk_180 0 61 (dk_at dksX8_find_0 16 rfl rfl)
theorem dX8_find_19 : decode cX8_find 19 = .ok (.iload_n 1, 1) := dk_27 (dk_at dksX8_find_0 19 rfl rfl)
theorem dX8_find_20 : decode cX8_find 20 = .ok (.if_icmp .ne 10, 3) := dk_160 0 10 (dk_at dksX8_find_0 20 rfl rfl)
theorem dX8_find_23 : decode cX8_find 23 = .ok (.aload_n 0, 1) := dk_42 (dk_at dksX8_find_0 23 rfl rfl)
theorem dX8_find_24 : decode cX8_find 24 = .ok (.getfield 11, 3) := dk_180 0 11 (dk_at dksX8_find_1 0 rfl rfl)
theorem dX8_find_27 : decode cX8_find 27 = .ok (.iload_n 2, 1) := dk_28 (dk_at dksX8_find_1 3 rfl rfl)
theorem dX8_find_28 : decode cX8_find 28 = .ok (.aaload, 1) := dk_50 (dk_at dksX8_find_1 4 rfl rfl)
theorem dX8_find_29 : decode cX8_find 29 = .ok (.areturn, 1) := dk_176 (dk_at dksX8_find_1 5 rfl rfl)
theorem dX8_find_30 : decode cX8_find 30 = .ok (.iinc 2 1, 3) := dk_132 2 1 (dk_at dksX8_find_1 6 rfl rfl)
theorem dX8_find_33 : decode cX8_find 33 = .ok (.goto (-31), 3) := dk_167 255 225 (dk_at dksX8_find_1 9 rfl rfl)
theorem dX8_find_36 : decode cX8_find 36 = .ok (.aconst_null, 1) := dk_1 (dk_at dksX8_find_1 12 rfl rfl)
theorem dX8_find_37 : decode cX8_find 37 = .ok (.areturn, 1) := dk_176 (dk_at dksX8_find_1 13 rfl rfl)
abbrev cX9_init : ByteArray := prog_10_method_1_code
def yX9_init : MethodName := ⟨RX9, "<init>", "(I[B[B)V"⟩
def dkwX9_init_1 : List UInt8 := [181, 0, 20, 42, 45, 181, 0, 24, 177]
abbrev dktX9_init_1 : List UInt8 := dkwX9_init_1 ++ []
def dkwX9_init_0 : List UInt8 := [42, 183, 0, 1, 42, 187, 0, 7, 89, 183, 0, 9, 181, 0, 10, 42, 27, 181, 0, 16, 42, 44]
abbrev dktX9_init_0 : List UInt8 := dkwX9_init_0 ++ dktX9_init_1
theorem dksX9_init_0 : cX9_init.data.toList.drop 0 = dktX9_init_0 := by decide +kernel
theorem dksX9_init_1 : cX9_init.data.toList.drop 22 = dktX9_init_1 := dk_seg dksX9_init_0 22 rfl rfl
theorem dX9_init_0 : decode cX9_init 0 = .ok (.aload_n 0, 1) := dk_42 (dk_at dksX9_init_0 0 rfl rfl)
theorem dX9_init_1 : decode cX9_init 1 = .ok (.invokespecial 1, 3) := dk_183 0 1 (dk_at dksX9_init_0 1 rfl rfl)
theorem dX9_init_4 : decode cX9_init 4 = .ok (.aload_n 0, 1) := dk_42 (dk_at dksX9_init_0 4 rfl rfl)
theorem dX9_init_5 : decode cX9_init 5 = .ok (.new 7, 3) := dk_187 0 7 (dk_at dksX9_init_0 5 rfl rfl)
theorem dX9_init_8 : decode cX9_init 8 = .ok (.dup, 1) := dk_89 (dk_at dksX9_init_0 8 rfl rfl)
theorem dX9_init_9 : decode cX9_init 9 = .ok (.invokespecial 9, 3) := dk_183 0 9 (dk_at dksX9_init_0 9 rfl rfl)
theorem dX9_init_12 : decode cX9_init 12 = .ok (.putfield 10, 3) := dk_181 0 10 (dk_at dksX9_init_0 12 rfl rfl)
theorem dX9_init_15 : decode cX9_init 15 = .ok (.aload_n 0, 1) := dk_42 (dk_at dksX9_init_0 15 rfl rfl)
theorem dX9_init_16 : decode cX9_init 16 = .ok (.iload_n 1, 1) := dk_27 (dk_at dksX9_init_0 16 rfl rfl)
theorem dX9_init_17 : decode cX9_init 17 = .ok (.putfield 16, 3) := dk_181 0 16 (dk_at dksX9_init_0 17 rfl rfl)
theorem dX9_init_20 : decode cX9_init 20 = .ok (.aload_n 0, 1) := dk_42 (dk_at dksX9_init_0 20 rfl rfl)
theorem dX9_init_21 : decode cX9_init 21 = .ok (.aload_n 2, 1) := dk_44 (dk_at dksX9_init_0 21 rfl rfl)
theorem dX9_init_22 : decode cX9_init 22 = .ok (.putfield 20, 3) := dk_181 0 20 (dk_at dksX9_init_1 0 rfl rfl)
theorem dX9_init_25 : decode cX9_init 25 = .ok (.aload_n 0, 1) := dk_42 (dk_at dksX9_init_1 3 rfl rfl)
theorem dX9_init_26 : decode cX9_init 26 = .ok (.aload_n 3, 1) := dk_45 (dk_at dksX9_init_1 4 rfl rfl)
theorem dX9_init_27 : decode cX9_init 27 = .ok (.putfield 24, 3) := dk_181 0 24 (dk_at dksX9_init_1 5 rfl rfl)
theorem dX9_init_30 : decode cX9_init 30 = .ok (.return_, 1) := dk_177 (dk_at dksX9_init_1 8 rfl rfl)
abbrev cX9_add : ByteArray := prog_10_method_7_code
def yX9_add : MethodName := ⟨RX9, "add", "(LBranchMender$Node;)V"⟩
def dkwX9_add_0 : List UInt8 := [42, 180, 0, 10, 43, 182, 0, 31, 87, 43, 42, 181, 0, 35, 177]
abbrev dktX9_add_0 : List UInt8 := dkwX9_add_0 ++ []
theorem dksX9_add_0 : cX9_add.data.toList.drop 0 = dktX9_add_0 := by decide +kernel
theorem dX9_add_0 : decode cX9_add 0 = .ok (.aload_n 0, 1) := dk_42 (dk_at dksX9_add_0 0 rfl rfl)
theorem dX9_add_1 : decode cX9_add 1 = .ok (.getfield 10, 3) := dk_180 0 10 (dk_at dksX9_add_0 1 rfl rfl)
theorem dX9_add_4 : decode cX9_add 4 = .ok (.aload_n 1, 1) := dk_43 (dk_at dksX9_add_0 4 rfl rfl)
theorem dX9_add_5 : decode cX9_add 5 = .ok (.invokevirtual 31, 3) := dk_182 0 31 (dk_at dksX9_add_0 5 rfl rfl)
theorem dX9_add_8 : decode cX9_add 8 = .ok (.pop, 1) := dk_87 (dk_at dksX9_add_0 8 rfl rfl)
theorem dX9_add_9 : decode cX9_add 9 = .ok (.aload_n 1, 1) := dk_43 (dk_at dksX9_add_0 9 rfl rfl)
theorem dX9_add_10 : decode cX9_add 10 = .ok (.aload_n 0, 1) := dk_42 (dk_at dksX9_add_0 10 rfl rfl)
theorem dX9_add_11 : decode cX9_add 11 = .ok (.putfield 35, 3) := dk_181 0 35 (dk_at dksX9_add_0 11 rfl rfl)
theorem dX9_add_14 : decode cX9_add 14 = .ok (.return_, 1) := dk_177 (dk_at dksX9_add_0 14 rfl rfl)
abbrev cX9_clashes : ByteArray := prog_10_method_5_code
def yX9_clashes : MethodName := ⟨RX9, "clashes", "()Z"⟩
theorem dX9_clashes_0 : decode cX9_clashes 0 = .ok (.iconst 0, 1) := by decide +kernel
theorem dX9_clashes_1 : decode cX9_clashes 1 = .ok (.ireturn, 1) := by decide +kernel
abbrev cX9_bears : ByteArray := prog_10_method_3_code
def yX9_bears : MethodName := ⟨RX9, "bears", "()Z"⟩
theorem dX9_bears_0 : decode cX9_bears 0 = .ok (.iconst 1, 1) := by decide +kernel
theorem dX9_bears_1 : decode cX9_bears 1 = .ok (.ireturn, 1) := by decide +kernel
abbrev cX9_add_2 : ByteArray := prog_10_method_8_code
def yX9_add_2 : MethodName := ⟨RX9, "add", "(ILBranchMender$Node;)V"⟩
def dkwX9_add_2_0 : List UInt8 := [42, 180, 0, 10, 27, 44, 182, 0, 39, 44, 42, 181, 0, 35, 177]
abbrev dktX9_add_2_0 : List UInt8 := dkwX9_add_2_0 ++ []
theorem dksX9_add_2_0 : cX9_add_2.data.toList.drop 0 = dktX9_add_2_0 := by decide +kernel
theorem dX9_add_2_0 : decode cX9_add_2 0 = .ok (.aload_n 0, 1) := dk_42 (dk_at dksX9_add_2_0 0 rfl rfl)
theorem dX9_add_2_1 : decode cX9_add_2 1 = .ok (.getfield 10, 3) := dk_180 0 10 (dk_at dksX9_add_2_0 1 rfl rfl)
theorem dX9_add_2_4 : decode cX9_add_2 4 = .ok (.iload_n 1, 1) := dk_27 (dk_at dksX9_add_2_0 4 rfl rfl)
theorem dX9_add_2_5 : decode cX9_add_2 5 = .ok (.aload_n 2, 1) := dk_44 (dk_at dksX9_add_2_0 5 rfl rfl)
theorem dX9_add_2_6 : decode cX9_add_2 6 = .ok (.invokevirtual 39, 3) := dk_182 0 39 (dk_at dksX9_add_2_0 6 rfl rfl)
theorem dX9_add_2_9 : decode cX9_add_2 9 = .ok (.aload_n 2, 1) := dk_44 (dk_at dksX9_add_2_0 9 rfl rfl)
theorem dX9_add_2_10 : decode cX9_add_2 10 = .ok (.aload_n 0, 1) := dk_42 (dk_at dksX9_add_2_0 10 rfl rfl)
theorem dX9_add_2_11 : decode cX9_add_2 11 = .ok (.putfield 35, 3) := dk_181 0 35 (dk_at dksX9_add_2_0 11 rfl rfl)
theorem dX9_add_2_14 : decode cX9_add_2 14 = .ok (.return_, 1) := dk_177 (dk_at dksX9_add_2_0 14 rfl rfl)
abbrev cX9_fits : ByteArray := prog_10_method_6_code
def yX9_fits : MethodName := ⟨RX9, "fits", "(LBranchMender$Node;)Z"⟩
def dkwX9_fits_0 : List UInt8 := [42, 182, 0, 27, 43, 182, 0, 27, 160, 0, 7, 4, 167, 0, 4, 3, 172]
abbrev dktX9_fits_0 : List UInt8 := dkwX9_fits_0 ++ []
theorem dksX9_fits_0 : cX9_fits.data.toList.drop 0 = dktX9_fits_0 := by decide +kernel
theorem dX9_fits_0 : decode cX9_fits 0 = .ok (.aload_n 0, 1) := dk_42 (dk_at dksX9_fits_0 0 rfl rfl)
theorem dX9_fits_1 : decode cX9_fits 1 = .ok (.invokevirtual 27, 3) := dk_182 0 27 (dk_at dksX9_fits_0 1 rfl rfl)
theorem dX9_fits_4 : decode cX9_fits 4 = .ok (.aload_n 1, 1) := dk_43 (dk_at dksX9_fits_0 4 rfl rfl)
theorem dX9_fits_5 : decode cX9_fits 5 = .ok (.invokevirtual 27, 3) := dk_182 0 27 (dk_at dksX9_fits_0 5 rfl rfl)
theorem dX9_fits_8 : decode cX9_fits 8 = .ok (.if_icmp .ne 7, 3) := dk_160 0 7 (dk_at dksX9_fits_0 8 rfl rfl)
theorem dX9_fits_11 : decode cX9_fits 11 = .ok (.iconst 1, 1) := dk_4 (dk_at dksX9_fits_0 11 rfl rfl)
theorem dX9_fits_12 : decode cX9_fits 12 = .ok (.goto 4, 3) := dk_167 0 4 (dk_at dksX9_fits_0 12 rfl rfl)
theorem dX9_fits_15 : decode cX9_fits 15 = .ok (.iconst 0, 1) := dk_3 (dk_at dksX9_fits_0 15 rfl rfl)
theorem dX9_fits_16 : decode cX9_fits 16 = .ok (.ireturn, 1) := dk_172 (dk_at dksX9_fits_0 16 rfl rfl)
abbrev cX9_isOrdered : ByteArray := prog_10_method_4_code
def yX9_isOrdered : MethodName := ⟨RX9, "isOrdered", "()Z"⟩
theorem dX9_isOrdered_0 : decode cX9_isOrdered 0 = .ok (.iconst 1, 1) := by decide +kernel
theorem dX9_isOrdered_1 : decode cX9_isOrdered 1 = .ok (.ireturn, 1) := by decide +kernel
abbrev cX10_init : ByteArray := prog_3_method_1_code
def yX10_init : MethodName := ⟨RX10, "<init>", "(I[B[B)V"⟩
def dkwX10_init_0 : List UInt8 := [42, 27, 44, 45, 183, 0, 1, 177]
abbrev dktX10_init_0 : List UInt8 := dkwX10_init_0 ++ []
theorem dksX10_init_0 : cX10_init.data.toList.drop 0 = dktX10_init_0 := by decide +kernel
theorem dX10_init_0 : decode cX10_init 0 = .ok (.aload_n 0, 1) := dk_42 (dk_at dksX10_init_0 0 rfl rfl)
theorem dX10_init_1 : decode cX10_init 1 = .ok (.iload_n 1, 1) := dk_27 (dk_at dksX10_init_0 1 rfl rfl)
theorem dX10_init_2 : decode cX10_init 2 = .ok (.aload_n 2, 1) := dk_44 (dk_at dksX10_init_0 2 rfl rfl)
theorem dX10_init_3 : decode cX10_init 3 = .ok (.aload_n 3, 1) := dk_45 (dk_at dksX10_init_0 3 rfl rfl)
theorem dX10_init_4 : decode cX10_init 4 = .ok (.invokespecial 1, 3) := dk_183 0 1 (dk_at dksX10_init_0 4 rfl rfl)
theorem dX10_init_7 : decode cX10_init 7 = .ok (.return_, 1) := dk_177 (dk_at dksX10_init_0 7 rfl rfl)
abbrev cX10_open : ByteArray := prog_3_method_3_code
def yX10_open : MethodName := ⟨RX10, "open", "(LBranchMender$Pen;)V"⟩
def dkwX10_open_0 : List UInt8 := [42, 180, 0, 7, 182, 0, 13, 158, 0, 9, 43, 16, 40, 182, 0, 19, 177]
abbrev dktX10_open_0 : List UInt8 := dkwX10_open_0 ++ []
theorem dksX10_open_0 : cX10_open.data.toList.drop 0 = dktX10_open_0 := by decide +kernel
theorem dX10_open_0 : decode cX10_open 0 = .ok (.aload_n 0, 1) := dk_42 (dk_at dksX10_open_0 0 rfl rfl)
theorem dX10_open_1 : decode cX10_open 1 = .ok (.getfield 7, 3) := dk_180 0 7 (dk_at dksX10_open_0 1 rfl rfl)
theorem dX10_open_4 : decode cX10_open 4 = .ok (.invokevirtual 13, 3) := dk_182 0 13 (dk_at dksX10_open_0 4 rfl rfl)
theorem dX10_open_7 : decode cX10_open 7 = .ok (.ifCond .le 9, 3) := dk_158 0 9 (dk_at dksX10_open_0 7 rfl rfl)
theorem dX10_open_10 : decode cX10_open 10 = .ok (.aload_n 1, 1) := dk_43 (dk_at dksX10_open_0 10 rfl rfl)
theorem dX10_open_11 : decode cX10_open 11 = .ok (.bipush 40, 2) := dk_16 40 (dk_at dksX10_open_0 11 rfl rfl)
theorem dX10_open_13 : decode cX10_open 13 = .ok (.invokevirtual 19, 3) := dk_182 0 19 (dk_at dksX10_open_0 13 rfl rfl)
theorem dX10_open_16 : decode cX10_open 16 = .ok (.return_, 1) := dk_177 (dk_at dksX10_open_0 16 rfl rfl)
abbrev cX10_close : ByteArray := prog_3_method_4_code
def yX10_close : MethodName := ⟨RX10, "close", "(LBranchMender$Pen;)V"⟩
def dkwX10_close_0 : List UInt8 := [42, 180, 0, 7, 182, 0, 13, 158, 0, 9, 43, 16, 41, 182, 0, 19, 177]
abbrev dktX10_close_0 : List UInt8 := dkwX10_close_0 ++ []
theorem dksX10_close_0 : cX10_close.data.toList.drop 0 = dktX10_close_0 := by decide +kernel
theorem dX10_close_0 : decode cX10_close 0 = .ok (.aload_n 0, 1) := dk_42 (dk_at dksX10_close_0 0 rfl rfl)
theorem dX10_close_1 : decode cX10_close 1 = .ok (.getfield 7, 3) := dk_180 0 7 (dk_at dksX10_close_0 1 rfl rfl)
theorem dX10_close_4 : decode cX10_close 4 = .ok (.invokevirtual 13, 3) := dk_182 0 13 (dk_at dksX10_close_0 4 rfl rfl)
theorem dX10_close_7 : decode cX10_close 7 = .ok (.ifCond .le 9, 3) := dk_158 0 9 (dk_at dksX10_close_0 7 rfl rfl)
theorem dX10_close_10 : decode cX10_close 10 = .ok (.aload_n 1, 1) := dk_43 (dk_at dksX10_close_0 10 rfl rfl)
theorem dX10_close_11 : decode cX10_close 11 = .ok (.bipush 41, 2) := dk_16 41 (dk_at dksX10_close_0 11 rfl rfl)
theorem dX10_close_13 : decode cX10_close 13 = .ok (.invokevirtual 19, 3) := dk_182 0 19 (dk_at dksX10_close_0 13 rfl rfl)
theorem dX10_close_16 : decode cX10_close 16 = .ok (.return_, 1) := dk_177 (dk_at dksX10_close_0 16 rfl rfl)
abbrev cX10_kind : ByteArray := prog_3_method_2_code
def yX10_kind : MethodName := ⟨RX10, "kind", "()I"⟩
theorem dX10_kind_0 : decode cX10_kind 0 = .ok (.iconst 0, 1) := by decide +kernel
theorem dX10_kind_1 : decode cX10_kind 1 = .ok (.ireturn, 1) := by decide +kernel
abbrev cX11_init : ByteArray := prog_2_method_1_code
def yX11_init : MethodName := ⟨RX11, "<init>", "(I[B[B)V"⟩
def dkwX11_init_0 : List UInt8 := [42, 27, 44, 45, 183, 0, 1, 177]
abbrev dktX11_init_0 : List UInt8 := dkwX11_init_0 ++ []
theorem dksX11_init_0 : cX11_init.data.toList.drop 0 = dktX11_init_0 := by decide +kernel
theorem dX11_init_0 : decode cX11_init 0 = .ok (.aload_n 0, 1) := dk_42 (dk_at dksX11_init_0 0 rfl rfl)
theorem dX11_init_1 : decode cX11_init 1 = .ok (.iload_n 1, 1) := dk_27 (dk_at dksX11_init_0 1 rfl rfl)
theorem dX11_init_2 : decode cX11_init 2 = .ok (.aload_n 2, 1) := dk_44 (dk_at dksX11_init_0 2 rfl rfl)
theorem dX11_init_3 : decode cX11_init 3 = .ok (.aload_n 3, 1) := dk_45 (dk_at dksX11_init_0 3 rfl rfl)
theorem dX11_init_4 : decode cX11_init 4 = .ok (.invokespecial 1, 3) := dk_183 0 1 (dk_at dksX11_init_0 4 rfl rfl)
theorem dX11_init_7 : decode cX11_init 7 = .ok (.return_, 1) := dk_177 (dk_at dksX11_init_0 7 rfl rfl)
abbrev cX11_open : ByteArray := prog_2_method_4_code
def yX11_open : MethodName := ⟨RX11, "open", "(LBranchMender$Pen;)V"⟩
def dkwX11_open_0 : List UInt8 := [43, 16, 123, 182, 0, 11, 177]
abbrev dktX11_open_0 : List UInt8 := dkwX11_open_0 ++ []
theorem dksX11_open_0 : cX11_open.data.toList.drop 0 = dktX11_open_0 := by decide +kernel
theorem dX11_open_0 : decode cX11_open 0 = .ok (.aload_n 1, 1) := dk_43 (dk_at dksX11_open_0 0 rfl rfl)
theorem dX11_open_1 : decode cX11_open 1 = .ok (.bipush 123, 2) := dk_16 123 (dk_at dksX11_open_0 1 rfl rfl)
theorem dX11_open_3 : decode cX11_open 3 = .ok (.invokevirtual 11, 3) := dk_182 0 11 (dk_at dksX11_open_0 3 rfl rfl)
theorem dX11_open_6 : decode cX11_open 6 = .ok (.return_, 1) := dk_177 (dk_at dksX11_open_0 6 rfl rfl)
abbrev cX11_close : ByteArray := prog_2_method_5_code
def yX11_close : MethodName := ⟨RX11, "close", "(LBranchMender$Pen;)V"⟩
def dkwX11_close_0 : List UInt8 := [43, 16, 125, 182, 0, 11, 177]
abbrev dktX11_close_0 : List UInt8 := dkwX11_close_0 ++ []
theorem dksX11_close_0 : cX11_close.data.toList.drop 0 = dktX11_close_0 := by decide +kernel
theorem dX11_close_0 : decode cX11_close 0 = .ok (.aload_n 1, 1) := dk_43 (dk_at dksX11_close_0 0 rfl rfl)
theorem dX11_close_1 : decode cX11_close 1 = .ok (.bipush 125, 2) := dk_16 125 (dk_at dksX11_close_0 1 rfl rfl)
theorem dX11_close_3 : decode cX11_close 3 = .ok (.invokevirtual 11, 3) := dk_182 0 11 (dk_at dksX11_close_0 3 rfl rfl)
theorem dX11_close_6 : decode cX11_close 6 = .ok (.return_, 1) := dk_177 (dk_at dksX11_close_0 6 rfl rfl)
abbrev cX11_kind : ByteArray := prog_2_method_2_code
def yX11_kind : MethodName := ⟨RX11, "kind", "()I"⟩
def dkwX11_kind_0 : List UInt8 := [4, 42, 183, 0, 7, 96, 172]
abbrev dktX11_kind_0 : List UInt8 := dkwX11_kind_0 ++ []
theorem dksX11_kind_0 : cX11_kind.data.toList.drop 0 = dktX11_kind_0 := by decide +kernel
theorem dX11_kind_0 : decode cX11_kind 0 = .ok (.iconst 1, 1) := dk_4 (dk_at dksX11_kind_0 0 rfl rfl)
theorem dX11_kind_1 : decode cX11_kind 1 = .ok (.aload_n 0, 1) := dk_42 (dk_at dksX11_kind_0 1 rfl rfl)
theorem dX11_kind_2 : decode cX11_kind 2 = .ok (.invokespecial 7, 3) := dk_183 0 7 (dk_at dksX11_kind_0 2 rfl rfl)
theorem dX11_kind_5 : decode cX11_kind 5 = .ok (.iadd, 1) := dk_96 (dk_at dksX11_kind_0 5 rfl rfl)
theorem dX11_kind_6 : decode cX11_kind 6 = .ok (.ireturn, 1) := dk_172 (dk_at dksX11_kind_0 6 rfl rfl)
abbrev cX11_isOrdered : ByteArray := prog_2_method_3_code
def yX11_isOrdered : MethodName := ⟨RX11, "isOrdered", "()Z"⟩
theorem dX11_isOrdered_0 : decode cX11_isOrdered 0 = .ok (.iconst 0, 1) := by decide +kernel
theorem dX11_isOrdered_1 : decode cX11_isOrdered 1 = .ok (.ireturn, 1) := by decide +kernel
abbrev cX12_init : ByteArray := prog_6_method_1_code
def yX12_init : MethodName := ⟨RX12, "<init>", "(I[B[B)V"⟩
def dkwX12_init_0 : List UInt8 := [42, 27, 44, 45, 183, 0, 1, 177]
abbrev dktX12_init_0 : List UInt8 := dkwX12_init_0 ++ []
theorem dksX12_init_0 : cX12_init.data.toList.drop 0 = dktX12_init_0 := by decide +kernel
theorem dX12_init_0 : decode cX12_init 0 = .ok (.aload_n 0, 1) := dk_42 (dk_at dksX12_init_0 0 rfl rfl)
theorem dX12_init_1 : decode cX12_init 1 = .ok (.iload_n 1, 1) := dk_27 (dk_at dksX12_init_0 1 rfl rfl)
theorem dX12_init_2 : decode cX12_init 2 = .ok (.aload_n 2, 1) := dk_44 (dk_at dksX12_init_0 2 rfl rfl)
theorem dX12_init_3 : decode cX12_init 3 = .ok (.aload_n 3, 1) := dk_45 (dk_at dksX12_init_0 3 rfl rfl)
theorem dX12_init_4 : decode cX12_init 4 = .ok (.invokespecial 1, 3) := dk_183 0 1 (dk_at dksX12_init_0 4 rfl rfl)
theorem dX12_init_7 : decode cX12_init 7 = .ok (.return_, 1) := dk_177 (dk_at dksX12_init_0 7 rfl rfl)
abbrev cX12_open : ByteArray := prog_6_method_4_code
def yX12_open : MethodName := ⟨RX12, "open", "(LBranchMender$Pen;)V"⟩
def dkwX12_open_0 : List UInt8 := [43, 16, 60, 182, 0, 42, 177]
abbrev dktX12_open_0 : List UInt8 := dkwX12_open_0 ++ []
theorem dksX12_open_0 : cX12_open.data.toList.drop 0 = dktX12_open_0 := by decide +kernel
theorem dX12_open_0 : decode cX12_open 0 = .ok (.aload_n 1, 1) := dk_43 (dk_at dksX12_open_0 0 rfl rfl)
theorem dX12_open_1 : decode cX12_open 1 = .ok (.bipush 60, 2) := dk_16 60 (dk_at dksX12_open_0 1 rfl rfl)
theorem dX12_open_3 : decode cX12_open 3 = .ok (.invokevirtual 42, 3) := dk_182 0 42 (dk_at dksX12_open_0 3 rfl rfl)
theorem dX12_open_6 : decode cX12_open 6 = .ok (.return_, 1) := dk_177 (dk_at dksX12_open_0 6 rfl rfl)
abbrev cX12_close : ByteArray := prog_6_method_5_code
def yX12_close : MethodName := ⟨RX12, "close", "(LBranchMender$Pen;)V"⟩
def dkwX12_close_0 : List UInt8 := [43, 16, 62, 182, 0, 42, 177]
abbrev dktX12_close_0 : List UInt8 := dkwX12_close_0 ++ []
theorem dksX12_close_0 : cX12_close.data.toList.drop 0 = dktX12_close_0 := by decide +kernel
theorem dX12_close_0 : decode cX12_close 0 = .ok (.aload_n 1, 1) := dk_43 (dk_at dksX12_close_0 0 rfl rfl)
theorem dX12_close_1 : decode cX12_close 1 = .ok (.bipush 62, 2) := dk_16 62 (dk_at dksX12_close_0 1 rfl rfl)
theorem dX12_close_3 : decode cX12_close 3 = .ok (.invokevirtual 42, 3) := dk_182 0 42 (dk_at dksX12_close_0 3 rfl rfl)
theorem dX12_close_6 : decode cX12_close 6 = .ok (.return_, 1) := dk_177 (dk_at dksX12_close_0 6 rfl rfl)
abbrev cX12_kind : ByteArray := prog_6_method_2_code
def yX12_kind : MethodName := ⟨RX12, "kind", "()I"⟩
def dkwX12_kind_0 : List UInt8 := [4, 42, 183, 0, 7, 96, 172]
abbrev dktX12_kind_0 : List UInt8 := dkwX12_kind_0 ++ []
theorem dksX12_kind_0 : cX12_kind.data.toList.drop 0 = dktX12_kind_0 := by decide +kernel
theorem dX12_kind_0 : decode cX12_kind 0 = .ok (.iconst 1, 1) := dk_4 (dk_at dksX12_kind_0 0 rfl rfl)
theorem dX12_kind_1 : decode cX12_kind 1 = .ok (.aload_n 0, 1) := dk_42 (dk_at dksX12_kind_0 1 rfl rfl)
theorem dX12_kind_2 : decode cX12_kind 2 = .ok (.invokespecial 7, 3) := dk_183 0 7 (dk_at dksX12_kind_0 2 rfl rfl)
theorem dX12_kind_5 : decode cX12_kind 5 = .ok (.iadd, 1) := dk_96 (dk_at dksX12_kind_0 5 rfl rfl)
theorem dX12_kind_6 : decode cX12_kind 6 = .ok (.ireturn, 1) := dk_172 (dk_at dksX12_kind_0 6 rfl rfl)
abbrev cX12_clashes : ByteArray := prog_6_method_3_code
def yX12_clashes : MethodName := ⟨RX12, "clashes", "()Z"⟩
def dkwX12_clashes_3 : List UInt8 := [172]
abbrev dktX12_clashes_3 : List UInt8 := dkwX12_clashes_3 ++ []
def dkwX12_clashes_2 : List UInt8 := [184, 0, 32, 153, 0, 5, 4, 172, 132, 2, 1, 167, 255, 212, 132, 1, 1, 167, 255, 193, 42, 183, 0, 38]
abbrev dktX12_clashes_2 : List UInt8 := dkwX12_clashes_2 ++ dktX12_clashes_3
def dkwX12_clashes_1 : List UInt8 := [27, 182, 0, 22, 192, 0, 26, 180, 0, 28, 42, 180, 0, 11, 28, 182, 0, 22, 192, 0, 26, 180, 0, 28]
abbrev dktX12_clashes_1 : List UInt8 := dkwX12_clashes_1 ++ dktX12_clashes_2
def dkwX12_clashes_0 : List UInt8 := [3, 60, 27, 42, 180, 0, 11, 182, 0, 17, 162, 0, 58, 3, 61, 28, 27, 162, 0, 45, 42, 180, 0, 11]
abbrev dktX12_clashes_0 : List UInt8 := dkwX12_clashes_0 ++ dktX12_clashes_1
theorem dksX12_clashes_0 : cX12_clashes.data.toList.drop 0 = dktX12_clashes_0 := by decide +kernel
theorem dksX12_clashes_1 : cX12_clashes.data.toList.drop 24 = dktX12_clashes_1 := dk_seg dksX12_clashes_0 24 rfl rfl
theorem dksX12_clashes_2 : cX12_clashes.data.toList.drop 48 = dktX12_clashes_2 := dk_seg dksX12_clashes_1 24 rfl rfl
theorem dksX12_clashes_3 : cX12_clashes.data.toList.drop 72 = dktX12_clashes_3 := dk_seg dksX12_clashes_2 24 rfl rfl
theorem dX12_clashes_0 : decode cX12_clashes 0 = .ok (.iconst 0, 1) := dk_3 (dk_at dksX12_clashes_0 0 rfl rfl)
theorem dX12_clashes_1 : decode cX12_clashes 1 = .ok (.istore_n 1, 1) := dk_60 (dk_at dksX12_clashes_0 1 rfl rfl)
theorem dX12_clashes_2 : decode cX12_clashes 2 = .ok (.iload_n 1, 1) := dk_27 (dk_at dksX12_clashes_0 2 rfl rfl)
theorem dX12_clashes_3 : decode cX12_clashes 3 = .ok (.aload_n 0, 1) := dk_42 (dk_at dksX12_clashes_0 3 rfl rfl)
theorem dX12_clashes_4 : decode cX12_clashes 4 = .ok (.getfield 11, 3) := dk_180 0 11 (dk_at dksX12_clashes_0 4 rfl rfl)
theorem dX12_clashes_7 : decode cX12_clashes 7 = .ok (.invokevirtual 17, 3) := dk_182 0 17 (dk_at dksX12_clashes_0 7 rfl rfl)
theorem dX12_clashes_10 : decode cX12_clashes 10 = .ok (.if_icmp .ge 58, 3) := dk_162 0 58 (dk_at dksX12_clashes_0 10 rfl rfl)
theorem dX12_clashes_13 : decode cX12_clashes 13 = .ok (.iconst 0, 1) := dk_3 (dk_at dksX12_clashes_0 13 rfl rfl)
theorem dX12_clashes_14 : decode cX12_clashes 14 = .ok (.istore_n 2, 1) := dk_61 (dk_at dksX12_clashes_0 14 rfl rfl)
theorem dX12_clashes_15 : decode cX12_clashes 15 = .ok (.iload_n 2, 1) := dk_28 (dk_at dksX12_clashes_0 15 rfl rfl)
theorem dX12_clashes_16 : decode cX12_clashes 16 = .ok (.iload_n 1, 1) := dk_27 (dk_at dksX12_clashes_0 16 rfl rfl)
theorem dX12_clashes_17 : decode cX12_clashes 17 = .ok (.if_icmp .ge 45, 3) := dk_162 0 45 (dk_at dksX12_clashes_0 17 rfl rfl)
theorem dX12_clashes_20 : decode cX12_clashes 20 = .ok (.aload_n 0, 1) := dk_42 (dk_at dksX12_clashes_0 20 rfl rfl)
theorem dX12_clashes_21 : decode cX12_clashes 21 = .ok (.getfield 11, 3) := dk_180 0 11 (dk_at dksX12_clashes_0 21 rfl rfl)
theorem dX12_clashes_24 : decode cX12_clashes 24 = .ok (.iload_n 1, 1) := dk_27 (dk_at dksX12_clashes_1 0 rfl rfl)
theorem dX12_clashes_25 : decode cX12_clashes 25 = .ok (.invokevirtual 22, 3) := dk_182 0 22 (dk_at dksX12_clashes_1 1 rfl rfl)
theorem dX12_clashes_28 : decode cX12_clashes 28 = .ok (.checkcast 26, 3) := dk_192 0 26 (dk_at dksX12_clashes_1 4 rfl rfl)
theorem dX12_clashes_31 : decode cX12_clashes 31 = .ok (.getfield 28, 3) := dk_180 0 28 (dk_at dksX12_clashes_1 7 rfl rfl)
theorem dX12_clashes_34 : decode cX12_clashes 34 = .ok (.aload_n 0, 1) := dk_42 (dk_at dksX12_clashes_1 10 rfl rfl)
theorem dX12_clashes_35 : decode cX12_clashes 35 = .ok (.getfield 11, 3) := dk_180 0 11 (dk_at dksX12_clashes_1 11 rfl rfl)
theorem dX12_clashes_38 : decode cX12_clashes 38 = .ok (.iload_n 2, 1) := dk_28 (dk_at dksX12_clashes_1 14 rfl rfl)
theorem dX12_clashes_39 : decode cX12_clashes 39 = .ok (.invokevirtual 22, 3) := dk_182 0 22 (dk_at dksX12_clashes_1 15 rfl rfl)
theorem dX12_clashes_42 : decode cX12_clashes 42 = .ok (.checkcast 26, 3) := dk_192 0 26 (dk_at dksX12_clashes_1 18 rfl rfl)
theorem dX12_clashes_45 : decode cX12_clashes 45 = .ok (.getfield 28, 3) := dk_180 0 28 (dk_at dksX12_clashes_1 21 rfl rfl)
theorem dX12_clashes_48 : decode cX12_clashes 48 = .ok (.invokestatic 32, 3) := dk_184 0 32 (dk_at dksX12_clashes_2 0 rfl rfl)
theorem dX12_clashes_51 : decode cX12_clashes 51 = .ok (.ifCond .eq 5, 3) := dk_153 0 5 (dk_at dksX12_clashes_2 3 rfl rfl)
theorem dX12_clashes_54 : decode cX12_clashes 54 = .ok (.iconst 1, 1) := dk_4 (dk_at dksX12_clashes_2 6 rfl rfl)
theorem dX12_clashes_55 : decode cX12_clashes 55 = .ok (.ireturn, 1) := dk_172 (dk_at dksX12_clashes_2 7 rfl rfl)
theorem dX12_clashes_56 : decode cX12_clashes 56 = .ok (.iinc 2 1, 3) := dk_132 2 1 (dk_at dksX12_clashes_2 8 rfl rfl)
theorem dX12_clashes_59 : decode cX12_clashes 59 = .ok (.goto (-44), 3) := dk_167 255 212 (dk_at dksX12_clashes_2 11 rfl rfl)
theorem dX12_clashes_62 : decode cX12_clashes 62 = .ok (.iinc 1 1, 3) := dk_132 1 1 (dk_at dksX12_clashes_2 14 rfl rfl)
theorem dX12_clashes_65 : decode cX12_clashes 65 = .ok (.goto (-63), 3) := dk_167 255 193 (dk_at dksX12_clashes_2 17 rfl rfl)
theorem dX12_clashes_68 : decode cX12_clashes 68 = .ok (.aload_n 0, 1) := dk_42 (dk_at dksX12_clashes_2 20 rfl rfl)
theorem dX12_clashes_69 : decode cX12_clashes 69 = .ok (.invokespecial 38, 3) := dk_183 0 38 (dk_at dksX12_clashes_2 21 rfl rfl)
theorem dX12_clashes_72 : decode cX12_clashes 72 = .ok (.ireturn, 1) := dk_172 (dk_at dksX12_clashes_3 0 rfl rfl)
abbrev cX13_init : ByteArray := prog_15_method_1_code
def yX13_init : MethodName := ⟨RX13, "<init>", "(I[B[B)V"⟩
def dkwX13_init_0 : List UInt8 := [42, 27, 44, 45, 183, 0, 1, 177]
abbrev dktX13_init_0 : List UInt8 := dkwX13_init_0 ++ []
theorem dksX13_init_0 : cX13_init.data.toList.drop 0 = dktX13_init_0 := by decide +kernel
theorem dX13_init_0 : decode cX13_init 0 = .ok (.aload_n 0, 1) := dk_42 (dk_at dksX13_init_0 0 rfl rfl)
theorem dX13_init_1 : decode cX13_init 1 = .ok (.iload_n 1, 1) := dk_27 (dk_at dksX13_init_0 1 rfl rfl)
theorem dX13_init_2 : decode cX13_init 2 = .ok (.aload_n 2, 1) := dk_44 (dk_at dksX13_init_0 2 rfl rfl)
theorem dX13_init_3 : decode cX13_init 3 = .ok (.aload_n 3, 1) := dk_45 (dk_at dksX13_init_0 3 rfl rfl)
theorem dX13_init_4 : decode cX13_init 4 = .ok (.invokespecial 1, 3) := dk_183 0 1 (dk_at dksX13_init_0 4 rfl rfl)
theorem dX13_init_7 : decode cX13_init 7 = .ok (.return_, 1) := dk_177 (dk_at dksX13_init_0 7 rfl rfl)
abbrev cX13_open : ByteArray := prog_15_method_5_code
def yX13_open : MethodName := ⟨RX13, "open", "(LBranchMender$Pen;)V"⟩
def dkwX13_open_0 : List UInt8 := [43, 16, 33, 182, 0, 28, 177]
abbrev dktX13_open_0 : List UInt8 := dkwX13_open_0 ++ []
theorem dksX13_open_0 : cX13_open.data.toList.drop 0 = dktX13_open_0 := by decide +kernel
theorem dX13_open_0 : decode cX13_open 0 = .ok (.aload_n 1, 1) := dk_43 (dk_at dksX13_open_0 0 rfl rfl)
theorem dX13_open_1 : decode cX13_open 1 = .ok (.bipush 33, 2) := dk_16 33 (dk_at dksX13_open_0 1 rfl rfl)
theorem dX13_open_3 : decode cX13_open 3 = .ok (.invokevirtual 28, 3) := dk_182 0 28 (dk_at dksX13_open_0 3 rfl rfl)
theorem dX13_open_6 : decode cX13_open 6 = .ok (.return_, 1) := dk_177 (dk_at dksX13_open_0 6 rfl rfl)
abbrev cX13_close : ByteArray := prog_15_method_6_code
def yX13_close : MethodName := ⟨RX13, "close", "(LBranchMender$Pen;)V"⟩
theorem dX13_close_0 : decode cX13_close 0 = .ok (.return_, 1) := by decide +kernel
abbrev cX13_kind : ByteArray := prog_15_method_2_code
def yX13_kind : MethodName := ⟨RX13, "kind", "()I"⟩
theorem dX13_kind_0 : decode cX13_kind 0 = .ok (.iconst 3, 1) := by decide +kernel
theorem dX13_kind_1 : decode cX13_kind 1 = .ok (.ireturn, 1) := by decide +kernel
abbrev cX13_bears : ByteArray := prog_15_method_3_code
def yX13_bears : MethodName := ⟨RX13, "bears", "()Z"⟩
theorem dX13_bears_0 : decode cX13_bears 0 = .ok (.iconst 0, 1) := by decide +kernel
theorem dX13_bears_1 : decode cX13_bears 1 = .ok (.ireturn, 1) := by decide +kernel
abbrev cX13_fits : ByteArray := prog_15_method_4_code
def yX13_fits : MethodName := ⟨RX13, "fits", "(LBranchMender$Node;)Z"⟩
def dkwX13_fits_1 : List UInt8 := [180, 0, 24, 43, 180, 0, 27, 184, 0, 18, 153, 0, 7, 4, 167, 0, 4, 3, 172]
abbrev dktX13_fits_1 : List UInt8 := dkwX13_fits_1 ++ []
def dkwX13_fits_0 : List UInt8 := [42, 43, 183, 0, 7, 153, 0, 35, 42, 180, 0, 11, 43, 180, 0, 17, 184, 0, 18, 153, 0, 21, 42]
abbrev dktX13_fits_0 : List UInt8 := dkwX13_fits_0 ++ dktX13_fits_1
theorem dksX13_fits_0 : cX13_fits.data.toList.drop 0 = dktX13_fits_0 := by decide +kernel
theorem dksX13_fits_1 : cX13_fits.data.toList.drop 23 = dktX13_fits_1 := dk_seg dksX13_fits_0 23 rfl rfl
theorem dX13_fits_0 : decode cX13_fits 0 = .ok (.aload_n 0, 1) := dk_42 (dk_at dksX13_fits_0 0 rfl rfl)
theorem dX13_fits_1 : decode cX13_fits 1 = .ok (.aload_n 1, 1) := dk_43 (dk_at dksX13_fits_0 1 rfl rfl)
theorem dX13_fits_2 : decode cX13_fits 2 = .ok (.invokespecial 7, 3) := dk_183 0 7 (dk_at dksX13_fits_0 2 rfl rfl)
theorem dX13_fits_5 : decode cX13_fits 5 = .ok (.ifCond .eq 35, 3) := dk_153 0 35 (dk_at dksX13_fits_0 5 rfl rfl)
theorem dX13_fits_8 : decode cX13_fits 8 = .ok (.aload_n 0, 1) := dk_42 (dk_at dksX13_fits_0 8 rfl rfl)
theorem dX13_fits_9 : decode cX13_fits 9 = .ok (.getfield 11, 3) := dk_180 0 11 (dk_at dksX13_fits_0 9 rfl rfl)
theorem dX13_fits_12 : decode cX13_fits 12 = .ok (.aload_n 1, 1) := dk_43 (dk_at dksX13_fits_0 12 rfl rfl)
theorem dX13_fits_13 : decode cX13_fits 13 = .ok (.getfield 17, 3) := dk_180 0 17 (dk_at dksX13_fits_0 13 rfl rfl)
theorem dX13_fits_16 : decode cX13_fits 16 = .ok (.invokestatic 18, 3) := dk_184 0 18 (dk_at dksX13_fits_0 16 rfl rfl)
theorem dX13_fits_19 : decode cX13_fits 19 = .ok (.ifCond .eq 21, 3) := dk_153 0 21 (dk_at dksX13_fits_0 19 rfl rfl)
theorem dX13_fits_22 : decode cX13_fits 22 = .ok (.aload_n 0, 1) := dk_42 (dk_at dksX13_fits_0 22 rfl rfl)
theorem dX13_fits_23 : decode cX13_fits 23 = .ok (.getfield 24, 3) := dk_180 0 24 (dk_at dksX13_fits_1 0 rfl rfl)
theorem dX13_fits_26 : decode cX13_fits 26 = .ok (.aload_n 1, 1) := dk_43 (dk_at dksX13_fits_1 3 rfl rfl)
theorem dX13_fits_27 : decode cX13_fits 27 = .ok (.getfield 27, 3) := dk_180 0 27 (dk_at dksX13_fits_1 4 rfl rfl)
theorem dX13_fits_30 : decode cX13_fits 30 = .ok (.invokestatic 18, 3) := dk_184 0 18 (dk_at dksX13_fits_1 7 rfl rfl)
theorem dX13_fits_33 : decode cX13_fits 33 = .ok (.ifCond .eq 7, 3) := dk_153 0 7 (dk_at dksX13_fits_1 10 rfl rfl)
theorem dX13_fits_36 : decode cX13_fits 36 = .ok (.iconst 1, 1) := dk_4 (dk_at dksX13_fits_1 13 rfl rfl)
theorem dX13_fits_37 : decode cX13_fits 37 = .ok (.goto 4, 3) := dk_167 0 4 (dk_at dksX13_fits_1 14 rfl rfl)
theorem dX13_fits_40 : decode cX13_fits 40 = .ok (.iconst 0, 1) := dk_3 (dk_at dksX13_fits_1 17 rfl rfl)
theorem dX13_fits_41 : decode cX13_fits 41 = .ok (.ireturn, 1) := dk_172 (dk_at dksX13_fits_1 18 rfl rfl)
