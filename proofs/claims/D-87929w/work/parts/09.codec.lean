set_option maxRecDepth 100000
abbrev cX4_init : ByteArray := prog_8_method_1_code
def yX4_init : MethodName := ⟨RX4, "<init>", "()V"⟩
def dkwX4_init_2 : List UInt8 := [181, 0, 20, 42, 16, 30, 189, 0, 23, 181, 0, 25, 42, 16, 30, 188, 4, 181, 0, 29, 177]
abbrev dktX4_init_2 : List UInt8 := dkwX4_init_2 ++ []
def dkwX4_init_1 : List UInt8 := [181, 0, 9, 42, 16, 30, 16, 30, 197, 0, 15, 2, 181, 0, 17, 42, 16, 31, 16, 31, 197, 0, 15, 2]
abbrev dktX4_init_1 : List UInt8 := dkwX4_init_1 ++ dktX4_init_2
def dkwX4_init_0 : List UInt8 := [42, 183, 0, 3, 42, 7, 188, 10, 89, 3, 5, 79, 89, 4, 4, 79, 89, 5, 6, 79, 89, 6, 6, 79]
abbrev dktX4_init_0 : List UInt8 := dkwX4_init_0 ++ dktX4_init_1
theorem dksX4_init_0 : cX4_init.data.toList.drop 0 = dktX4_init_0 := by decide +kernel
theorem dksX4_init_1 : cX4_init.data.toList.drop 24 = dktX4_init_1 := dk_seg dksX4_init_0 24 rfl rfl
theorem dksX4_init_2 : cX4_init.data.toList.drop 48 = dktX4_init_2 := dk_seg dksX4_init_1 24 rfl rfl
theorem dX4_init_0 : decode cX4_init 0 = .ok (.aload_n 0, 1) := dk_42 (dk_at dksX4_init_0 0 rfl rfl)
theorem dX4_init_1 : decode cX4_init 1 = .ok (.invokespecial 3, 3) := dk_183 0 3 (dk_at dksX4_init_0 1 rfl rfl)
theorem dX4_init_4 : decode cX4_init 4 = .ok (.aload_n 0, 1) := dk_42 (dk_at dksX4_init_0 4 rfl rfl)
theorem dX4_init_5 : decode cX4_init 5 = .ok (.iconst 4, 1) := dk_7 (dk_at dksX4_init_0 5 rfl rfl)
theorem dX4_init_6 : decode cX4_init 6 = .ok (.newarray .int, 2) := dk_188_10 (dk_at dksX4_init_0 6 rfl rfl)
theorem dX4_init_8 : decode cX4_init 8 = .ok (.dup, 1) := dk_89 (dk_at dksX4_init_0 8 rfl rfl)
theorem dX4_init_9 : decode cX4_init 9 = .ok (.iconst 0, 1) := dk_3 (dk_at dksX4_init_0 9 rfl rfl)
theorem dX4_init_10 : decode cX4_init 10 = .ok (.iconst 2, 1) := dk_5 (dk_at dksX4_init_0 10 rfl rfl)
theorem dX4_init_11 : decode cX4_init 11 = .ok (.iastore, 1) := dk_79 (dk_at dksX4_init_0 11 rfl rfl)
theorem dX4_init_12 : decode cX4_init 12 = .ok (.dup, 1) := dk_89 (dk_at dksX4_init_0 12 rfl rfl)
theorem dX4_init_13 : decode cX4_init 13 = .ok (.iconst 1, 1) := dk_4 (dk_at dksX4_init_0 13 rfl rfl)
theorem dX4_init_14 : decode cX4_init 14 = .ok (.iconst 1, 1) := dk_4 (dk_at dksX4_init_0 14 rfl rfl)
theorem dX4_init_15 : decode cX4_init 15 = .ok (.iastore, 1) := dk_79 (dk_at dksX4_init_0 15 rfl rfl)
theorem dX4_init_16 : decode cX4_init 16 = .ok (.dup, 1) := dk_89 (dk_at dksX4_init_0 16 rfl rfl)
theorem dX4_init_17 : decode cX4_init 17 = .ok (.iconst 2, 1) := dk_5 (dk_at dksX4_init_0 17 rfl rfl)
theorem dX4_init_18 : decode cX4_init 18 = .ok (.iconst 3, 1) := dk_6 (dk_at dksX4_init_0 18 rfl rfl)
theorem dX4_init_19 : decode cX4_init 19 = .ok (.iastore, 1) := dk_79 (dk_at dksX4_init_0 19 rfl rfl)
theorem dX4_init_20 : decode cX4_init 20 = .ok (.dup, 1) := dk_89 (dk_at dksX4_init_0 20 rfl rfl)
theorem dX4_init_21 : decode cX4_init 21 = .ok (.iconst 3, 1) := dk_6 (dk_at dksX4_init_0 21 rfl rfl)
theorem dX4_init_22 : decode cX4_init 22 = .ok (.iconst 3, 1) := dk_6 (dk_at dksX4_init_0 22 rfl rfl)
theorem dX4_init_23 : decode cX4_init 23 = .ok (.iastore, 1) := dk_79 (dk_at dksX4_init_0 23 rfl rfl)
theorem dX4_init_24 : decode cX4_init 24 = .ok (.putfield 9, 3) := dk_181 0 9 (dk_at dksX4_init_1 0 rfl rfl)
theorem dX4_init_27 : decode cX4_init 27 = .ok (.aload_n 0, 1) := dk_42 (dk_at dksX4_init_1 3 rfl rfl)
theorem dX4_init_28 : decode cX4_init 28 = .ok (.bipush 30, 2) := dk_16 30 (dk_at dksX4_init_1 4 rfl rfl)
theorem dX4_init_30 : decode cX4_init 30 = .ok (.bipush 30, 2) := dk_16 30 (dk_at dksX4_init_1 6 rfl rfl)
theorem dX4_init_32 : decode cX4_init 32 = .ok (.multianewarray 15 2, 4) := by decide +kernel
theorem dX4_init_36 : decode cX4_init 36 = .ok (.putfield 17, 3) := dk_181 0 17 (dk_at dksX4_init_1 12 rfl rfl)
theorem dX4_init_39 : decode cX4_init 39 = .ok (.aload_n 0, 1) := dk_42 (dk_at dksX4_init_1 15 rfl rfl)
theorem dX4_init_40 : decode cX4_init 40 = .ok (.bipush 31, 2) := dk_16 31 (dk_at dksX4_init_1 16 rfl rfl)
theorem dX4_init_42 : decode cX4_init 42 = .ok (.bipush 31, 2) := dk_16 31 (dk_at dksX4_init_1 18 rfl rfl)
theorem dX4_init_44 : decode cX4_init 44 = .ok (.multianewarray 15 2, 4) := by decide +kernel
theorem dX4_init_48 : decode cX4_init 48 = .ok (.putfield 20, 3) := dk_181 0 20 (dk_at dksX4_init_2 0 rfl rfl)
theorem dX4_init_51 : decode cX4_init 51 = .ok (.aload_n 0, 1) := dk_42 (dk_at dksX4_init_2 3 rfl rfl)
theorem dX4_init_52 : decode cX4_init 52 = .ok (.bipush 30, 2) := dk_16 30 (dk_at dksX4_init_2 4 rfl rfl)
theorem dX4_init_54 : decode cX4_init 54 = .ok (.anewarray 23, 3) := dk_189 0 23 (dk_at dksX4_init_2 6 rfl rfl)
theorem dX4_init_57 : decode cX4_init 57 = .ok (.putfield 25, 3) := dk_181 0 25 (dk_at dksX4_init_2 9 rfl rfl)
theorem dX4_init_60 : decode cX4_init 60 = .ok (.aload_n 0, 1) := dk_42 (dk_at dksX4_init_2 12 rfl rfl)
theorem dX4_init_61 : decode cX4_init 61 = .ok (.bipush 30, 2) := dk_16 30 (dk_at dksX4_init_2 13 rfl rfl)
theorem dX4_init_63 : decode cX4_init 63 = .ok (.newarray .boolean, 2) := dk_188_4 (dk_at dksX4_init_2 15 rfl rfl)
theorem dX4_init_65 : decode cX4_init 65 = .ok (.putfield 29, 3) := dk_181 0 29 (dk_at dksX4_init_2 17 rfl rfl)
theorem dX4_init_68 : decode cX4_init 68 = .ok (.return_, 1) := dk_177 (dk_at dksX4_init_2 20 rfl rfl)
abbrev cX4_distance : ByteArray := prog_8_method_5_code
def yX4_distance : MethodName := ⟨RX4, "distance", "(LBranchMender$Tree;LBranchMender$Tree;)I"⟩
def dkwX4_distance_5 : List UInt8 := [180, 0, 20, 43, 180, 0, 80, 50, 44, 180, 0, 80, 46, 172]
abbrev dktX4_distance_5 : List UInt8 := dkwX4_distance_5 ++ []
def dkwX4_distance_4 : List UInt8 := [167, 255, 186, 132, 3, 1, 167, 255, 169, 42, 3, 43, 180, 0, 80, 3, 44, 180, 0, 80, 182, 0, 83, 42]
abbrev dktX4_distance_4 : List UInt8 := dkwX4_distance_4 ++ dktX4_distance_5
def dkwX4_distance_3 : List UInt8 := [50, 21, 4, 42, 180, 0, 20, 29, 21, 5, 100, 50, 21, 4, 21, 6, 100, 46, 79, 132, 4, 1]
abbrev dktX4_distance_3 : List UInt8 := dkwX4_distance_3 ++ dktX4_distance_4
def dkwX4_distance_2 : List UInt8 := [21, 4, 50, 180, 0, 72, 54, 6, 42, 21, 5, 29, 21, 6, 21, 4, 182, 0, 83, 42, 180, 0, 17, 29]
abbrev dktX4_distance_2 : List UInt8 := dkwX4_distance_2 ++ dktX4_distance_3
def dkwX4_distance_1 : List UInt8 := [21, 4, 44, 180, 0, 80, 162, 0, 67, 43, 180, 0, 57, 29, 50, 180, 0, 72, 54, 5, 44, 180, 0, 57]
abbrev dktX4_distance_1 : List UInt8 := dkwX4_distance_1 ++ dktX4_distance_2
def dkwX4_distance_0 : List UInt8 := [42, 43, 181, 0, 53, 42, 44, 181, 0, 62, 3, 62, 29, 43, 180, 0, 80, 162, 0, 85, 3, 54, 4]
abbrev dktX4_distance_0 : List UInt8 := dkwX4_distance_0 ++ dktX4_distance_1
theorem dksX4_distance_0 : cX4_distance.data.toList.drop 0 = dktX4_distance_0 := by decide +kernel
theorem dksX4_distance_1 : cX4_distance.data.toList.drop 23 = dktX4_distance_1 := dk_seg dksX4_distance_0 23 rfl rfl
theorem dksX4_distance_2 : cX4_distance.data.toList.drop 47 = dktX4_distance_2 := dk_seg dksX4_distance_1 24 rfl rfl
theorem dksX4_distance_3 : cX4_distance.data.toList.drop 71 = dktX4_distance_3 := dk_seg dksX4_distance_2 24 rfl rfl
theorem dksX4_distance_4 : cX4_distance.data.toList.drop 93 = dktX4_distance_4 := dk_seg dksX4_distance_3 22 rfl rfl
theorem dksX4_distance_5 : cX4_distance.data.toList.drop 117 = dktX4_distance_5 := dk_seg dksX4_distance_4 24 rfl rfl
theorem dX4_distance_0 : decode cX4_distance 0 = .ok (.aload_n 0, 1) := dk_42 (dk_at dksX4_distance_0 0 rfl rfl)
theorem dX4_distance_1 : decode cX4_distance 1 = .ok (.aload_n 1, 1) := dk_43 (dk_at dksX4_distance_0 1 rfl rfl)
theorem dX4_distance_2 : decode cX4_distance 2 = .ok (.putfield 53, 3) := dk_181 0 53 (dk_at dksX4_distance_0 2 rfl rfl)
theorem dX4_distance_5 : decode cX4_distance 5 = .ok (.aload_n 0, 1) := dk_42 (dk_at dksX4_distance_0 5 rfl rfl)
theorem dX4_distance_6 : decode cX4_distance 6 = .ok (.aload_n 2, 1) := dk_44 (dk_at dksX4_distance_0 6 rfl rfl)
theorem dX4_distance_7 : decode cX4_distance 7 = .ok (.putfield 62, 3) := dk_181 0 62 (dk_at dksX4_distance_0 7 rfl rfl)
theorem dX4_distance_10 : decode cX4_distance 10 = .ok (.iconst 0, 1) := dk_3 (dk_at dksX4_distance_0 10 rfl rfl)
theorem dX4_distance_11 : decode cX4_distance 11 = .ok (.istore_n 3, 1) := dk_62 (dk_at dksX4_distance_0 11 rfl rfl)
theorem dX4_distance_12 : decode cX4_distance 12 = .ok (.iload_n 3, 1) := dk_29 (dk_at dksX4_distance_0 12 rfl rfl)
theorem dX4_distance_13 : decode cX4_distance 13 = .ok (.aload_n 1, 1) := dk_43 (dk_at dksX4_distance_0 13 rfl rfl)
theorem dX4_distance_14 : decode cX4_distance 14 = .ok (.getfield 80, 3) := dk_180 0 80 (dk_at dksX4_distance_0 14 rfl rfl)
theorem dX4_distance_17 : decode cX4_distance 17 = .ok (.if_icmp .ge 85, 3) := dk_162 0 85 (dk_at dksX4_distance_0 17 rfl rfl)
theorem dX4_distance_20 : decode cX4_distance 20 = .ok (.iconst 0, 1) := dk_3 (dk_at dksX4_distance_0 20 rfl rfl)
theorem dX4_distance_21 : decode cX4_distance 21 = .ok (.istore 4, 2) := dk_54 4 (dk_at dksX4_distance_0 21 rfl rfl)
theorem dX4_distance_23 : decode cX4_distance 23 = .ok (.iload 4, 2) := dk_21 4 (dk_at dksX4_distance_1 0 rfl rfl)
theorem dX4_distance_25 : decode cX4_distance 25 = .ok (.aload_n 2, 1) := dk_44 (dk_at dksX4_distance_1 2 rfl rfl)
theorem dX4_distance_26 : decode cX4_distance 26 = .ok (.getfield 80, 3) := dk_180 0 80 (dk_at dksX4_distance_1 3 rfl rfl)
theorem dX4_distance_29 : decode cX4_distance 29 = .ok (.if_icmp .ge 67, 3) := dk_162 0 67 (dk_at dksX4_distance_1 6 rfl rfl)
theorem dX4_distance_32 : decode cX4_distance 32 = .ok (.aload_n 1, 1) := dk_43 (dk_at dksX4_distance_1 9 rfl rfl)
theorem dX4_distance_33 : decode cX4_distance 33 = .ok (.getfield 57, 3) := dk_180 0 57 (dk_at dksX4_distance_1 10 rfl rfl)
theorem dX4_distance_36 : decode cX4_distance 36 = .ok (.iload_n 3, 1) := dk_29 (dk_at dksX4_distance_1 13 rfl rfl)
theorem dX4_distance_37 : decode cX4_distance 37 = .ok (.aaload, 1) := dk_50 (dk_at dksX4_distance_1 14 rfl rfl)
theorem dX4_distance_38 : decode cX4_distance 38 = .ok (.getfield 72, 3) := dk_180 0 72 (dk_at dksX4_distance_1 15 rfl rfl)
theorem dX4_distance_41 : decode cX4_distance 41 = .ok (.istore 5, 2) := dk_54 5 (dk_at dksX4_distance_1 18 rfl rfl)
theorem dX4_distance_43 : decode cX4_distance 43 = .ok (.aload_n 2, 1) := dk_44 (dk_at dksX4_distance_1 20 rfl rfl)
theorem dX4_distance_44 : decode cX4_distance 44 = .ok (.getfield 57, 3) := dk_180 0 57 (dk_at dksX4_distance_1 21 rfl rfl)
theorem dX4_distance_47 : decode cX4_distance 47 = .ok (.iload 4, 2) := dk_21 4 (dk_at dksX4_distance_2 0 rfl rfl)
theorem dX4_distance_49 : decode cX4_distance 49 = .ok (.aaload, 1) := dk_50 (dk_at dksX4_distance_2 2 rfl rfl)
theorem dX4_distance_50 : decode cX4_distance 50 = .ok (.getfield 72, 3) := dk_180 0 72 (dk_at dksX4_distance_2 3 rfl rfl)
theorem dX4_distance_53 : decode cX4_distance 53 = .ok (.istore 6, 2) := dk_54 6 (dk_at dksX4_distance_2 6 rfl rfl)
theorem dX4_distance_55 : decode cX4_distance 55 = .ok (.aload_n 0, 1) := dk_42 (dk_at dksX4_distance_2 8 rfl rfl)
theorem dX4_distance_56 : decode cX4_distance 56 = .ok (.iload 5, 2) := dk_21 5 (dk_at dksX4_distance_2 9 rfl rfl)
theorem dX4_distance_58 : decode cX4_distance 58 = .ok (.iload_n 3, 1) := dk_29 (dk_at dksX4_distance_2 11 rfl rfl)
theorem dX4_distance_59 : decode cX4_distance 59 = .ok (.iload 6, 2) := dk_21 6 (dk_at dksX4_distance_2 12 rfl rfl)
theorem dX4_distance_61 : decode cX4_distance 61 = .ok (.iload 4, 2) := dk_21 4 (dk_at dksX4_distance_2 14 rfl rfl)
theorem dX4_distance_63 : decode cX4_distance 63 = .ok (.invokevirtual 83, 3) := dk_182 0 83 (dk_at dksX4_distance_2 16 rfl rfl)
theorem dX4_distance_66 : decode cX4_distance 66 = .ok (.aload_n 0, 1) := dk_42 (dk_at dksX4_distance_2 19 rfl rfl)
theorem dX4_distance_67 : decode cX4_distance 67 = .ok (.getfield 17, 3) := dk_180 0 17 (dk_at dksX4_distance_2 20 rfl rfl)
theorem dX4_distance_70 : decode cX4_distance 70 = .ok (.iload_n 3, 1) := dk_29 (dk_at dksX4_distance_2 23 rfl rfl)
theorem dX4_distance_71 : decode cX4_distance 71 = .ok (.aaload, 1) := dk_50 (dk_at dksX4_distance_3 0 rfl rfl)
theorem dX4_distance_72 : decode cX4_distance 72 = .ok (.iload 4, 2) := dk_21 4 (dk_at dksX4_distance_3 1 rfl rfl)
theorem dX4_distance_74 : decode cX4_distance 74 = .ok (.aload_n 0, 1) := dk_42 (dk_at dksX4_distance_3 3 rfl rfl)
theorem dX4_distance_75 : decode cX4_distance 75 = .ok (.getfield 20, 3) := dk_180 0 20 (dk_at dksX4_distance_3 4 rfl rfl)
theorem dX4_distance_78 : decode cX4_distance 78 = .ok (.iload_n 3, 1) := dk_29 (dk_at dksX4_distance_3 7 rfl rfl)
theorem dX4_distance_79 : decode cX4_distance 79 = .ok (.iload 5, 2) := dk_21 5 (dk_at dksX4_distance_3 8 rfl rfl)
theorem dX4_distance_81 : decode cX4_distance 81 = .ok (.isub, 1) := dk_100 (dk_at dksX4_distance_3 10 rfl rfl)
theorem dX4_distance_82 : decode cX4_distance 82 = .ok (.aaload, 1) := dk_50 (dk_at dksX4_distance_3 11 rfl rfl)
theorem dX4_distance_83 : decode cX4_distance 83 = .ok (.iload 4, 2) := dk_21 4 (dk_at dksX4_distance_3 12 rfl rfl)
theorem dX4_distance_85 : decode cX4_distance 85 = .ok (.iload 6, 2) := dk_21 6 (dk_at dksX4_distance_3 14 rfl rfl)
theorem dX4_distance_87 : decode cX4_distance 87 = .ok (.isub, 1) := dk_100 (dk_at dksX4_distance_3 16 rfl rfl)
theorem dX4_distance_88 : decode cX4_distance 88 = .ok (.iaload, 1) := dk_46 (dk_at dksX4_distance_3 17 rfl rfl)
theorem dX4_distance_89 : decode cX4_distance 89 = .ok (.iastore, 1) := dk_79 (dk_at dksX4_distance_3 18 rfl rfl)
theorem dX4_distance_90 : decode cX4_distance 90 = .ok (.iinc 4 1, 3) := dk_132 4 1 (dk_at dksX4_distance_3 19 rfl rfl)
theorem dX4_distance_93 : decode cX4_distance 93 = .ok (.goto (-70), 3) := dk_167 255 186 (dk_at dksX4_distance_4 0 rfl rfl)
theorem dX4_distance_96 : decode cX4_distance 96 = .ok (.iinc 3 1, 3) := dk_132 3 1 (dk_at dksX4_distance_4 3 rfl rfl)
theorem dX4_distance_99 : decode cX4_distance 99 = .ok (.goto (-87), 3) := dk_167 255 169 (dk_at dksX4_distance_4 6 rfl rfl)
theorem dX4_distance_102 : decode cX4_distance 102 = .ok (.aload_n 0, 1) := dk_42 (dk_at dksX4_distance_4 9 rfl rfl)
theorem dX4_distance_103 : decode cX4_distance 103 = .ok (.iconst 0, 1) := dk_3 (dk_at dksX4_distance_4 10 rfl rfl)
theorem dX4_distance_104 : decode cX4_distance 104 = .ok (.aload_n 1, 1) := dk_43 (dk_at dksX4_distance_4 11 rfl rfl)
theorem dX4_distance_105 : decode cX4_distance 105 = .ok (.getfield 80, 3) := dk_180 0 80 (dk_at dksX4_distance_4 12 rfl rfl)
theorem dX4_distance_108 : decode cX4_distance 108 = .ok (.iconst 0, 1) := dk_3 (dk_at dksX4_distance_4 15 rfl rfl)
theorem dX4_distance_109 : decode cX4_distance 109 = .ok (.aload_n 2, 1) := dk_44 (dk_at dksX4_distance_4 16 rfl rfl)
theorem dX4_distance_110 : decode cX4_distance 110 = .ok (.getfield 80, 3) := dk_180 0 80 (dk_at dksX4_distance_4 17 rfl rfl)
theorem dX4_distance_113 : decode cX4_distance 113 = .ok (.invokevirtual 83, 3) := dk_182 0 83 (dk_at dksX4_distance_4 20 rfl rfl)
theorem dX4_distance_116 : decode cX4_distance 116 = .ok (.aload_n 0, 1) := dk_42 (dk_at dksX4_distance_4 23 rfl rfl)
theorem dX4_distance_117 : decode cX4_distance 117 = .ok (.getfield 20, 3) := dk_180 0 20 (dk_at dksX4_distance_5 0 rfl rfl)
theorem dX4_distance_120 : decode cX4_distance 120 = .ok (.aload_n 1, 1) := dk_43 (dk_at dksX4_distance_5 3 rfl rfl)
theorem dX4_distance_121 : decode cX4_distance 121 = .ok (.getfield 80, 3) := dk_180 0 80 (dk_at dksX4_distance_5 4 rfl rfl)
theorem dX4_distance_124 : decode cX4_distance 124 = .ok (.aaload, 1) := dk_50 (dk_at dksX4_distance_5 7 rfl rfl)
theorem dX4_distance_125 : decode cX4_distance 125 = .ok (.aload_n 2, 1) := dk_44 (dk_at dksX4_distance_5 8 rfl rfl)
theorem dX4_distance_126 : decode cX4_distance 126 = .ok (.getfield 80, 3) := dk_180 0 80 (dk_at dksX4_distance_5 9 rfl rfl)
theorem dX4_distance_129 : decode cX4_distance 129 = .ok (.iaload, 1) := dk_46 (dk_at dksX4_distance_5 12 rfl rfl)
theorem dX4_distance_130 : decode cX4_distance 130 = .ok (.ireturn, 1) := dk_172 (dk_at dksX4_distance_5 13 rfl rfl)
abbrev cX4_forests : ByteArray := prog_8_method_3_code
def yX4_forests : MethodName := ⟨RX4, "forests", "(IIII)V"⟩
def dkwX4_forests_9 : List UInt8 := [132, 5, 1, 167, 255, 147, 177]
abbrev dktX4_forests_9 : List UInt8 := dkwX4_forests_9 ++ []
def dkwX4_forests_8 : List UInt8 := [21, 7, 42, 27, 21, 5, 29, 21, 6, 182, 0, 50, 184, 0, 44, 79, 132, 6, 1, 167, 255, 162]
abbrev dktX4_forests_8 : List UInt8 := dkwX4_forests_8 ++ dktX4_forests_9
def dkwX4_forests_7 : List UInt8 := [96, 184, 0, 44, 54, 7, 42, 180, 0, 20, 21, 5, 27, 100, 4, 96, 50, 21, 6, 29, 100, 4, 96]
abbrev dktX4_forests_7 : List UInt8 := dkwX4_forests_7 ++ dktX4_forests_8
def dkwX4_forests_6 : List UInt8 := [46, 96, 42, 180, 0, 20, 21, 5, 27, 100, 4, 96, 50, 21, 6, 29, 100, 46, 42, 180, 0, 9, 5, 46]
abbrev dktX4_forests_6 : List UInt8 := dkwX4_forests_6 ++ dktX4_forests_7
def dkwX4_forests_5 : List UInt8 := [162, 0, 93, 42, 180, 0, 20, 21, 5, 27, 100, 50, 21, 6, 29, 100, 4, 96, 46, 42, 180, 0, 9, 6]
abbrev dktX4_forests_5 : List UInt8 := dkwX4_forests_5 ++ dktX4_forests_6
def dkwX4_forests_4 : List UInt8 := [79, 132, 5, 1, 167, 255, 215, 27, 54, 5, 21, 5, 28, 162, 0, 109, 29, 54, 6, 21, 6, 21, 4]
abbrev dktX4_forests_4 : List UInt8 := dkwX4_forests_4 ++ dktX4_forests_5
def dkwX4_forests_3 : List UInt8 := [21, 5, 29, 100, 4, 96, 42, 180, 0, 20, 3, 50, 21, 5, 29, 100, 46, 42, 180, 0, 9, 5, 46, 96]
abbrev dktX4_forests_3 : List UInt8 := dkwX4_forests_3 ++ dktX4_forests_4
def dkwX4_forests_2 : List UInt8 := [79, 132, 5, 1, 167, 255, 216, 29, 54, 5, 21, 5, 21, 4, 162, 0, 40, 42, 180, 0, 20, 3, 50]
abbrev dktX4_forests_2 : List UInt8 := dkwX4_forests_2 ++ dktX4_forests_3
def dkwX4_forests_1 : List UInt8 := [27, 100, 4, 96, 50, 3, 42, 180, 0, 20, 21, 5, 27, 100, 50, 3, 46, 42, 180, 0, 9, 6, 46, 96]
abbrev dktX4_forests_1 : List UInt8 := dkwX4_forests_1 ++ dktX4_forests_2
def dkwX4_forests_0 : List UInt8 := [42, 180, 0, 20, 3, 50, 3, 3, 79, 27, 54, 5, 21, 5, 28, 162, 0, 40, 42, 180, 0, 20, 21, 5]
abbrev dktX4_forests_0 : List UInt8 := dkwX4_forests_0 ++ dktX4_forests_1
theorem dksX4_forests_0 : cX4_forests.data.toList.drop 0 = dktX4_forests_0 := by decide +kernel
theorem dksX4_forests_1 : cX4_forests.data.toList.drop 24 = dktX4_forests_1 := dk_seg dksX4_forests_0 24 rfl rfl
theorem dksX4_forests_2 : cX4_forests.data.toList.drop 48 = dktX4_forests_2 := dk_seg dksX4_forests_1 24 rfl rfl
theorem dksX4_forests_3 : cX4_forests.data.toList.drop 71 = dktX4_forests_3 := dk_seg dksX4_forests_2 23 rfl rfl
theorem dksX4_forests_4 : cX4_forests.data.toList.drop 95 = dktX4_forests_4 := dk_seg dksX4_forests_3 24 rfl rfl
theorem dksX4_forests_5 : cX4_forests.data.toList.drop 118 = dktX4_forests_5 := dk_seg dksX4_forests_4 23 rfl rfl
theorem dksX4_forests_6 : cX4_forests.data.toList.drop 142 = dktX4_forests_6 := dk_seg dksX4_forests_5 24 rfl rfl
theorem dksX4_forests_7 : cX4_forests.data.toList.drop 166 = dktX4_forests_7 := dk_seg dksX4_forests_6 24 rfl rfl
theorem dksX4_forests_8 : cX4_forests.data.toList.drop 189 = dktX4_forests_8 := dk_seg dksX4_forests_7 23 rfl rfl
theorem dksX4_forests_9 : cX4_forests.data.toList.drop 211 = dktX4_forests_9 := dk_seg dksX4_forests_8 22 rfl rfl
theorem dX4_forests_0 : decode cX4_forests 0 = .ok (.aload_n 0, 1) := dk_42 (dk_at dksX4_forests_0 0 rfl rfl)
theorem dX4_forests_1 : decode cX4_forests 1 = .ok (.getfield 20, 3) := dk_180 0 20 (dk_at dksX4_forests_0 1 rfl rfl)
theorem dX4_forests_4 : decode cX4_forests 4 = .ok (.iconst 0, 1) := dk_3 (dk_at dksX4_forests_0 4 rfl rfl)
theorem dX4_forests_5 : decode cX4_forests 5 = .ok (.aaload, 1) := dk_50 (dk_at dksX4_forests_0 5 rfl rfl)
theorem dX4_forests_6 : decode cX4_forests 6 = .ok (.iconst 0, 1) := dk_3 (dk_at dksX4_forests_0 6 rfl rfl)
theorem dX4_forests_7 : decode cX4_forests 7 = .ok (.iconst 0, 1) := dk_3 (dk_at dksX4_forests_0 7 rfl rfl)
theorem dX4_forests_8 : decode cX4_forests 8 = .ok (.iastore, 1) := dk_79 (dk_at dksX4_forests_0 8 rfl rfl)
theorem dX4_forests_9 : decode cX4_forests 9 = .ok (.iload_n 1, 1) := dk_27 (dk_at dksX4_forests_0 9 rfl rfl)
theorem dX4_forests_10 : decode cX4_forests 10 = .ok (.istore 5, 2) := dk_54 5 (dk_at dksX4_forests_0 10 rfl rfl)
theorem dX4_forests_12 : decode cX4_forests 12 = .ok (.iload 5, 2) := dk_21 5 (dk_at dksX4_forests_0 12 rfl rfl)
theorem dX4_forests_14 : decode cX4_forests 14 = .ok (.iload_n 2, 1) := dk_28 (dk_at dksX4_forests_0 14 rfl rfl)
theorem dX4_forests_15 : decode cX4_forests 15 = .ok (.if_icmp .ge 40, 3) := dk_162 0 40 (dk_at dksX4_forests_0 15 rfl rfl)
theorem dX4_forests_18 : decode cX4_forests 18 = .ok (.aload_n 0, 1) := dk_42 (dk_at dksX4_forests_0 18 rfl rfl)
theorem dX4_forests_19 : decode cX4_forests 19 = .ok (.getfield 20, 3) := dk_180 0 20 (dk_at dksX4_forests_0 19 rfl rfl)
theorem dX4_forests_22 : decode cX4_forests 22 = .ok (.iload 5, 2) := dk_21 5 (dk_at dksX4_forests_0 22 rfl rfl)
theorem dX4_forests_24 : decode cX4_forests 24 = .ok (.iload_n 1, 1) := dk_27 (dk_at dksX4_forests_1 0 rfl rfl)
theorem dX4_forests_25 : decode cX4_forests 25 = .ok (.isub, 1) := dk_100 (dk_at dksX4_forests_1 1 rfl rfl)
theorem dX4_forests_26 : decode cX4_forests 26 = .ok (.iconst 1, 1) := dk_4 (dk_at dksX4_forests_1 2 rfl rfl)
theorem dX4_forests_27 : decode cX4_forests 27 = .ok (.iadd, 1) := dk_96 (dk_at dksX4_forests_1 3 rfl rfl)
theorem dX4_forests_28 : decode cX4_forests 28 = .ok (.aaload, 1) := dk_50 (dk_at dksX4_forests_1 4 rfl rfl)
theorem dX4_forests_29 : decode cX4_forests 29 = .ok (.iconst 0, 1) := dk_3 (dk_at dksX4_forests_1 5 rfl rfl)
theorem dX4_forests_30 : decode cX4_forests 30 = .ok (.aload_n 0, 1) := dk_42 (dk_at dksX4_forests_1 6 rfl rfl)
theorem dX4_forests_31 : decode cX4_forests 31 = .ok (.getfield 20, 3) := dk_180 0 20 (dk_at dksX4_forests_1 7 rfl rfl)
theorem dX4_forests_34 : decode cX4_forests 34 = .ok (.iload 5, 2) := dk_21 5 (dk_at dksX4_forests_1 10 rfl rfl)
theorem dX4_forests_36 : decode cX4_forests 36 = .ok (.iload_n 1, 1) := dk_27 (dk_at dksX4_forests_1 12 rfl rfl)
theorem dX4_forests_37 : decode cX4_forests 37 = .ok (.isub, 1) := dk_100 (dk_at dksX4_forests_1 13 rfl rfl)
theorem dX4_forests_38 : decode cX4_forests 38 = .ok (.aaload, 1) := dk_50 (dk_at dksX4_forests_1 14 rfl rfl)
theorem dX4_forests_39 : decode cX4_forests 39 = .ok (.iconst 0, 1) := dk_3 (dk_at dksX4_forests_1 15 rfl rfl)
theorem dX4_forests_40 : decode cX4_forests 40 = .ok (.iaload, 1) := dk_46 (dk_at dksX4_forests_1 16 rfl rfl)
theorem dX4_forests_41 : decode cX4_forests 41 = .ok (.aload_n 0, 1) := dk_42 (dk_at dksX4_forests_1 17 rfl rfl)
theorem dX4_forests_42 : decode cX4_forests 42 = .ok (.getfield 9, 3) := dk_180 0 9 (dk_at dksX4_forests_1 18 rfl rfl)
theorem dX4_forests_45 : decode cX4_forests 45 = .ok (.iconst 3, 1) := dk_6 (dk_at dksX4_forests_1 21 rfl rfl)
theorem dX4_forests_46 : decode cX4_forests 46 = .ok (.iaload, 1) := dk_46 (dk_at dksX4_forests_1 22 rfl rfl)
theorem dX4_forests_47 : decode cX4_forests 47 = .ok (.iadd, 1) := dk_96 (dk_at dksX4_forests_1 23 rfl rfl)
theorem dX4_forests_48 : decode cX4_forests 48 = .ok (.iastore, 1) := dk_79 (dk_at dksX4_forests_2 0 rfl rfl)
theorem dX4_forests_49 : decode cX4_forests 49 = .ok (.iinc 5 1, 3) := dk_132 5 1 (dk_at dksX4_forests_2 1 rfl rfl)
theorem dX4_forests_52 : decode cX4_forests 52 = .ok (.goto (-40), 3) := dk_167 255 216 (dk_at dksX4_forests_2 4 rfl rfl)
theorem dX4_forests_55 : decode cX4_forests 55 = .ok (.iload_n 3, 1) := dk_29 (dk_at dksX4_forests_2 7 rfl rfl)
theorem dX4_forests_56 : decode cX4_forests 56 = .ok (.istore 5, 2) := dk_54 5 (dk_at dksX4_forests_2 8 rfl rfl)
theorem dX4_forests_58 : decode cX4_forests 58 = .ok (.iload 5, 2) := dk_21 5 (dk_at dksX4_forests_2 10 rfl rfl)
theorem dX4_forests_60 : decode cX4_forests 60 = .ok (.iload 4, 2) := dk_21 4 (dk_at dksX4_forests_2 12 rfl rfl)
theorem dX4_forests_62 : decode cX4_forests 62 = .ok (.if_icmp .ge 40, 3) := dk_162 0 40 (dk_at dksX4_forests_2 14 rfl rfl)
theorem dX4_forests_65 : decode cX4_forests 65 = .ok (.aload_n 0, 1) := dk_42 (dk_at dksX4_forests_2 17 rfl rfl)
theorem dX4_forests_66 : decode cX4_forests 66 = .ok (.getfield 20, 3) := dk_180 0 20 (dk_at dksX4_forests_2 18 rfl rfl)
theorem dX4_forests_69 : decode cX4_forests 69 = .ok (.iconst 0, 1) := dk_3 (dk_at dksX4_forests_2 21 rfl rfl)
theorem dX4_forests_70 : decode cX4_forests 70 = .ok (.aaload, 1) := dk_50 (dk_at dksX4_forests_2 22 rfl rfl)
theorem dX4_forests_71 : decode cX4_forests 71 = .ok (.iload 5, 2) := dk_21 5 (dk_at dksX4_forests_3 0 rfl rfl)
theorem dX4_forests_73 : decode cX4_forests 73 = .ok (.iload_n 3, 1) := dk_29 (dk_at dksX4_forests_3 2 rfl rfl)
theorem dX4_forests_74 : decode cX4_forests 74 = .ok (.isub, 1) := dk_100 (dk_at dksX4_forests_3 3 rfl rfl)
theorem dX4_forests_75 : decode cX4_forests 75 = .ok (.iconst 1, 1) := dk_4 (dk_at dksX4_forests_3 4 rfl rfl)
theorem dX4_forests_76 : decode cX4_forests 76 = .ok (.iadd, 1) := dk_96 (dk_at dksX4_forests_3 5 rfl rfl)
theorem dX4_forests_77 : decode cX4_forests 77 = .ok (.aload_n 0, 1) := dk_42 (dk_at dksX4_forests_3 6 rfl rfl)
theorem dX4_forests_78 : decode cX4_forests 78 = .ok (.getfield 20, 3) := dk_180 0 20 (dk_at dksX4_forests_3 7 rfl rfl)
theorem dX4_forests_81 : decode cX4_forests 81 = .ok (.iconst 0, 1) := dk_3 (dk_at dksX4_forests_3 10 rfl rfl)
theorem dX4_forests_82 : decode cX4_forests 82 = .ok (.aaload, 1) := dk_50 (dk_at dksX4_forests_3 11 rfl rfl)
theorem dX4_forests_83 : decode cX4_forests 83 = .ok (.iload 5, 2) := dk_21 5 (dk_at dksX4_forests_3 12 rfl rfl)
theorem dX4_forests_85 : decode cX4_forests 85 = .ok (.iload_n 3, 1) := dk_29 (dk_at dksX4_forests_3 14 rfl rfl)
theorem dX4_forests_86 : decode cX4_forests 86 = .ok (.isub, 1) := dk_100 (dk_at dksX4_forests_3 15 rfl rfl)
theorem dX4_forests_87 : decode cX4_forests 87 = .ok (.iaload, 1) := dk_46 (dk_at dksX4_forests_3 16 rfl rfl)
theorem dX4_forests_88 : decode cX4_forests 88 = .ok (.aload_n 0, 1) := dk_42 (dk_at dksX4_forests_3 17 rfl rfl)
theorem dX4_forests_89 : decode cX4_forests 89 = .ok (.getfield 9, 3) := dk_180 0 9 (dk_at dksX4_forests_3 18 rfl rfl)
theorem dX4_forests_92 : decode cX4_forests 92 = .ok (.iconst 2, 1) := dk_5 (dk_at dksX4_forests_3 21 rfl rfl)
theorem dX4_forests_93 : decode cX4_forests 93 = .ok (.iaload, 1) := dk_46 (dk_at dksX4_forests_3 22 rfl rfl)
theorem dX4_forests_94 : decode cX4_forests 94 = .ok (.iadd, 1) := dk_96 (dk_at dksX4_forests_3 23 rfl rfl)
theorem dX4_forests_95 : decode cX4_forests 95 = .ok (.iastore, 1) := dk_79 (dk_at dksX4_forests_4 0 rfl rfl)
theorem dX4_forests_96 : decode cX4_forests 96 = .ok (.iinc 5 1, 3) := dk_132 5 1 (dk_at dksX4_forests_4 1 rfl rfl)
theorem dX4_forests_99 : decode cX4_forests 99 = .ok (.goto (-41), 3) := dk_167 255 215 (dk_at dksX4_forests_4 4 rfl rfl)
theorem dX4_forests_102 : decode cX4_forests 102 = .ok (.iload_n 1, 1) := dk_27 (dk_at dksX4_forests_4 7 rfl rfl)
theorem dX4_forests_103 : decode cX4_forests 103 = .ok (.istore 5, 2) := dk_54 5 (dk_at dksX4_forests_4 8 rfl rfl)
theorem dX4_forests_105 : decode cX4_forests 105 = .ok (.iload 5, 2) := dk_21 5 (dk_at dksX4_forests_4 10 rfl rfl)
theorem dX4_forests_107 : decode cX4_forests 107 = .ok (.iload_n 2, 1) := dk_28 (dk_at dksX4_forests_4 12 rfl rfl)
theorem dX4_forests_108 : decode cX4_forests 108 = .ok (.if_icmp .ge 109, 3) := dk_162 0 109 (dk_at dksX4_forests_4 13 rfl rfl)
theorem dX4_forests_111 : decode cX4_forests 111 = .ok (.iload_n 3, 1) := dk_29 (dk_at dksX4_forests_4 16 rfl rfl)
theorem dX4_forests_112 : decode cX4_forests 112 = .ok (.istore 6, 2) := dk_54 6 (dk_at dksX4_forests_4 17 rfl rfl)
theorem dX4_forests_114 : decode cX4_forests 114 = .ok (.iload 6, 2) := dk_21 6 (dk_at dksX4_forests_4 19 rfl rfl)
theorem dX4_forests_116 : decode cX4_forests 116 = .ok (.iload 4, 2) := dk_21 4 (dk_at dksX4_forests_4 21 rfl rfl)
theorem dX4_forests_118 : decode cX4_forests 118 = .ok (.if_icmp .ge 93, 3) := dk_162 0 93 (dk_at dksX4_forests_5 0 rfl rfl)
theorem dX4_forests_121 : decode cX4_forests 121 = .ok (.aload_n 0, 1) := dk_42 (dk_at dksX4_forests_5 3 rfl rfl)
theorem dX4_forests_122 : decode cX4_forests 122 = .ok (.getfield 20, 3) := dk_180 0 20 (dk_at dksX4_forests_5 4 rfl rfl)
theorem dX4_forests_125 : decode cX4_forests 125 = .ok (.iload 5, 2) := dk_21 5 (dk_at dksX4_forests_5 7 rfl rfl)
theorem dX4_forests_127 : decode cX4_forests 127 = .ok (.iload_n 1, 1) := dk_27 (dk_at dksX4_forests_5 9 rfl rfl)
theorem dX4_forests_128 : decode cX4_forests 128 = .ok (.isub, 1) := dk_100 (dk_at dksX4_forests_5 10 rfl rfl)
theorem dX4_forests_129 : decode cX4_forests 129 = .ok (.aaload, 1) := dk_50 (dk_at dksX4_forests_5 11 rfl rfl)
theorem dX4_forests_130 : decode cX4_forests 130 = .ok (.iload 6, 2) := dk_21 6 (dk_at dksX4_forests_5 12 rfl rfl)
theorem dX4_forests_132 : decode cX4_forests 132 = .ok (.iload_n 3, 1) := dk_29 (dk_at dksX4_forests_5 14 rfl rfl)
theorem dX4_forests_133 : decode cX4_forests 133 = .ok (.isub, 1) := dk_100 (dk_at dksX4_forests_5 15 rfl rfl)
theorem dX4_forests_134 : decode cX4_forests 134 = .ok (.iconst 1, 1) := dk_4 (dk_at dksX4_forests_5 16 rfl rfl)
theorem dX4_forests_135 : decode cX4_forests 135 = .ok (.iadd, 1) := dk_96 (dk_at dksX4_forests_5 17 rfl rfl)
theorem dX4_forests_136 : decode cX4_forests 136 = .ok (.iaload, 1) := dk_46 (dk_at dksX4_forests_5 18 rfl rfl)
theorem dX4_forests_137 : decode cX4_forests 137 = .ok (.aload_n 0, 1) := dk_42 (dk_at dksX4_forests_5 19 rfl rfl)
theorem dX4_forests_138 : decode cX4_forests 138 = .ok (.getfield 9, 3) := dk_180 0 9 (dk_at dksX4_forests_5 20 rfl rfl)
theorem dX4_forests_141 : decode cX4_forests 141 = .ok (.iconst 3, 1) := dk_6 (dk_at dksX4_forests_5 23 rfl rfl)
theorem dX4_forests_142 : decode cX4_forests 142 = .ok (.iaload, 1) := dk_46 (dk_at dksX4_forests_6 0 rfl rfl)
theorem dX4_forests_143 : decode cX4_forests 143 = .ok (.iadd, 1) := dk_96 (dk_at dksX4_forests_6 1 rfl rfl)
theorem dX4_forests_144 : decode cX4_forests 144 = .ok (.aload_n 0, 1) := dk_42 (dk_at dksX4_forests_6 2 rfl rfl)
theorem dX4_forests_145 : decode cX4_forests 145 = .ok (.getfield 20, 3) := dk_180 0 20 (dk_at dksX4_forests_6 3 rfl rfl)
theorem dX4_forests_148 : decode cX4_forests 148 = .ok (.iload 5, 2) := dk_21 5 (dk_at dksX4_forests_6 6 rfl rfl)
theorem dX4_forests_150 : decode cX4_forests 150 = .ok (.iload_n 1, 1) := dk_27 (dk_at dksX4_forests_6 8 rfl rfl)
theorem dX4_forests_151 : decode cX4_forests 151 = .ok (.isub, 1) := dk_100 (dk_at dksX4_forests_6 9 rfl rfl)
theorem dX4_forests_152 : decode cX4_forests 152 = .ok (.iconst 1, 1) := dk_4 (dk_at dksX4_forests_6 10 rfl rfl)
theorem dX4_forests_153 : decode cX4_forests 153 = .ok (.iadd, 1) := dk_96 (dk_at dksX4_forests_6 11 rfl rfl)
theorem dX4_forests_154 : decode cX4_forests 154 = .ok (.aaload, 1) := dk_50 (dk_at dksX4_forests_6 12 rfl rfl)
theorem dX4_forests_155 : decode cX4_forests 155 = .ok (.iload 6, 2) := dk_21 6 (dk_at dksX4_forests_6 13 rfl rfl)
theorem dX4_forests_157 : decode cX4_forests 157 = .ok (.iload_n 3, 1) := dk_29 (dk_at dksX4_forests_6 15 rfl rfl)
theorem dX4_forests_158 : decode cX4_forests 158 = .ok (.isub, 1) := dk_100 (dk_at dksX4_forests_6 16 rfl rfl)
theorem dX4_forests_159 : decode cX4_forests 159 = .ok (.iaload, 1) := dk_46 (dk_at dksX4_forests_6 17 rfl rfl)
theorem dX4_forests_160 : decode cX4_forests 160 = .ok (.aload_n 0, 1) := dk_42 (dk_at dksX4_forests_6 18 rfl rfl)
theorem dX4_forests_161 : decode cX4_forests 161 = .ok (.getfield 9, 3) := dk_180 0 9 (dk_at dksX4_forests_6 19 rfl rfl)
theorem dX4_forests_164 : decode cX4_forests 164 = .ok (.iconst 2, 1) := dk_5 (dk_at dksX4_forests_6 22 rfl rfl)
theorem dX4_forests_165 : decode cX4_forests 165 = .ok (.iaload, 1) := dk_46 (dk_at dksX4_forests_6 23 rfl rfl)
theorem dX4_forests_166 : decode cX4_forests 166 = .ok (.iadd, 1) := dk_96 (dk_at dksX4_forests_7 0 rfl rfl)
theorem dX4_forests_167 : decode cX4_forests 167 = .ok (.invokestatic 44, 3) := dk_184 0 44 (dk_at dksX4_forests_7 1 rfl rfl)
theorem dX4_forests_170 : decode cX4_forests 170 = .ok (.istore 7, 2) := dk_54 7 (dk_at dksX4_forests_7 4 rfl rfl)
theorem dX4_forests_172 : decode cX4_forests 172 = .ok (.aload_n 0, 1) := dk_42 (dk_at dksX4_forests_7 6 rfl rfl)
theorem dX4_forests_173 : decode cX4_forests 173 = .ok (.getfield 20, 3) := dk_180 0 20 (dk_at dksX4_forests_7 7 rfl rfl)
theorem dX4_forests_176 : decode cX4_forests 176 = .ok (.iload 5, 2) := dk_21 5 (dk_at dksX4_forests_7 10 rfl rfl)
theorem dX4_forests_178 : decode cX4_forests 178 = .ok (.iload_n 1, 1) := dk_27 (dk_at dksX4_forests_7 12 rfl rfl)
theorem dX4_forests_179 : decode cX4_forests 179 = .ok (.isub, 1) := dk_100 (dk_at dksX4_forests_7 13 rfl rfl)
theorem dX4_forests_180 : decode cX4_forests 180 = .ok (.iconst 1, 1) := dk_4 (dk_at dksX4_forests_7 14 rfl rfl)
theorem dX4_forests_181 : decode cX4_forests 181 = .ok (.iadd, 1) := dk_96 (dk_at dksX4_forests_7 15 rfl rfl)
theorem dX4_forests_182 : decode cX4_forests 182 = .ok (.aaload, 1) := dk_50 (dk_at dksX4_forests_7 16 rfl rfl)
theorem dX4_forests_183 : decode cX4_forests 183 = .ok (.iload 6, 2) := dk_21 6 (dk_at dksX4_forests_7 17 rfl rfl)
theorem dX4_forests_185 : decode cX4_forests 185 = .ok (.iload_n 3, 1) := dk_29 (dk_at dksX4_forests_7 19 rfl rfl)
theorem dX4_forests_186 : decode cX4_forests 186 = .ok (.isub, 1) := dk_100 (dk_at dksX4_forests_7 20 rfl rfl)
theorem dX4_forests_187 : decode cX4_forests 187 = .ok (.iconst 1, 1) := dk_4 (dk_at dksX4_forests_7 21 rfl rfl)
theorem dX4_forests_188 : decode cX4_forests 188 = .ok (.iadd, 1) := dk_96 (dk_at dksX4_forests_7 22 rfl rfl)
theorem dX4_forests_189 : decode cX4_forests 189 = .ok (.iload 7, 2) := dk_21 7 (dk_at dksX4_forests_8 0 rfl rfl)
theorem dX4_forests_191 : decode cX4_forests 191 = .ok (.aload_n 0, 1) := dk_42 (dk_at dksX4_forests_8 2 rfl rfl)
theorem dX4_forests_192 : decode cX4_forests 192 = .ok (.iload_n 1, 1) := dk_27 (dk_at dksX4_forests_8 3 rfl rfl)
theorem dX4_forests_193 : decode cX4_forests 193 = .ok (.iload 5, 2) := dk_21 5 (dk_at dksX4_forests_8 4 rfl rfl)
theorem dX4_forests_195 : decode cX4_forests 195 = .ok (.iload_n 3, 1) := dk_29 (dk_at dksX4_forests_8 6 rfl rfl)
theorem dX4_forests_196 : decode cX4_forests 196 = .ok (.iload 6, 2) := dk_21 6 (dk_at dksX4_forests_8 7 rfl rfl)
theorem dX4_forests_198 : decode cX4_forests 198 = .ok (.invokevirtual 50, 3) := dk_182 0 50 (dk_at dksX4_forests_8 9 rfl rfl)
theorem dX4_forests_201 : decode cX4_forests 201 = .ok (.invokestatic 44, 3) := dk_184 0 44 (dk_at dksX4_forests_8 12 rfl rfl)
theorem dX4_forests_204 : decode cX4_forests 204 = .ok (.iastore, 1) := dk_79 (dk_at dksX4_forests_8 15 rfl rfl)
theorem dX4_forests_205 : decode cX4_forests 205 = .ok (.iinc 6 1, 3) := dk_132 6 1 (dk_at dksX4_forests_8 16 rfl rfl)
theorem dX4_forests_208 : decode cX4_forests 208 = .ok (.goto (-94), 3) := dk_167 255 162 (dk_at dksX4_forests_8 19 rfl rfl)
theorem dX4_forests_211 : decode cX4_forests 211 = .ok (.iinc 5 1, 3) := dk_132 5 1 (dk_at dksX4_forests_9 0 rfl rfl)
theorem dX4_forests_214 : decode cX4_forests 214 = .ok (.goto (-109), 3) := dk_167 255 147 (dk_at dksX4_forests_9 3 rfl rfl)
theorem dX4_forests_217 : decode cX4_forests 217 = .ok (.return_, 1) := dk_177 (dk_at dksX4_forests_9 6 rfl rfl)
abbrev cX4_paired : ByteArray := prog_8_method_4_code
def yX4_paired : MethodName := ⟨RX4, "paired", "(IIII)I"⟩
def dkwX4_paired_3 : List UInt8 := [182, 0, 76, 96, 172]
abbrev dktX4_paired_3 : List UInt8 := dkwX4_paired_3 ++ []
def dkwX4_paired_2 : List UInt8 := [50, 25, 6, 180, 0, 72, 29, 100, 46, 42, 180, 0, 17, 28, 50, 21, 4, 46, 96, 42, 25, 5, 25, 6]
abbrev dktX4_paired_2 : List UInt8 := dkwX4_paired_2 ++ dktX4_paired_3
def dkwX4_paired_1 : List UInt8 := [25, 5, 25, 6, 182, 0, 65, 154, 0, 6, 18, 71, 172, 42, 180, 0, 20, 25, 5, 180, 0, 72, 27, 100]
abbrev dktX4_paired_1 : List UInt8 := dkwX4_paired_1 ++ dktX4_paired_2
def dkwX4_paired_0 : List UInt8 := [42, 180, 0, 53, 180, 0, 57, 28, 50, 58, 5, 42, 180, 0, 62, 180, 0, 57, 21, 4, 50, 58, 6]
abbrev dktX4_paired_0 : List UInt8 := dkwX4_paired_0 ++ dktX4_paired_1
theorem dksX4_paired_0 : cX4_paired.data.toList.drop 0 = dktX4_paired_0 := by decide +kernel
theorem dksX4_paired_1 : cX4_paired.data.toList.drop 23 = dktX4_paired_1 := dk_seg dksX4_paired_0 23 rfl rfl
theorem dksX4_paired_2 : cX4_paired.data.toList.drop 47 = dktX4_paired_2 := dk_seg dksX4_paired_1 24 rfl rfl
theorem dksX4_paired_3 : cX4_paired.data.toList.drop 71 = dktX4_paired_3 := dk_seg dksX4_paired_2 24 rfl rfl
theorem dX4_paired_0 : decode cX4_paired 0 = .ok (.aload_n 0, 1) := dk_42 (dk_at dksX4_paired_0 0 rfl rfl)
theorem dX4_paired_1 : decode cX4_paired 1 = .ok (.getfield 53, 3) := dk_180 0 53 (dk_at dksX4_paired_0 1 rfl rfl)
theorem dX4_paired_4 : decode cX4_paired 4 = .ok (.getfield 57, 3) := dk_180 0 57 (dk_at dksX4_paired_0 4 rfl rfl)
theorem dX4_paired_7 : decode cX4_paired 7 = .ok (.iload_n 2, 1) := dk_28 (dk_at dksX4_paired_0 7 rfl rfl)
theorem dX4_paired_8 : decode cX4_paired 8 = .ok (.aaload, 1) := dk_50 (dk_at dksX4_paired_0 8 rfl rfl)
theorem dX4_paired_9 : decode cX4_paired 9 = .ok (.astore 5, 2) := dk_58 5 (dk_at dksX4_paired_0 9 rfl rfl)
theorem dX4_paired_11 : decode cX4_paired 11 = .ok (.aload_n 0, 1) := dk_42 (dk_at dksX4_paired_0 11 rfl rfl)
theorem dX4_paired_12 : decode cX4_paired 12 = .ok (.getfield 62, 3) := dk_180 0 62 (dk_at dksX4_paired_0 12 rfl rfl)
theorem dX4_paired_15 : decode cX4_paired 15 = .ok (.getfield 57, 3) := dk_180 0 57 (dk_at dksX4_paired_0 15 rfl rfl)
theorem dX4_paired_18 : decode cX4_paired 18 = .ok (.iload 4, 2) := dk_21 4 (dk_at dksX4_paired_0 18 rfl rfl)
theorem dX4_paired_20 : decode cX4_paired 20 = .ok (.aaload, 1) := dk_50 (dk_at dksX4_paired_0 20 rfl rfl)
theorem dX4_paired_21 : decode cX4_paired 21 = .ok (.astore 6, 2) := dk_58 6 (dk_at dksX4_paired_0 21 rfl rfl)
theorem dX4_paired_23 : decode cX4_paired 23 = .ok (.aload 5, 2) := dk_25 5 (dk_at dksX4_paired_1 0 rfl rfl)
theorem dX4_paired_25 : decode cX4_paired 25 = .ok (.aload 6, 2) := dk_25 6 (dk_at dksX4_paired_1 2 rfl rfl)
theorem dX4_paired_27 : decode cX4_paired 27 = .ok (.invokevirtual 65, 3) := dk_182 0 65 (dk_at dksX4_paired_1 4 rfl rfl)
theorem dX4_paired_30 : decode cX4_paired 30 = .ok (.ifCond .ne 6, 3) := dk_154 0 6 (dk_at dksX4_paired_1 7 rfl rfl)
theorem dX4_paired_33 : decode cX4_paired 33 = .ok (.ldc 71, 2) := dk_18 71 (dk_at dksX4_paired_1 10 rfl rfl)
theorem dX4_paired_35 : decode cX4_paired 35 = .ok (.ireturn, 1) := dk_172 (dk_at dksX4_paired_1 12 rfl rfl)
theorem dX4_paired_36 : decode cX4_paired 36 = .ok (.aload_n 0, 1) := dk_42 (dk_at dksX4_paired_1 13 rfl rfl)
theorem dX4_paired_37 : decode cX4_paired 37 = .ok (.getfield 20, 3) := dk_180 0 20 (dk_at dksX4_paired_1 14 rfl rfl)
theorem dX4_paired_40 : decode cX4_paired 40 = .ok (.aload 5, 2) := dk_25 5 (dk_at dksX4_paired_1 17 rfl rfl)
theorem dX4_paired_42 : decode cX4_paired 42 = .ok (.getfield 72, 3) := dk_180 0 72 (dk_at dksX4_paired_1 19 rfl rfl)
theorem dX4_paired_45 : decode cX4_paired 45 = .ok (.iload_n 1, 1) := dk_27 (dk_at dksX4_paired_1 22 rfl rfl)
theorem dX4_paired_46 : decode cX4_paired 46 = .ok (.isub, 1) := dk_100 (dk_at dksX4_paired_1 23 rfl rfl)
theorem dX4_paired_47 : decode cX4_paired 47 = .ok (.aaload, 1) := dk_50 (dk_at dksX4_paired_2 0 rfl rfl)
theorem dX4_paired_48 : decode cX4_paired 48 = .ok (.aload 6, 2) := dk_25 6 (dk_at dksX4_paired_2 1 rfl rfl)
theorem dX4_paired_50 : decode cX4_paired 50 = .ok (.getfield 72, 3) := dk_180 0 72 (dk_at dksX4_paired_2 3 rfl rfl)
theorem dX4_paired_53 : decode cX4_paired 53 = .ok (.iload_n 3, 1) := dk_29 (dk_at dksX4_paired_2 6 rfl rfl)
theorem dX4_paired_54 : decode cX4_paired 54 = .ok (.isub, 1) := dk_100 (dk_at dksX4_paired_2 7 rfl rfl)
theorem dX4_paired_55 : decode cX4_paired 55 = .ok (.iaload, 1) := dk_46 (dk_at dksX4_paired_2 8 rfl rfl)
theorem dX4_paired_56 : decode cX4_paired 56 = .ok (.aload_n 0, 1) := dk_42 (dk_at dksX4_paired_2 9 rfl rfl)
theorem dX4_paired_57 : decode cX4_paired 57 = .ok (.getfield 17, 3) := dk_180 0 17 (dk_at dksX4_paired_2 10 rfl rfl)
theorem dX4_paired_60 : decode cX4_paired 60 = .ok (.iload_n 2, 1) := dk_28 (dk_at dksX4_paired_2 13 rfl rfl)
theorem dX4_paired_61 : decode cX4_paired 61 = .ok (.aaload, 1) := dk_50 (dk_at dksX4_paired_2 14 rfl rfl)
theorem dX4_paired_62 : decode cX4_paired 62 = .ok (.iload 4, 2) := dk_21 4 (dk_at dksX4_paired_2 15 rfl rfl)
theorem dX4_paired_64 : decode cX4_paired 64 = .ok (.iaload, 1) := dk_46 (dk_at dksX4_paired_2 17 rfl rfl)
theorem dX4_paired_65 : decode cX4_paired 65 = .ok (.iadd, 1) := dk_96 (dk_at dksX4_paired_2 18 rfl rfl)
theorem dX4_paired_66 : decode cX4_paired 66 = .ok (.aload_n 0, 1) := dk_42 (dk_at dksX4_paired_2 19 rfl rfl)
theorem dX4_paired_67 : decode cX4_paired 67 = .ok (.aload 5, 2) := dk_25 5 (dk_at dksX4_paired_2 20 rfl rfl)
theorem dX4_paired_69 : decode cX4_paired 69 = .ok (.aload 6, 2) := dk_25 6 (dk_at dksX4_paired_2 22 rfl rfl)
theorem dX4_paired_71 : decode cX4_paired 71 = .ok (.invokevirtual 76, 3) := dk_182 0 76 (dk_at dksX4_paired_3 0 rfl rfl)
theorem dX4_paired_74 : decode cX4_paired 74 = .ok (.iadd, 1) := dk_96 (dk_at dksX4_paired_3 3 rfl rfl)
theorem dX4_paired_75 : decode cX4_paired 75 = .ok (.ireturn, 1) := dk_172 (dk_at dksX4_paired_3 4 rfl rfl)
abbrev cX4_cost : ByteArray := prog_8_method_2_code
def yX4_cost : MethodName := ⟨RX4, "cost", "(LBranchMender$Node;LBranchMender$Node;)I"⟩
def dkwX4_cost_2 : List UInt8 := [96, 172]
abbrev dktX4_cost_2 : List UInt8 := dkwX4_cost_2 ++ []
def dkwX4_cost_1 : List UInt8 := [43, 180, 0, 41, 44, 180, 0, 41, 184, 0, 37, 153, 0, 7, 3, 167, 0, 9, 42, 180, 0, 9, 4, 46]
abbrev dktX4_cost_1 : List UInt8 := dkwX4_cost_1 ++ dktX4_cost_2
def dkwX4_cost_0 : List UInt8 := [43, 180, 0, 33, 44, 180, 0, 33, 184, 0, 37, 153, 0, 7, 3, 167, 0, 9, 42, 180, 0, 9, 3, 46]
abbrev dktX4_cost_0 : List UInt8 := dkwX4_cost_0 ++ dktX4_cost_1
theorem dksX4_cost_0 : cX4_cost.data.toList.drop 0 = dktX4_cost_0 := by decide +kernel
theorem dksX4_cost_1 : cX4_cost.data.toList.drop 24 = dktX4_cost_1 := dk_seg dksX4_cost_0 24 rfl rfl
theorem dksX4_cost_2 : cX4_cost.data.toList.drop 48 = dktX4_cost_2 := dk_seg dksX4_cost_1 24 rfl rfl
theorem dX4_cost_0 : decode cX4_cost 0 = .ok (.aload_n 1, 1) := dk_43 (dk_at dksX4_cost_0 0 rfl rfl)
theorem dX4_cost_1 : decode cX4_cost 1 = .ok (.getfield 33, 3) := dk_180 0 33 (dk_at dksX4_cost_0 1 rfl rfl)
theorem dX4_cost_4 : decode cX4_cost 4 = .ok (.aload_n 2, 1) := dk_44 (dk_at dksX4_cost_0 4 rfl rfl)
theorem dX4_cost_5 : decode cX4_cost 5 = .ok (.getfield 33, 3) := dk_180 0 33 (dk_at dksX4_cost_0 5 rfl rfl)
theorem dX4_cost_8 : decode cX4_cost 8 = .ok (.invokestatic 37, 3) := dk_184 0 37 (dk_at dksX4_cost_0 8 rfl rfl)
theorem dX4_cost_11 : decode cX4_cost 11 = .ok (.ifCond .eq 7, 3) := dk_153 0 7 (dk_at dksX4_cost_0 11 rfl rfl)
theorem dX4_cost_14 : decode cX4_cost 14 = .ok (.iconst 0, 1) := dk_3 (dk_at dksX4_cost_0 14 rfl rfl)
theorem dX4_cost_15 : decode cX4_cost 15 = .ok (.goto 9, 3) := dk_167 0 9 (dk_at dksX4_cost_0 15 rfl rfl)
theorem dX4_cost_18 : decode cX4_cost 18 = .ok (.aload_n 0, 1) := dk_42 (dk_at dksX4_cost_0 18 rfl rfl)
theorem dX4_cost_19 : decode cX4_cost 19 = .ok (.getfield 9, 3) := dk_180 0 9 (dk_at dksX4_cost_0 19 rfl rfl)
theorem dX4_cost_22 : decode cX4_cost 22 = .ok (.iconst 0, 1) := dk_3 (dk_at dksX4_cost_0 22 rfl rfl)
theorem dX4_cost_23 : decode cX4_cost 23 = .ok (.iaload, 1) := dk_46 (dk_at dksX4_cost_0 23 rfl rfl)
theorem dX4_cost_24 : decode cX4_cost 24 = .ok (.aload_n 1, 1) := dk_43 (dk_at dksX4_cost_1 0 rfl rfl)
theorem dX4_cost_25 : decode cX4_cost 25 = .ok (.getfield 41, 3) := dk_180 0 41 (dk_at dksX4_cost_1 1 rfl rfl)
theorem dX4_cost_28 : decode cX4_cost 28 = .ok (.aload_n 2, 1) := dk_44 (dk_at dksX4_cost_1 4 rfl rfl)
theorem dX4_cost_29 : decode cX4_cost 29 = .ok (.getfield 41, 3) := dk_180 0 41 (dk_at dksX4_cost_1 5 rfl rfl)
theorem dX4_cost_32 : decode cX4_cost 32 = .ok (.invokestatic 37, 3) := dk_184 0 37 (dk_at dksX4_cost_1 8 rfl rfl)
theorem dX4_cost_35 : decode cX4_cost 35 = .ok (.ifCond .eq 7, 3) := dk_153 0 7 (dk_at dksX4_cost_1 11 rfl rfl)
theorem dX4_cost_38 : decode cX4_cost 38 = .ok (.iconst 0, 1) := dk_3 (dk_at dksX4_cost_1 14 rfl rfl)
theorem dX4_cost_39 : decode cX4_cost 39 = .ok (.goto 9, 3) := dk_167 0 9 (dk_at dksX4_cost_1 15 rfl rfl)
theorem dX4_cost_42 : decode cX4_cost 42 = .ok (.aload_n 0, 1) := dk_42 (dk_at dksX4_cost_1 18 rfl rfl)
theorem dX4_cost_43 : decode cX4_cost 43 = .ok (.getfield 9, 3) := dk_180 0 9 (dk_at dksX4_cost_1 19 rfl rfl)
theorem dX4_cost_46 : decode cX4_cost 46 = .ok (.iconst 1, 1) := dk_4 (dk_at dksX4_cost_1 22 rfl rfl)
theorem dX4_cost_47 : decode cX4_cost 47 = .ok (.iaload, 1) := dk_46 (dk_at dksX4_cost_1 23 rfl rfl)
theorem dX4_cost_48 : decode cX4_cost 48 = .ok (.iadd, 1) := dk_96 (dk_at dksX4_cost_2 0 rfl rfl)
theorem dX4_cost_49 : decode cX4_cost 49 = .ok (.ireturn, 1) := dk_172 (dk_at dksX4_cost_2 1 rfl rfl)
abbrev cX4_map : ByteArray := prog_8_method_6_code
def yX4_map : MethodName := ⟨RX4, "map", "(LBranchMender$Tree;LBranchMender$Tree;)V"⟩
def dkwX4_map_2 : List UInt8 := [182, 0, 91, 177]
abbrev dktX4_map_2 : List UInt8 := dkwX4_map_2 ++ []
def dkwX4_map_1 : List UInt8 := [180, 0, 29, 29, 3, 84, 132, 3, 1, 167, 255, 233, 42, 3, 43, 180, 0, 80, 3, 44, 180, 0, 80]
abbrev dktX4_map_1 : List UInt8 := dkwX4_map_1 ++ dktX4_map_2
def dkwX4_map_0 : List UInt8 := [42, 43, 44, 182, 0, 87, 87, 3, 62, 29, 16, 30, 162, 0, 23, 42, 180, 0, 25, 29, 1, 83, 42]
abbrev dktX4_map_0 : List UInt8 := dkwX4_map_0 ++ dktX4_map_1
theorem dksX4_map_0 : cX4_map.data.toList.drop 0 = dktX4_map_0 := by decide +kernel
theorem dksX4_map_1 : cX4_map.data.toList.drop 23 = dktX4_map_1 := dk_seg dksX4_map_0 23 rfl rfl
theorem dksX4_map_2 : cX4_map.data.toList.drop 46 = dktX4_map_2 := dk_seg dksX4_map_1 23 rfl rfl
theorem dX4_map_0 : decode cX4_map 0 = .ok (.aload_n 0, 1) := dk_42 (dk_at dksX4_map_0 0 rfl rfl)
theorem dX4_map_1 : decode cX4_map 1 = .ok (.aload_n 1, 1) := dk_43 (dk_at dksX4_map_0 1 rfl rfl)
theorem dX4_map_2 : decode cX4_map 2 = .ok (.aload_n 2, 1) := dk_44 (dk_at dksX4_map_0 2 rfl rfl)
theorem dX4_map_3 : decode cX4_map 3 = .ok (.invokevirtual 87, 3) := dk_182 0 87 (dk_at dksX4_map_0 3 rfl rfl)
theorem dX4_map_6 : decode cX4_map 6 = .ok (.pop, 1) := dk_87 (dk_at dksX4_map_0 6 rfl rfl)
theorem dX4_map_7 : decode cX4_map 7 = .ok (.iconst 0, 1) := dk_3 (dk_at dksX4_map_0 7 rfl rfl)
theorem dX4_map_8 : decode cX4_map 8 = .ok (.istore_n 3, 1) := dk_62 (dk_at dksX4_map_0 8 rfl rfl)
theorem dX4_map_9 : decode cX4_map 9 = .ok (.iload_n 3, 1) := dk_29 (dk_at dksX4_map_0 9 rfl rfl)
theorem dX4_map_10 : decode cX4_map 10 = .ok (.bipush 30, 2) := dk_16 30 (dk_at dksX4_map_0 10 rfl rfl)
theorem dX4_map_12 : decode cX4_map 12 = .ok (.if_icmp .ge 23, 3) := dk_162 0 23 (dk_at dksX4_map_0 12 rfl rfl)
theorem dX4_map_15 : decode cX4_map 15 = .ok (.aload_n 0, 1) := dk_42 (dk_at dksX4_map_0 15 rfl rfl)
theorem dX4_map_16 : decode cX4_map 16 = .ok (.getfield 25, 3) := dk_180 0 25 (dk_at dksX4_map_0 16 rfl rfl)
theorem dX4_map_19 : decode cX4_map 19 = .ok (.iload_n 3, 1) := dk_29 (dk_at dksX4_map_0 19 rfl rfl)
theorem dX4_map_20 : decode cX4_map 20 = .ok (.aconst_null, 1) := dk_1 (dk_at dksX4_map_0 20 rfl rfl)
theorem dX4_map_21 : decode cX4_map 21 = .ok (.aastore, 1) := dk_83 (dk_at dksX4_map_0 21 rfl rfl)
theorem dX4_map_22 : decode cX4_map 22 = .ok (.aload_n 0, 1) := dk_42 (dk_at dksX4_map_0 22 rfl rfl)
theorem dX4_map_23 : decode cX4_map 23 = .ok (.getfield 29, 3) := dk_180 0 29 (dk_at dksX4_map_1 0 rfl rfl)
theorem dX4_map_26 : decode cX4_map 26 = .ok (.iload_n 3, 1) := dk_29 (dk_at dksX4_map_1 3 rfl rfl)
theorem dX4_map_27 : decode cX4_map 27 = .ok (.iconst 0, 1) := dk_3 (dk_at dksX4_map_1 4 rfl rfl)
theorem dX4_map_28 : decode cX4_map 28 = .ok (.bastore, 1) := dk_84 (dk_at dksX4_map_1 5 rfl rfl)
theorem dX4_map_29 : decode cX4_map 29 = .ok (.iinc 3 1, 3) := dk_132 3 1 (dk_at dksX4_map_1 6 rfl rfl)
theorem dX4_map_32 : decode cX4_map 32 = .ok (.goto (-23), 3) := dk_167 255 233 (dk_at dksX4_map_1 9 rfl rfl)
theorem dX4_map_35 : decode cX4_map 35 = .ok (.aload_n 0, 1) := dk_42 (dk_at dksX4_map_1 12 rfl rfl)
theorem dX4_map_36 : decode cX4_map 36 = .ok (.iconst 0, 1) := dk_3 (dk_at dksX4_map_1 13 rfl rfl)
theorem dX4_map_37 : decode cX4_map 37 = .ok (.aload_n 1, 1) := dk_43 (dk_at dksX4_map_1 14 rfl rfl)
theorem dX4_map_38 : decode cX4_map 38 = .ok (.getfield 80, 3) := dk_180 0 80 (dk_at dksX4_map_1 15 rfl rfl)
theorem dX4_map_41 : decode cX4_map 41 = .ok (.iconst 0, 1) := dk_3 (dk_at dksX4_map_1 18 rfl rfl)
theorem dX4_map_42 : decode cX4_map 42 = .ok (.aload_n 2, 1) := dk_44 (dk_at dksX4_map_1 19 rfl rfl)
theorem dX4_map_43 : decode cX4_map 43 = .ok (.getfield 80, 3) := dk_180 0 80 (dk_at dksX4_map_1 20 rfl rfl)
theorem dX4_map_46 : decode cX4_map 46 = .ok (.invokevirtual 91, 3) := dk_182 0 91 (dk_at dksX4_map_2 0 rfl rfl)
theorem dX4_map_49 : decode cX4_map 49 = .ok (.return_, 1) := dk_177 (dk_at dksX4_map_2 3 rfl rfl)
abbrev cX4_map_2 : ByteArray := prog_8_method_7_code
def yX4_map_2 : MethodName := ⟨RX4, "map", "(IIII)V"⟩
def dkwX4_map_2_8 : List UInt8 := [160, 0, 9, 132, 5, 255, 167, 0, 6, 132, 6, 255, 167, 255, 77, 177]
abbrev dktX4_map_2_8 : List UInt8 := dkwX4_map_2_8 ++ []
def dkwX4_map_2_7 : List UInt8 := [180, 0, 20, 21, 5, 27, 100, 50, 21, 6, 29, 100, 4, 96, 46, 42, 180, 0, 9, 6, 46, 96, 21, 7]
abbrev dktX4_map_2_7 : List UInt8 := dkwX4_map_2_7 ++ dktX4_map_2_8
def dkwX4_map_2_6 : List UInt8 := [25, 8, 180, 0, 72, 4, 100, 54, 5, 25, 9, 180, 0, 72, 4, 100, 54, 6, 167, 0, 40, 42]
abbrev dktX4_map_2_6 : List UInt8 := dkwX4_map_2_6 ++ dktX4_map_2_7
def dkwX4_map_2_5 : List UInt8 := [180, 0, 72, 21, 5, 25, 9, 180, 0, 72, 21, 6, 182, 0, 91, 42, 27, 28, 29, 21, 4, 182, 0, 83]
abbrev dktX4_map_2_5 : List UInt8 := dkwX4_map_2_5 ++ dktX4_map_2_6
def dkwX4_map_2_4 : List UInt8 := [25, 8, 180, 0, 94, 25, 9, 83, 42, 180, 0, 29, 25, 9, 180, 0, 94, 4, 84, 42, 25, 8]
abbrev dktX4_map_2_4 : List UInt8 := dkwX4_map_2_4 ++ dktX4_map_2_5
def dkwX4_map_2_3 : List UInt8 := [180, 0, 57, 21, 5, 50, 58, 8, 42, 180, 0, 62, 180, 0, 57, 21, 6, 50, 58, 9, 42, 180, 0, 25]
abbrev dktX4_map_2_3 : List UInt8 := dkwX4_map_2_3 ++ dktX4_map_2_4
def dkwX4_map_2_2 : List UInt8 := [4, 96, 46, 54, 7, 42, 27, 21, 5, 29, 21, 6, 182, 0, 50, 21, 7, 160, 0, 98, 42, 180, 0, 53]
abbrev dktX4_map_2_2 : List UInt8 := dkwX4_map_2_2 ++ dktX4_map_2_3
def dkwX4_map_2_1 : List UInt8 := [161, 0, 179, 21, 6, 29, 161, 0, 173, 42, 180, 0, 20, 21, 5, 27, 100, 4, 96, 50, 21, 6, 29, 100]
abbrev dktX4_map_2_1 : List UInt8 := dkwX4_map_2_1 ++ dktX4_map_2_2
def dkwX4_map_2_0 : List UInt8 := [42, 27, 28, 29, 21, 4, 182, 0, 83, 28, 4, 100, 54, 5, 21, 4, 4, 100, 54, 6, 21, 5, 27]
abbrev dktX4_map_2_0 : List UInt8 := dkwX4_map_2_0 ++ dktX4_map_2_1
theorem dksX4_map_2_0 : cX4_map_2.data.toList.drop 0 = dktX4_map_2_0 := by decide +kernel
theorem dksX4_map_2_1 : cX4_map_2.data.toList.drop 23 = dktX4_map_2_1 := dk_seg dksX4_map_2_0 23 rfl rfl
theorem dksX4_map_2_2 : cX4_map_2.data.toList.drop 47 = dktX4_map_2_2 := dk_seg dksX4_map_2_1 24 rfl rfl
theorem dksX4_map_2_3 : cX4_map_2.data.toList.drop 71 = dktX4_map_2_3 := dk_seg dksX4_map_2_2 24 rfl rfl
theorem dksX4_map_2_4 : cX4_map_2.data.toList.drop 95 = dktX4_map_2_4 := dk_seg dksX4_map_2_3 24 rfl rfl
theorem dksX4_map_2_5 : cX4_map_2.data.toList.drop 117 = dktX4_map_2_5 := dk_seg dksX4_map_2_4 22 rfl rfl
theorem dksX4_map_2_6 : cX4_map_2.data.toList.drop 141 = dktX4_map_2_6 := dk_seg dksX4_map_2_5 24 rfl rfl
theorem dksX4_map_2_7 : cX4_map_2.data.toList.drop 163 = dktX4_map_2_7 := dk_seg dksX4_map_2_6 22 rfl rfl
theorem dksX4_map_2_8 : cX4_map_2.data.toList.drop 187 = dktX4_map_2_8 := dk_seg dksX4_map_2_7 24 rfl rfl
theorem dX4_map_2_0 : decode cX4_map_2 0 = .ok (.aload_n 0, 1) := dk_42 (dk_at dksX4_map_2_0 0 rfl rfl)
theorem dX4_map_2_1 : decode cX4_map_2 1 = .ok (.iload_n 1, 1) := dk_27 (dk_at dksX4_map_2_0 1 rfl rfl)
theorem dX4_map_2_2 : decode cX4_map_2 2 = .ok (.iload_n 2, 1) := dk_28 (dk_at dksX4_map_2_0 2 rfl rfl)
theorem dX4_map_2_3 : decode cX4_map_2 3 = .ok (.iload_n 3, 1) := dk_29 (dk_at dksX4_map_2_0 3 rfl rfl)
theorem dX4_map_2_4 : decode cX4_map_2 4 = .ok (.iload 4, 2) := dk_21 4 (dk_at dksX4_map_2_0 4 rfl rfl)
theorem dX4_map_2_6 : decode cX4_map_2 6 = .ok (.invokevirtual 83, 3) := dk_182 0 83 (dk_at dksX4_map_2_0 6 rfl rfl)
theorem dX4_map_2_9 : decode cX4_map_2 9 = .ok (.iload_n 2, 1) := dk_28 (dk_at dksX4_map_2_0 9 rfl rfl)
theorem dX4_map_2_10 : decode cX4_map_2 10 = .ok (.iconst 1, 1) := dk_4 (dk_at dksX4_map_2_0 10 rfl rfl)
theorem dX4_map_2_11 : decode cX4_map_2 11 = .ok (.isub, 1) := dk_100 (dk_at dksX4_map_2_0 11 rfl rfl)
theorem dX4_map_2_12 : decode cX4_map_2 12 = .ok (.istore 5, 2) := dk_54 5 (dk_at dksX4_map_2_0 12 rfl rfl)
theorem dX4_map_2_14 : decode cX4_map_2 14 = .ok (.iload 4, 2) := dk_21 4 (dk_at dksX4_map_2_0 14 rfl rfl)
theorem dX4_map_2_16 : decode cX4_map_2 16 = .ok (.iconst 1, 1) := dk_4 (dk_at dksX4_map_2_0 16 rfl rfl)
theorem dX4_map_2_17 : decode cX4_map_2 17 = .ok (.isub, 1) := dk_100 (dk_at dksX4_map_2_0 17 rfl rfl)
theorem dX4_map_2_18 : decode cX4_map_2 18 = .ok (.istore 6, 2) := dk_54 6 (dk_at dksX4_map_2_0 18 rfl rfl)
theorem dX4_map_2_20 : decode cX4_map_2 20 = .ok (.iload 5, 2) := dk_21 5 (dk_at dksX4_map_2_0 20 rfl rfl)
theorem dX4_map_2_22 : decode cX4_map_2 22 = .ok (.iload_n 1, 1) := dk_27 (dk_at dksX4_map_2_0 22 rfl rfl)
theorem dX4_map_2_23 : decode cX4_map_2 23 = .ok (.if_icmp .lt 179, 3) := dk_161 0 179 (dk_at dksX4_map_2_1 0 rfl rfl)
theorem dX4_map_2_26 : decode cX4_map_2 26 = .ok (.iload 6, 2) := dk_21 6 (dk_at dksX4_map_2_1 3 rfl rfl)
theorem dX4_map_2_28 : decode cX4_map_2 28 = .ok (.iload_n 3, 1) := dk_29 (dk_at dksX4_map_2_1 5 rfl rfl)
theorem dX4_map_2_29 : decode cX4_map_2 29 = .ok (.if_icmp .lt 173, 3) := dk_161 0 173 (dk_at dksX4_map_2_1 6 rfl rfl)
theorem dX4_map_2_32 : decode cX4_map_2 32 = .ok (.aload_n 0, 1) := dk_42 (dk_at dksX4_map_2_1 9 rfl rfl)
theorem dX4_map_2_33 : decode cX4_map_2 33 = .ok (.getfield 20, 3) := dk_180 0 20 (dk_at dksX4_map_2_1 10 rfl rfl)
theorem dX4_map_2_36 : decode cX4_map_2 36 = .ok (.iload 5, 2) := dk_21 5 (dk_at dksX4_map_2_1 13 rfl rfl)
theorem dX4_map_2_38 : decode cX4_map_2 38 = .ok (.iload_n 1, 1) := dk_27 (dk_at dksX4_map_2_1 15 rfl rfl)
theorem dX4_map_2_39 : decode cX4_map_2 39 = .ok (.isub, 1) := dk_100 (dk_at dksX4_map_2_1 16 rfl rfl)
theorem dX4_map_2_40 : decode cX4_map_2 40 = .ok (.iconst 1, 1) := dk_4 (dk_at dksX4_map_2_1 17 rfl rfl)
theorem dX4_map_2_41 : decode cX4_map_2 41 = .ok (.iadd, 1) := dk_96 (dk_at dksX4_map_2_1 18 rfl rfl)
theorem dX4_map_2_42 : decode cX4_map_2 42 = .ok (.aaload, 1) := dk_50 (dk_at dksX4_map_2_1 19 rfl rfl)
theorem dX4_map_2_43 : decode cX4_map_2 43 = .ok (.iload 6, 2) := dk_21 6 (dk_at dksX4_map_2_1 20 rfl rfl)
theorem dX4_map_2_45 : decode cX4_map_2 45 = .ok (.iload_n 3, 1) := dk_29 (dk_at dksX4_map_2_1 22 rfl rfl)
theorem dX4_map_2_46 : decode cX4_map_2 46 = .ok (.isub, 1) := dk_100 (dk_at dksX4_map_2_1 23 rfl rfl)
theorem dX4_map_2_47 : decode cX4_map_2 47 = .ok (.iconst 1, 1) := dk_4 (dk_at dksX4_map_2_2 0 rfl rfl)
theorem dX4_map_2_48 : decode cX4_map_2 48 = .ok (.iadd, 1) := dk_96 (dk_at dksX4_map_2_2 1 rfl rfl)
theorem dX4_map_2_49 : decode cX4_map_2 49 = .ok (.iaload, 1) := dk_46 (dk_at dksX4_map_2_2 2 rfl rfl)
theorem dX4_map_2_50 : decode cX4_map_2 50 = .ok (.istore 7, 2) := dk_54 7 (dk_at dksX4_map_2_2 3 rfl rfl)
theorem dX4_map_2_52 : decode cX4_map_2 52 = .ok (.aload_n 0, 1) := dk_42 (dk_at dksX4_map_2_2 5 rfl rfl)
theorem dX4_map_2_53 : decode cX4_map_2 53 = .ok (.iload_n 1, 1) := dk_27 (dk_at dksX4_map_2_2 6 rfl rfl)
theorem dX4_map_2_54 : decode cX4_map_2 54 = .ok (.iload 5, 2) := dk_21 5 (dk_at dksX4_map_2_2 7 rfl rfl)
theorem dX4_map_2_56 : decode cX4_map_2 56 = .ok (.iload_n 3, 1) := dk_29 (dk_at dksX4_map_2_2 9 rfl rfl)
theorem dX4_map_2_57 : decode cX4_map_2 57 = .ok (.iload 6, 2) := dk_21 6 (dk_at dksX4_map_2_2 10 rfl rfl)
theorem dX4_map_2_59 : decode cX4_map_2 59 = .ok (.invokevirtual 50, 3) := dk_182 0 50 (dk_at dksX4_map_2_2 12 rfl rfl)
theorem dX4_map_2_62 : decode cX4_map_2 62 = .ok (.iload 7, 2) := dk_21 7 (dk_at dksX4_map_2_2 15 rfl rfl)
theorem dX4_map_2_64 : decode cX4_map_2 64 = .ok (.if_icmp .ne 98, 3) := dk_160 0 98 (dk_at dksX4_map_2_2 17 rfl rfl)
theorem dX4_map_2_67 : decode cX4_map_2 67 = .ok (.aload_n 0, 1) := dk_42 (dk_at dksX4_map_2_2 20 rfl rfl)
theorem dX4_map_2_68 : decode cX4_map_2 68 = .ok (.getfield 53, 3) := dk_180 0 53 (dk_at dksX4_map_2_2 21 rfl rfl)
theorem dX4_map_2_71 : decode cX4_map_2 71 = .ok (.getfield 57, 3) := dk_180 0 57 (dk_at dksX4_map_2_3 0 rfl rfl)
theorem dX4_map_2_74 : decode cX4_map_2 74 = .ok (.iload 5, 2) := dk_21 5 (dk_at dksX4_map_2_3 3 rfl rfl)
theorem dX4_map_2_76 : decode cX4_map_2 76 = .ok (.aaload, 1) := dk_50 (dk_at dksX4_map_2_3 5 rfl rfl)
theorem dX4_map_2_77 : decode cX4_map_2 77 = .ok (.astore 8, 2) := dk_58 8 (dk_at dksX4_map_2_3 6 rfl rfl)
theorem dX4_map_2_79 : decode cX4_map_2 79 = .ok (.aload_n 0, 1) := dk_42 (dk_at dksX4_map_2_3 8 rfl rfl)
theorem dX4_map_2_80 : decode cX4_map_2 80 = .ok (.getfield 62, 3) := dk_180 0 62 (dk_at dksX4_map_2_3 9 rfl rfl)
theorem dX4_map_2_83 : decode cX4_map_2 83 = .ok (.getfield 57, 3) := dk_180 0 57 (dk_at dksX4_map_2_3 12 rfl rfl)
theorem dX4_map_2_86 : decode cX4_map_2 86 = .ok (.iload 6, 2) := dk_21 6 (dk_at dksX4_map_2_3 15 rfl rfl)
theorem dX4_map_2_88 : decode cX4_map_2 88 = .ok (.aaload, 1) := dk_50 (dk_at dksX4_map_2_3 17 rfl rfl)
theorem dX4_map_2_89 : decode cX4_map_2 89 = .ok (.astore 9, 2) := dk_58 9 (dk_at dksX4_map_2_3 18 rfl rfl)
theorem dX4_map_2_91 : decode cX4_map_2 91 = .ok (.aload_n 0, 1) := dk_42 (dk_at dksX4_map_2_3 20 rfl rfl)
theorem dX4_map_2_92 : decode cX4_map_2 92 = .ok (.getfield 25, 3) := dk_180 0 25 (dk_at dksX4_map_2_3 21 rfl rfl)
theorem dX4_map_2_95 : decode cX4_map_2 95 = .ok (.aload 8, 2) := dk_25 8 (dk_at dksX4_map_2_4 0 rfl rfl)
theorem dX4_map_2_97 : decode cX4_map_2 97 = .ok (.getfield 94, 3) := dk_180 0 94 (dk_at dksX4_map_2_4 2 rfl rfl)
theorem dX4_map_2_100 : decode cX4_map_2 100 = .ok (.aload 9, 2) := dk_25 9 (dk_at dksX4_map_2_4 5 rfl rfl)
theorem dX4_map_2_102 : decode cX4_map_2 102 = .ok (.aastore, 1) := dk_83 (dk_at dksX4_map_2_4 7 rfl rfl)
theorem dX4_map_2_103 : decode cX4_map_2 103 = .ok (.aload_n 0, 1) := dk_42 (dk_at dksX4_map_2_4 8 rfl rfl)
theorem dX4_map_2_104 : decode cX4_map_2 104 = .ok (.getfield 29, 3) := dk_180 0 29 (dk_at dksX4_map_2_4 9 rfl rfl)
theorem dX4_map_2_107 : decode cX4_map_2 107 = .ok (.aload 9, 2) := dk_25 9 (dk_at dksX4_map_2_4 12 rfl rfl)
theorem dX4_map_2_109 : decode cX4_map_2 109 = .ok (.getfield 94, 3) := dk_180 0 94 (dk_at dksX4_map_2_4 14 rfl rfl)
theorem dX4_map_2_112 : decode cX4_map_2 112 = .ok (.iconst 1, 1) := dk_4 (dk_at dksX4_map_2_4 17 rfl rfl)
theorem dX4_map_2_113 : decode cX4_map_2 113 = .ok (.bastore, 1) := dk_84 (dk_at dksX4_map_2_4 18 rfl rfl)
theorem dX4_map_2_114 : decode cX4_map_2 114 = .ok (.aload_n 0, 1) := dk_42 (dk_at dksX4_map_2_4 19 rfl rfl)
theorem dX4_map_2_115 : decode cX4_map_2 115 = .ok (.aload 8, 2) := dk_25 8 (dk_at dksX4_map_2_4 20 rfl rfl)
theorem dX4_map_2_117 : decode cX4_map_2 117 = .ok (.getfield 72, 3) := dk_180 0 72 (dk_at dksX4_map_2_5 0 rfl rfl)
theorem dX4_map_2_120 : decode cX4_map_2 120 = .ok (.iload 5, 2) := dk_21 5 (dk_at dksX4_map_2_5 3 rfl rfl)
theorem dX4_map_2_122 : decode cX4_map_2 122 = .ok (.aload 9, 2) := dk_25 9 (dk_at dksX4_map_2_5 5 rfl rfl)
theorem dX4_map_2_124 : decode cX4_map_2 124 = .ok (.getfield 72, 3) := dk_180 0 72 (dk_at dksX4_map_2_5 7 rfl rfl)
theorem dX4_map_2_127 : decode cX4_map_2 127 = .ok (.iload 6, 2) := dk_21 6 (dk_at dksX4_map_2_5 10 rfl rfl)
theorem dX4_map_2_129 : decode cX4_map_2 129 = .ok (.invokevirtual 91, 3) := dk_182 0 91 (dk_at dksX4_map_2_5 12 rfl rfl)
theorem dX4_map_2_132 : decode cX4_map_2 132 = .ok (.aload_n 0, 1) := dk_42 (dk_at dksX4_map_2_5 15 rfl rfl)
theorem dX4_map_2_133 : decode cX4_map_2 133 = .ok (.iload_n 1, 1) := dk_27 (dk_at dksX4_map_2_5 16 rfl rfl)
theorem dX4_map_2_134 : decode cX4_map_2 134 = .ok (.iload_n 2, 1) := dk_28 (dk_at dksX4_map_2_5 17 rfl rfl)
theorem dX4_map_2_135 : decode cX4_map_2 135 = .ok (.iload_n 3, 1) := dk_29 (dk_at dksX4_map_2_5 18 rfl rfl)
theorem dX4_map_2_136 : decode cX4_map_2 136 = .ok (.iload 4, 2) := dk_21 4 (dk_at dksX4_map_2_5 19 rfl rfl)
theorem dX4_map_2_138 : decode cX4_map_2 138 = .ok (.invokevirtual 83, 3) := dk_182 0 83 (dk_at dksX4_map_2_5 21 rfl rfl)
theorem dX4_map_2_141 : decode cX4_map_2 141 = .ok (.aload 8, 2) := dk_25 8 (dk_at dksX4_map_2_6 0 rfl rfl)
theorem dX4_map_2_143 : decode cX4_map_2 143 = .ok (.getfield 72, 3) := dk_180 0 72 (dk_at dksX4_map_2_6 2 rfl rfl)
theorem dX4_map_2_146 : decode cX4_map_2 146 = .ok (.iconst 1, 1) := dk_4 (dk_at dksX4_map_2_6 5 rfl rfl)
theorem dX4_map_2_147 : decode cX4_map_2 147 = .ok (.isub, 1) := dk_100 (dk_at dksX4_map_2_6 6 rfl rfl)
theorem dX4_map_2_148 : decode cX4_map_2 148 = .ok (.istore 5, 2) := dk_54 5 (dk_at dksX4_map_2_6 7 rfl rfl)
theorem dX4_map_2_150 : decode cX4_map_2 150 = .ok (.aload 9, 2) := dk_25 9 (dk_at dksX4_map_2_6 9 rfl rfl)
theorem dX4_map_2_152 : decode cX4_map_2 152 = .ok (.getfield 72, 3) := dk_180 0 72 (dk_at dksX4_map_2_6 11 rfl rfl)
theorem dX4_map_2_155 : decode cX4_map_2 155 = .ok (.iconst 1, 1) := dk_4 (dk_at dksX4_map_2_6 14 rfl rfl)
theorem dX4_map_2_156 : decode cX4_map_2 156 = .ok (.isub, 1) := dk_100 (dk_at dksX4_map_2_6 15 rfl rfl)
theorem dX4_map_2_157 : decode cX4_map_2 157 = .ok (.istore 6, 2) := dk_54 6 (dk_at dksX4_map_2_6 16 rfl rfl)
theorem dX4_map_2_159 : decode cX4_map_2 159 = .ok (.goto 40, 3) := dk_167 0 40 (dk_at dksX4_map_2_6 18 rfl rfl)
theorem dX4_map_2_162 : decode cX4_map_2 162 = .ok (.aload_n 0, 1) := dk_42 (dk_at dksX4_map_2_6 21 rfl rfl)
theorem dX4_map_2_163 : decode cX4_map_2 163 = .ok (.getfield 20, 3) := dk_180 0 20 (dk_at dksX4_map_2_7 0 rfl rfl)
theorem dX4_map_2_166 : decode cX4_map_2 166 = .ok (.iload 5, 2) := dk_21 5 (dk_at dksX4_map_2_7 3 rfl rfl)
theorem dX4_map_2_168 : decode cX4_map_2 168 = .ok (.iload_n 1, 1) := dk_27 (dk_at dksX4_map_2_7 5 rfl rfl)
theorem dX4_map_2_169 : decode cX4_map_2 169 = .ok (.isub, 1) := dk_100 (dk_at dksX4_map_2_7 6 rfl rfl)
theorem dX4_map_2_170 : decode cX4_map_2 170 = .ok (.aaload, 1) := dk_50 (dk_at dksX4_map_2_7 7 rfl rfl)
theorem dX4_map_2_171 : decode cX4_map_2 171 = .ok (.iload 6, 2) := dk_21 6 (dk_at dksX4_map_2_7 8 rfl rfl)
theorem dX4_map_2_173 : decode cX4_map_2 173 = .ok (.iload_n 3, 1) := dk_29 (dk_at dksX4_map_2_7 10 rfl rfl)
theorem dX4_map_2_174 : decode cX4_map_2 174 = .ok (.isub, 1) := dk_100 (dk_at dksX4_map_2_7 11 rfl rfl)
theorem dX4_map_2_175 : decode cX4_map_2 175 = .ok (.iconst 1, 1) := dk_4 (dk_at dksX4_map_2_7 12 rfl rfl)
theorem dX4_map_2_176 : decode cX4_map_2 176 = .ok (.iadd, 1) := dk_96 (dk_at dksX4_map_2_7 13 rfl rfl)
theorem dX4_map_2_177 : decode cX4_map_2 177 = .ok (.iaload, 1) := dk_46 (dk_at dksX4_map_2_7 14 rfl rfl)
theorem dX4_map_2_178 : decode cX4_map_2 178 = .ok (.aload_n 0, 1) := dk_42 (dk_at dksX4_map_2_7 15 rfl rfl)
theorem dX4_map_2_179 : decode cX4_map_2 179 = .ok (.getfield 9, 3) := dk_180 0 9 (dk_at dksX4_map_2_7 16 rfl rfl)
theorem dX4_map_2_182 : decode cX4_map_2 182 = .ok (.iconst 3, 1) := dk_6 (dk_at dksX4_map_2_7 19 rfl rfl)
theorem dX4_map_2_183 : decode cX4_map_2 183 = .ok (.iaload, 1) := dk_46 (dk_at dksX4_map_2_7 20 rfl rfl)
theorem dX4_map_2_184 : decode cX4_map_2 184 = .ok (.iadd, 1) := dk_96 (dk_at dksX4_map_2_7 21 rfl rfl)
theorem dX4_map_2_185 : decode cX4_map_2 185 = .ok (.iload 7, 2) := dk_21 7 (dk_at dksX4_map_2_7 22 rfl rfl)
theorem dX4_map_2_187 : decode cX4_map_2 187 = .ok (.if_icmp .ne 9, 3) := dk_160 0 9 (dk_at dksX4_map_2_8 0 rfl rfl)
theorem dX4_map_2_190 : decode cX4_map_2 190 = .ok (.iinc 5 (-1), 3) := dk_132 5 255 (dk_at dksX4_map_2_8 3 rfl rfl)
theorem dX4_map_2_193 : decode cX4_map_2 193 = .ok (.goto 6, 3) := dk_167 0 6 (dk_at dksX4_map_2_8 6 rfl rfl)
theorem dX4_map_2_196 : decode cX4_map_2 196 = .ok (.iinc 6 (-1), 3) := dk_132 6 255 (dk_at dksX4_map_2_8 9 rfl rfl)
theorem dX4_map_2_199 : decode cX4_map_2 199 = .ok (.goto (-179), 3) := dk_167 255 77 (dk_at dksX4_map_2_8 12 rfl rfl)
theorem dX4_map_2_202 : decode cX4_map_2 202 = .ok (.return_, 1) := dk_177 (dk_at dksX4_map_2_8 15 rfl rfl)
abbrev cX6_init : ByteArray := prog_9_method_1_code
def yX6_init : MethodName := ⟨RX6, "<init>", "()V"⟩
def dkwX6_init_1 : List UInt8 := [42, 17, 1, 106, 188, 10, 181, 0, 22, 42, 187, 0, 9, 89, 183, 0, 11, 181, 0, 25, 177]
abbrev dktX6_init_1 : List UInt8 := dkwX6_init_1 ++ []
def dkwX6_init_0 : List UInt8 := [42, 183, 0, 3, 42, 187, 0, 9, 89, 183, 0, 11, 181, 0, 12, 42, 17, 1, 106, 188, 10, 181, 0, 18]
abbrev dktX6_init_0 : List UInt8 := dkwX6_init_0 ++ dktX6_init_1
theorem dksX6_init_0 : cX6_init.data.toList.drop 0 = dktX6_init_0 := by decide +kernel
theorem dksX6_init_1 : cX6_init.data.toList.drop 24 = dktX6_init_1 := dk_seg dksX6_init_0 24 rfl rfl
theorem dX6_init_0 : decode cX6_init 0 = .ok (.aload_n 0, 1) := dk_42 (dk_at dksX6_init_0 0 rfl rfl)
theorem dX6_init_1 : decode cX6_init 1 = .ok (.invokespecial 3, 3) := dk_183 0 3 (dk_at dksX6_init_0 1 rfl rfl)
theorem dX6_init_4 : decode cX6_init 4 = .ok (.aload_n 0, 1) := dk_42 (dk_at dksX6_init_0 4 rfl rfl)
theorem dX6_init_5 : decode cX6_init 5 = .ok (.new 9, 3) := dk_187 0 9 (dk_at dksX6_init_0 5 rfl rfl)
theorem dX6_init_8 : decode cX6_init 8 = .ok (.dup, 1) := dk_89 (dk_at dksX6_init_0 8 rfl rfl)
theorem dX6_init_9 : decode cX6_init 9 = .ok (.invokespecial 11, 3) := dk_183 0 11 (dk_at dksX6_init_0 9 rfl rfl)
theorem dX6_init_12 : decode cX6_init 12 = .ok (.putfield 12, 3) := dk_181 0 12 (dk_at dksX6_init_0 12 rfl rfl)
theorem dX6_init_15 : decode cX6_init 15 = .ok (.aload_n 0, 1) := dk_42 (dk_at dksX6_init_0 15 rfl rfl)
theorem dX6_init_16 : decode cX6_init 16 = .ok (.sipush 362, 3) := dk_17 1 106 (dk_at dksX6_init_0 16 rfl rfl)
theorem dX6_init_19 : decode cX6_init 19 = .ok (.newarray .int, 2) := dk_188_10 (dk_at dksX6_init_0 19 rfl rfl)
theorem dX6_init_21 : decode cX6_init 21 = .ok (.putfield 18, 3) := dk_181 0 18 (dk_at dksX6_init_0 21 rfl rfl)
theorem dX6_init_24 : decode cX6_init 24 = .ok (.aload_n 0, 1) := dk_42 (dk_at dksX6_init_1 0 rfl rfl)
theorem dX6_init_25 : decode cX6_init 25 = .ok (.sipush 362, 3) := dk_17 1 106 (dk_at dksX6_init_1 1 rfl rfl)
theorem dX6_init_28 : decode cX6_init 28 = .ok (.newarray .int, 2) := dk_188_10 (dk_at dksX6_init_1 4 rfl rfl)
theorem dX6_init_30 : decode cX6_init 30 = .ok (.putfield 22, 3) := dk_181 0 22 (dk_at dksX6_init_1 6 rfl rfl)
theorem dX6_init_33 : decode cX6_init 33 = .ok (.aload_n 0, 1) := dk_42 (dk_at dksX6_init_1 9 rfl rfl)
theorem dX6_init_34 : decode cX6_init 34 = .ok (.new 9, 3) := dk_187 0 9 (dk_at dksX6_init_1 10 rfl rfl)
theorem dX6_init_37 : decode cX6_init 37 = .ok (.dup, 1) := dk_89 (dk_at dksX6_init_1 13 rfl rfl)
theorem dX6_init_38 : decode cX6_init 38 = .ok (.invokespecial 11, 3) := dk_183 0 11 (dk_at dksX6_init_1 14 rfl rfl)
theorem dX6_init_41 : decode cX6_init 41 = .ok (.putfield 25, 3) := dk_181 0 25 (dk_at dksX6_init_1 17 rfl rfl)
theorem dX6_init_44 : decode cX6_init 44 = .ok (.return_, 1) := dk_177 (dk_at dksX6_init_1 20 rfl rfl)
abbrev cX6_merge : ByteArray := prog_9_method_12_code
def yX6_merge : MethodName := ⟨RX6, "merge", "(LBranchMender$Tree;LBranchMender$Tree;LBranchMender$Tree;)LBranchMender$Tree;"⟩
def dkwX6_merge_5 : List UInt8 := [89, 25, 4, 183, 0, 113, 176]
abbrev dktX6_merge_5 : List UInt8 := dkwX6_merge_5 ++ []
def dkwX6_merge_4 : List UInt8 := [42, 2, 8, 182, 0, 32, 42, 182, 0, 110, 42, 180, 0, 102, 153, 0, 7, 1, 167, 0, 12, 187, 0, 94]
abbrev dktX6_merge_4 : List UInt8 := dkwX6_merge_4 ++ dktX6_merge_5
def dkwX6_merge_3 : List UInt8 := [181, 0, 102, 42, 43, 180, 0, 93, 180, 0, 49, 3, 182, 0, 106, 58, 4, 42, 180, 0, 102, 153, 0, 9]
abbrev dktX6_merge_3 : List UInt8 := dkwX6_merge_3 ++ dktX6_merge_4
def dkwX6_merge_2 : List UInt8 := [180, 0, 49, 159, 0, 11, 42, 2, 7, 182, 0, 32, 1, 176, 42, 180, 0, 25, 182, 0, 99, 42, 3]
abbrev dktX6_merge_2 : List UInt8 := dkwX6_merge_2 ++ dktX6_merge_3
def dkwX6_merge_1 : List UInt8 := [180, 0, 49, 44, 180, 0, 93, 180, 0, 49, 160, 0, 20, 43, 180, 0, 93, 180, 0, 49, 45, 180, 0, 93]
abbrev dktX6_merge_1 : List UInt8 := dkwX6_merge_1 ++ dktX6_merge_2
def dkwX6_merge_0 : List UInt8 := [42, 43, 181, 0, 83, 42, 44, 181, 0, 87, 42, 45, 181, 0, 90, 42, 3, 181, 0, 28, 43, 180, 0, 93]
abbrev dktX6_merge_0 : List UInt8 := dkwX6_merge_0 ++ dktX6_merge_1
theorem dksX6_merge_0 : cX6_merge.data.toList.drop 0 = dktX6_merge_0 := by decide +kernel
theorem dksX6_merge_1 : cX6_merge.data.toList.drop 24 = dktX6_merge_1 := dk_seg dksX6_merge_0 24 rfl rfl
theorem dksX6_merge_2 : cX6_merge.data.toList.drop 48 = dktX6_merge_2 := dk_seg dksX6_merge_1 24 rfl rfl
theorem dksX6_merge_3 : cX6_merge.data.toList.drop 71 = dktX6_merge_3 := dk_seg dksX6_merge_2 23 rfl rfl
theorem dksX6_merge_4 : cX6_merge.data.toList.drop 95 = dktX6_merge_4 := dk_seg dksX6_merge_3 24 rfl rfl
theorem dksX6_merge_5 : cX6_merge.data.toList.drop 119 = dktX6_merge_5 := dk_seg dksX6_merge_4 24 rfl rfl
theorem dX6_merge_0 : decode cX6_merge 0 = .ok (.aload_n 0, 1) := dk_42 (dk_at dksX6_merge_0 0 rfl rfl)
theorem dX6_merge_1 : decode cX6_merge 1 = .ok (.aload_n 1, 1) := dk_43 (dk_at dksX6_merge_0 1 rfl rfl)
theorem dX6_merge_2 : decode cX6_merge 2 = .ok (.putfield 83, 3) := dk_181 0 83 (dk_at dksX6_merge_0 2 rfl rfl)
theorem dX6_merge_5 : decode cX6_merge 5 = .ok (.aload_n 0, 1) := dk_42 (dk_at dksX6_merge_0 5 rfl rfl)
theorem dX6_merge_6 : decode cX6_merge 6 = .ok (.aload_n 2, 1) := dk_44 (dk_at dksX6_merge_0 6 rfl rfl)
theorem dX6_merge_7 : decode cX6_merge 7 = .ok (.putfield 87, 3) := dk_181 0 87 (dk_at dksX6_merge_0 7 rfl rfl)
theorem dX6_merge_10 : decode cX6_merge 10 = .ok (.aload_n 0, 1) := dk_42 (dk_at dksX6_merge_0 10 rfl rfl)
theorem dX6_merge_11 : decode cX6_merge 11 = .ok (.aload_n 3, 1) := dk_45 (dk_at dksX6_merge_0 11 rfl rfl)
theorem dX6_merge_12 : decode cX6_merge 12 = .ok (.putfield 90, 3) := dk_181 0 90 (dk_at dksX6_merge_0 12 rfl rfl)
theorem dX6_merge_15 : decode cX6_merge 15 = .ok (.aload_n 0, 1) := dk_42 (dk_at dksX6_merge_0 15 rfl rfl)
theorem dX6_merge_16 : decode cX6_merge 16 = .ok (.iconst 0, 1) := dk_3 (dk_at dksX6_merge_0 16 rfl rfl)
theorem dX6_merge_17 : decode cX6_merge 17 = .ok (.putfield 28, 3) := dk_181 0 28 (dk_at dksX6_merge_0 17 rfl rfl)
theorem dX6_merge_20 : decode cX6_merge 20 = .ok (.aload_n 1, 1) := dk_43 (dk_at dksX6_merge_0 20 rfl rfl)
theorem dX6_merge_21 : decode cX6_merge 21 = .ok (.getfield 93, 3) := dk_180 0 93 (dk_at dksX6_merge_0 21 rfl rfl)
theorem dX6_merge_24 : decode cX6_merge 24 = .ok (.getfield 49, 3) := dk_180 0 49 (dk_at dksX6_merge_1 0 rfl rfl)
theorem dX6_merge_27 : decode cX6_merge 27 = .ok (.aload_n 2, 1) := dk_44 (dk_at dksX6_merge_1 3 rfl rfl)
theorem dX6_merge_28 : decode cX6_merge 28 = .ok (.getfield 93, 3) := dk_180 0 93 (dk_at dksX6_merge_1 4 rfl rfl)
theorem dX6_merge_31 : decode cX6_merge 31 = .ok (.getfield 49, 3) := dk_180 0 49 (dk_at dksX6_merge_1 7 rfl rfl)
theorem dX6_merge_34 : decode cX6_merge 34 = .ok (.if_icmp .ne 20, 3) := dk_160 0 20 (dk_at dksX6_merge_1 10 rfl rfl)
theorem dX6_merge_37 : decode cX6_merge 37 = .ok (.aload_n 1, 1) := dk_43 (dk_at dksX6_merge_1 13 rfl rfl)
theorem dX6_merge_38 : decode cX6_merge 38 = .ok (.getfield 93, 3) := dk_180 0 93 (dk_at dksX6_merge_1 14 rfl rfl)
theorem dX6_merge_41 : decode cX6_merge 41 = .ok (.getfield 49, 3) := dk_180 0 49 (dk_at dksX6_merge_1 17 rfl rfl)
theorem dX6_merge_44 : decode cX6_merge 44 = .ok (.aload_n 3, 1) := dk_45 (dk_at dksX6_merge_1 20 rfl rfl)
theorem dX6_merge_45 : decode cX6_merge 45 = .ok (.getfield 93, 3) := dk_180 0 93 (dk_at dksX6_merge_1 21 rfl rfl)
theorem dX6_merge_48 : decode cX6_merge 48 = .ok (.getfield 49, 3) := dk_180 0 49 (dk_at dksX6_merge_2 0 rfl rfl)
theorem dX6_merge_51 : decode cX6_merge 51 = .ok (.if_icmp .eq 11, 3) := dk_159 0 11 (dk_at dksX6_merge_2 3 rfl rfl)
theorem dX6_merge_54 : decode cX6_merge 54 = .ok (.aload_n 0, 1) := dk_42 (dk_at dksX6_merge_2 6 rfl rfl)
theorem dX6_merge_55 : decode cX6_merge 55 = .ok (.iconst (-1), 1) := dk_2 (dk_at dksX6_merge_2 7 rfl rfl)
theorem dX6_merge_56 : decode cX6_merge 56 = .ok (.iconst 4, 1) := dk_7 (dk_at dksX6_merge_2 8 rfl rfl)
theorem dX6_merge_57 : decode cX6_merge 57 = .ok (.invokevirtual 32, 3) := dk_182 0 32 (dk_at dksX6_merge_2 9 rfl rfl)
theorem dX6_merge_60 : decode cX6_merge 60 = .ok (.aconst_null, 1) := dk_1 (dk_at dksX6_merge_2 12 rfl rfl)
theorem dX6_merge_61 : decode cX6_merge 61 = .ok (.areturn, 1) := dk_176 (dk_at dksX6_merge_2 13 rfl rfl)
theorem dX6_merge_62 : decode cX6_merge 62 = .ok (.aload_n 0, 1) := dk_42 (dk_at dksX6_merge_2 14 rfl rfl)
theorem dX6_merge_63 : decode cX6_merge 63 = .ok (.getfield 25, 3) := dk_180 0 25 (dk_at dksX6_merge_2 15 rfl rfl)
theorem dX6_merge_66 : decode cX6_merge 66 = .ok (.invokevirtual 99, 3) := dk_182 0 99 (dk_at dksX6_merge_2 18 rfl rfl)
theorem dX6_merge_69 : decode cX6_merge 69 = .ok (.aload_n 0, 1) := dk_42 (dk_at dksX6_merge_2 21 rfl rfl)
theorem dX6_merge_70 : decode cX6_merge 70 = .ok (.iconst 0, 1) := dk_3 (dk_at dksX6_merge_2 22 rfl rfl)
theorem dX6_merge_71 : decode cX6_merge 71 = .ok (.putfield 102, 3) := dk_181 0 102 (dk_at dksX6_merge_3 0 rfl rfl)
theorem dX6_merge_74 : decode cX6_merge 74 = .ok (.aload_n 0, 1) := dk_42 (dk_at dksX6_merge_3 3 rfl rfl)
theorem dX6_merge_75 : decode cX6_merge 75 = .ok (.aload_n 1, 1) := dk_43 (dk_at dksX6_merge_3 4 rfl rfl)
theorem dX6_merge_76 : decode cX6_merge 76 = .ok (.getfield 93, 3) := dk_180 0 93 (dk_at dksX6_merge_3 5 rfl rfl)
theorem dX6_merge_79 : decode cX6_merge 79 = .ok (.getfield 49, 3) := dk_180 0 49 (dk_at dksX6_merge_3 8 rfl rfl)
theorem dX6_merge_82 : decode cX6_merge 82 = .ok (.iconst 0, 1) := dk_3 (dk_at dksX6_merge_3 11 rfl rfl)
theorem dX6_merge_83 : decode cX6_merge 83 = .ok (.invokevirtual 106, 3) := dk_182 0 106 (dk_at dksX6_merge_3 12 rfl rfl)
theorem dX6_merge_86 : decode cX6_merge 86 = .ok (.astore 4, 2) := dk_58 4 (dk_at dksX6_merge_3 15 rfl rfl)
theorem dX6_merge_88 : decode cX6_merge 88 = .ok (.aload_n 0, 1) := dk_42 (dk_at dksX6_merge_3 17 rfl rfl)
theorem dX6_merge_89 : decode cX6_merge 89 = .ok (.getfield 102, 3) := dk_180 0 102 (dk_at dksX6_merge_3 18 rfl rfl)
theorem dX6_merge_92 : decode cX6_merge 92 = .ok (.ifCond .eq 9, 3) := dk_153 0 9 (dk_at dksX6_merge_3 21 rfl rfl)
theorem dX6_merge_95 : decode cX6_merge 95 = .ok (.aload_n 0, 1) := dk_42 (dk_at dksX6_merge_4 0 rfl rfl)
theorem dX6_merge_96 : decode cX6_merge 96 = .ok (.iconst (-1), 1) := dk_2 (dk_at dksX6_merge_4 1 rfl rfl)
theorem dX6_merge_97 : decode cX6_merge 97 = .ok (.iconst 5, 1) := dk_8 (dk_at dksX6_merge_4 2 rfl rfl)
theorem dX6_merge_98 : decode cX6_merge 98 = .ok (.invokevirtual 32, 3) := dk_182 0 32 (dk_at dksX6_merge_4 3 rfl rfl)
theorem dX6_merge_101 : decode cX6_merge 101 = .ok (.aload_n 0, 1) := dk_42 (dk_at dksX6_merge_4 6 rfl rfl)
theorem dX6_merge_102 : decode cX6_merge 102 = .ok (.invokevirtual 110, 3) := dk_182 0 110 (dk_at dksX6_merge_4 7 rfl rfl)
theorem dX6_merge_105 : decode cX6_merge 105 = .ok (.aload_n 0, 1) := dk_42 (dk_at dksX6_merge_4 10 rfl rfl)
theorem dX6_merge_106 : decode cX6_merge 106 = .ok (.getfield 102, 3) := dk_180 0 102 (dk_at dksX6_merge_4 11 rfl rfl)
theorem dX6_merge_109 : decode cX6_merge 109 = .ok (.ifCond .eq 7, 3) := dk_153 0 7 (dk_at dksX6_merge_4 14 rfl rfl)
theorem dX6_merge_112 : decode cX6_merge 112 = .ok (.aconst_null, 1) := dk_1 (dk_at dksX6_merge_4 17 rfl rfl)
theorem dX6_merge_113 : decode cX6_merge 113 = .ok (.goto 12, 3) := dk_167 0 12 (dk_at dksX6_merge_4 18 rfl rfl)
theorem dX6_merge_116 : decode cX6_merge 116 = .ok (.new 94, 3) := dk_187 0 94 (dk_at dksX6_merge_4 21 rfl rfl)
theorem dX6_merge_119 : decode cX6_merge 119 = .ok (.dup, 1) := dk_89 (dk_at dksX6_merge_5 0 rfl rfl)
theorem dX6_merge_120 : decode cX6_merge 120 = .ok (.aload 4, 2) := dk_25 4 (dk_at dksX6_merge_5 1 rfl rfl)
theorem dX6_merge_122 : decode cX6_merge 122 = .ok (.invokespecial 113, 3) := dk_183 0 113 (dk_at dksX6_merge_5 3 rfl rfl)
theorem dX6_merge_125 : decode cX6_merge 125 = .ok (.areturn, 1) := dk_176 (dk_at dksX6_merge_5 6 rfl rfl)
abbrev cX6_clash : ByteArray := prog_9_method_2_code
def yX6_clash : MethodName := ⟨RX6, "clash", "(II)V"⟩
def dkwX6_clash_1 : List UInt8 := [180, 0, 28, 4, 96, 181, 0, 28, 177]
abbrev dktX6_clash_1 : List UInt8 := dkwX6_clash_1 ++ []
def dkwX6_clash_0 : List UInt8 := [42, 180, 0, 18, 42, 180, 0, 28, 27, 79, 42, 180, 0, 22, 42, 180, 0, 28, 28, 79, 42, 89]
abbrev dktX6_clash_0 : List UInt8 := dkwX6_clash_0 ++ dktX6_clash_1
theorem dksX6_clash_0 : cX6_clash.data.toList.drop 0 = dktX6_clash_0 := by decide +kernel
theorem dksX6_clash_1 : cX6_clash.data.toList.drop 22 = dktX6_clash_1 := dk_seg dksX6_clash_0 22 rfl rfl
theorem dX6_clash_0 : decode cX6_clash 0 = .ok (.aload_n 0, 1) := dk_42 (dk_at dksX6_clash_0 0 rfl rfl)
theorem dX6_clash_1 : decode cX6_clash 1 = .ok (.getfield 18, 3) := dk_180 0 18 (dk_at dksX6_clash_0 1 rfl rfl)
theorem dX6_clash_4 : decode cX6_clash 4 = .ok (.aload_n 0, 1) := dk_42 (dk_at dksX6_clash_0 4 rfl rfl)
theorem dX6_clash_5 : decode cX6_clash 5 = .ok (.getfield 28, 3) := dk_180 0 28 (dk_at dksX6_clash_0 5 rfl rfl)
theorem dX6_clash_8 : decode cX6_clash 8 = .ok (.iload_n 1, 1) := dk_27 (dk_at dksX6_clash_0 8 rfl rfl)
theorem dX6_clash_9 : decode cX6_clash 9 = .ok (.iastore, 1) := dk_79 (dk_at dksX6_clash_0 9 rfl rfl)
theorem dX6_clash_10 : decode cX6_clash 10 = .ok (.aload_n 0, 1) := dk_42 (dk_at dksX6_clash_0 10 rfl rfl)
theorem dX6_clash_11 : decode cX6_clash 11 = .ok (.getfield 22, 3) := dk_180 0 22 (dk_at dksX6_clash_0 11 rfl rfl)
theorem dX6_clash_14 : decode cX6_clash 14 = .ok (.aload_n 0, 1) := dk_42 (dk_at dksX6_clash_0 14 rfl rfl)
theorem dX6_clash_15 : decode cX6_clash 15 = .ok (.getfield 28, 3) := dk_180 0 28 (dk_at dksX6_clash_0 15 rfl rfl)
theorem dX6_clash_18 : decode cX6_clash 18 = .ok (.iload_n 2, 1) := dk_28 (dk_at dksX6_clash_0 18 rfl rfl)
theorem dX6_clash_19 : decode cX6_clash 19 = .ok (.iastore, 1) := dk_79 (dk_at dksX6_clash_0 19 rfl rfl)
theorem dX6_clash_20 : decode cX6_clash 20 = .ok (.aload_n 0, 1) := dk_42 (dk_at dksX6_clash_0 20 rfl rfl)
theorem dX6_clash_21 : decode cX6_clash 21 = .ok (.dup, 1) := dk_89 (dk_at dksX6_clash_0 21 rfl rfl)
theorem dX6_clash_22 : decode cX6_clash 22 = .ok (.getfield 28, 3) := dk_180 0 28 (dk_at dksX6_clash_1 0 rfl rfl)
theorem dX6_clash_25 : decode cX6_clash 25 = .ok (.iconst 1, 1) := dk_4 (dk_at dksX6_clash_1 3 rfl rfl)
theorem dX6_clash_26 : decode cX6_clash 26 = .ok (.iadd, 1) := dk_96 (dk_at dksX6_clash_1 4 rfl rfl)
theorem dX6_clash_27 : decode cX6_clash 27 = .ok (.putfield 28, 3) := dk_181 0 28 (dk_at dksX6_clash_1 5 rfl rfl)
theorem dX6_clash_30 : decode cX6_clash 30 = .ok (.return_, 1) := dk_177 (dk_at dksX6_clash_1 8 rfl rfl)
abbrev cX6_node : ByteArray := prog_9_method_13_code
def yX6_node : MethodName := ⟨RX6, "node", "(II)LBranchMender$Node;"⟩
def dkwX6_node_13 : List UInt8 := [167, 0, 4, 3, 181, 0, 102, 25, 6, 176]
abbrev dktX6_node_13 : List UInt8 := dkwX6_node_13 ++ []
def dkwX6_node_12 : List UInt8 := [182, 0, 41, 158, 0, 11, 25, 6, 182, 0, 142, 153, 0, 11, 25, 6, 182, 0, 146, 153, 0, 7, 4]
abbrev dktX6_node_12 : List UInt8 := dkwX6_node_12 ++ dktX6_node_13
def dkwX6_node_11 : List UInt8 := [182, 0, 140, 132, 8, 1, 167, 255, 196, 42, 42, 180, 0, 102, 154, 0, 30, 25, 6, 180, 0, 36]
abbrev dktX6_node_11 : List UInt8 := dkwX6_node_11 ++ dktX6_node_12
def dkwX6_node_10 : List UInt8 := [192, 0, 37, 180, 0, 49, 28, 4, 96, 182, 0, 106, 58, 9, 25, 9, 198, 0, 10, 25, 6, 25, 9]
abbrev dktX6_node_10 : List UInt8 := dkwX6_node_10 ++ dktX6_node_11
def dkwX6_node_9 : List UInt8 := [182, 0, 41, 162, 0, 53, 42, 180, 0, 102, 154, 0, 46, 42, 25, 7, 180, 0, 36, 21, 8, 182, 0, 45]
abbrev dktX6_node_9 : List UInt8 := dkwX6_node_9 ++ dktX6_node_10
def dkwX6_node_8 : List UInt8 := [42, 27, 45, 25, 4, 25, 5, 3, 182, 0, 137, 58, 7, 3, 54, 8, 21, 8, 25, 7, 180, 0, 36]
abbrev dktX6_node_8 : List UInt8 := dkwX6_node_8 ++ dktX6_node_9
def dkwX6_node_7 : List UInt8 := [25, 5, 3, 182, 0, 127, 180, 0, 63, 184, 0, 130, 58, 6, 42, 180, 0, 25, 25, 6, 182, 0, 133, 87]
abbrev dktX6_node_7 : List UInt8 := dkwX6_node_7 ++ dktX6_node_8
def dkwX6_node_6 : List UInt8 := [182, 0, 52, 27, 42, 27, 45, 25, 4, 25, 5, 3, 182, 0, 124, 180, 0, 55, 42, 27, 45, 25, 4]
abbrev dktX6_node_6 : List UInt8 := dkwX6_node_6 ++ dktX6_node_7
def dkwX6_node_5 : List UInt8 := [167, 255, 206, 42, 180, 0, 102, 153, 0, 5, 1, 176, 42, 27, 45, 25, 4, 25, 5, 3, 182, 0, 120]
abbrev dktX6_node_5 : List UInt8 := dkwX6_node_5 ++ dktX6_node_6
def dkwX6_node_4 : List UInt8 := [182, 0, 45, 192, 0, 37, 180, 0, 49, 27, 160, 0, 7, 4, 167, 0, 4, 3, 181, 0, 102, 132, 6, 1]
abbrev dktX6_node_4 : List UInt8 := dkwX6_node_4 ++ dktX6_node_5
def dkwX6_node_3 : List UInt8 := [180, 0, 25, 182, 0, 41, 162, 0, 44, 42, 180, 0, 102, 154, 0, 37, 42, 42, 180, 0, 25, 21, 6]
abbrev dktX6_node_3 : List UInt8 := dkwX6_node_3 ++ dktX6_node_4
def dkwX6_node_2 : List UInt8 := [180, 0, 25, 182, 0, 41, 16, 30, 160, 0, 8, 42, 4, 181, 0, 102, 3, 54, 6, 21, 6, 42]
abbrev dktX6_node_2 : List UInt8 := dkwX6_node_2 ++ dktX6_node_3
def dkwX6_node_1 : List UInt8 := [182, 0, 116, 58, 5, 25, 4, 199, 0, 8, 25, 5, 198, 0, 21, 28, 16, 12, 159, 0, 15, 42]
abbrev dktX6_node_1 : List UInt8 := dkwX6_node_1 ++ dktX6_node_2
def dkwX6_node_0 : List UInt8 := [42, 180, 0, 83, 27, 182, 0, 116, 78, 42, 180, 0, 87, 27, 182, 0, 116, 58, 4, 42, 180, 0, 90, 27]
abbrev dktX6_node_0 : List UInt8 := dkwX6_node_0 ++ dktX6_node_1
theorem dksX6_node_0 : cX6_node.data.toList.drop 0 = dktX6_node_0 := by decide +kernel
theorem dksX6_node_1 : cX6_node.data.toList.drop 24 = dktX6_node_1 := dk_seg dksX6_node_0 24 rfl rfl
theorem dksX6_node_2 : cX6_node.data.toList.drop 46 = dktX6_node_2 := dk_seg dksX6_node_1 22 rfl rfl
theorem dksX6_node_3 : cX6_node.data.toList.drop 68 = dktX6_node_3 := dk_seg dksX6_node_2 22 rfl rfl
theorem dksX6_node_4 : cX6_node.data.toList.drop 91 = dktX6_node_4 := dk_seg dksX6_node_3 23 rfl rfl
theorem dksX6_node_5 : cX6_node.data.toList.drop 115 = dktX6_node_5 := dk_seg dksX6_node_4 24 rfl rfl
theorem dksX6_node_6 : cX6_node.data.toList.drop 138 = dktX6_node_6 := dk_seg dksX6_node_5 23 rfl rfl
theorem dksX6_node_7 : cX6_node.data.toList.drop 161 = dktX6_node_7 := dk_seg dksX6_node_6 23 rfl rfl
theorem dksX6_node_8 : cX6_node.data.toList.drop 185 = dktX6_node_8 := dk_seg dksX6_node_7 24 rfl rfl
theorem dksX6_node_9 : cX6_node.data.toList.drop 208 = dktX6_node_9 := dk_seg dksX6_node_8 23 rfl rfl
theorem dksX6_node_10 : cX6_node.data.toList.drop 232 = dktX6_node_10 := dk_seg dksX6_node_9 24 rfl rfl
theorem dksX6_node_11 : cX6_node.data.toList.drop 255 = dktX6_node_11 := dk_seg dksX6_node_10 23 rfl rfl
theorem dksX6_node_12 : cX6_node.data.toList.drop 277 = dktX6_node_12 := dk_seg dksX6_node_11 22 rfl rfl
theorem dksX6_node_13 : cX6_node.data.toList.drop 300 = dktX6_node_13 := dk_seg dksX6_node_12 23 rfl rfl
theorem dX6_node_0 : decode cX6_node 0 = .ok (.aload_n 0, 1) := dk_42 (dk_at dksX6_node_0 0 rfl rfl)
theorem dX6_node_1 : decode cX6_node 1 = .ok (.getfield 83, 3) := dk_180 0 83 (dk_at dksX6_node_0 1 rfl rfl)
theorem dX6_node_4 : decode cX6_node 4 = .ok (.iload_n 1, 1) := dk_27 (dk_at dksX6_node_0 4 rfl rfl)
theorem dX6_node_5 : decode cX6_node 5 = .ok (.invokevirtual 116, 3) := dk_182 0 116 (dk_at dksX6_node_0 5 rfl rfl)
theorem dX6_node_8 : decode cX6_node 8 = .ok (.astore_n 3, 1) := dk_78 (dk_at dksX6_node_0 8 rfl rfl)
theorem dX6_node_9 : decode cX6_node 9 = .ok (.aload_n 0, 1) := dk_42 (dk_at dksX6_node_0 9 rfl rfl)
theorem dX6_node_10 : decode cX6_node 10 = .ok (.getfield 87, 3) := dk_180 0 87 (dk_at dksX6_node_0 10 rfl rfl)
theorem dX6_node_13 : decode cX6_node 13 = .ok (.iload_n 1, 1) := dk_27 (dk_at dksX6_node_0 13 rfl rfl)
theorem dX6_node_14 : decode cX6_node 14 = .ok (.invokevirtual 116, 3) := dk_182 0 116 (dk_at dksX6_node_0 14 rfl rfl)
theorem dX6_node_17 : decode cX6_node 17 = .ok (.astore 4, 2) := dk_58 4 (dk_at dksX6_node_0 17 rfl rfl)
theorem dX6_node_19 : decode cX6_node 19 = .ok (.aload_n 0, 1) := dk_42 (dk_at dksX6_node_0 19 rfl rfl)
theorem dX6_node_20 : decode cX6_node 20 = .ok (.getfield 90, 3) := dk_180 0 90 (dk_at dksX6_node_0 20 rfl rfl)
theorem dX6_node_23 : decode cX6_node 23 = .ok (.iload_n 1, 1) := dk_27 (dk_at dksX6_node_0 23 rfl rfl)
theorem dX6_node_24 : decode cX6_node 24 = .ok (.invokevirtual 116, 3) := dk_182 0 116 (dk_at dksX6_node_1 0 rfl rfl)
theorem dX6_node_27 : decode cX6_node 27 = .ok (.astore 5, 2) := dk_58 5 (dk_at dksX6_node_1 3 rfl rfl)
theorem dX6_node_29 : decode cX6_node 29 = .ok (.aload 4, 2) := dk_25 4 (dk_at dksX6_node_1 5 rfl rfl)
theorem dX6_node_31 : decode cX6_node 31 = .ok (.ifnonnull 8, 3) := dk_199 0 8 (dk_at dksX6_node_1 7 rfl rfl)
theorem dX6_node_34 : decode cX6_node 34 = .ok (.aload 5, 2) := dk_25 5 (dk_at dksX6_node_1 10 rfl rfl)
theorem dX6_node_36 : decode cX6_node 36 = .ok (.ifnull 21, 3) := dk_198 0 21 (dk_at dksX6_node_1 12 rfl rfl)
theorem dX6_node_39 : decode cX6_node 39 = .ok (.iload_n 2, 1) := dk_28 (dk_at dksX6_node_1 15 rfl rfl)
theorem dX6_node_40 : decode cX6_node 40 = .ok (.bipush 12, 2) := dk_16 12 (dk_at dksX6_node_1 16 rfl rfl)
theorem dX6_node_42 : decode cX6_node 42 = .ok (.if_icmp .eq 15, 3) := dk_159 0 15 (dk_at dksX6_node_1 18 rfl rfl)
theorem dX6_node_45 : decode cX6_node 45 = .ok (.aload_n 0, 1) := dk_42 (dk_at dksX6_node_1 21 rfl rfl)
theorem dX6_node_46 : decode cX6_node 46 = .ok (.getfield 25, 3) := dk_180 0 25 (dk_at dksX6_node_2 0 rfl rfl)
theorem dX6_node_49 : decode cX6_node 49 = .ok (.invokevirtual 41, 3) := dk_182 0 41 (dk_at dksX6_node_2 3 rfl rfl)
theorem dX6_node_52 : decode cX6_node 52 = .ok (.bipush 30, 2) := dk_16 30 (dk_at dksX6_node_2 6 rfl rfl)
theorem dX6_node_54 : decode cX6_node 54 = .ok (.if_icmp .ne 8, 3) := dk_160 0 8 (dk_at dksX6_node_2 8 rfl rfl)
theorem dX6_node_57 : decode cX6_node 57 = .ok (.aload_n 0, 1) := dk_42 (dk_at dksX6_node_2 11 rfl rfl)
theorem dX6_node_58 : decode cX6_node 58 = .ok (.iconst 1, 1) := dk_4 (dk_at dksX6_node_2 12 rfl rfl)
theorem dX6_node_59 : decode cX6_node 59 = .ok (.putfield 102, 3) := dk_181 0 102 (dk_at dksX6_node_2 13 rfl rfl)
theorem dX6_node_62 : decode cX6_node 62 = .ok (.iconst 0, 1) := dk_3 (dk_at dksX6_node_2 16 rfl rfl)
theorem dX6_node_63 : decode cX6_node 63 = .ok (.istore 6, 2) := dk_54 6 (dk_at dksX6_node_2 17 rfl rfl)
theorem dX6_node_65 : decode cX6_node 65 = .ok (.iload 6, 2) := dk_21 6 (dk_at dksX6_node_2 19 rfl rfl)
theorem dX6_node_67 : decode cX6_node 67 = .ok (.aload_n 0, 1) := dk_42 (dk_at dksX6_node_2 21 rfl rfl)
theorem dX6_node_68 : decode cX6_node 68 = .ok (.getfield 25, 3) := dk_180 0 25 (dk_at dksX6_node_3 0 rfl rfl)
theorem dX6_node_71 : decode cX6_node 71 = .ok (.invokevirtual 41, 3) := dk_182 0 41 (dk_at dksX6_node_3 3 rfl rfl)
theorem dX6_node_74 : decode cX6_node 74 = .ok (.if_icmp .ge 44, 3) := dk_162 0 44 (dk_at dksX6_node_3 6 rfl rfl)
theorem dX6_node_77 : decode cX6_node 77 = .ok (.aload_n 0, 1) := dk_42 (dk_at dksX6_node_3 9 rfl rfl)
theorem dX6_node_78 : decode cX6_node 78 = .ok (.getfield 102, 3) := dk_180 0 102 (dk_at dksX6_node_3 10 rfl rfl)
theorem dX6_node_81 : decode cX6_node 81 = .ok (.ifCond .ne 37, 3) := dk_154 0 37 (dk_at dksX6_node_3 13 rfl rfl)
theorem dX6_node_84 : decode cX6_node 84 = .ok (.aload_n 0, 1) := dk_42 (dk_at dksX6_node_3 16 rfl rfl)
theorem dX6_node_85 : decode cX6_node 85 = .ok (.aload_n 0, 1) := dk_42 (dk_at dksX6_node_3 17 rfl rfl)
theorem dX6_node_86 : decode cX6_node 86 = .ok (.getfield 25, 3) := dk_180 0 25 (dk_at dksX6_node_3 18 rfl rfl)
theorem dX6_node_89 : decode cX6_node 89 = .ok (.iload 6, 2) := dk_21 6 (dk_at dksX6_node_3 21 rfl rfl)
theorem dX6_node_91 : decode cX6_node 91 = .ok (.invokevirtual 45, 3) := dk_182 0 45 (dk_at dksX6_node_4 0 rfl rfl)
theorem dX6_node_94 : decode cX6_node 94 = .ok (.checkcast 37, 3) := dk_192 0 37 (dk_at dksX6_node_4 3 rfl rfl)
theorem dX6_node_97 : decode cX6_node 97 = .ok (.getfield 49, 3) := dk_180 0 49 (dk_at dksX6_node_4 6 rfl rfl)
theorem dX6_node_100 : decode cX6_node 100 = .ok (.iload_n 1, 1) := dk_27 (dk_at dksX6_node_4 9 rfl rfl)
theorem dX6_node_101 : decode cX6_node 101 = .ok (.if_icmp .ne 7, 3) := dk_160 0 7 (dk_at dksX6_node_4 10 rfl rfl)
theorem dX6_node_104 : decode cX6_node 104 = .ok (.iconst 1, 1) := dk_4 (dk_at dksX6_node_4 13 rfl rfl)
theorem dX6_node_105 : decode cX6_node 105 = .ok (.goto 4, 3) := dk_167 0 4 (dk_at dksX6_node_4 14 rfl rfl)
theorem dX6_node_108 : decode cX6_node 108 = .ok (.iconst 0, 1) := dk_3 (dk_at dksX6_node_4 17 rfl rfl)
theorem dX6_node_109 : decode cX6_node 109 = .ok (.putfield 102, 3) := dk_181 0 102 (dk_at dksX6_node_4 18 rfl rfl)
theorem dX6_node_112 : decode cX6_node 112 = .ok (.iinc 6 1, 3) := dk_132 6 1 (dk_at dksX6_node_4 21 rfl rfl)
theorem dX6_node_115 : decode cX6_node 115 = .ok (.goto (-50), 3) := dk_167 255 206 (dk_at dksX6_node_5 0 rfl rfl)
theorem dX6_node_118 : decode cX6_node 118 = .ok (.aload_n 0, 1) := dk_42 (dk_at dksX6_node_5 3 rfl rfl)
theorem dX6_node_119 : decode cX6_node 119 = .ok (.getfield 102, 3) := dk_180 0 102 (dk_at dksX6_node_5 4 rfl rfl)
theorem dX6_node_122 : decode cX6_node 122 = .ok (.ifCond .eq 5, 3) := dk_153 0 5 (dk_at dksX6_node_5 7 rfl rfl)
theorem dX6_node_125 : decode cX6_node 125 = .ok (.aconst_null, 1) := dk_1 (dk_at dksX6_node_5 10 rfl rfl)
theorem dX6_node_126 : decode cX6_node 126 = .ok (.areturn, 1) := dk_176 (dk_at dksX6_node_5 11 rfl rfl)
theorem dX6_node_127 : decode cX6_node 127 = .ok (.aload_n 0, 1) := dk_42 (dk_at dksX6_node_5 12 rfl rfl)
theorem dX6_node_128 : decode cX6_node 128 = .ok (.iload_n 1, 1) := dk_27 (dk_at dksX6_node_5 13 rfl rfl)
theorem dX6_node_129 : decode cX6_node 129 = .ok (.aload_n 3, 1) := dk_45 (dk_at dksX6_node_5 14 rfl rfl)
theorem dX6_node_130 : decode cX6_node 130 = .ok (.aload 4, 2) := dk_25 4 (dk_at dksX6_node_5 15 rfl rfl)
theorem dX6_node_132 : decode cX6_node 132 = .ok (.aload 5, 2) := dk_25 5 (dk_at dksX6_node_5 17 rfl rfl)
theorem dX6_node_134 : decode cX6_node 134 = .ok (.iconst 0, 1) := dk_3 (dk_at dksX6_node_5 19 rfl rfl)
theorem dX6_node_135 : decode cX6_node 135 = .ok (.invokevirtual 120, 3) := dk_182 0 120 (dk_at dksX6_node_5 20 rfl rfl)
theorem dX6_node_138 : decode cX6_node 138 = .ok (.invokevirtual 52, 3) := dk_182 0 52 (dk_at dksX6_node_6 0 rfl rfl)
theorem dX6_node_141 : decode cX6_node 141 = .ok (.iload_n 1, 1) := dk_27 (dk_at dksX6_node_6 3 rfl rfl)
theorem dX6_node_142 : decode cX6_node 142 = .ok (.aload_n 0, 1) := dk_42 (dk_at dksX6_node_6 4 rfl rfl)
theorem dX6_node_143 : decode cX6_node 143 = .ok (.iload_n 1, 1) := dk_27 (dk_at dksX6_node_6 5 rfl rfl)
theorem dX6_node_144 : decode cX6_node 144 = .ok (.aload_n 3, 1) := dk_45 (dk_at dksX6_node_6 6 rfl rfl)
theorem dX6_node_145 : decode cX6_node 145 = .ok (.aload 4, 2) := dk_25 4 (dk_at dksX6_node_6 7 rfl rfl)
theorem dX6_node_147 : decode cX6_node 147 = .ok (.aload 5, 2) := dk_25 5 (dk_at dksX6_node_6 9 rfl rfl)
theorem dX6_node_149 : decode cX6_node 149 = .ok (.iconst 0, 1) := dk_3 (dk_at dksX6_node_6 11 rfl rfl)
theorem dX6_node_150 : decode cX6_node 150 = .ok (.invokevirtual 124, 3) := dk_182 0 124 (dk_at dksX6_node_6 12 rfl rfl)
theorem dX6_node_153 : decode cX6_node 153 = .ok (.getfield 55, 3) := dk_180 0 55 (dk_at dksX6_node_6 15 rfl rfl)
theorem dX6_node_156 : decode cX6_node 156 = .ok (.aload_n 0, 1) := dk_42 (dk_at dksX6_node_6 18 rfl rfl)
theorem dX6_node_157 : decode cX6_node 157 = .ok (.iload_n 1, 1) := dk_27 (dk_at dksX6_node_6 19 rfl rfl)
theorem dX6_node_158 : decode cX6_node 158 = .ok (.aload_n 3, 1) := dk_45 (dk_at dksX6_node_6 20 rfl rfl)
theorem dX6_node_159 : decode cX6_node 159 = .ok (.aload 4, 2) := dk_25 4 (dk_at dksX6_node_6 21 rfl rfl)
theorem dX6_node_161 : decode cX6_node 161 = .ok (.aload 5, 2) := dk_25 5 (dk_at dksX6_node_7 0 rfl rfl)
theorem dX6_node_163 : decode cX6_node 163 = .ok (.iconst 0, 1) := dk_3 (dk_at dksX6_node_7 2 rfl rfl)
theorem dX6_node_164 : decode cX6_node 164 = .ok (.invokevirtual 127, 3) := dk_182 0 127 (dk_at dksX6_node_7 3 rfl rfl)
theorem dX6_node_167 : decode cX6_node 167 = .ok (.getfield 63, 3) := dk_180 0 63 (dk_at dksX6_node_7 6 rfl rfl)
theorem dX6_node_170 : decode cX6_node 170 = .ok (.invokestatic 130, 3) := dk_184 0 130 (dk_at dksX6_node_7 9 rfl rfl)
theorem dX6_node_173 : decode cX6_node 173 = .ok (.astore 6, 2) := dk_58 6 (dk_at dksX6_node_7 12 rfl rfl)
theorem dX6_node_175 : decode cX6_node 175 = .ok (.aload_n 0, 1) := dk_42 (dk_at dksX6_node_7 14 rfl rfl)
theorem dX6_node_176 : decode cX6_node 176 = .ok (.getfield 25, 3) := dk_180 0 25 (dk_at dksX6_node_7 15 rfl rfl)
theorem dX6_node_179 : decode cX6_node 179 = .ok (.aload 6, 2) := dk_25 6 (dk_at dksX6_node_7 18 rfl rfl)
theorem dX6_node_181 : decode cX6_node 181 = .ok (.invokevirtual 133, 3) := dk_182 0 133 (dk_at dksX6_node_7 20 rfl rfl)
theorem dX6_node_184 : decode cX6_node 184 = .ok (.pop, 1) := dk_87 (dk_at dksX6_node_7 23 rfl rfl)
theorem dX6_node_185 : decode cX6_node 185 = .ok (.aload_n 0, 1) := dk_42 (dk_at dksX6_node_8 0 rfl rfl)
theorem dX6_node_186 : decode cX6_node 186 = .ok (.iload_n 1, 1) := dk_27 (dk_at dksX6_node_8 1 rfl rfl)
theorem dX6_node_187 : decode cX6_node 187 = .ok (.aload_n 3, 1) := dk_45 (dk_at dksX6_node_8 2 rfl rfl)
theorem dX6_node_188 : decode cX6_node 188 = .ok (.aload 4, 2) := dk_25 4 (dk_at dksX6_node_8 3 rfl rfl)
theorem dX6_node_190 : decode cX6_node 190 = .ok (.aload 5, 2) := dk_25 5 (dk_at dksX6_node_8 5 rfl rfl)
theorem dX6_node_192 : decode cX6_node 192 = .ok (.iconst 0, 1) := dk_3 (dk_at dksX6_node_8 7 rfl rfl)
theorem dX6_node_193 : decode cX6_node 193 = .ok (.invokevirtual 137, 3) := dk_182 0 137 (dk_at dksX6_node_8 8 rfl rfl)
theorem dX6_node_196 : decode cX6_node 196 = .ok (.astore 7, 2) := dk_58 7 (dk_at dksX6_node_8 11 rfl rfl)
theorem dX6_node_198 : decode cX6_node 198 = .ok (.iconst 0, 1) := dk_3 (dk_at dksX6_node_8 13 rfl rfl)
theorem dX6_node_199 : decode cX6_node 199 = .ok (.istore 8, 2) := dk_54 8 (dk_at dksX6_node_8 14 rfl rfl)
theorem dX6_node_201 : decode cX6_node 201 = .ok (.iload 8, 2) := dk_21 8 (dk_at dksX6_node_8 16 rfl rfl)
theorem dX6_node_203 : decode cX6_node 203 = .ok (.aload 7, 2) := dk_25 7 (dk_at dksX6_node_8 18 rfl rfl)
theorem dX6_node_205 : decode cX6_node 205 = .ok (.getfield 36, 3) := dk_180 0 36 (dk_at dksX6_node_8 20 rfl rfl)
theorem dX6_node_208 : decode cX6_node 208 = .ok (.invokevirtual 41, 3) := dk_182 0 41 (dk_at dksX6_node_9 0 rfl rfl)
theorem dX6_node_211 : decode cX6_node 211 = .ok (.if_icmp .ge 53, 3) := dk_162 0 53 (dk_at dksX6_node_9 3 rfl rfl)
theorem dX6_node_214 : decode cX6_node 214 = .ok (.aload_n 0, 1) := dk_42 (dk_at dksX6_node_9 6 rfl rfl)
theorem dX6_node_215 : decode cX6_node 215 = .ok (.getfield 102, 3) := dk_180 0 102 (dk_at dksX6_node_9 7 rfl rfl)
theorem dX6_node_218 : decode cX6_node 218 = .ok (.ifCond .ne 46, 3) := dk_154 0 46 (dk_at dksX6_node_9 10 rfl rfl)
theorem dX6_node_221 : decode cX6_node 221 = .ok (.aload_n 0, 1) := dk_42 (dk_at dksX6_node_9 13 rfl rfl)
theorem dX6_node_222 : decode cX6_node 222 = .ok (.aload 7, 2) := dk_25 7 (dk_at dksX6_node_9 14 rfl rfl)
theorem dX6_node_224 : decode cX6_node 224 = .ok (.getfield 36, 3) := dk_180 0 36 (dk_at dksX6_node_9 16 rfl rfl)
theorem dX6_node_227 : decode cX6_node 227 = .ok (.iload 8, 2) := dk_21 8 (dk_at dksX6_node_9 19 rfl rfl)
theorem dX6_node_229 : decode cX6_node 229 = .ok (.invokevirtual 45, 3) := dk_182 0 45 (dk_at dksX6_node_9 21 rfl rfl)
theorem dX6_node_232 : decode cX6_node 232 = .ok (.checkcast 37, 3) := dk_192 0 37 (dk_at dksX6_node_10 0 rfl rfl)
theorem dX6_node_235 : decode cX6_node 235 = .ok (.getfield 49, 3) := dk_180 0 49 (dk_at dksX6_node_10 3 rfl rfl)
theorem dX6_node_238 : decode cX6_node 238 = .ok (.iload_n 2, 1) := dk_28 (dk_at dksX6_node_10 6 rfl rfl)
theorem dX6_node_239 : decode cX6_node 239 = .ok (.iconst 1, 1) := dk_4 (dk_at dksX6_node_10 7 rfl rfl)
theorem dX6_node_240 : decode cX6_node 240 = .ok (.iadd, 1) := dk_96 (dk_at dksX6_node_10 8 rfl rfl)
theorem dX6_node_241 : decode cX6_node 241 = .ok (.invokevirtual 106, 3) := dk_182 0 106 (dk_at dksX6_node_10 9 rfl rfl)
theorem dX6_node_244 : decode cX6_node 244 = .ok (.astore 9, 2) := dk_58 9 (dk_at dksX6_node_10 12 rfl rfl)
theorem dX6_node_246 : decode cX6_node 246 = .ok (.aload 9, 2) := dk_25 9 (dk_at dksX6_node_10 14 rfl rfl)
theorem dX6_node_248 : decode cX6_node 248 = .ok (.ifnull 10, 3) := dk_198 0 10 (dk_at dksX6_node_10 16 rfl rfl)
theorem dX6_node_251 : decode cX6_node 251 = .ok (.aload 6, 2) := dk_25 6 (dk_at dksX6_node_10 19 rfl rfl)
theorem dX6_node_253 : decode cX6_node 253 = .ok (.aload 9, 2) := dk_25 9 (dk_at dksX6_node_10 21 rfl rfl)
theorem dX6_node_255 : decode cX6_node 255 = .ok (.invokevirtual 140, 3) := dk_182 0 140 (dk_at dksX6_node_11 0 rfl rfl)
theorem dX6_node_258 : decode cX6_node 258 = .ok (.iinc 8 1, 3) := dk_132 8 1 (dk_at dksX6_node_11 3 rfl rfl)
theorem dX6_node_261 : decode cX6_node 261 = .ok (.goto (-60), 3) := dk_167 255 196 (dk_at dksX6_node_11 6 rfl rfl)
theorem dX6_node_264 : decode cX6_node 264 = .ok (.aload_n 0, 1) := dk_42 (dk_at dksX6_node_11 9 rfl rfl)
theorem dX6_node_265 : decode cX6_node 265 = .ok (.aload_n 0, 1) := dk_42 (dk_at dksX6_node_11 10 rfl rfl)
theorem dX6_node_266 : decode cX6_node 266 = .ok (.getfield 102, 3) := dk_180 0 102 (dk_at dksX6_node_11 11 rfl rfl)
theorem dX6_node_269 : decode cX6_node 269 = .ok (.ifCond .ne 30, 3) := dk_154 0 30 (dk_at dksX6_node_11 14 rfl rfl)
theorem dX6_node_272 : decode cX6_node 272 = .ok (.aload 6, 2) := dk_25 6 (dk_at dksX6_node_11 17 rfl rfl)
theorem dX6_node_274 : decode cX6_node 274 = .ok (.getfield 36, 3) := dk_180 0 36 (dk_at dksX6_node_11 19 rfl rfl)
theorem dX6_node_277 : decode cX6_node 277 = .ok (.invokevirtual 41, 3) := dk_182 0 41 (dk_at dksX6_node_12 0 rfl rfl)
theorem dX6_node_280 : decode cX6_node 280 = .ok (.ifCond .le 11, 3) := dk_158 0 11 (dk_at dksX6_node_12 3 rfl rfl)
theorem dX6_node_283 : decode cX6_node 283 = .ok (.aload 6, 2) := dk_25 6 (dk_at dksX6_node_12 6 rfl rfl)
theorem dX6_node_285 : decode cX6_node 285 = .ok (.invokevirtual 142, 3) := dk_182 0 142 (dk_at dksX6_node_12 8 rfl rfl)
theorem dX6_node_288 : decode cX6_node 288 = .ok (.ifCond .eq 11, 3) := dk_153 0 11 (dk_at dksX6_node_12 11 rfl rfl)
theorem dX6_node_291 : decode cX6_node 291 = .ok (.aload 6, 2) := dk_25 6 (dk_at dksX6_node_12 14 rfl rfl)
theorem dX6_node_293 : decode cX6_node 293 = .ok (.invokevirtual 146, 3) := dk_182 0 146 (dk_at dksX6_node_12 16 rfl rfl)
theorem dX6_node_296 : decode cX6_node 296 = .ok (.ifCond .eq 7, 3) := dk_153 0 7 (dk_at dksX6_node_12 19 rfl rfl)
theorem dX6_node_299 : decode cX6_node 299 = .ok (.iconst 1, 1) := dk_4 (dk_at dksX6_node_12 22 rfl rfl)
theorem dX6_node_300 : decode cX6_node 300 = .ok (.goto 4, 3) := dk_167 0 4 (dk_at dksX6_node_13 0 rfl rfl)
theorem dX6_node_303 : decode cX6_node 303 = .ok (.iconst 0, 1) := dk_3 (dk_at dksX6_node_13 3 rfl rfl)
theorem dX6_node_304 : decode cX6_node 304 = .ok (.putfield 102, 3) := dk_181 0 102 (dk_at dksX6_node_13 4 rfl rfl)
theorem dX6_node_307 : decode cX6_node 307 = .ok (.aload 6, 2) := dk_25 6 (dk_at dksX6_node_13 7 rfl rfl)
theorem dX6_node_309 : decode cX6_node 309 = .ok (.areturn, 1) := dk_176 (dk_at dksX6_node_13 9 rfl rfl)
abbrev cX6_kindOf : ByteArray := prog_9_method_8_code
def yX6_kindOf : MethodName := ⟨RX6, "kindOf", "(ILBranchMender$Node;LBranchMender$Node;LBranchMender$Node;Z)LBranchMender$Node;"⟩
def dkwX6_kindOf_1 : List UInt8 := [21, 5, 182, 0, 70, 176]
abbrev dktX6_kindOf_1 : List UInt8 := dkwX6_kindOf_1 ++ []
def dkwX6_kindOf_0 : List UInt8 := [42, 27, 44, 45, 25, 4, 44, 45, 184, 0, 66, 44, 25, 4, 184, 0, 66, 45, 25, 4, 184, 0, 66, 3]
abbrev dktX6_kindOf_0 : List UInt8 := dkwX6_kindOf_0 ++ dktX6_kindOf_1
theorem dksX6_kindOf_0 : cX6_kindOf.data.toList.drop 0 = dktX6_kindOf_0 := by decide +kernel
theorem dksX6_kindOf_1 : cX6_kindOf.data.toList.drop 24 = dktX6_kindOf_1 := dk_seg dksX6_kindOf_0 24 rfl rfl
theorem dX6_kindOf_0 : decode cX6_kindOf 0 = .ok (.aload_n 0, 1) := dk_42 (dk_at dksX6_kindOf_0 0 rfl rfl)
theorem dX6_kindOf_1 : decode cX6_kindOf 1 = .ok (.iload_n 1, 1) := dk_27 (dk_at dksX6_kindOf_0 1 rfl rfl)
theorem dX6_kindOf_2 : decode cX6_kindOf 2 = .ok (.aload_n 2, 1) := dk_44 (dk_at dksX6_kindOf_0 2 rfl rfl)
theorem dX6_kindOf_3 : decode cX6_kindOf 3 = .ok (.aload_n 3, 1) := dk_45 (dk_at dksX6_kindOf_0 3 rfl rfl)
theorem dX6_kindOf_4 : decode cX6_kindOf 4 = .ok (.aload 4, 2) := dk_25 4 (dk_at dksX6_kindOf_0 4 rfl rfl)
theorem dX6_kindOf_6 : decode cX6_kindOf 6 = .ok (.aload_n 2, 1) := dk_44 (dk_at dksX6_kindOf_0 6 rfl rfl)
theorem dX6_kindOf_7 : decode cX6_kindOf 7 = .ok (.aload_n 3, 1) := dk_45 (dk_at dksX6_kindOf_0 7 rfl rfl)
theorem dX6_kindOf_8 : decode cX6_kindOf 8 = .ok (.invokestatic 66, 3) := dk_184 0 66 (dk_at dksX6_kindOf_0 8 rfl rfl)
theorem dX6_kindOf_11 : decode cX6_kindOf 11 = .ok (.aload_n 2, 1) := dk_44 (dk_at dksX6_kindOf_0 11 rfl rfl)
theorem dX6_kindOf_12 : decode cX6_kindOf 12 = .ok (.aload 4, 2) := dk_25 4 (dk_at dksX6_kindOf_0 12 rfl rfl)
theorem dX6_kindOf_14 : decode cX6_kindOf 14 = .ok (.invokestatic 66, 3) := dk_184 0 66 (dk_at dksX6_kindOf_0 14 rfl rfl)
theorem dX6_kindOf_17 : decode cX6_kindOf 17 = .ok (.aload_n 3, 1) := dk_45 (dk_at dksX6_kindOf_0 17 rfl rfl)
theorem dX6_kindOf_18 : decode cX6_kindOf 18 = .ok (.aload 4, 2) := dk_25 4 (dk_at dksX6_kindOf_0 18 rfl rfl)
theorem dX6_kindOf_20 : decode cX6_kindOf 20 = .ok (.invokestatic 66, 3) := dk_184 0 66 (dk_at dksX6_kindOf_0 20 rfl rfl)
theorem dX6_kindOf_23 : decode cX6_kindOf 23 = .ok (.iconst 0, 1) := dk_3 (dk_at dksX6_kindOf_0 23 rfl rfl)
theorem dX6_kindOf_24 : decode cX6_kindOf 24 = .ok (.iload 5, 2) := dk_21 5 (dk_at dksX6_kindOf_1 0 rfl rfl)
theorem dX6_kindOf_26 : decode cX6_kindOf 26 = .ok (.invokevirtual 70, 3) := dk_182 0 70 (dk_at dksX6_kindOf_1 2 rfl rfl)
theorem dX6_kindOf_29 : decode cX6_kindOf 29 = .ok (.areturn, 1) := dk_176 (dk_at dksX6_kindOf_1 5 rfl rfl)
abbrev cX6_isSameKind : ByteArray := prog_9_method_5_code
def yX6_isSameKind : MethodName := ⟨RX6, "isSameKind", "(LBranchMender$Node;LBranchMender$Node;)Z"⟩
def dkwX6_isSameKind_1 : List UInt8 := [172]
abbrev dktX6_isSameKind_1 : List UInt8 := dkwX6_isSameKind_1 ++ []
def dkwX6_isSameKind_0 : List UInt8 := [42, 198, 0, 22, 43, 198, 0, 18, 42, 182, 0, 52, 43, 182, 0, 52, 160, 0, 7, 4, 167, 0, 4, 3]
abbrev dktX6_isSameKind_0 : List UInt8 := dkwX6_isSameKind_0 ++ dktX6_isSameKind_1
theorem dksX6_isSameKind_0 : cX6_isSameKind.data.toList.drop 0 = dktX6_isSameKind_0 := by decide +kernel
theorem dksX6_isSameKind_1 : cX6_isSameKind.data.toList.drop 24 = dktX6_isSameKind_1 := dk_seg dksX6_isSameKind_0 24 rfl rfl
theorem dX6_isSameKind_0 : decode cX6_isSameKind 0 = .ok (.aload_n 0, 1) := dk_42 (dk_at dksX6_isSameKind_0 0 rfl rfl)
theorem dX6_isSameKind_1 : decode cX6_isSameKind 1 = .ok (.ifnull 22, 3) := dk_198 0 22 (dk_at dksX6_isSameKind_0 1 rfl rfl)
theorem dX6_isSameKind_4 : decode cX6_isSameKind 4 = .ok (.aload_n 1, 1) := dk_43 (dk_at dksX6_isSameKind_0 4 rfl rfl)
theorem dX6_isSameKind_5 : decode cX6_isSameKind 5 = .ok (.ifnull 18, 3) := dk_198 0 18 (dk_at dksX6_isSameKind_0 5 rfl rfl)
theorem dX6_isSameKind_8 : decode cX6_isSameKind 8 = .ok (.aload_n 0, 1) := dk_42 (dk_at dksX6_isSameKind_0 8 rfl rfl)
theorem dX6_isSameKind_9 : decode cX6_isSameKind 9 = .ok (.invokevirtual 52, 3) := dk_182 0 52 (dk_at dksX6_isSameKind_0 9 rfl rfl)
theorem dX6_isSameKind_12 : decode cX6_isSameKind 12 = .ok (.aload_n 1, 1) := dk_43 (dk_at dksX6_isSameKind_0 12 rfl rfl)
theorem dX6_isSameKind_13 : decode cX6_isSameKind 13 = .ok (.invokevirtual 52, 3) := dk_182 0 52 (dk_at dksX6_isSameKind_0 13 rfl rfl)
theorem dX6_isSameKind_16 : decode cX6_isSameKind 16 = .ok (.if_icmp .ne 7, 3) := dk_160 0 7 (dk_at dksX6_isSameKind_0 16 rfl rfl)
theorem dX6_isSameKind_19 : decode cX6_isSameKind 19 = .ok (.iconst 1, 1) := dk_4 (dk_at dksX6_isSameKind_0 19 rfl rfl)
theorem dX6_isSameKind_20 : decode cX6_isSameKind 20 = .ok (.goto 4, 3) := dk_167 0 4 (dk_at dksX6_isSameKind_0 20 rfl rfl)
theorem dX6_isSameKind_23 : decode cX6_isSameKind 23 = .ok (.iconst 0, 1) := dk_3 (dk_at dksX6_isSameKind_0 23 rfl rfl)
theorem dX6_isSameKind_24 : decode cX6_isSameKind 24 = .ok (.ireturn, 1) := dk_172 (dk_at dksX6_isSameKind_1 0 rfl rfl)
abbrev cX6_chosen : ByteArray := prog_9_method_3_code
def yX6_chosen : MethodName := ⟨RX6, "chosen", "(ILBranchMender$Node;LBranchMender$Node;LBranchMender$Node;ZZZIZ)LBranchMender$Node;"⟩
def dkwX6_chosen_3 : List UInt8 := [176, 21, 9, 153, 0, 10, 42, 27, 21, 8, 182, 0, 32, 44, 176]
abbrev dktX6_chosen_3 : List UInt8 := dkwX6_chosen_3 ++ []
def dkwX6_chosen_2 : List UInt8 := [182, 0, 32, 45, 176, 21, 5, 153, 0, 6, 25, 4, 176, 21, 6, 154, 0, 8, 21, 7, 153, 0, 5, 45]
abbrev dktX6_chosen_2 : List UInt8 := dkwX6_chosen_2 ++ dktX6_chosen_3
def dkwX6_chosen_1 : List UInt8 := [167, 0, 4, 45, 176, 44, 199, 0, 22, 21, 7, 154, 0, 15, 21, 9, 153, 0, 10, 42, 27, 21, 8]
abbrev dktX6_chosen_1 : List UInt8 := dkwX6_chosen_1 ++ dktX6_chosen_2
def dkwX6_chosen_0 : List UInt8 := [45, 198, 0, 8, 25, 4, 199, 0, 23, 45, 199, 0, 17, 25, 4, 199, 0, 7, 44, 167, 0, 9, 25, 4]
abbrev dktX6_chosen_0 : List UInt8 := dkwX6_chosen_0 ++ dktX6_chosen_1
theorem dksX6_chosen_0 : cX6_chosen.data.toList.drop 0 = dktX6_chosen_0 := by decide +kernel
theorem dksX6_chosen_1 : cX6_chosen.data.toList.drop 24 = dktX6_chosen_1 := dk_seg dksX6_chosen_0 24 rfl rfl
theorem dksX6_chosen_2 : cX6_chosen.data.toList.drop 47 = dktX6_chosen_2 := dk_seg dksX6_chosen_1 23 rfl rfl
theorem dksX6_chosen_3 : cX6_chosen.data.toList.drop 71 = dktX6_chosen_3 := dk_seg dksX6_chosen_2 24 rfl rfl
theorem dX6_chosen_0 : decode cX6_chosen 0 = .ok (.aload_n 3, 1) := dk_45 (dk_at dksX6_chosen_0 0 rfl rfl)
theorem dX6_chosen_1 : decode cX6_chosen 1 = .ok (.ifnull 8, 3) := dk_198 0 8 (dk_at dksX6_chosen_0 1 rfl rfl)
theorem dX6_chosen_4 : decode cX6_chosen 4 = .ok (.aload 4, 2) := dk_25 4 (dk_at dksX6_chosen_0 4 rfl rfl)
theorem dX6_chosen_6 : decode cX6_chosen 6 = .ok (.ifnonnull 23, 3) := dk_199 0 23 (dk_at dksX6_chosen_0 6 rfl rfl)
theorem dX6_chosen_9 : decode cX6_chosen 9 = .ok (.aload_n 3, 1) := dk_45 (dk_at dksX6_chosen_0 9 rfl rfl)
theorem dX6_chosen_10 : decode cX6_chosen 10 = .ok (.ifnonnull 17, 3) := dk_199 0 17 (dk_at dksX6_chosen_0 10 rfl rfl)
theorem dX6_chosen_13 : decode cX6_chosen 13 = .ok (.aload 4, 2) := dk_25 4 (dk_at dksX6_chosen_0 13 rfl rfl)
theorem dX6_chosen_15 : decode cX6_chosen 15 = .ok (.ifnonnull 7, 3) := dk_199 0 7 (dk_at dksX6_chosen_0 15 rfl rfl)
theorem dX6_chosen_18 : decode cX6_chosen 18 = .ok (.aload_n 2, 1) := dk_44 (dk_at dksX6_chosen_0 18 rfl rfl)
theorem dX6_chosen_19 : decode cX6_chosen 19 = .ok (.goto 9, 3) := dk_167 0 9 (dk_at dksX6_chosen_0 19 rfl rfl)
theorem dX6_chosen_22 : decode cX6_chosen 22 = .ok (.aload 4, 2) := dk_25 4 (dk_at dksX6_chosen_0 22 rfl rfl)
theorem dX6_chosen_24 : decode cX6_chosen 24 = .ok (.goto 4, 3) := dk_167 0 4 (dk_at dksX6_chosen_1 0 rfl rfl)
theorem dX6_chosen_27 : decode cX6_chosen 27 = .ok (.aload_n 3, 1) := dk_45 (dk_at dksX6_chosen_1 3 rfl rfl)
theorem dX6_chosen_28 : decode cX6_chosen 28 = .ok (.areturn, 1) := dk_176 (dk_at dksX6_chosen_1 4 rfl rfl)
theorem dX6_chosen_29 : decode cX6_chosen 29 = .ok (.aload_n 2, 1) := dk_44 (dk_at dksX6_chosen_1 5 rfl rfl)
theorem dX6_chosen_30 : decode cX6_chosen 30 = .ok (.ifnonnull 22, 3) := dk_199 0 22 (dk_at dksX6_chosen_1 6 rfl rfl)
theorem dX6_chosen_33 : decode cX6_chosen 33 = .ok (.iload 7, 2) := dk_21 7 (dk_at dksX6_chosen_1 9 rfl rfl)
theorem dX6_chosen_35 : decode cX6_chosen 35 = .ok (.ifCond .ne 15, 3) := dk_154 0 15 (dk_at dksX6_chosen_1 11 rfl rfl)
theorem dX6_chosen_38 : decode cX6_chosen 38 = .ok (.iload 9, 2) := dk_21 9 (dk_at dksX6_chosen_1 14 rfl rfl)
theorem dX6_chosen_40 : decode cX6_chosen 40 = .ok (.ifCond .eq 10, 3) := dk_153 0 10 (dk_at dksX6_chosen_1 16 rfl rfl)
theorem dX6_chosen_43 : decode cX6_chosen 43 = .ok (.aload_n 0, 1) := dk_42 (dk_at dksX6_chosen_1 19 rfl rfl)
theorem dX6_chosen_44 : decode cX6_chosen 44 = .ok (.iload_n 1, 1) := dk_27 (dk_at dksX6_chosen_1 20 rfl rfl)
theorem dX6_chosen_45 : decode cX6_chosen 45 = .ok (.iload 8, 2) := dk_21 8 (dk_at dksX6_chosen_1 21 rfl rfl)
theorem dX6_chosen_47 : decode cX6_chosen 47 = .ok (.invokevirtual 32, 3) := dk_182 0 32 (dk_at dksX6_chosen_2 0 rfl rfl)
theorem dX6_chosen_50 : decode cX6_chosen 50 = .ok (.aload_n 3, 1) := dk_45 (dk_at dksX6_chosen_2 3 rfl rfl)
theorem dX6_chosen_51 : decode cX6_chosen 51 = .ok (.areturn, 1) := dk_176 (dk_at dksX6_chosen_2 4 rfl rfl)
theorem dX6_chosen_52 : decode cX6_chosen 52 = .ok (.iload 5, 2) := dk_21 5 (dk_at dksX6_chosen_2 5 rfl rfl)
theorem dX6_chosen_54 : decode cX6_chosen 54 = .ok (.ifCond .eq 6, 3) := dk_153 0 6 (dk_at dksX6_chosen_2 7 rfl rfl)
theorem dX6_chosen_57 : decode cX6_chosen 57 = .ok (.aload 4, 2) := dk_25 4 (dk_at dksX6_chosen_2 10 rfl rfl)
theorem dX6_chosen_59 : decode cX6_chosen 59 = .ok (.areturn, 1) := dk_176 (dk_at dksX6_chosen_2 12 rfl rfl)
theorem dX6_chosen_60 : decode cX6_chosen 60 = .ok (.iload 6, 2) := dk_21 6 (dk_at dksX6_chosen_2 13 rfl rfl)
theorem dX6_chosen_62 : decode cX6_chosen 62 = .ok (.ifCond .ne 8, 3) := dk_154 0 8 (dk_at dksX6_chosen_2 15 rfl rfl)
theorem dX6_chosen_65 : decode cX6_chosen 65 = .ok (.iload 7, 2) := dk_21 7 (dk_at dksX6_chosen_2 18 rfl rfl)
theorem dX6_chosen_67 : decode cX6_chosen 67 = .ok (.ifCond .eq 5, 3) := dk_153 0 5 (dk_at dksX6_chosen_2 20 rfl rfl)
theorem dX6_chosen_70 : decode cX6_chosen 70 = .ok (.aload_n 3, 1) := dk_45 (dk_at dksX6_chosen_2 23 rfl rfl)
theorem dX6_chosen_71 : decode cX6_chosen 71 = .ok (.areturn, 1) := dk_176 (dk_at dksX6_chosen_3 0 rfl rfl)
theorem dX6_chosen_72 : decode cX6_chosen 72 = .ok (.iload 9, 2) := dk_21 9 (dk_at dksX6_chosen_3 1 rfl rfl)
theorem dX6_chosen_74 : decode cX6_chosen 74 = .ok (.ifCond .eq 10, 3) := dk_153 0 10 (dk_at dksX6_chosen_3 3 rfl rfl)
theorem dX6_chosen_77 : decode cX6_chosen 77 = .ok (.aload_n 0, 1) := dk_42 (dk_at dksX6_chosen_3 6 rfl rfl)
theorem dX6_chosen_78 : decode cX6_chosen 78 = .ok (.iload_n 1, 1) := dk_27 (dk_at dksX6_chosen_3 7 rfl rfl)
theorem dX6_chosen_79 : decode cX6_chosen 79 = .ok (.iload 8, 2) := dk_21 8 (dk_at dksX6_chosen_3 8 rfl rfl)
theorem dX6_chosen_81 : decode cX6_chosen 81 = .ok (.invokevirtual 32, 3) := dk_182 0 32 (dk_at dksX6_chosen_3 10 rfl rfl)
theorem dX6_chosen_84 : decode cX6_chosen 84 = .ok (.aload_n 2, 1) := dk_44 (dk_at dksX6_chosen_3 13 rfl rfl)
theorem dX6_chosen_85 : decode cX6_chosen 85 = .ok (.areturn, 1) := dk_176 (dk_at dksX6_chosen_3 14 rfl rfl)
abbrev cX6_labelOf : ByteArray := prog_9_method_9_code
def yX6_labelOf : MethodName := ⟨RX6, "labelOf", "(ILBranchMender$Node;LBranchMender$Node;LBranchMender$Node;Z)LBranchMender$Node;"⟩
def dkwX6_labelOf_1 : List UInt8 := [21, 5, 182, 0, 70, 176]
abbrev dktX6_labelOf_1 : List UInt8 := dkwX6_labelOf_1 ++ []
def dkwX6_labelOf_0 : List UInt8 := [42, 27, 44, 45, 25, 4, 44, 45, 184, 0, 74, 44, 25, 4, 184, 0, 74, 45, 25, 4, 184, 0, 74, 4]
abbrev dktX6_labelOf_0 : List UInt8 := dkwX6_labelOf_0 ++ dktX6_labelOf_1
theorem dksX6_labelOf_0 : cX6_labelOf.data.toList.drop 0 = dktX6_labelOf_0 := by decide +kernel
theorem dksX6_labelOf_1 : cX6_labelOf.data.toList.drop 24 = dktX6_labelOf_1 := dk_seg dksX6_labelOf_0 24 rfl rfl
theorem dX6_labelOf_0 : decode cX6_labelOf 0 = .ok (.aload_n 0, 1) := dk_42 (dk_at dksX6_labelOf_0 0 rfl rfl)
theorem dX6_labelOf_1 : decode cX6_labelOf 1 = .ok (.iload_n 1, 1) := dk_27 (dk_at dksX6_labelOf_0 1 rfl rfl)
theorem dX6_labelOf_2 : decode cX6_labelOf 2 = .ok (.aload_n 2, 1) := dk_44 (dk_at dksX6_labelOf_0 2 rfl rfl)
theorem dX6_labelOf_3 : decode cX6_labelOf 3 = .ok (.aload_n 3, 1) := dk_45 (dk_at dksX6_labelOf_0 3 rfl rfl)
theorem dX6_labelOf_4 : decode cX6_labelOf 4 = .ok (.aload 4, 2) := dk_25 4 (dk_at dksX6_labelOf_0 4 rfl rfl)
theorem dX6_labelOf_6 : decode cX6_labelOf 6 = .ok (.aload_n 2, 1) := dk_44 (dk_at dksX6_labelOf_0 6 rfl rfl)
theorem dX6_labelOf_7 : decode cX6_labelOf 7 = .ok (.aload_n 3, 1) := dk_45 (dk_at dksX6_labelOf_0 7 rfl rfl)
theorem dX6_labelOf_8 : decode cX6_labelOf 8 = .ok (.invokestatic 74, 3) := dk_184 0 74 (dk_at dksX6_labelOf_0 8 rfl rfl)
theorem dX6_labelOf_11 : decode cX6_labelOf 11 = .ok (.aload_n 2, 1) := dk_44 (dk_at dksX6_labelOf_0 11 rfl rfl)
theorem dX6_labelOf_12 : decode cX6_labelOf 12 = .ok (.aload 4, 2) := dk_25 4 (dk_at dksX6_labelOf_0 12 rfl rfl)
theorem dX6_labelOf_14 : decode cX6_labelOf 14 = .ok (.invokestatic 74, 3) := dk_184 0 74 (dk_at dksX6_labelOf_0 14 rfl rfl)
theorem dX6_labelOf_17 : decode cX6_labelOf 17 = .ok (.aload_n 3, 1) := dk_45 (dk_at dksX6_labelOf_0 17 rfl rfl)
theorem dX6_labelOf_18 : decode cX6_labelOf 18 = .ok (.aload 4, 2) := dk_25 4 (dk_at dksX6_labelOf_0 18 rfl rfl)
theorem dX6_labelOf_20 : decode cX6_labelOf 20 = .ok (.invokestatic 74, 3) := dk_184 0 74 (dk_at dksX6_labelOf_0 20 rfl rfl)
theorem dX6_labelOf_23 : decode cX6_labelOf 23 = .ok (.iconst 1, 1) := dk_4 (dk_at dksX6_labelOf_0 23 rfl rfl)
theorem dX6_labelOf_24 : decode cX6_labelOf 24 = .ok (.iload 5, 2) := dk_21 5 (dk_at dksX6_labelOf_1 0 rfl rfl)
theorem dX6_labelOf_26 : decode cX6_labelOf 26 = .ok (.invokevirtual 70, 3) := dk_182 0 70 (dk_at dksX6_labelOf_1 2 rfl rfl)
theorem dX6_labelOf_29 : decode cX6_labelOf 29 = .ok (.areturn, 1) := dk_176 (dk_at dksX6_labelOf_1 5 rfl rfl)
abbrev cX6_isSameLabel : ByteArray := prog_9_method_6_code
def yX6_isSameLabel : MethodName := ⟨RX6, "isSameLabel", "(LBranchMender$Node;LBranchMender$Node;)Z"⟩
def dkwX6_isSameLabel_1 : List UInt8 := [167, 0, 4, 3, 172]
abbrev dktX6_isSameLabel_1 : List UInt8 := dkwX6_isSameLabel_1 ++ []
def dkwX6_isSameLabel_0 : List UInt8 := [42, 198, 0, 25, 43, 198, 0, 21, 42, 180, 0, 55, 43, 180, 0, 55, 184, 0, 59, 153, 0, 7, 4]
abbrev dktX6_isSameLabel_0 : List UInt8 := dkwX6_isSameLabel_0 ++ dktX6_isSameLabel_1
theorem dksX6_isSameLabel_0 : cX6_isSameLabel.data.toList.drop 0 = dktX6_isSameLabel_0 := by decide +kernel
theorem dksX6_isSameLabel_1 : cX6_isSameLabel.data.toList.drop 23 = dktX6_isSameLabel_1 := dk_seg dksX6_isSameLabel_0 23 rfl rfl
theorem dX6_isSameLabel_0 : decode cX6_isSameLabel 0 = .ok (.aload_n 0, 1) := dk_42 (dk_at dksX6_isSameLabel_0 0 rfl rfl)
theorem dX6_isSameLabel_1 : decode cX6_isSameLabel 1 = .ok (.ifnull 25, 3) := dk_198 0 25 (dk_at dksX6_isSameLabel_0 1 rfl rfl)
theorem dX6_isSameLabel_4 : decode cX6_isSameLabel 4 = .ok (.aload_n 1, 1) := dk_43 (dk_at dksX6_isSameLabel_0 4 rfl rfl)
theorem dX6_isSameLabel_5 : decode cX6_isSameLabel 5 = .ok (.ifnull 21, 3) := dk_198 0 21 (dk_at dksX6_isSameLabel_0 5 rfl rfl)
theorem dX6_isSameLabel_8 : decode cX6_isSameLabel 8 = .ok (.aload_n 0, 1) := dk_42 (dk_at dksX6_isSameLabel_0 8 rfl rfl)
theorem dX6_isSameLabel_9 : decode cX6_isSameLabel 9 = .ok (.getfield 55, 3) := dk_180 0 55 (dk_at dksX6_isSameLabel_0 9 rfl rfl)
theorem dX6_isSameLabel_12 : decode cX6_isSameLabel 12 = .ok (.aload_n 1, 1) := dk_43 (dk_at dksX6_isSameLabel_0 12 rfl rfl)
theorem dX6_isSameLabel_13 : decode cX6_isSameLabel 13 = .ok (.getfield 55, 3) := dk_180 0 55 (dk_at dksX6_isSameLabel_0 13 rfl rfl)
theorem dX6_isSameLabel_16 : decode cX6_isSameLabel 16 = .ok (.invokestatic 59, 3) := dk_184 0 59 (dk_at dksX6_isSameLabel_0 16 rfl rfl)
theorem dX6_isSameLabel_19 : decode cX6_isSameLabel 19 = .ok (.ifCond .eq 7, 3) := dk_153 0 7 (dk_at dksX6_isSameLabel_0 19 rfl rfl)
theorem dX6_isSameLabel_22 : decode cX6_isSameLabel 22 = .ok (.iconst 1, 1) := dk_4 (dk_at dksX6_isSameLabel_0 22 rfl rfl)
theorem dX6_isSameLabel_23 : decode cX6_isSameLabel 23 = .ok (.goto 4, 3) := dk_167 0 4 (dk_at dksX6_isSameLabel_1 0 rfl rfl)
theorem dX6_isSameLabel_26 : decode cX6_isSameLabel 26 = .ok (.iconst 0, 1) := dk_3 (dk_at dksX6_isSameLabel_1 3 rfl rfl)
theorem dX6_isSameLabel_27 : decode cX6_isSameLabel 27 = .ok (.ireturn, 1) := dk_172 (dk_at dksX6_isSameLabel_1 4 rfl rfl)
abbrev cX6_textOf : ByteArray := prog_9_method_10_code
def yX6_textOf : MethodName := ⟨RX6, "textOf", "(ILBranchMender$Node;LBranchMender$Node;LBranchMender$Node;Z)LBranchMender$Node;"⟩
def dkwX6_textOf_1 : List UInt8 := [21, 5, 182, 0, 70, 176]
abbrev dktX6_textOf_1 : List UInt8 := dkwX6_textOf_1 ++ []
def dkwX6_textOf_0 : List UInt8 := [42, 27, 44, 45, 25, 4, 44, 45, 184, 0, 77, 44, 25, 4, 184, 0, 77, 45, 25, 4, 184, 0, 77, 5]
abbrev dktX6_textOf_0 : List UInt8 := dkwX6_textOf_0 ++ dktX6_textOf_1
theorem dksX6_textOf_0 : cX6_textOf.data.toList.drop 0 = dktX6_textOf_0 := by decide +kernel
theorem dksX6_textOf_1 : cX6_textOf.data.toList.drop 24 = dktX6_textOf_1 := dk_seg dksX6_textOf_0 24 rfl rfl
theorem dX6_textOf_0 : decode cX6_textOf 0 = .ok (.aload_n 0, 1) := dk_42 (dk_at dksX6_textOf_0 0 rfl rfl)
theorem dX6_textOf_1 : decode cX6_textOf 1 = .ok (.iload_n 1, 1) := dk_27 (dk_at dksX6_textOf_0 1 rfl rfl)
theorem dX6_textOf_2 : decode cX6_textOf 2 = .ok (.aload_n 2, 1) := dk_44 (dk_at dksX6_textOf_0 2 rfl rfl)
theorem dX6_textOf_3 : decode cX6_textOf 3 = .ok (.aload_n 3, 1) := dk_45 (dk_at dksX6_textOf_0 3 rfl rfl)
theorem dX6_textOf_4 : decode cX6_textOf 4 = .ok (.aload 4, 2) := dk_25 4 (dk_at dksX6_textOf_0 4 rfl rfl)
theorem dX6_textOf_6 : decode cX6_textOf 6 = .ok (.aload_n 2, 1) := dk_44 (dk_at dksX6_textOf_0 6 rfl rfl)
theorem dX6_textOf_7 : decode cX6_textOf 7 = .ok (.aload_n 3, 1) := dk_45 (dk_at dksX6_textOf_0 7 rfl rfl)
theorem dX6_textOf_8 : decode cX6_textOf 8 = .ok (.invokestatic 77, 3) := dk_184 0 77 (dk_at dksX6_textOf_0 8 rfl rfl)
theorem dX6_textOf_11 : decode cX6_textOf 11 = .ok (.aload_n 2, 1) := dk_44 (dk_at dksX6_textOf_0 11 rfl rfl)
theorem dX6_textOf_12 : decode cX6_textOf 12 = .ok (.aload 4, 2) := dk_25 4 (dk_at dksX6_textOf_0 12 rfl rfl)
theorem dX6_textOf_14 : decode cX6_textOf 14 = .ok (.invokestatic 77, 3) := dk_184 0 77 (dk_at dksX6_textOf_0 14 rfl rfl)
theorem dX6_textOf_17 : decode cX6_textOf 17 = .ok (.aload_n 3, 1) := dk_45 (dk_at dksX6_textOf_0 17 rfl rfl)
theorem dX6_textOf_18 : decode cX6_textOf 18 = .ok (.aload 4, 2) := dk_25 4 (dk_at dksX6_textOf_0 18 rfl rfl)
theorem dX6_textOf_20 : decode cX6_textOf 20 = .ok (.invokestatic 77, 3) := dk_184 0 77 (dk_at dksX6_textOf_0 20 rfl rfl)
theorem dX6_textOf_23 : decode cX6_textOf 23 = .ok (.iconst 2, 1) := dk_5 (dk_at dksX6_textOf_0 23 rfl rfl)
theorem dX6_textOf_24 : decode cX6_textOf 24 = .ok (.iload 5, 2) := dk_21 5 (dk_at dksX6_textOf_1 0 rfl rfl)
theorem dX6_textOf_26 : decode cX6_textOf 26 = .ok (.invokevirtual 70, 3) := dk_182 0 70 (dk_at dksX6_textOf_1 2 rfl rfl)
theorem dX6_textOf_29 : decode cX6_textOf 29 = .ok (.areturn, 1) := dk_176 (dk_at dksX6_textOf_1 5 rfl rfl)
abbrev cX6_isSameText : ByteArray := prog_9_method_7_code
def yX6_isSameText : MethodName := ⟨RX6, "isSameText", "(LBranchMender$Node;LBranchMender$Node;)Z"⟩
def dkwX6_isSameText_1 : List UInt8 := [167, 0, 4, 3, 172]
abbrev dktX6_isSameText_1 : List UInt8 := dkwX6_isSameText_1 ++ []
def dkwX6_isSameText_0 : List UInt8 := [42, 198, 0, 25, 43, 198, 0, 21, 42, 180, 0, 63, 43, 180, 0, 63, 184, 0, 59, 153, 0, 7, 4]
abbrev dktX6_isSameText_0 : List UInt8 := dkwX6_isSameText_0 ++ dktX6_isSameText_1
theorem dksX6_isSameText_0 : cX6_isSameText.data.toList.drop 0 = dktX6_isSameText_0 := by decide +kernel
theorem dksX6_isSameText_1 : cX6_isSameText.data.toList.drop 23 = dktX6_isSameText_1 := dk_seg dksX6_isSameText_0 23 rfl rfl
theorem dX6_isSameText_0 : decode cX6_isSameText 0 = .ok (.aload_n 0, 1) := dk_42 (dk_at dksX6_isSameText_0 0 rfl rfl)
theorem dX6_isSameText_1 : decode cX6_isSameText 1 = .ok (.ifnull 25, 3) := dk_198 0 25 (dk_at dksX6_isSameText_0 1 rfl rfl)
theorem dX6_isSameText_4 : decode cX6_isSameText 4 = .ok (.aload_n 1, 1) := dk_43 (dk_at dksX6_isSameText_0 4 rfl rfl)
theorem dX6_isSameText_5 : decode cX6_isSameText 5 = .ok (.ifnull 21, 3) := dk_198 0 21 (dk_at dksX6_isSameText_0 5 rfl rfl)
theorem dX6_isSameText_8 : decode cX6_isSameText 8 = .ok (.aload_n 0, 1) := dk_42 (dk_at dksX6_isSameText_0 8 rfl rfl)
theorem dX6_isSameText_9 : decode cX6_isSameText 9 = .ok (.getfield 63, 3) := dk_180 0 63 (dk_at dksX6_isSameText_0 9 rfl rfl)
theorem dX6_isSameText_12 : decode cX6_isSameText 12 = .ok (.aload_n 1, 1) := dk_43 (dk_at dksX6_isSameText_0 12 rfl rfl)
theorem dX6_isSameText_13 : decode cX6_isSameText 13 = .ok (.getfield 63, 3) := dk_180 0 63 (dk_at dksX6_isSameText_0 13 rfl rfl)
theorem dX6_isSameText_16 : decode cX6_isSameText 16 = .ok (.invokestatic 59, 3) := dk_184 0 59 (dk_at dksX6_isSameText_0 16 rfl rfl)
theorem dX6_isSameText_19 : decode cX6_isSameText 19 = .ok (.ifCond .eq 7, 3) := dk_153 0 7 (dk_at dksX6_isSameText_0 19 rfl rfl)
theorem dX6_isSameText_22 : decode cX6_isSameText 22 = .ok (.iconst 1, 1) := dk_4 (dk_at dksX6_isSameText_0 22 rfl rfl)
theorem dX6_isSameText_23 : decode cX6_isSameText 23 = .ok (.goto 4, 3) := dk_167 0 4 (dk_at dksX6_isSameText_1 0 rfl rfl)
theorem dX6_isSameText_26 : decode cX6_isSameText 26 = .ok (.iconst 0, 1) := dk_3 (dk_at dksX6_isSameText_1 3 rfl rfl)
theorem dX6_isSameText_27 : decode cX6_isSameText 27 = .ok (.ireturn, 1) := dk_172 (dk_at dksX6_isSameText_1 4 rfl rfl)
abbrev cX6_listOf : ByteArray := prog_9_method_11_code
def yX6_listOf : MethodName := ⟨RX6, "listOf", "(ILBranchMender$Node;LBranchMender$Node;LBranchMender$Node;Z)LBranchMender$Node;"⟩
def dkwX6_listOf_1 : List UInt8 := [21, 5, 182, 0, 70, 176]
abbrev dktX6_listOf_1 : List UInt8 := dkwX6_listOf_1 ++ []
def dkwX6_listOf_0 : List UInt8 := [42, 27, 44, 45, 25, 4, 44, 45, 184, 0, 80, 44, 25, 4, 184, 0, 80, 45, 25, 4, 184, 0, 80, 6]
abbrev dktX6_listOf_0 : List UInt8 := dkwX6_listOf_0 ++ dktX6_listOf_1
theorem dksX6_listOf_0 : cX6_listOf.data.toList.drop 0 = dktX6_listOf_0 := by decide +kernel
theorem dksX6_listOf_1 : cX6_listOf.data.toList.drop 24 = dktX6_listOf_1 := dk_seg dksX6_listOf_0 24 rfl rfl
theorem dX6_listOf_0 : decode cX6_listOf 0 = .ok (.aload_n 0, 1) := dk_42 (dk_at dksX6_listOf_0 0 rfl rfl)
theorem dX6_listOf_1 : decode cX6_listOf 1 = .ok (.iload_n 1, 1) := dk_27 (dk_at dksX6_listOf_0 1 rfl rfl)
theorem dX6_listOf_2 : decode cX6_listOf 2 = .ok (.aload_n 2, 1) := dk_44 (dk_at dksX6_listOf_0 2 rfl rfl)
theorem dX6_listOf_3 : decode cX6_listOf 3 = .ok (.aload_n 3, 1) := dk_45 (dk_at dksX6_listOf_0 3 rfl rfl)
theorem dX6_listOf_4 : decode cX6_listOf 4 = .ok (.aload 4, 2) := dk_25 4 (dk_at dksX6_listOf_0 4 rfl rfl)
theorem dX6_listOf_6 : decode cX6_listOf 6 = .ok (.aload_n 2, 1) := dk_44 (dk_at dksX6_listOf_0 6 rfl rfl)
theorem dX6_listOf_7 : decode cX6_listOf 7 = .ok (.aload_n 3, 1) := dk_45 (dk_at dksX6_listOf_0 7 rfl rfl)
theorem dX6_listOf_8 : decode cX6_listOf 8 = .ok (.invokestatic 80, 3) := dk_184 0 80 (dk_at dksX6_listOf_0 8 rfl rfl)
theorem dX6_listOf_11 : decode cX6_listOf 11 = .ok (.aload_n 2, 1) := dk_44 (dk_at dksX6_listOf_0 11 rfl rfl)
theorem dX6_listOf_12 : decode cX6_listOf 12 = .ok (.aload 4, 2) := dk_25 4 (dk_at dksX6_listOf_0 12 rfl rfl)
theorem dX6_listOf_14 : decode cX6_listOf 14 = .ok (.invokestatic 80, 3) := dk_184 0 80 (dk_at dksX6_listOf_0 14 rfl rfl)
theorem dX6_listOf_17 : decode cX6_listOf 17 = .ok (.aload_n 3, 1) := dk_45 (dk_at dksX6_listOf_0 17 rfl rfl)
theorem dX6_listOf_18 : decode cX6_listOf 18 = .ok (.aload 4, 2) := dk_25 4 (dk_at dksX6_listOf_0 18 rfl rfl)
theorem dX6_listOf_20 : decode cX6_listOf 20 = .ok (.invokestatic 80, 3) := dk_184 0 80 (dk_at dksX6_listOf_0 20 rfl rfl)
theorem dX6_listOf_23 : decode cX6_listOf 23 = .ok (.iconst 3, 1) := dk_6 (dk_at dksX6_listOf_0 23 rfl rfl)
theorem dX6_listOf_24 : decode cX6_listOf 24 = .ok (.iload 5, 2) := dk_21 5 (dk_at dksX6_listOf_1 0 rfl rfl)
theorem dX6_listOf_26 : decode cX6_listOf 26 = .ok (.invokevirtual 70, 3) := dk_182 0 70 (dk_at dksX6_listOf_1 2 rfl rfl)
theorem dX6_listOf_29 : decode cX6_listOf 29 = .ok (.areturn, 1) := dk_176 (dk_at dksX6_listOf_1 5 rfl rfl)
abbrev cX6_isSameList : ByteArray := prog_9_method_4_code
def yX6_isSameList : MethodName := ⟨RX6, "isSameList", "(LBranchMender$Node;LBranchMender$Node;)Z"⟩
def dkwX6_isSameList_3 : List UInt8 := [159, 0, 5, 3, 172, 132, 2, 1, 167, 255, 209, 4, 172]
abbrev dktX6_isSameList_3 : List UInt8 := dkwX6_isSameList_3 ++ []
def dkwX6_isSameList_2 : List UInt8 := [182, 0, 45, 192, 0, 37, 180, 0, 49, 43, 180, 0, 36, 28, 182, 0, 45, 192, 0, 37, 180, 0, 49]
abbrev dktX6_isSameList_2 : List UInt8 := dkwX6_isSameList_2 ++ dktX6_isSameList_3
def dkwX6_isSameList_1 : List UInt8 := [159, 0, 5, 3, 172, 3, 61, 28, 42, 180, 0, 36, 182, 0, 41, 162, 0, 42, 42, 180, 0, 36, 28]
abbrev dktX6_isSameList_1 : List UInt8 := dkwX6_isSameList_1 ++ dktX6_isSameList_2
def dkwX6_isSameList_0 : List UInt8 := [42, 198, 0, 24, 43, 198, 0, 20, 42, 180, 0, 36, 182, 0, 41, 43, 180, 0, 36, 182, 0, 41]
abbrev dktX6_isSameList_0 : List UInt8 := dkwX6_isSameList_0 ++ dktX6_isSameList_1
theorem dksX6_isSameList_0 : cX6_isSameList.data.toList.drop 0 = dktX6_isSameList_0 := by decide +kernel
theorem dksX6_isSameList_1 : cX6_isSameList.data.toList.drop 22 = dktX6_isSameList_1 := dk_seg dksX6_isSameList_0 22 rfl rfl
theorem dksX6_isSameList_2 : cX6_isSameList.data.toList.drop 45 = dktX6_isSameList_2 := dk_seg dksX6_isSameList_1 23 rfl rfl
theorem dksX6_isSameList_3 : cX6_isSameList.data.toList.drop 68 = dktX6_isSameList_3 := dk_seg dksX6_isSameList_2 23 rfl rfl
theorem dX6_isSameList_0 : decode cX6_isSameList 0 = .ok (.aload_n 0, 1) := dk_42 (dk_at dksX6_isSameList_0 0 rfl rfl)
theorem dX6_isSameList_1 : decode cX6_isSameList 1 = .ok (.ifnull 24, 3) := dk_198 0 24 (dk_at dksX6_isSameList_0 1 rfl rfl)
theorem dX6_isSameList_4 : decode cX6_isSameList 4 = .ok (.aload_n 1, 1) := dk_43 (dk_at dksX6_isSameList_0 4 rfl rfl)
theorem dX6_isSameList_5 : decode cX6_isSameList 5 = .ok (.ifnull 20, 3) := dk_198 0 20 (dk_at dksX6_isSameList_0 5 rfl rfl)
theorem dX6_isSameList_8 : decode cX6_isSameList 8 = .ok (.aload_n 0, 1) := dk_42 (dk_at dksX6_isSameList_0 8 rfl rfl)
theorem dX6_isSameList_9 : decode cX6_isSameList 9 = .ok (.getfield 36, 3) := dk_180 0 36 (dk_at dksX6_isSameList_0 9 rfl rfl)
theorem dX6_isSameList_12 : decode cX6_isSameList 12 = .ok (.invokevirtual 41, 3) := dk_182 0 41 (dk_at dksX6_isSameList_0 12 rfl rfl)
theorem dX6_isSameList_15 : decode cX6_isSameList 15 = .ok (.aload_n 1, 1) := dk_43 (dk_at dksX6_isSameList_0 15 rfl rfl)
theorem dX6_isSameList_16 : decode cX6_isSameList 16 = .ok (.getfield 36, 3) := dk_180 0 36 (dk_at dksX6_isSameList_0 16 rfl rfl)
theorem dX6_isSameList_19 : decode cX6_isSameList 19 = .ok (.invokevirtual 41, 3) := dk_182 0 41 (dk_at dksX6_isSameList_0 19 rfl rfl)
theorem dX6_isSameList_22 : decode cX6_isSameList 22 = .ok (.if_icmp .eq 5, 3) := dk_159 0 5 (dk_at dksX6_isSameList_1 0 rfl rfl)
theorem dX6_isSameList_25 : decode cX6_isSameList 25 = .ok (.iconst 0, 1) := dk_3 (dk_at dksX6_isSameList_1 3 rfl rfl)
theorem dX6_isSameList_26 : decode cX6_isSameList 26 = .ok (.ireturn, 1) := dk_172 (dk_at dksX6_isSameList_1 4 rfl rfl)
theorem dX6_isSameList_27 : decode cX6_isSameList 27 = .ok (.iconst 0, 1) := dk_3 (dk_at dksX6_isSameList_1 5 rfl rfl)
theorem dX6_isSameList_28 : decode cX6_isSameList 28 = .ok (.istore_n 2, 1) := dk_61 (dk_at dksX6_isSameList_1 6 rfl rfl)
theorem dX6_isSameList_29 : decode cX6_isSameList 29 = .ok (.iload_n 2, 1) := dk_28 (dk_at dksX6_isSameList_1 7 rfl rfl)
theorem dX6_isSameList_30 : decode cX6_isSameList 30 = .ok (.aload_n 0, 1) := dk_42 (dk_at dksX6_isSameList_1 8 rfl rfl)
theorem dX6_isSameList_31 : decode cX6_isSameList 31 = .ok (.getfield 36, 3) := dk_180 0 36 (dk_at dksX6_isSameList_1 9 rfl rfl)
theorem dX6_isSameList_34 : decode cX6_isSameList 34 = .ok (.invokevirtual 41, 3) := dk_182 0 41 (dk_at dksX6_isSameList_1 12 rfl rfl)
theorem dX6_isSameList_37 : decode cX6_isSameList 37 = .ok (.if_icmp .ge 42, 3) := dk_162 0 42 (dk_at dksX6_isSameList_1 15 rfl rfl)
theorem dX6_isSameList_40 : decode cX6_isSameList 40 = .ok (.aload_n 0, 1) := dk_42 (dk_at dksX6_isSameList_1 18 rfl rfl)
theorem dX6_isSameList_41 : decode cX6_isSameList 41 = .ok (.getfield 36, 3) := dk_180 0 36 (dk_at dksX6_isSameList_1 19 rfl rfl)
theorem dX6_isSameList_44 : decode cX6_isSameList 44 = .ok (.iload_n 2, 1) := dk_28 (dk_at dksX6_isSameList_1 22 rfl rfl)
theorem dX6_isSameList_45 : decode cX6_isSameList 45 = .ok (.invokevirtual 45, 3) := dk_182 0 45 (dk_at dksX6_isSameList_2 0 rfl rfl)
theorem dX6_isSameList_48 : decode cX6_isSameList 48 = .ok (.checkcast 37, 3) := dk_192 0 37 (dk_at dksX6_isSameList_2 3 rfl rfl)
theorem dX6_isSameList_51 : decode cX6_isSameList 51 = .ok (.getfield 49, 3) := dk_180 0 49 (dk_at dksX6_isSameList_2 6 rfl rfl)
theorem dX6_isSameList_54 : decode cX6_isSameList 54 = .ok (.aload_n 1, 1) := dk_43 (dk_at dksX6_isSameList_2 9 rfl rfl)
theorem dX6_isSameList_55 : decode cX6_isSameList 55 = .ok (.getfield 36, 3) := dk_180 0 36 (dk_at dksX6_isSameList_2 10 rfl rfl)
theorem dX6_isSameList_58 : decode cX6_isSameList 58 = .ok (.iload_n 2, 1) := dk_28 (dk_at dksX6_isSameList_2 13 rfl rfl)
theorem dX6_isSameList_59 : decode cX6_isSameList 59 = .ok (.invokevirtual 45, 3) := dk_182 0 45 (dk_at dksX6_isSameList_2 14 rfl rfl)
theorem dX6_isSameList_62 : decode cX6_isSameList 62 = .ok (.checkcast 37, 3) := dk_192 0 37 (dk_at dksX6_isSameList_2 17 rfl rfl)
theorem dX6_isSameList_65 : decode cX6_isSameList 65 = .ok (.getfield 49, 3) := dk_180 0 49 (dk_at dksX6_isSameList_2 20 rfl rfl)
theorem dX6_isSameList_68 : decode cX6_isSameList 68 = .ok (.if_icmp .eq 5, 3) := dk_159 0 5 (dk_at dksX6_isSameList_3 0 rfl rfl)
theorem dX6_isSameList_71 : decode cX6_isSameList 71 = .ok (.iconst 0, 1) := dk_3 (dk_at dksX6_isSameList_3 3 rfl rfl)
theorem dX6_isSameList_72 : decode cX6_isSameList 72 = .ok (.ireturn, 1) := dk_172 (dk_at dksX6_isSameList_3 4 rfl rfl)
theorem dX6_isSameList_73 : decode cX6_isSameList 73 = .ok (.iinc 2 1, 3) := dk_132 2 1 (dk_at dksX6_isSameList_3 5 rfl rfl)
theorem dX6_isSameList_76 : decode cX6_isSameList 76 = .ok (.goto (-47), 3) := dk_167 255 209 (dk_at dksX6_isSameList_3 8 rfl rfl)
theorem dX6_isSameList_79 : decode cX6_isSameList 79 = .ok (.iconst 1, 1) := dk_4 (dk_at dksX6_isSameList_3 11 rfl rfl)
theorem dX6_isSameList_80 : decode cX6_isSameList 80 = .ok (.ireturn, 1) := dk_172 (dk_at dksX6_isSameList_3 12 rfl rfl)
abbrev cX6_tellAll : ByteArray := prog_9_method_14_code
def yX6_tellAll : MethodName := ⟨RX6, "tellAll", "()V"⟩
def dkwX6_tellAll_9 : List UInt8 := [167, 255, 150, 177]
abbrev dktX6_tellAll_9 : List UInt8 := dkwX6_tellAll_9 ++ []
def dkwX6_tellAll_8 : List UInt8 := [25, 5, 4, 182, 0, 127, 87, 42, 28, 45, 25, 4, 25, 5, 4, 182, 0, 137, 87, 132, 1, 1]
abbrev dktX6_tellAll_8 : List UInt8 := dkwX6_tellAll_8 ++ dktX6_tellAll_9
def dkwX6_tellAll_7 : List UInt8 := [25, 5, 4, 182, 0, 120, 87, 42, 28, 45, 25, 4, 25, 5, 4, 182, 0, 124, 87, 42, 28, 45, 25, 4]
abbrev dktX6_tellAll_7 : List UInt8 := dkwX6_tellAll_7 ++ dktX6_tellAll_8
def dkwX6_tellAll_6 : List UInt8 := [180, 0, 87, 28, 182, 0, 116, 58, 4, 42, 180, 0, 90, 28, 182, 0, 116, 58, 5, 42, 28, 45, 25, 4]
abbrev dktX6_tellAll_6 : List UInt8 := dkwX6_tellAll_6 ++ dktX6_tellAll_7
def dkwX6_tellAll_5 : List UInt8 := [180, 0, 12, 27, 182, 0, 45, 192, 0, 154, 182, 0, 156, 61, 42, 180, 0, 83, 28, 182, 0, 116, 78, 42]
abbrev dktX6_tellAll_5 : List UInt8 := dkwX6_tellAll_5 ++ dktX6_tellAll_6
def dkwX6_tellAll_4 : List UInt8 := [182, 0, 163, 132, 1, 1, 167, 255, 165, 3, 60, 27, 42, 180, 0, 12, 182, 0, 41, 162, 0, 101, 42]
abbrev dktX6_tellAll_4 : List UInt8 := dkwX6_tellAll_4 ++ dktX6_tellAll_5
def dkwX6_tellAll_3 : List UInt8 := [182, 0, 156, 28, 164, 0, 9, 132, 3, 255, 167, 255, 229, 42, 180, 0, 12, 29, 28, 184, 0, 159]
abbrev dktX6_tellAll_3 : List UInt8 := dkwX6_tellAll_3 ++ dktX6_tellAll_4
def dkwX6_tellAll_2 : List UInt8 := [180, 0, 12, 182, 0, 41, 62, 29, 158, 0, 29, 42, 180, 0, 12, 29, 4, 100, 182, 0, 45, 192, 0, 154]
abbrev dktX6_tellAll_2 : List UInt8 := dkwX6_tellAll_2 ++ dktX6_tellAll_3
def dkwX6_tellAll_1 : List UInt8 := [180, 0, 150, 27, 50, 180, 0, 49, 61, 42, 180, 0, 90, 28, 182, 0, 116, 199, 0, 6, 167, 0, 53, 42]
abbrev dktX6_tellAll_1 : List UInt8 := dkwX6_tellAll_1 ++ dktX6_tellAll_2
def dkwX6_tellAll_0 : List UInt8 := [42, 180, 0, 12, 182, 0, 99, 3, 60, 27, 42, 180, 0, 87, 180, 0, 148, 162, 0, 86, 42, 180, 0, 87]
abbrev dktX6_tellAll_0 : List UInt8 := dkwX6_tellAll_0 ++ dktX6_tellAll_1
theorem dksX6_tellAll_0 : cX6_tellAll.data.toList.drop 0 = dktX6_tellAll_0 := by decide +kernel
theorem dksX6_tellAll_1 : cX6_tellAll.data.toList.drop 24 = dktX6_tellAll_1 := dk_seg dksX6_tellAll_0 24 rfl rfl
theorem dksX6_tellAll_2 : cX6_tellAll.data.toList.drop 48 = dktX6_tellAll_2 := dk_seg dksX6_tellAll_1 24 rfl rfl
theorem dksX6_tellAll_3 : cX6_tellAll.data.toList.drop 72 = dktX6_tellAll_3 := dk_seg dksX6_tellAll_2 24 rfl rfl
theorem dksX6_tellAll_4 : cX6_tellAll.data.toList.drop 94 = dktX6_tellAll_4 := dk_seg dksX6_tellAll_3 22 rfl rfl
theorem dksX6_tellAll_5 : cX6_tellAll.data.toList.drop 117 = dktX6_tellAll_5 := dk_seg dksX6_tellAll_4 23 rfl rfl
theorem dksX6_tellAll_6 : cX6_tellAll.data.toList.drop 141 = dktX6_tellAll_6 := dk_seg dksX6_tellAll_5 24 rfl rfl
theorem dksX6_tellAll_7 : cX6_tellAll.data.toList.drop 165 = dktX6_tellAll_7 := dk_seg dksX6_tellAll_6 24 rfl rfl
theorem dksX6_tellAll_8 : cX6_tellAll.data.toList.drop 189 = dktX6_tellAll_8 := dk_seg dksX6_tellAll_7 24 rfl rfl
theorem dksX6_tellAll_9 : cX6_tellAll.data.toList.drop 211 = dktX6_tellAll_9 := dk_seg dksX6_tellAll_8 22 rfl rfl
theorem dX6_tellAll_0 : decode cX6_tellAll 0 = .ok (.aload_n 0, 1) := dk_42 (dk_at dksX6_tellAll_0 0 rfl rfl)
theorem dX6_tellAll_1 : decode cX6_tellAll 1 = .ok (.getfield 12, 3) := dk_180 0 12 (dk_at dksX6_tellAll_0 1 rfl rfl)
theorem dX6_tellAll_4 : decode cX6_tellAll 4 = .ok (.invokevirtual 99, 3) := dk_182 0 99 (dk_at dksX6_tellAll_0 4 rfl rfl)
theorem dX6_tellAll_7 : decode cX6_tellAll 7 = .ok (.iconst 0, 1) := dk_3 (dk_at dksX6_tellAll_0 7 rfl rfl)
theorem dX6_tellAll_8 : decode cX6_tellAll 8 = .ok (.istore_n 1, 1) := dk_60 (dk_at dksX6_tellAll_0 8 rfl rfl)
theorem dX6_tellAll_9 : decode cX6_tellAll 9 = .ok (.iload_n 1, 1) := dk_27 (dk_at dksX6_tellAll_0 9 rfl rfl)
theorem dX6_tellAll_10 : decode cX6_tellAll 10 = .ok (.aload_n 0, 1) := dk_42 (dk_at dksX6_tellAll_0 10 rfl rfl)
theorem dX6_tellAll_11 : decode cX6_tellAll 11 = .ok (.getfield 87, 3) := dk_180 0 87 (dk_at dksX6_tellAll_0 11 rfl rfl)
theorem dX6_tellAll_14 : decode cX6_tellAll 14 = .ok (.getfield 148, 3) := dk_180 0 148 (dk_at dksX6_tellAll_0 14 rfl rfl)
theorem dX6_tellAll_17 : decode cX6_tellAll 17 = .ok (.if_icmp .ge 86, 3) := dk_162 0 86 (dk_at dksX6_tellAll_0 17 rfl rfl)
theorem dX6_tellAll_20 : decode cX6_tellAll 20 = .ok (.aload_n 0, 1) := dk_42 (dk_at dksX6_tellAll_0 20 rfl rfl)
theorem dX6_tellAll_21 : decode cX6_tellAll 21 = .ok (.getfield 87, 3) := dk_180 0 87 (dk_at dksX6_tellAll_0 21 rfl rfl)
theorem dX6_tellAll_24 : decode cX6_tellAll 24 = .ok (.getfield 150, 3) := dk_180 0 150 (dk_at dksX6_tellAll_1 0 rfl rfl)
theorem dX6_tellAll_27 : decode cX6_tellAll 27 = .ok (.iload_n 1, 1) := dk_27 (dk_at dksX6_tellAll_1 3 rfl rfl)
theorem dX6_tellAll_28 : decode cX6_tellAll 28 = .ok (.aaload, 1) := dk_50 (dk_at dksX6_tellAll_1 4 rfl rfl)
theorem dX6_tellAll_29 : decode cX6_tellAll 29 = .ok (.getfield 49, 3) := dk_180 0 49 (dk_at dksX6_tellAll_1 5 rfl rfl)
theorem dX6_tellAll_32 : decode cX6_tellAll 32 = .ok (.istore_n 2, 1) := dk_61 (dk_at dksX6_tellAll_1 8 rfl rfl)
theorem dX6_tellAll_33 : decode cX6_tellAll 33 = .ok (.aload_n 0, 1) := dk_42 (dk_at dksX6_tellAll_1 9 rfl rfl)
theorem dX6_tellAll_34 : decode cX6_tellAll 34 = .ok (.getfield 90, 3) := dk_180 0 90 (dk_at dksX6_tellAll_1 10 rfl rfl)
theorem dX6_tellAll_37 : decode cX6_tellAll 37 = .ok (.iload_n 2, 1) := dk_28 (dk_at dksX6_tellAll_1 13 rfl rfl)
theorem dX6_tellAll_38 : decode cX6_tellAll 38 = .ok (.invokevirtual 116, 3) := dk_182 0 116 (dk_at dksX6_tellAll_1 14 rfl rfl)
theorem dX6_tellAll_41 : decode cX6_tellAll 41 = .ok (.ifnonnull 6, 3) := dk_199 0 6 (dk_at dksX6_tellAll_1 17 rfl rfl)
theorem dX6_tellAll_44 : decode cX6_tellAll 44 = .ok (.goto 53, 3) := dk_167 0 53 (dk_at dksX6_tellAll_1 20 rfl rfl)
theorem dX6_tellAll_47 : decode cX6_tellAll 47 = .ok (.aload_n 0, 1) := dk_42 (dk_at dksX6_tellAll_1 23 rfl rfl)
theorem dX6_tellAll_48 : decode cX6_tellAll 48 = .ok (.getfield 12, 3) := dk_180 0 12 (dk_at dksX6_tellAll_2 0 rfl rfl)
theorem dX6_tellAll_51 : decode cX6_tellAll 51 = .ok (.invokevirtual 41, 3) := dk_182 0 41 (dk_at dksX6_tellAll_2 3 rfl rfl)
theorem dX6_tellAll_54 : decode cX6_tellAll 54 = .ok (.istore_n 3, 1) := dk_62 (dk_at dksX6_tellAll_2 6 rfl rfl)
theorem dX6_tellAll_55 : decode cX6_tellAll 55 = .ok (.iload_n 3, 1) := dk_29 (dk_at dksX6_tellAll_2 7 rfl rfl)
theorem dX6_tellAll_56 : decode cX6_tellAll 56 = .ok (.ifCond .le 29, 3) := dk_158 0 29 (dk_at dksX6_tellAll_2 8 rfl rfl)
theorem dX6_tellAll_59 : decode cX6_tellAll 59 = .ok (.aload_n 0, 1) := dk_42 (dk_at dksX6_tellAll_2 11 rfl rfl)
theorem dX6_tellAll_60 : decode cX6_tellAll 60 = .ok (.getfield 12, 3) := dk_180 0 12 (dk_at dksX6_tellAll_2 12 rfl rfl)
theorem dX6_tellAll_63 : decode cX6_tellAll 63 = .ok (.iload_n 3, 1) := dk_29 (dk_at dksX6_tellAll_2 15 rfl rfl)
theorem dX6_tellAll_64 : decode cX6_tellAll 64 = .ok (.iconst 1, 1) := dk_4 (dk_at dksX6_tellAll_2 16 rfl rfl)
theorem dX6_tellAll_65 : decode cX6_tellAll 65 = .ok (.isub, 1) := dk_100 (dk_at dksX6_tellAll_2 17 rfl rfl)
theorem dX6_tellAll_66 : decode cX6_tellAll 66 = .ok (.invokevirtual 45, 3) := dk_182 0 45 (dk_at dksX6_tellAll_2 18 rfl rfl)
theorem dX6_tellAll_69 : decode cX6_tellAll 69 = .ok (.checkcast 154, 3) := dk_192 0 154 (dk_at dksX6_tellAll_2 21 rfl rfl)
theorem dX6_tellAll_72 : decode cX6_tellAll 72 = .ok (.invokevirtual 156, 3) := dk_182 0 156 (dk_at dksX6_tellAll_3 0 rfl rfl)
theorem dX6_tellAll_75 : decode cX6_tellAll 75 = .ok (.iload_n 2, 1) := dk_28 (dk_at dksX6_tellAll_3 3 rfl rfl)
theorem dX6_tellAll_76 : decode cX6_tellAll 76 = .ok (.if_icmp .le 9, 3) := dk_164 0 9 (dk_at dksX6_tellAll_3 4 rfl rfl)
theorem dX6_tellAll_79 : decode cX6_tellAll 79 = .ok (.iinc 3 (-1), 3) := dk_132 3 255 (dk_at dksX6_tellAll_3 7 rfl rfl)
theorem dX6_tellAll_82 : decode cX6_tellAll 82 = .ok (.goto (-27), 3) := dk_167 255 229 (dk_at dksX6_tellAll_3 10 rfl rfl)
theorem dX6_tellAll_85 : decode cX6_tellAll 85 = .ok (.aload_n 0, 1) := dk_42 (dk_at dksX6_tellAll_3 13 rfl rfl)
theorem dX6_tellAll_86 : decode cX6_tellAll 86 = .ok (.getfield 12, 3) := dk_180 0 12 (dk_at dksX6_tellAll_3 14 rfl rfl)
theorem dX6_tellAll_89 : decode cX6_tellAll 89 = .ok (.iload_n 3, 1) := dk_29 (dk_at dksX6_tellAll_3 17 rfl rfl)
theorem dX6_tellAll_90 : decode cX6_tellAll 90 = .ok (.iload_n 2, 1) := dk_28 (dk_at dksX6_tellAll_3 18 rfl rfl)
theorem dX6_tellAll_91 : decode cX6_tellAll 91 = .ok (.invokestatic 159, 3) := dk_184 0 159 (dk_at dksX6_tellAll_3 19 rfl rfl)
theorem dX6_tellAll_94 : decode cX6_tellAll 94 = .ok (.invokevirtual 163, 3) := dk_182 0 163 (dk_at dksX6_tellAll_4 0 rfl rfl)
theorem dX6_tellAll_97 : decode cX6_tellAll 97 = .ok (.iinc 1 1, 3) := dk_132 1 1 (dk_at dksX6_tellAll_4 3 rfl rfl)
theorem dX6_tellAll_100 : decode cX6_tellAll 100 = .ok (.goto (-91), 3) := dk_167 255 165 (dk_at dksX6_tellAll_4 6 rfl rfl)
theorem dX6_tellAll_103 : decode cX6_tellAll 103 = .ok (.iconst 0, 1) := dk_3 (dk_at dksX6_tellAll_4 9 rfl rfl)
theorem dX6_tellAll_104 : decode cX6_tellAll 104 = .ok (.istore_n 1, 1) := dk_60 (dk_at dksX6_tellAll_4 10 rfl rfl)
theorem dX6_tellAll_105 : decode cX6_tellAll 105 = .ok (.iload_n 1, 1) := dk_27 (dk_at dksX6_tellAll_4 11 rfl rfl)
theorem dX6_tellAll_106 : decode cX6_tellAll 106 = .ok (.aload_n 0, 1) := dk_42 (dk_at dksX6_tellAll_4 12 rfl rfl)
theorem dX6_tellAll_107 : decode cX6_tellAll 107 = .ok (.getfield 12, 3) := dk_180 0 12 (dk_at dksX6_tellAll_4 13 rfl rfl)
theorem dX6_tellAll_110 : decode cX6_tellAll 110 = .ok (.invokevirtual 41, 3) := dk_182 0 41 (dk_at dksX6_tellAll_4 16 rfl rfl)
theorem dX6_tellAll_113 : decode cX6_tellAll 113 = .ok (.if_icmp .ge 101, 3) := dk_162 0 101 (dk_at dksX6_tellAll_4 19 rfl rfl)
theorem dX6_tellAll_116 : decode cX6_tellAll 116 = .ok (.aload_n 0, 1) := dk_42 (dk_at dksX6_tellAll_4 22 rfl rfl)
theorem dX6_tellAll_117 : decode cX6_tellAll 117 = .ok (.getfield 12, 3) := dk_180 0 12 (dk_at dksX6_tellAll_5 0 rfl rfl)
theorem dX6_tellAll_120 : decode cX6_tellAll 120 = .ok (.iload_n 1, 1) := dk_27 (dk_at dksX6_tellAll_5 3 rfl rfl)
theorem dX6_tellAll_121 : decode cX6_tellAll 121 = .ok (.invokevirtual 45, 3) := dk_182 0 45 (dk_at dksX6_tellAll_5 4 rfl rfl)
theorem dX6_tellAll_124 : decode cX6_tellAll 124 = .ok (.checkcast 154, 3) := dk_192 0 154 (dk_at dksX6_tellAll_5 7 rfl rfl)
theorem dX6_tellAll_127 : decode cX6_tellAll 127 = .ok (.invokevirtual 156, 3) := dk_182 0 156 (dk_at dksX6_tellAll_5 10 rfl rfl)
theorem dX6_tellAll_130 : decode cX6_tellAll 130 = .ok (.istore_n 2, 1) := dk_61 (dk_at dksX6_tellAll_5 13 rfl rfl)
theorem dX6_tellAll_131 : decode cX6_tellAll 131 = .ok (.aload_n 0, 1) := dk_42 (dk_at dksX6_tellAll_5 14 rfl rfl)
theorem dX6_tellAll_132 : decode cX6_tellAll 132 = .ok (.getfield 83, 3) := dk_180 0 83 (dk_at dksX6_tellAll_5 15 rfl rfl)
theorem dX6_tellAll_135 : decode cX6_tellAll 135 = .ok (.iload_n 2, 1) := dk_28 (dk_at dksX6_tellAll_5 18 rfl rfl)
theorem dX6_tellAll_136 : decode cX6_tellAll 136 = .ok (.invokevirtual 116, 3) := dk_182 0 116 (dk_at dksX6_tellAll_5 19 rfl rfl)
theorem dX6_tellAll_139 : decode cX6_tellAll 139 = .ok (.astore_n 3, 1) := dk_78 (dk_at dksX6_tellAll_5 22 rfl rfl)
theorem dX6_tellAll_140 : decode cX6_tellAll 140 = .ok (.aload_n 0, 1) := dk_42 (dk_at dksX6_tellAll_5 23 rfl rfl)
theorem dX6_tellAll_141 : decode cX6_tellAll 141 = .ok (.getfield 87, 3) := dk_180 0 87 (dk_at dksX6_tellAll_6 0 rfl rfl)
theorem dX6_tellAll_144 : decode cX6_tellAll 144 = .ok (.iload_n 2, 1) := dk_28 (dk_at dksX6_tellAll_6 3 rfl rfl)
theorem dX6_tellAll_145 : decode cX6_tellAll 145 = .ok (.invokevirtual 116, 3) := dk_182 0 116 (dk_at dksX6_tellAll_6 4 rfl rfl)
theorem dX6_tellAll_148 : decode cX6_tellAll 148 = .ok (.astore 4, 2) := dk_58 4 (dk_at dksX6_tellAll_6 7 rfl rfl)
theorem dX6_tellAll_150 : decode cX6_tellAll 150 = .ok (.aload_n 0, 1) := dk_42 (dk_at dksX6_tellAll_6 9 rfl rfl)
theorem dX6_tellAll_151 : decode cX6_tellAll 151 = .ok (.getfield 90, 3) := dk_180 0 90 (dk_at dksX6_tellAll_6 10 rfl rfl)
theorem dX6_tellAll_154 : decode cX6_tellAll 154 = .ok (.iload_n 2, 1) := dk_28 (dk_at dksX6_tellAll_6 13 rfl rfl)
theorem dX6_tellAll_155 : decode cX6_tellAll 155 = .ok (.invokevirtual 116, 3) := dk_182 0 116 (dk_at dksX6_tellAll_6 14 rfl rfl)
theorem dX6_tellAll_158 : decode cX6_tellAll 158 = .ok (.astore 5, 2) := dk_58 5 (dk_at dksX6_tellAll_6 17 rfl rfl)
theorem dX6_tellAll_160 : decode cX6_tellAll 160 = .ok (.aload_n 0, 1) := dk_42 (dk_at dksX6_tellAll_6 19 rfl rfl)
theorem dX6_tellAll_161 : decode cX6_tellAll 161 = .ok (.iload_n 2, 1) := dk_28 (dk_at dksX6_tellAll_6 20 rfl rfl)
theorem dX6_tellAll_162 : decode cX6_tellAll 162 = .ok (.aload_n 3, 1) := dk_45 (dk_at dksX6_tellAll_6 21 rfl rfl)
theorem dX6_tellAll_163 : decode cX6_tellAll 163 = .ok (.aload 4, 2) := dk_25 4 (dk_at dksX6_tellAll_6 22 rfl rfl)
theorem dX6_tellAll_165 : decode cX6_tellAll 165 = .ok (.aload 5, 2) := dk_25 5 (dk_at dksX6_tellAll_7 0 rfl rfl)
theorem dX6_tellAll_167 : decode cX6_tellAll 167 = .ok (.iconst 1, 1) := dk_4 (dk_at dksX6_tellAll_7 2 rfl rfl)
theorem dX6_tellAll_168 : decode cX6_tellAll 168 = .ok (.invokevirtual 120, 3) := dk_182 0 120 (dk_at dksX6_tellAll_7 3 rfl rfl)
theorem dX6_tellAll_171 : decode cX6_tellAll 171 = .ok (.pop, 1) := dk_87 (dk_at dksX6_tellAll_7 6 rfl rfl)
theorem dX6_tellAll_172 : decode cX6_tellAll 172 = .ok (.aload_n 0, 1) := dk_42 (dk_at dksX6_tellAll_7 7 rfl rfl)
theorem dX6_tellAll_173 : decode cX6_tellAll 173 = .ok (.iload_n 2, 1) := dk_28 (dk_at dksX6_tellAll_7 8 rfl rfl)
theorem dX6_tellAll_174 : decode cX6_tellAll 174 = .ok (.aload_n 3, 1) := dk_45 (dk_at dksX6_tellAll_7 9 rfl rfl)
theorem dX6_tellAll_175 : decode cX6_tellAll 175 = .ok (.aload 4, 2) := dk_25 4 (dk_at dksX6_tellAll_7 10 rfl rfl)
theorem dX6_tellAll_177 : decode cX6_tellAll 177 = .ok (.aload 5, 2) := dk_25 5 (dk_at dksX6_tellAll_7 12 rfl rfl)
theorem dX6_tellAll_179 : decode cX6_tellAll 179 = .ok (.iconst 1, 1) := dk_4 (dk_at dksX6_tellAll_7 14 rfl rfl)
theorem dX6_tellAll_180 : decode cX6_tellAll 180 = .ok (.invokevirtual 124, 3) := dk_182 0 124 (dk_at dksX6_tellAll_7 15 rfl rfl)
theorem dX6_tellAll_183 : decode cX6_tellAll 183 = .ok (.pop, 1) := dk_87 (dk_at dksX6_tellAll_7 18 rfl rfl)
theorem dX6_tellAll_184 : decode cX6_tellAll 184 = .ok (.aload_n 0, 1) := dk_42 (dk_at dksX6_tellAll_7 19 rfl rfl)
theorem dX6_tellAll_185 : decode cX6_tellAll 185 = .ok (.iload_n 2, 1) := dk_28 (dk_at dksX6_tellAll_7 20 rfl rfl)
theorem dX6_tellAll_186 : decode cX6_tellAll 186 = .ok (.aload_n 3, 1) := dk_45 (dk_at dksX6_tellAll_7 21 rfl rfl)
theorem dX6_tellAll_187 : decode cX6_tellAll 187 = .ok (.aload 4, 2) := dk_25 4 (dk_at dksX6_tellAll_7 22 rfl rfl)
theorem dX6_tellAll_189 : decode cX6_tellAll 189 = .ok (.aload 5, 2) := dk_25 5 (dk_at dksX6_tellAll_8 0 rfl rfl)
theorem dX6_tellAll_191 : decode cX6_tellAll 191 = .ok (.iconst 1, 1) := dk_4 (dk_at dksX6_tellAll_8 2 rfl rfl)
theorem dX6_tellAll_192 : decode cX6_tellAll 192 = .ok (.invokevirtual 127, 3) := dk_182 0 127 (dk_at dksX6_tellAll_8 3 rfl rfl)
theorem dX6_tellAll_195 : decode cX6_tellAll 195 = .ok (.pop, 1) := dk_87 (dk_at dksX6_tellAll_8 6 rfl rfl)
theorem dX6_tellAll_196 : decode cX6_tellAll 196 = .ok (.aload_n 0, 1) := dk_42 (dk_at dksX6_tellAll_8 7 rfl rfl)
theorem dX6_tellAll_197 : decode cX6_tellAll 197 = .ok (.iload_n 2, 1) := dk_28 (dk_at dksX6_tellAll_8 8 rfl rfl)
theorem dX6_tellAll_198 : decode cX6_tellAll 198 = .ok (.aload_n 3, 1) := dk_45 (dk_at dksX6_tellAll_8 9 rfl rfl)
theorem dX6_tellAll_199 : decode cX6_tellAll 199 = .ok (.aload 4, 2) := dk_25 4 (dk_at dksX6_tellAll_8 10 rfl rfl)
theorem dX6_tellAll_201 : decode cX6_tellAll 201 = .ok (.aload 5, 2) := dk_25 5 (dk_at dksX6_tellAll_8 12 rfl rfl)
theorem dX6_tellAll_203 : decode cX6_tellAll 203 = .ok (.iconst 1, 1) := dk_4 (dk_at dksX6_tellAll_8 14 rfl rfl)
theorem dX6_tellAll_204 : decode cX6_tellAll 204 = .ok (.invokevirtual 137, 3) := dk_182 0 137 (dk_at dksX6_tellAll_8 15 rfl rfl)
theorem dX6_tellAll_207 : decode cX6_tellAll 207 = .ok (.pop, 1) := dk_87 (dk_at dksX6_tellAll_8 18 rfl rfl)
theorem dX6_tellAll_208 : decode cX6_tellAll 208 = .ok (.iinc 1 1, 3) := dk_132 1 1 (dk_at dksX6_tellAll_8 19 rfl rfl)
theorem dX6_tellAll_211 : decode cX6_tellAll 211 = .ok (.goto (-106), 3) := dk_167 255 150 (dk_at dksX6_tellAll_9 0 rfl rfl)
theorem dX6_tellAll_214 : decode cX6_tellAll 214 = .ok (.return_, 1) := dk_177 (dk_at dksX6_tellAll_9 3 rfl rfl)
