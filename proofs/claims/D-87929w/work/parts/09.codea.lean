set_option maxRecDepth 100000
abbrev cX0_init : ByteArray := prog_1_method_6_code
def yX0_init : MethodName := ⟨RX0, "<init>", "()V"⟩
def dkwX0_init_5 : List UInt8 := [16, 120, 188, 10, 181, 0, 97, 42, 16, 120, 188, 10, 181, 0, 100, 42, 16, 120, 188, 10, 181, 0, 103, 177]
abbrev dktX0_init_5 : List UInt8 := dkwX0_init_5 ++ []
def dkwX0_init_4 : List UInt8 := [183, 0, 86, 181, 0, 87, 42, 16, 30, 188, 10, 181, 0, 91, 42, 16, 30, 188, 10, 181, 0, 94, 42]
abbrev dktX0_init_4 : List UInt8 := dkwX0_init_4 ++ dktX0_init_5
def dkwX0_init_3 : List UInt8 := [89, 183, 0, 72, 181, 0, 73, 42, 187, 0, 77, 89, 183, 0, 79, 181, 0, 80, 42, 187, 0, 84, 89]
abbrev dktX0_init_3 : List UInt8 := dkwX0_init_3 ++ dktX0_init_4
def dkwX0_init_2 : List UInt8 := [180, 0, 36, 183, 0, 56, 181, 0, 59, 42, 187, 0, 63, 89, 183, 0, 65, 181, 0, 66, 42, 187, 0, 70]
abbrev dktX0_init_2 : List UInt8 := dkwX0_init_2 ++ dktX0_init_3
def dkwX0_init_1 : List UInt8 := [16, 8, 189, 0, 44, 181, 0, 46, 42, 17, 1, 144, 188, 8, 181, 0, 50, 42, 187, 0, 54, 89, 42]
abbrev dktX0_init_1 : List UInt8 := dkwX0_init_1 ++ dktX0_init_2
def dkwX0_init_0 : List UInt8 := [42, 183, 0, 28, 42, 187, 0, 33, 89, 183, 0, 35, 181, 0, 36, 42, 16, 10, 188, 10, 181, 0, 40, 42]
abbrev dktX0_init_0 : List UInt8 := dkwX0_init_0 ++ dktX0_init_1
theorem dksX0_init_0 : cX0_init.data.toList.drop 0 = dktX0_init_0 := by decide +kernel
theorem dksX0_init_1 : cX0_init.data.toList.drop 24 = dktX0_init_1 := dk_seg dksX0_init_0 24 rfl rfl
theorem dksX0_init_2 : cX0_init.data.toList.drop 47 = dktX0_init_2 := dk_seg dksX0_init_1 23 rfl rfl
theorem dksX0_init_3 : cX0_init.data.toList.drop 71 = dktX0_init_3 := dk_seg dksX0_init_2 24 rfl rfl
theorem dksX0_init_4 : cX0_init.data.toList.drop 94 = dktX0_init_4 := dk_seg dksX0_init_3 23 rfl rfl
theorem dksX0_init_5 : cX0_init.data.toList.drop 117 = dktX0_init_5 := dk_seg dksX0_init_4 23 rfl rfl
theorem dX0_init_0 : decode cX0_init 0 = .ok (.aload_n 0, 1) := dk_42 (dk_at dksX0_init_0 0 rfl rfl)
theorem dX0_init_1 : decode cX0_init 1 = .ok (.invokespecial 28, 3) := dk_183 0 28 (dk_at dksX0_init_0 1 rfl rfl)
theorem dX0_init_4 : decode cX0_init 4 = .ok (.aload_n 0, 1) := dk_42 (dk_at dksX0_init_0 4 rfl rfl)
theorem dX0_init_5 : decode cX0_init 5 = .ok (.new 33, 3) := dk_187 0 33 (dk_at dksX0_init_0 5 rfl rfl)
theorem dX0_init_8 : decode cX0_init 8 = .ok (.dup, 1) := dk_89 (dk_at dksX0_init_0 8 rfl rfl)
theorem dX0_init_9 : decode cX0_init 9 = .ok (.invokespecial 35, 3) := dk_183 0 35 (dk_at dksX0_init_0 9 rfl rfl)
theorem dX0_init_12 : decode cX0_init 12 = .ok (.putfield 36, 3) := dk_181 0 36 (dk_at dksX0_init_0 12 rfl rfl)
theorem dX0_init_15 : decode cX0_init 15 = .ok (.aload_n 0, 1) := dk_42 (dk_at dksX0_init_0 15 rfl rfl)
theorem dX0_init_16 : decode cX0_init 16 = .ok (.bipush 10, 2) := dk_16 10 (dk_at dksX0_init_0 16 rfl rfl)
theorem dX0_init_18 : decode cX0_init 18 = .ok (.newarray .int, 2) := dk_188_10 (dk_at dksX0_init_0 18 rfl rfl)
theorem dX0_init_20 : decode cX0_init 20 = .ok (.putfield 40, 3) := dk_181 0 40 (dk_at dksX0_init_0 20 rfl rfl)
theorem dX0_init_23 : decode cX0_init 23 = .ok (.aload_n 0, 1) := dk_42 (dk_at dksX0_init_0 23 rfl rfl)
theorem dX0_init_24 : decode cX0_init 24 = .ok (.bipush 8, 2) := dk_16 8 (dk_at dksX0_init_1 0 rfl rfl)
theorem dX0_init_26 : decode cX0_init 26 = .ok (.anewarray 44, 3) := dk_189 0 44 (dk_at dksX0_init_1 2 rfl rfl)
theorem dX0_init_29 : decode cX0_init 29 = .ok (.putfield 46, 3) := dk_181 0 46 (dk_at dksX0_init_1 5 rfl rfl)
theorem dX0_init_32 : decode cX0_init 32 = .ok (.aload_n 0, 1) := dk_42 (dk_at dksX0_init_1 8 rfl rfl)
theorem dX0_init_33 : decode cX0_init 33 = .ok (.sipush 400, 3) := dk_17 1 144 (dk_at dksX0_init_1 9 rfl rfl)
theorem dX0_init_36 : decode cX0_init 36 = .ok (.newarray .byte, 2) := dk_188_8 (dk_at dksX0_init_1 12 rfl rfl)
theorem dX0_init_38 : decode cX0_init 38 = .ok (.putfield 50, 3) := dk_181 0 50 (dk_at dksX0_init_1 14 rfl rfl)
theorem dX0_init_41 : decode cX0_init 41 = .ok (.aload_n 0, 1) := dk_42 (dk_at dksX0_init_1 17 rfl rfl)
theorem dX0_init_42 : decode cX0_init 42 = .ok (.new 54, 3) := dk_187 0 54 (dk_at dksX0_init_1 18 rfl rfl)
theorem dX0_init_45 : decode cX0_init 45 = .ok (.dup, 1) := dk_89 (dk_at dksX0_init_1 21 rfl rfl)
theorem dX0_init_46 : decode cX0_init 46 = .ok (.aload_n 0, 1) := dk_42 (dk_at dksX0_init_1 22 rfl rfl)
theorem dX0_init_47 : decode cX0_init 47 = .ok (.getfield 36, 3) := dk_180 0 36 (dk_at dksX0_init_2 0 rfl rfl)
theorem dX0_init_50 : decode cX0_init 50 = .ok (.invokespecial 56, 3) := dk_183 0 56 (dk_at dksX0_init_2 3 rfl rfl)
theorem dX0_init_53 : decode cX0_init 53 = .ok (.putfield 59, 3) := dk_181 0 59 (dk_at dksX0_init_2 6 rfl rfl)
theorem dX0_init_56 : decode cX0_init 56 = .ok (.aload_n 0, 1) := dk_42 (dk_at dksX0_init_2 9 rfl rfl)
theorem dX0_init_57 : decode cX0_init 57 = .ok (.new 63, 3) := dk_187 0 63 (dk_at dksX0_init_2 10 rfl rfl)
theorem dX0_init_60 : decode cX0_init 60 = .ok (.dup, 1) := dk_89 (dk_at dksX0_init_2 13 rfl rfl)
theorem dX0_init_61 : decode cX0_init 61 = .ok (.invokespecial 65, 3) := dk_183 0 65 (dk_at dksX0_init_2 14 rfl rfl)
theorem dX0_init_64 : decode cX0_init 64 = .ok (.putfield 66, 3) := dk_181 0 66 (dk_at dksX0_init_2 17 rfl rfl)
theorem dX0_init_67 : decode cX0_init 67 = .ok (.aload_n 0, 1) := dk_42 (dk_at dksX0_init_2 20 rfl rfl)
theorem dX0_init_68 : decode cX0_init 68 = .ok (.new 70, 3) := dk_187 0 70 (dk_at dksX0_init_2 21 rfl rfl)
theorem dX0_init_71 : decode cX0_init 71 = .ok (.dup, 1) := dk_89 (dk_at dksX0_init_3 0 rfl rfl)
theorem dX0_init_72 : decode cX0_init 72 = .ok (.invokespecial 72, 3) := dk_183 0 72 (dk_at dksX0_init_3 1 rfl rfl)
theorem dX0_init_75 : decode cX0_init 75 = .ok (.putfield 73, 3) := dk_181 0 73 (dk_at dksX0_init_3 4 rfl rfl)
theorem dX0_init_78 : decode cX0_init 78 = .ok (.aload_n 0, 1) := dk_42 (dk_at dksX0_init_3 7 rfl rfl)
theorem dX0_init_79 : decode cX0_init 79 = .ok (.new 77, 3) := dk_187 0 77 (dk_at dksX0_init_3 8 rfl rfl)
theorem dX0_init_82 : decode cX0_init 82 = .ok (.dup, 1) := dk_89 (dk_at dksX0_init_3 11 rfl rfl)
theorem dX0_init_83 : decode cX0_init 83 = .ok (.invokespecial 79, 3) := dk_183 0 79 (dk_at dksX0_init_3 12 rfl rfl)
theorem dX0_init_86 : decode cX0_init 86 = .ok (.putfield 80, 3) := dk_181 0 80 (dk_at dksX0_init_3 15 rfl rfl)
theorem dX0_init_89 : decode cX0_init 89 = .ok (.aload_n 0, 1) := dk_42 (dk_at dksX0_init_3 18 rfl rfl)
theorem dX0_init_90 : decode cX0_init 90 = .ok (.new 84, 3) := dk_187 0 84 (dk_at dksX0_init_3 19 rfl rfl)
theorem dX0_init_93 : decode cX0_init 93 = .ok (.dup, 1) := dk_89 (dk_at dksX0_init_3 22 rfl rfl)
theorem dX0_init_94 : decode cX0_init 94 = .ok (.invokespecial 86, 3) := dk_183 0 86 (dk_at dksX0_init_4 0 rfl rfl)
theorem dX0_init_97 : decode cX0_init 97 = .ok (.putfield 87, 3) := dk_181 0 87 (dk_at dksX0_init_4 3 rfl rfl)
theorem dX0_init_100 : decode cX0_init 100 = .ok (.aload_n 0, 1) := dk_42 (dk_at dksX0_init_4 6 rfl rfl)
theorem dX0_init_101 : decode cX0_init 101 = .ok (.bipush 30, 2) := dk_16 30 (dk_at dksX0_init_4 7 rfl rfl)
theorem dX0_init_103 : decode cX0_init 103 = .ok (.newarray .int, 2) := dk_188_10 (dk_at dksX0_init_4 9 rfl rfl)
theorem dX0_init_105 : decode cX0_init 105 = .ok (.putfield 91, 3) := dk_181 0 91 (dk_at dksX0_init_4 11 rfl rfl)
theorem dX0_init_108 : decode cX0_init 108 = .ok (.aload_n 0, 1) := dk_42 (dk_at dksX0_init_4 14 rfl rfl)
theorem dX0_init_109 : decode cX0_init 109 = .ok (.bipush 30, 2) := dk_16 30 (dk_at dksX0_init_4 15 rfl rfl)
theorem dX0_init_111 : decode cX0_init 111 = .ok (.newarray .int, 2) := dk_188_10 (dk_at dksX0_init_4 17 rfl rfl)
theorem dX0_init_113 : decode cX0_init 113 = .ok (.putfield 94, 3) := dk_181 0 94 (dk_at dksX0_init_4 19 rfl rfl)
theorem dX0_init_116 : decode cX0_init 116 = .ok (.aload_n 0, 1) := dk_42 (dk_at dksX0_init_4 22 rfl rfl)
theorem dX0_init_117 : decode cX0_init 117 = .ok (.bipush 120, 2) := dk_16 120 (dk_at dksX0_init_5 0 rfl rfl)
theorem dX0_init_119 : decode cX0_init 119 = .ok (.newarray .int, 2) := dk_188_10 (dk_at dksX0_init_5 2 rfl rfl)
theorem dX0_init_121 : decode cX0_init 121 = .ok (.putfield 97, 3) := dk_181 0 97 (dk_at dksX0_init_5 4 rfl rfl)
theorem dX0_init_124 : decode cX0_init 124 = .ok (.aload_n 0, 1) := dk_42 (dk_at dksX0_init_5 7 rfl rfl)
theorem dX0_init_125 : decode cX0_init 125 = .ok (.bipush 120, 2) := dk_16 120 (dk_at dksX0_init_5 8 rfl rfl)
theorem dX0_init_127 : decode cX0_init 127 = .ok (.newarray .int, 2) := dk_188_10 (dk_at dksX0_init_5 10 rfl rfl)
theorem dX0_init_129 : decode cX0_init 129 = .ok (.putfield 100, 3) := dk_181 0 100 (dk_at dksX0_init_5 12 rfl rfl)
theorem dX0_init_132 : decode cX0_init 132 = .ok (.aload_n 0, 1) := dk_42 (dk_at dksX0_init_5 15 rfl rfl)
theorem dX0_init_133 : decode cX0_init 133 = .ok (.bipush 120, 2) := dk_16 120 (dk_at dksX0_init_5 16 rfl rfl)
theorem dX0_init_135 : decode cX0_init 135 = .ok (.newarray .int, 2) := dk_188_10 (dk_at dksX0_init_5 18 rfl rfl)
theorem dX0_init_137 : decode cX0_init 137 = .ok (.putfield 103, 3) := dk_181 0 103 (dk_at dksX0_init_5 20 rfl rfl)
theorem dX0_init_140 : decode cX0_init 140 = .ok (.return_, 1) := dk_177 (dk_at dksX0_init_5 23 rfl rfl)
abbrev cX0_feed : ByteArray := prog_1_method_12_code
def yX0_feed : MethodName := ⟨RX0, "feed", "(JI)I"⟩
def dkwX0_feed_4 : List UInt8 := [58, 4, 42, 25, 4, 182, 0, 138, 172]
abbrev dktX0_feed_4 : List UInt8 := dkwX0_feed_4 ++ []
def dkwX0_feed_3 : List UInt8 := [136, 145, 84, 132, 4, 1, 167, 255, 226, 42, 89, 180, 0, 135, 29, 96, 181, 0, 135, 42, 180, 0, 135, 172]
abbrev dktX0_feed_3 : List UInt8 := dkwX0_feed_3 ++ dktX0_feed_4
def dkwX0_feed_2 : List UInt8 := [21, 4, 29, 162, 0, 30, 42, 180, 0, 50, 42, 180, 0, 135, 21, 4, 96, 31, 16, 8, 21, 4, 104, 123]
abbrev dktX0_feed_2 : List UInt8 := dkwX0_feed_2 ++ dktX0_feed_3
def dkwX0_feed_1 : List UInt8 := [180, 0, 135, 29, 96, 17, 1, 144, 163, 0, 7, 4, 167, 0, 4, 3, 16, 251, 182, 0, 131, 3, 54, 4]
abbrev dktX0_feed_1 : List UInt8 := dkwX0_feed_1 ++ dktX0_feed_2
def dkwX0_feed_0 : List UInt8 := [42, 29, 4, 161, 0, 13, 29, 16, 8, 163, 0, 7, 4, 167, 0, 4, 3, 2, 182, 0, 131, 42, 42]
abbrev dktX0_feed_0 : List UInt8 := dkwX0_feed_0 ++ dktX0_feed_1
theorem dksX0_feed_0 : cX0_feed.data.toList.drop 0 = dktX0_feed_0 := by decide +kernel
theorem dksX0_feed_1 : cX0_feed.data.toList.drop 23 = dktX0_feed_1 := dk_seg dksX0_feed_0 23 rfl rfl
theorem dksX0_feed_2 : cX0_feed.data.toList.drop 47 = dktX0_feed_2 := dk_seg dksX0_feed_1 24 rfl rfl
theorem dksX0_feed_3 : cX0_feed.data.toList.drop 71 = dktX0_feed_3 := dk_seg dksX0_feed_2 24 rfl rfl
theorem dksX0_feed_4 : cX0_feed.data.toList.drop 95 = dktX0_feed_4 := dk_seg dksX0_feed_3 24 rfl rfl
theorem dX0_feed_0 : decode cX0_feed 0 = .ok (.aload_n 0, 1) := dk_42 (dk_at dksX0_feed_0 0 rfl rfl)
theorem dX0_feed_1 : decode cX0_feed 1 = .ok (.iload_n 3, 1) := dk_29 (dk_at dksX0_feed_0 1 rfl rfl)
theorem dX0_feed_2 : decode cX0_feed 2 = .ok (.iconst 1, 1) := dk_4 (dk_at dksX0_feed_0 2 rfl rfl)
theorem dX0_feed_3 : decode cX0_feed 3 = .ok (.if_icmp .lt 13, 3) := dk_161 0 13 (dk_at dksX0_feed_0 3 rfl rfl)
theorem dX0_feed_6 : decode cX0_feed 6 = .ok (.iload_n 3, 1) := dk_29 (dk_at dksX0_feed_0 6 rfl rfl)
theorem dX0_feed_7 : decode cX0_feed 7 = .ok (.bipush 8, 2) := dk_16 8 (dk_at dksX0_feed_0 7 rfl rfl)
theorem dX0_feed_9 : decode cX0_feed 9 = .ok (.if_icmp .gt 7, 3) := dk_163 0 7 (dk_at dksX0_feed_0 9 rfl rfl)
theorem dX0_feed_12 : decode cX0_feed 12 = .ok (.iconst 1, 1) := dk_4 (dk_at dksX0_feed_0 12 rfl rfl)
theorem dX0_feed_13 : decode cX0_feed 13 = .ok (.goto 4, 3) := dk_167 0 4 (dk_at dksX0_feed_0 13 rfl rfl)
theorem dX0_feed_16 : decode cX0_feed 16 = .ok (.iconst 0, 1) := dk_3 (dk_at dksX0_feed_0 16 rfl rfl)
theorem dX0_feed_17 : decode cX0_feed 17 = .ok (.iconst (-1), 1) := dk_2 (dk_at dksX0_feed_0 17 rfl rfl)
theorem dX0_feed_18 : decode cX0_feed 18 = .ok (.invokevirtual 131, 3) := dk_182 0 131 (dk_at dksX0_feed_0 18 rfl rfl)
theorem dX0_feed_21 : decode cX0_feed 21 = .ok (.aload_n 0, 1) := dk_42 (dk_at dksX0_feed_0 21 rfl rfl)
theorem dX0_feed_22 : decode cX0_feed 22 = .ok (.aload_n 0, 1) := dk_42 (dk_at dksX0_feed_0 22 rfl rfl)
theorem dX0_feed_23 : decode cX0_feed 23 = .ok (.getfield 135, 3) := dk_180 0 135 (dk_at dksX0_feed_1 0 rfl rfl)
theorem dX0_feed_26 : decode cX0_feed 26 = .ok (.iload_n 3, 1) := dk_29 (dk_at dksX0_feed_1 3 rfl rfl)
theorem dX0_feed_27 : decode cX0_feed 27 = .ok (.iadd, 1) := dk_96 (dk_at dksX0_feed_1 4 rfl rfl)
theorem dX0_feed_28 : decode cX0_feed 28 = .ok (.sipush 400, 3) := dk_17 1 144 (dk_at dksX0_feed_1 5 rfl rfl)
theorem dX0_feed_31 : decode cX0_feed 31 = .ok (.if_icmp .gt 7, 3) := dk_163 0 7 (dk_at dksX0_feed_1 8 rfl rfl)
theorem dX0_feed_34 : decode cX0_feed 34 = .ok (.iconst 1, 1) := dk_4 (dk_at dksX0_feed_1 11 rfl rfl)
theorem dX0_feed_35 : decode cX0_feed 35 = .ok (.goto 4, 3) := dk_167 0 4 (dk_at dksX0_feed_1 12 rfl rfl)
theorem dX0_feed_38 : decode cX0_feed 38 = .ok (.iconst 0, 1) := dk_3 (dk_at dksX0_feed_1 15 rfl rfl)
theorem dX0_feed_39 : decode cX0_feed 39 = .ok (.bipush (-5), 2) := dk_16 251 (dk_at dksX0_feed_1 16 rfl rfl)
theorem dX0_feed_41 : decode cX0_feed 41 = .ok (.invokevirtual 131, 3) := dk_182 0 131 (dk_at dksX0_feed_1 18 rfl rfl)
theorem dX0_feed_44 : decode cX0_feed 44 = .ok (.iconst 0, 1) := dk_3 (dk_at dksX0_feed_1 21 rfl rfl)
theorem dX0_feed_45 : decode cX0_feed 45 = .ok (.istore 4, 2) := dk_54 4 (dk_at dksX0_feed_1 22 rfl rfl)
theorem dX0_feed_47 : decode cX0_feed 47 = .ok (.iload 4, 2) := dk_21 4 (dk_at dksX0_feed_2 0 rfl rfl)
theorem dX0_feed_49 : decode cX0_feed 49 = .ok (.iload_n 3, 1) := dk_29 (dk_at dksX0_feed_2 2 rfl rfl)
theorem dX0_feed_50 : decode cX0_feed 50 = .ok (.if_icmp .ge 30, 3) := dk_162 0 30 (dk_at dksX0_feed_2 3 rfl rfl)
theorem dX0_feed_53 : decode cX0_feed 53 = .ok (.aload_n 0, 1) := dk_42 (dk_at dksX0_feed_2 6 rfl rfl)
theorem dX0_feed_54 : decode cX0_feed 54 = .ok (.getfield 50, 3) := dk_180 0 50 (dk_at dksX0_feed_2 7 rfl rfl)
theorem dX0_feed_57 : decode cX0_feed 57 = .ok (.aload_n 0, 1) := dk_42 (dk_at dksX0_feed_2 10 rfl rfl)
theorem dX0_feed_58 : decode cX0_feed 58 = .ok (.getfield 135, 3) := dk_180 0 135 (dk_at dksX0_feed_2 11 rfl rfl)
theorem dX0_feed_61 : decode cX0_feed 61 = .ok (.iload 4, 2) := dk_21 4 (dk_at dksX0_feed_2 14 rfl rfl)
theorem dX0_feed_63 : decode cX0_feed 63 = .ok (.iadd, 1) := dk_96 (dk_at dksX0_feed_2 16 rfl rfl)
theorem dX0_feed_64 : decode cX0_feed 64 = .ok (.lload_n 1, 1) := dk_31 (dk_at dksX0_feed_2 17 rfl rfl)
theorem dX0_feed_65 : decode cX0_feed 65 = .ok (.bipush 8, 2) := dk_16 8 (dk_at dksX0_feed_2 18 rfl rfl)
theorem dX0_feed_67 : decode cX0_feed 67 = .ok (.iload 4, 2) := dk_21 4 (dk_at dksX0_feed_2 20 rfl rfl)
theorem dX0_feed_69 : decode cX0_feed 69 = .ok (.imul, 1) := dk_104 (dk_at dksX0_feed_2 22 rfl rfl)
theorem dX0_feed_70 : decode cX0_feed 70 = .ok (.lshr, 1) := dk_123 (dk_at dksX0_feed_2 23 rfl rfl)
theorem dX0_feed_71 : decode cX0_feed 71 = .ok (.l2i, 1) := dk_136 (dk_at dksX0_feed_3 0 rfl rfl)
theorem dX0_feed_72 : decode cX0_feed 72 = .ok (.i2b, 1) := dk_145 (dk_at dksX0_feed_3 1 rfl rfl)
theorem dX0_feed_73 : decode cX0_feed 73 = .ok (.bastore, 1) := dk_84 (dk_at dksX0_feed_3 2 rfl rfl)
theorem dX0_feed_74 : decode cX0_feed 74 = .ok (.iinc 4 1, 3) := dk_132 4 1 (dk_at dksX0_feed_3 3 rfl rfl)
theorem dX0_feed_77 : decode cX0_feed 77 = .ok (.goto (-30), 3) := dk_167 255 226 (dk_at dksX0_feed_3 6 rfl rfl)
theorem dX0_feed_80 : decode cX0_feed 80 = .ok (.aload_n 0, 1) := dk_42 (dk_at dksX0_feed_3 9 rfl rfl)
theorem dX0_feed_81 : decode cX0_feed 81 = .ok (.dup, 1) := dk_89 (dk_at dksX0_feed_3 10 rfl rfl)
theorem dX0_feed_82 : decode cX0_feed 82 = .ok (.getfield 135, 3) := dk_180 0 135 (dk_at dksX0_feed_3 11 rfl rfl)
theorem dX0_feed_85 : decode cX0_feed 85 = .ok (.iload_n 3, 1) := dk_29 (dk_at dksX0_feed_3 14 rfl rfl)
theorem dX0_feed_86 : decode cX0_feed 86 = .ok (.iadd, 1) := dk_96 (dk_at dksX0_feed_3 15 rfl rfl)
theorem dX0_feed_87 : decode cX0_feed 87 = .ok (.putfield 135, 3) := dk_181 0 135 (dk_at dksX0_feed_3 16 rfl rfl)
theorem dX0_feed_90 : decode cX0_feed 90 = .ok (.aload_n 0, 1) := dk_42 (dk_at dksX0_feed_3 19 rfl rfl)
theorem dX0_feed_91 : decode cX0_feed 91 = .ok (.getfield 135, 3) := dk_180 0 135 (dk_at dksX0_feed_3 20 rfl rfl)
theorem dX0_feed_94 : decode cX0_feed 94 = .ok (.ireturn, 1) := dk_172 (dk_at dksX0_feed_3 23 rfl rfl)
theorem dX0_feed_95 : decode cX0_feed 95 = .ok (.astore 4, 2) := dk_58 4 (dk_at dksX0_feed_4 0 rfl rfl)
theorem dX0_feed_97 : decode cX0_feed 97 = .ok (.aload_n 0, 1) := dk_42 (dk_at dksX0_feed_4 2 rfl rfl)
theorem dX0_feed_98 : decode cX0_feed 98 = .ok (.aload 4, 2) := dk_25 4 (dk_at dksX0_feed_4 3 rfl rfl)
theorem dX0_feed_100 : decode cX0_feed 100 = .ok (.invokevirtual 138, 3) := dk_182 0 138 (dk_at dksX0_feed_4 5 rfl rfl)
theorem dX0_feed_103 : decode cX0_feed 103 = .ok (.ireturn, 1) := dk_172 (dk_at dksX0_feed_4 8 rfl rfl)
abbrev cX0_need : ByteArray := prog_1_method_7_code
def yX0_need : MethodName := ⟨RX0, "need", "(ZI)V"⟩
def dkwX0_need_0 : List UInt8 := [27, 154, 0, 12, 42, 180, 0, 36, 28, 182, 0, 106, 191, 177]
abbrev dktX0_need_0 : List UInt8 := dkwX0_need_0 ++ []
theorem dksX0_need_0 : cX0_need.data.toList.drop 0 = dktX0_need_0 := by decide +kernel
theorem dX0_need_0 : decode cX0_need 0 = .ok (.iload_n 1, 1) := dk_27 (dk_at dksX0_need_0 0 rfl rfl)
theorem dX0_need_1 : decode cX0_need 1 = .ok (.ifCond .ne 12, 3) := dk_154 0 12 (dk_at dksX0_need_0 1 rfl rfl)
theorem dX0_need_4 : decode cX0_need 4 = .ok (.aload_n 0, 1) := dk_42 (dk_at dksX0_need_0 4 rfl rfl)
theorem dX0_need_5 : decode cX0_need 5 = .ok (.getfield 36, 3) := dk_180 0 36 (dk_at dksX0_need_0 5 rfl rfl)
theorem dX0_need_8 : decode cX0_need 8 = .ok (.iload_n 2, 1) := dk_28 (dk_at dksX0_need_0 8 rfl rfl)
theorem dX0_need_9 : decode cX0_need 9 = .ok (.invokevirtual 106, 3) := dk_182 0 106 (dk_at dksX0_need_0 9 rfl rfl)
theorem dX0_need_12 : decode cX0_need 12 = .ok (.athrow, 1) := dk_191 (dk_at dksX0_need_0 12 rfl rfl)
theorem dX0_need_13 : decode cX0_need 13 = .ok (.return_, 1) := dk_177 (dk_at dksX0_need_0 13 rfl rfl)
abbrev cX0_finds : ByteArray := prog_1_method_8_code
def yX0_finds : MethodName := ⟨RX0, "finds", "(LBranchMender$Finding;)I"⟩
def dkwX0_finds_1 : List UInt8 := [46, 4, 96, 79, 43, 180, 0, 110, 172]
abbrev dktX0_finds_1 : List UInt8 := dkwX0_finds_1 ++ []
def dkwX0_finds_0 : List UInt8 := [42, 180, 0, 40, 43, 180, 0, 110, 16, 246, 163, 0, 8, 16, 9, 167, 0, 8, 43, 180, 0, 110, 116, 92]
abbrev dktX0_finds_0 : List UInt8 := dkwX0_finds_0 ++ dktX0_finds_1
theorem dksX0_finds_0 : cX0_finds.data.toList.drop 0 = dktX0_finds_0 := by decide +kernel
theorem dksX0_finds_1 : cX0_finds.data.toList.drop 24 = dktX0_finds_1 := dk_seg dksX0_finds_0 24 rfl rfl
theorem dX0_finds_0 : decode cX0_finds 0 = .ok (.aload_n 0, 1) := dk_42 (dk_at dksX0_finds_0 0 rfl rfl)
theorem dX0_finds_1 : decode cX0_finds 1 = .ok (.getfield 40, 3) := dk_180 0 40 (dk_at dksX0_finds_0 1 rfl rfl)
theorem dX0_finds_4 : decode cX0_finds 4 = .ok (.aload_n 1, 1) := dk_43 (dk_at dksX0_finds_0 4 rfl rfl)
theorem dX0_finds_5 : decode cX0_finds 5 = .ok (.getfield 110, 3) := dk_180 0 110 (dk_at dksX0_finds_0 5 rfl rfl)
theorem dX0_finds_8 : decode cX0_finds 8 = .ok (.bipush (-10), 2) := dk_16 246 (dk_at dksX0_finds_0 8 rfl rfl)
theorem dX0_finds_10 : decode cX0_finds 10 = .ok (.if_icmp .gt 8, 3) := dk_163 0 8 (dk_at dksX0_finds_0 10 rfl rfl)
theorem dX0_finds_13 : decode cX0_finds 13 = .ok (.bipush 9, 2) := dk_16 9 (dk_at dksX0_finds_0 13 rfl rfl)
theorem dX0_finds_15 : decode cX0_finds 15 = .ok (.goto 8, 3) := dk_167 0 8 (dk_at dksX0_finds_0 15 rfl rfl)
theorem dX0_finds_18 : decode cX0_finds 18 = .ok (.aload_n 1, 1) := dk_43 (dk_at dksX0_finds_0 18 rfl rfl)
theorem dX0_finds_19 : decode cX0_finds 19 = .ok (.getfield 110, 3) := dk_180 0 110 (dk_at dksX0_finds_0 19 rfl rfl)
theorem dX0_finds_22 : decode cX0_finds 22 = .ok (.ineg, 1) := dk_116 (dk_at dksX0_finds_0 22 rfl rfl)
theorem dX0_finds_23 : decode cX0_finds 23 = .ok (.dup2, 1) := dk_92 (dk_at dksX0_finds_0 23 rfl rfl)
theorem dX0_finds_24 : decode cX0_finds 24 = .ok (.iaload, 1) := dk_46 (dk_at dksX0_finds_1 0 rfl rfl)
theorem dX0_finds_25 : decode cX0_finds 25 = .ok (.iconst 1, 1) := dk_4 (dk_at dksX0_finds_1 1 rfl rfl)
theorem dX0_finds_26 : decode cX0_finds 26 = .ok (.iadd, 1) := dk_96 (dk_at dksX0_finds_1 2 rfl rfl)
theorem dX0_finds_27 : decode cX0_finds 27 = .ok (.iastore, 1) := dk_79 (dk_at dksX0_finds_1 3 rfl rfl)
theorem dX0_finds_28 : decode cX0_finds 28 = .ok (.aload_n 1, 1) := dk_43 (dk_at dksX0_finds_1 4 rfl rfl)
theorem dX0_finds_29 : decode cX0_finds 29 = .ok (.getfield 110, 3) := dk_180 0 110 (dk_at dksX0_finds_1 5 rfl rfl)
theorem dX0_finds_32 : decode cX0_finds 32 = .ok (.ireturn, 1) := dk_172 (dk_at dksX0_finds_1 8 rfl rfl)
abbrev cX0_read : ByteArray := prog_1_method_13_code
def yX0_read : MethodName := ⟨RX0, "read", "(I)I"⟩
def dkwX0_read_4 : List UInt8 := [182, 0, 138, 172]
abbrev dktX0_read_4 : List UInt8 := dkwX0_read_4 ++ []
def dkwX0_read_3 : List UInt8 := [181, 0, 159, 132, 4, 1, 167, 255, 220, 42, 180, 0, 46, 27, 45, 83, 45, 180, 0, 152, 172, 77, 42, 44]
abbrev dktX0_read_3 : List UInt8 := dkwX0_read_3 ++ dktX0_read_4
def dkwX0_read_2 : List UInt8 := [162, 0, 33, 45, 180, 0, 155, 21, 4, 50, 42, 180, 0, 159, 181, 0, 118, 42, 89, 180, 0, 159, 4, 96]
abbrev dktX0_read_2 : List UInt8 := dkwX0_read_2 ++ dktX0_read_3
def dkwX0_read_1 : List UInt8 := [180, 0, 59, 42, 180, 0, 50, 28, 182, 0, 145, 183, 0, 149, 78, 3, 54, 4, 21, 4, 45, 180, 0, 152]
abbrev dktX0_read_1 : List UInt8 := dkwX0_read_1 ++ dktX0_read_2
def dkwX0_read_0 : List UInt8 := [42, 27, 184, 0, 142, 2, 182, 0, 131, 42, 180, 0, 135, 61, 42, 3, 181, 0, 135, 187, 0, 44, 89, 42]
abbrev dktX0_read_0 : List UInt8 := dkwX0_read_0 ++ dktX0_read_1
theorem dksX0_read_0 : cX0_read.data.toList.drop 0 = dktX0_read_0 := by decide +kernel
theorem dksX0_read_1 : cX0_read.data.toList.drop 24 = dktX0_read_1 := dk_seg dksX0_read_0 24 rfl rfl
theorem dksX0_read_2 : cX0_read.data.toList.drop 48 = dktX0_read_2 := dk_seg dksX0_read_1 24 rfl rfl
theorem dksX0_read_3 : cX0_read.data.toList.drop 72 = dktX0_read_3 := dk_seg dksX0_read_2 24 rfl rfl
theorem dksX0_read_4 : cX0_read.data.toList.drop 96 = dktX0_read_4 := dk_seg dksX0_read_3 24 rfl rfl
theorem dX0_read_0 : decode cX0_read 0 = .ok (.aload_n 0, 1) := dk_42 (dk_at dksX0_read_0 0 rfl rfl)
theorem dX0_read_1 : decode cX0_read 1 = .ok (.iload_n 1, 1) := dk_27 (dk_at dksX0_read_0 1 rfl rfl)
theorem dX0_read_2 : decode cX0_read 2 = .ok (.invokestatic 142, 3) := dk_184 0 142 (dk_at dksX0_read_0 2 rfl rfl)
theorem dX0_read_5 : decode cX0_read 5 = .ok (.iconst (-1), 1) := dk_2 (dk_at dksX0_read_0 5 rfl rfl)
theorem dX0_read_6 : decode cX0_read 6 = .ok (.invokevirtual 131, 3) := dk_182 0 131 (dk_at dksX0_read_0 6 rfl rfl)
theorem dX0_read_9 : decode cX0_read 9 = .ok (.aload_n 0, 1) := dk_42 (dk_at dksX0_read_0 9 rfl rfl)
theorem dX0_read_10 : decode cX0_read 10 = .ok (.getfield 135, 3) := dk_180 0 135 (dk_at dksX0_read_0 10 rfl rfl)
theorem dX0_read_13 : decode cX0_read 13 = .ok (.istore_n 2, 1) := dk_61 (dk_at dksX0_read_0 13 rfl rfl)
theorem dX0_read_14 : decode cX0_read 14 = .ok (.aload_n 0, 1) := dk_42 (dk_at dksX0_read_0 14 rfl rfl)
theorem dX0_read_15 : decode cX0_read 15 = .ok (.iconst 0, 1) := dk_3 (dk_at dksX0_read_0 15 rfl rfl)
theorem dX0_read_16 : decode cX0_read 16 = .ok (.putfield 135, 3) := dk_181 0 135 (dk_at dksX0_read_0 16 rfl rfl)
theorem dX0_read_19 : decode cX0_read 19 = .ok (.new 44, 3) := dk_187 0 44 (dk_at dksX0_read_0 19 rfl rfl)
theorem dX0_read_22 : decode cX0_read 22 = .ok (.dup, 1) := dk_89 (dk_at dksX0_read_0 22 rfl rfl)
theorem dX0_read_23 : decode cX0_read 23 = .ok (.aload_n 0, 1) := dk_42 (dk_at dksX0_read_0 23 rfl rfl)
theorem dX0_read_24 : decode cX0_read 24 = .ok (.getfield 59, 3) := dk_180 0 59 (dk_at dksX0_read_1 0 rfl rfl)
theorem dX0_read_27 : decode cX0_read 27 = .ok (.aload_n 0, 1) := dk_42 (dk_at dksX0_read_1 3 rfl rfl)
theorem dX0_read_28 : decode cX0_read 28 = .ok (.getfield 50, 3) := dk_180 0 50 (dk_at dksX0_read_1 4 rfl rfl)
theorem dX0_read_31 : decode cX0_read 31 = .ok (.iload_n 2, 1) := dk_28 (dk_at dksX0_read_1 7 rfl rfl)
theorem dX0_read_32 : decode cX0_read 32 = .ok (.invokevirtual 145, 3) := dk_182 0 145 (dk_at dksX0_read_1 8 rfl rfl)
theorem dX0_read_35 : decode cX0_read 35 = .ok (.invokespecial 149, 3) := dk_183 0 149 (dk_at dksX0_read_1 11 rfl rfl)
theorem dX0_read_38 : decode cX0_read 38 = .ok (.astore_n 3, 1) := dk_78 (dk_at dksX0_read_1 14 rfl rfl)
theorem dX0_read_39 : decode cX0_read 39 = .ok (.iconst 0, 1) := dk_3 (dk_at dksX0_read_1 15 rfl rfl)
theorem dX0_read_40 : decode cX0_read 40 = .ok (.istore 4, 2) := dk_54 4 (dk_at dksX0_read_1 16 rfl rfl)
theorem dX0_read_42 : decode cX0_read 42 = .ok (.iload 4, 2) := dk_21 4 (dk_at dksX0_read_1 18 rfl rfl)
theorem dX0_read_44 : decode cX0_read 44 = .ok (.aload_n 3, 1) := dk_45 (dk_at dksX0_read_1 20 rfl rfl)
theorem dX0_read_45 : decode cX0_read 45 = .ok (.getfield 152, 3) := dk_180 0 152 (dk_at dksX0_read_1 21 rfl rfl)
theorem dX0_read_48 : decode cX0_read 48 = .ok (.if_icmp .ge 33, 3) := dk_162 0 33 (dk_at dksX0_read_2 0 rfl rfl)
theorem dX0_read_51 : decode cX0_read 51 = .ok (.aload_n 3, 1) := dk_45 (dk_at dksX0_read_2 3 rfl rfl)
theorem dX0_read_52 : decode cX0_read 52 = .ok (.getfield 155, 3) := dk_180 0 155 (dk_at dksX0_read_2 4 rfl rfl)
theorem dX0_read_55 : decode cX0_read 55 = .ok (.iload 4, 2) := dk_21 4 (dk_at dksX0_read_2 7 rfl rfl)
theorem dX0_read_57 : decode cX0_read 57 = .ok (.aaload, 1) := dk_50 (dk_at dksX0_read_2 9 rfl rfl)
theorem dX0_read_58 : decode cX0_read 58 = .ok (.aload_n 0, 1) := dk_42 (dk_at dksX0_read_2 10 rfl rfl)
theorem dX0_read_59 : decode cX0_read 59 = .ok (.getfield 159, 3) := dk_180 0 159 (dk_at dksX0_read_2 11 rfl rfl)
theorem dX0_read_62 : decode cX0_read 62 = .ok (.putfield 118, 3) := dk_181 0 118 (dk_at dksX0_read_2 14 rfl rfl)
theorem dX0_read_65 : decode cX0_read 65 = .ok (.aload_n 0, 1) := dk_42 (dk_at dksX0_read_2 17 rfl rfl)
theorem dX0_read_66 : decode cX0_read 66 = .ok (.dup, 1) := dk_89 (dk_at dksX0_read_2 18 rfl rfl)
theorem dX0_read_67 : decode cX0_read 67 = .ok (.getfield 159, 3) := dk_180 0 159 (dk_at dksX0_read_2 19 rfl rfl)
theorem dX0_read_70 : decode cX0_read 70 = .ok (.iconst 1, 1) := dk_4 (dk_at dksX0_read_2 22 rfl rfl)
theorem dX0_read_71 : decode cX0_read 71 = .ok (.iadd, 1) := dk_96 (dk_at dksX0_read_2 23 rfl rfl)
theorem dX0_read_72 : decode cX0_read 72 = .ok (.putfield 159, 3) := dk_181 0 159 (dk_at dksX0_read_3 0 rfl rfl)
theorem dX0_read_75 : decode cX0_read 75 = .ok (.iinc 4 1, 3) := dk_132 4 1 (dk_at dksX0_read_3 3 rfl rfl)
theorem dX0_read_78 : decode cX0_read 78 = .ok (.goto (-36), 3) := dk_167 255 220 (dk_at dksX0_read_3 6 rfl rfl)
theorem dX0_read_81 : decode cX0_read 81 = .ok (.aload_n 0, 1) := dk_42 (dk_at dksX0_read_3 9 rfl rfl)
theorem dX0_read_82 : decode cX0_read 82 = .ok (.getfield 46, 3) := dk_180 0 46 (dk_at dksX0_read_3 10 rfl rfl)
theorem dX0_read_85 : decode cX0_read 85 = .ok (.iload_n 1, 1) := dk_27 (dk_at dksX0_read_3 13 rfl rfl)
theorem dX0_read_86 : decode cX0_read 86 = .ok (.aload_n 3, 1) := dk_45 (dk_at dksX0_read_3 14 rfl rfl)
theorem dX0_read_87 : decode cX0_read 87 = .ok (.aastore, 1) := dk_83 (dk_at dksX0_read_3 15 rfl rfl)
theorem dX0_read_88 : decode cX0_read 88 = .ok (.aload_n 3, 1) := dk_45 (dk_at dksX0_read_3 16 rfl rfl)
theorem dX0_read_89 : decode cX0_read 89 = .ok (.getfield 152, 3) := dk_180 0 152 (dk_at dksX0_read_3 17 rfl rfl)
theorem dX0_read_92 : decode cX0_read 92 = .ok (.ireturn, 1) := dk_172 (dk_at dksX0_read_3 20 rfl rfl)
theorem dX0_read_93 : decode cX0_read 93 = .ok (.astore_n 2, 1) := dk_77 (dk_at dksX0_read_3 21 rfl rfl)
theorem dX0_read_94 : decode cX0_read 94 = .ok (.aload_n 0, 1) := dk_42 (dk_at dksX0_read_3 22 rfl rfl)
theorem dX0_read_95 : decode cX0_read 95 = .ok (.aload_n 2, 1) := dk_44 (dk_at dksX0_read_3 23 rfl rfl)
theorem dX0_read_96 : decode cX0_read 96 = .ok (.invokevirtual 138, 3) := dk_182 0 138 (dk_at dksX0_read_4 0 rfl rfl)
theorem dX0_read_99 : decode cX0_read 99 = .ok (.ireturn, 1) := dk_172 (dk_at dksX0_read_4 3 rfl rfl)
abbrev cX0_isPlace : ByteArray := prog_1_method_9_code
def yX0_isPlace : MethodName := ⟨RX0, "isPlace", "(I)Z"⟩
def dkwX0_isPlace_0 : List UInt8 := [26, 155, 0, 13, 26, 16, 8, 162, 0, 7, 4, 167, 0, 4, 3, 172]
abbrev dktX0_isPlace_0 : List UInt8 := dkwX0_isPlace_0 ++ []
theorem dksX0_isPlace_0 : cX0_isPlace.data.toList.drop 0 = dktX0_isPlace_0 := by decide +kernel
theorem dX0_isPlace_0 : decode cX0_isPlace 0 = .ok (.iload_n 0, 1) := dk_26 (dk_at dksX0_isPlace_0 0 rfl rfl)
theorem dX0_isPlace_1 : decode cX0_isPlace 1 = .ok (.ifCond .lt 13, 3) := dk_155 0 13 (dk_at dksX0_isPlace_0 1 rfl rfl)
theorem dX0_isPlace_4 : decode cX0_isPlace 4 = .ok (.iload_n 0, 1) := dk_26 (dk_at dksX0_isPlace_0 4 rfl rfl)
theorem dX0_isPlace_5 : decode cX0_isPlace 5 = .ok (.bipush 8, 2) := dk_16 8 (dk_at dksX0_isPlace_0 5 rfl rfl)
theorem dX0_isPlace_7 : decode cX0_isPlace 7 = .ok (.if_icmp .ge 7, 3) := dk_162 0 7 (dk_at dksX0_isPlace_0 7 rfl rfl)
theorem dX0_isPlace_10 : decode cX0_isPlace 10 = .ok (.iconst 1, 1) := dk_4 (dk_at dksX0_isPlace_0 10 rfl rfl)
theorem dX0_isPlace_11 : decode cX0_isPlace 11 = .ok (.goto 4, 3) := dk_167 0 4 (dk_at dksX0_isPlace_0 11 rfl rfl)
theorem dX0_isPlace_14 : decode cX0_isPlace 14 = .ok (.iconst 0, 1) := dk_3 (dk_at dksX0_isPlace_0 14 rfl rfl)
theorem dX0_isPlace_15 : decode cX0_isPlace 15 = .ok (.ireturn, 1) := dk_172 (dk_at dksX0_isPlace_0 15 rfl rfl)
abbrev cX0_isLetter : ByteArray := prog_1_method_3_code
def yX0_isLetter : MethodName := ⟨RX0, "isLetter", "(I)Z"⟩
def dkwX0_isLetter_0 : List UInt8 := [26, 16, 97, 161, 0, 13, 26, 16, 122, 163, 0, 7, 4, 167, 0, 4, 3, 172]
abbrev dktX0_isLetter_0 : List UInt8 := dkwX0_isLetter_0 ++ []
theorem dksX0_isLetter_0 : cX0_isLetter.data.toList.drop 0 = dktX0_isLetter_0 := by decide +kernel
theorem dX0_isLetter_0 : decode cX0_isLetter 0 = .ok (.iload_n 0, 1) := dk_26 (dk_at dksX0_isLetter_0 0 rfl rfl)
theorem dX0_isLetter_1 : decode cX0_isLetter 1 = .ok (.bipush 97, 2) := dk_16 97 (dk_at dksX0_isLetter_0 1 rfl rfl)
theorem dX0_isLetter_3 : decode cX0_isLetter 3 = .ok (.if_icmp .lt 13, 3) := dk_161 0 13 (dk_at dksX0_isLetter_0 3 rfl rfl)
theorem dX0_isLetter_6 : decode cX0_isLetter 6 = .ok (.iload_n 0, 1) := dk_26 (dk_at dksX0_isLetter_0 6 rfl rfl)
theorem dX0_isLetter_7 : decode cX0_isLetter 7 = .ok (.bipush 122, 2) := dk_16 122 (dk_at dksX0_isLetter_0 7 rfl rfl)
theorem dX0_isLetter_9 : decode cX0_isLetter 9 = .ok (.if_icmp .gt 7, 3) := dk_163 0 7 (dk_at dksX0_isLetter_0 9 rfl rfl)
theorem dX0_isLetter_12 : decode cX0_isLetter 12 = .ok (.iconst 1, 1) := dk_4 (dk_at dksX0_isLetter_0 12 rfl rfl)
theorem dX0_isLetter_13 : decode cX0_isLetter 13 = .ok (.goto 4, 3) := dk_167 0 4 (dk_at dksX0_isLetter_0 13 rfl rfl)
theorem dX0_isLetter_16 : decode cX0_isLetter 16 = .ok (.iconst 0, 1) := dk_3 (dk_at dksX0_isLetter_0 16 rfl rfl)
theorem dX0_isLetter_17 : decode cX0_isLetter 17 = .ok (.ireturn, 1) := dk_172 (dk_at dksX0_isLetter_0 17 rfl rfl)
abbrev cX0_part : ByteArray := prog_1_method_5_code
def yX0_part : MethodName := ⟨RX0, "part", "([BII)[B"⟩
def dkwX0_part_0 : List UInt8 := [28, 27, 100, 188, 8, 78, 42, 27, 45, 3, 28, 27, 100, 184, 0, 22, 45, 176]
abbrev dktX0_part_0 : List UInt8 := dkwX0_part_0 ++ []
theorem dksX0_part_0 : cX0_part.data.toList.drop 0 = dktX0_part_0 := by decide +kernel
theorem dX0_part_0 : decode cX0_part 0 = .ok (.iload_n 2, 1) := dk_28 (dk_at dksX0_part_0 0 rfl rfl)
theorem dX0_part_1 : decode cX0_part 1 = .ok (.iload_n 1, 1) := dk_27 (dk_at dksX0_part_0 1 rfl rfl)
theorem dX0_part_2 : decode cX0_part 2 = .ok (.isub, 1) := dk_100 (dk_at dksX0_part_0 2 rfl rfl)
theorem dX0_part_3 : decode cX0_part 3 = .ok (.newarray .byte, 2) := dk_188_8 (dk_at dksX0_part_0 3 rfl rfl)
theorem dX0_part_5 : decode cX0_part 5 = .ok (.astore_n 3, 1) := dk_78 (dk_at dksX0_part_0 5 rfl rfl)
theorem dX0_part_6 : decode cX0_part 6 = .ok (.aload_n 0, 1) := dk_42 (dk_at dksX0_part_0 6 rfl rfl)
theorem dX0_part_7 : decode cX0_part 7 = .ok (.iload_n 1, 1) := dk_27 (dk_at dksX0_part_0 7 rfl rfl)
theorem dX0_part_8 : decode cX0_part 8 = .ok (.aload_n 3, 1) := dk_45 (dk_at dksX0_part_0 8 rfl rfl)
theorem dX0_part_9 : decode cX0_part 9 = .ok (.iconst 0, 1) := dk_3 (dk_at dksX0_part_0 9 rfl rfl)
theorem dX0_part_10 : decode cX0_part 10 = .ok (.iload_n 2, 1) := dk_28 (dk_at dksX0_part_0 10 rfl rfl)
theorem dX0_part_11 : decode cX0_part 11 = .ok (.iload_n 1, 1) := dk_27 (dk_at dksX0_part_0 11 rfl rfl)
theorem dX0_part_12 : decode cX0_part 12 = .ok (.isub, 1) := dk_100 (dk_at dksX0_part_0 12 rfl rfl)
theorem dX0_part_13 : decode cX0_part 13 = .ok (.invokestatic 22, 3) := dk_184 0 22 (dk_at dksX0_part_0 13 rfl rfl)
theorem dX0_part_16 : decode cX0_part 16 = .ok (.aload_n 3, 1) := dk_45 (dk_at dksX0_part_0 16 rfl rfl)
theorem dX0_part_17 : decode cX0_part 17 = .ok (.areturn, 1) := dk_176 (dk_at dksX0_part_0 17 rfl rfl)
abbrev cX0_isSame : ByteArray := prog_1_method_2_code
def yX0_isSame : MethodName := ⟨RX0, "isSame", "([B[B)Z"⟩
def dkwX0_isSame_2 : List UInt8 := [28, 172]
abbrev dktX0_isSame_2 : List UInt8 := dkwX0_isSame_2 ++ []
def dkwX0_isSame_1 : List UInt8 := [153, 0, 24, 42, 29, 51, 43, 29, 51, 160, 0, 7, 4, 167, 0, 4, 3, 61, 132, 3, 1, 167, 255, 228]
abbrev dktX0_isSame_1 : List UInt8 := dkwX0_isSame_1 ++ dktX0_isSame_2
def dkwX0_isSame_0 : List UInt8 := [42, 190, 43, 190, 160, 0, 7, 4, 167, 0, 4, 3, 61, 3, 62, 29, 42, 190, 162, 0, 28, 28]
abbrev dktX0_isSame_0 : List UInt8 := dkwX0_isSame_0 ++ dktX0_isSame_1
theorem dksX0_isSame_0 : cX0_isSame.data.toList.drop 0 = dktX0_isSame_0 := by decide +kernel
theorem dksX0_isSame_1 : cX0_isSame.data.toList.drop 22 = dktX0_isSame_1 := dk_seg dksX0_isSame_0 22 rfl rfl
theorem dksX0_isSame_2 : cX0_isSame.data.toList.drop 46 = dktX0_isSame_2 := dk_seg dksX0_isSame_1 24 rfl rfl
theorem dX0_isSame_0 : decode cX0_isSame 0 = .ok (.aload_n 0, 1) := dk_42 (dk_at dksX0_isSame_0 0 rfl rfl)
theorem dX0_isSame_1 : decode cX0_isSame 1 = .ok (.arraylength, 1) := dk_190 (dk_at dksX0_isSame_0 1 rfl rfl)
theorem dX0_isSame_2 : decode cX0_isSame 2 = .ok (.aload_n 1, 1) := dk_43 (dk_at dksX0_isSame_0 2 rfl rfl)
theorem dX0_isSame_3 : decode cX0_isSame 3 = .ok (.arraylength, 1) := dk_190 (dk_at dksX0_isSame_0 3 rfl rfl)
theorem dX0_isSame_4 : decode cX0_isSame 4 = .ok (.if_icmp .ne 7, 3) := dk_160 0 7 (dk_at dksX0_isSame_0 4 rfl rfl)
theorem dX0_isSame_7 : decode cX0_isSame 7 = .ok (.iconst 1, 1) := dk_4 (dk_at dksX0_isSame_0 7 rfl rfl)
theorem dX0_isSame_8 : decode cX0_isSame 8 = .ok (.goto 4, 3) := dk_167 0 4 (dk_at dksX0_isSame_0 8 rfl rfl)
theorem dX0_isSame_11 : decode cX0_isSame 11 = .ok (.iconst 0, 1) := dk_3 (dk_at dksX0_isSame_0 11 rfl rfl)
theorem dX0_isSame_12 : decode cX0_isSame 12 = .ok (.istore_n 2, 1) := dk_61 (dk_at dksX0_isSame_0 12 rfl rfl)
theorem dX0_isSame_13 : decode cX0_isSame 13 = .ok (.iconst 0, 1) := dk_3 (dk_at dksX0_isSame_0 13 rfl rfl)
theorem dX0_isSame_14 : decode cX0_isSame 14 = .ok (.istore_n 3, 1) := dk_62 (dk_at dksX0_isSame_0 14 rfl rfl)
theorem dX0_isSame_15 : decode cX0_isSame 15 = .ok (.iload_n 3, 1) := dk_29 (dk_at dksX0_isSame_0 15 rfl rfl)
theorem dX0_isSame_16 : decode cX0_isSame 16 = .ok (.aload_n 0, 1) := dk_42 (dk_at dksX0_isSame_0 16 rfl rfl)
theorem dX0_isSame_17 : decode cX0_isSame 17 = .ok (.arraylength, 1) := dk_190 (dk_at dksX0_isSame_0 17 rfl rfl)
theorem dX0_isSame_18 : decode cX0_isSame 18 = .ok (.if_icmp .ge 28, 3) := dk_162 0 28 (dk_at dksX0_isSame_0 18 rfl rfl)
theorem dX0_isSame_21 : decode cX0_isSame 21 = .ok (.iload_n 2, 1) := dk_28 (dk_at dksX0_isSame_0 21 rfl rfl)
theorem dX0_isSame_22 : decode cX0_isSame 22 = .ok (.ifCond .eq 24, 3) := dk_153 0 24 (dk_at dksX0_isSame_1 0 rfl rfl)
theorem dX0_isSame_25 : decode cX0_isSame 25 = .ok (.aload_n 0, 1) := dk_42 (dk_at dksX0_isSame_1 3 rfl rfl)
theorem dX0_isSame_26 : decode cX0_isSame 26 = .ok (.iload_n 3, 1) := dk_29 (dk_at dksX0_isSame_1 4 rfl rfl)
theorem dX0_isSame_27 : decode cX0_isSame 27 = .ok (.baload, 1) := dk_51 (dk_at dksX0_isSame_1 5 rfl rfl)
theorem dX0_isSame_28 : decode cX0_isSame 28 = .ok (.aload_n 1, 1) := dk_43 (dk_at dksX0_isSame_1 6 rfl rfl)
theorem dX0_isSame_29 : decode cX0_isSame 29 = .ok (.iload_n 3, 1) := dk_29 (dk_at dksX0_isSame_1 7 rfl rfl)
theorem dX0_isSame_30 : decode cX0_isSame 30 = .ok (.baload, 1) := dk_51 (dk_at dksX0_isSame_1 8 rfl rfl)
theorem dX0_isSame_31 : decode cX0_isSame 31 = .ok (.if_icmp .ne 7, 3) := dk_160 0 7 (dk_at dksX0_isSame_1 9 rfl rfl)
theorem dX0_isSame_34 : decode cX0_isSame 34 = .ok (.iconst 1, 1) := dk_4 (dk_at dksX0_isSame_1 12 rfl rfl)
theorem dX0_isSame_35 : decode cX0_isSame 35 = .ok (.goto 4, 3) := dk_167 0 4 (dk_at dksX0_isSame_1 13 rfl rfl)
theorem dX0_isSame_38 : decode cX0_isSame 38 = .ok (.iconst 0, 1) := dk_3 (dk_at dksX0_isSame_1 16 rfl rfl)
theorem dX0_isSame_39 : decode cX0_isSame 39 = .ok (.istore_n 2, 1) := dk_61 (dk_at dksX0_isSame_1 17 rfl rfl)
theorem dX0_isSame_40 : decode cX0_isSame 40 = .ok (.iinc 3 1, 3) := dk_132 3 1 (dk_at dksX0_isSame_1 18 rfl rfl)
theorem dX0_isSame_43 : decode cX0_isSame 43 = .ok (.goto (-28), 3) := dk_167 255 228 (dk_at dksX0_isSame_1 21 rfl rfl)
theorem dX0_isSame_46 : decode cX0_isSame 46 = .ok (.iload_n 2, 1) := dk_28 (dk_at dksX0_isSame_2 0 rfl rfl)
theorem dX0_isSame_47 : decode cX0_isSame 47 = .ok (.ireturn, 1) := dk_172 (dk_at dksX0_isSame_2 1 rfl rfl)
abbrev cX0_isSign : ByteArray := prog_1_method_4_code
def yX0_isSign : MethodName := ⟨RX0, "isSign", "(I)Z"⟩
def dkwX0_isSign_1 : List UInt8 := [172]
abbrev dktX0_isSign_1 : List UInt8 := dkwX0_isSign_1 ++ []
def dkwX0_isSign_0 : List UInt8 := [26, 184, 0, 16, 154, 0, 15, 26, 16, 48, 161, 0, 13, 26, 16, 57, 163, 0, 7, 4, 167, 0, 4, 3]
abbrev dktX0_isSign_0 : List UInt8 := dkwX0_isSign_0 ++ dktX0_isSign_1
theorem dksX0_isSign_0 : cX0_isSign.data.toList.drop 0 = dktX0_isSign_0 := by decide +kernel
theorem dksX0_isSign_1 : cX0_isSign.data.toList.drop 24 = dktX0_isSign_1 := dk_seg dksX0_isSign_0 24 rfl rfl
theorem dX0_isSign_0 : decode cX0_isSign 0 = .ok (.iload_n 0, 1) := dk_26 (dk_at dksX0_isSign_0 0 rfl rfl)
theorem dX0_isSign_1 : decode cX0_isSign 1 = .ok (.invokestatic 16, 3) := dk_184 0 16 (dk_at dksX0_isSign_0 1 rfl rfl)
theorem dX0_isSign_4 : decode cX0_isSign 4 = .ok (.ifCond .ne 15, 3) := dk_154 0 15 (dk_at dksX0_isSign_0 4 rfl rfl)
theorem dX0_isSign_7 : decode cX0_isSign 7 = .ok (.iload_n 0, 1) := dk_26 (dk_at dksX0_isSign_0 7 rfl rfl)
theorem dX0_isSign_8 : decode cX0_isSign 8 = .ok (.bipush 48, 2) := dk_16 48 (dk_at dksX0_isSign_0 8 rfl rfl)
theorem dX0_isSign_10 : decode cX0_isSign 10 = .ok (.if_icmp .lt 13, 3) := dk_161 0 13 (dk_at dksX0_isSign_0 10 rfl rfl)
theorem dX0_isSign_13 : decode cX0_isSign 13 = .ok (.iload_n 0, 1) := dk_26 (dk_at dksX0_isSign_0 13 rfl rfl)
theorem dX0_isSign_14 : decode cX0_isSign 14 = .ok (.bipush 57, 2) := dk_16 57 (dk_at dksX0_isSign_0 14 rfl rfl)
theorem dX0_isSign_16 : decode cX0_isSign 16 = .ok (.if_icmp .gt 7, 3) := dk_163 0 7 (dk_at dksX0_isSign_0 16 rfl rfl)
theorem dX0_isSign_19 : decode cX0_isSign 19 = .ok (.iconst 1, 1) := dk_4 (dk_at dksX0_isSign_0 19 rfl rfl)
theorem dX0_isSign_20 : decode cX0_isSign 20 = .ok (.goto 4, 3) := dk_167 0 4 (dk_at dksX0_isSign_0 20 rfl rfl)
theorem dX0_isSign_23 : decode cX0_isSign 23 = .ok (.iconst 0, 1) := dk_3 (dk_at dksX0_isSign_0 23 rfl rfl)
theorem dX0_isSign_24 : decode cX0_isSign 24 = .ok (.ireturn, 1) := dk_172 (dk_at dksX0_isSign_1 0 rfl rfl)
abbrev cX0_made : ByteArray := prog_1_method_1_code
def yX0_made : MethodName := ⟨RX0, "made", "(II[B[B)LBranchMender$Node;"⟩
def dkwX0_made_3 : List UInt8 := [187, 0, 10, 89, 27, 44, 45, 183, 0, 12, 176, 187, 0, 13, 89, 27, 44, 45, 183, 0, 15, 176]
abbrev dktX0_made_3 : List UInt8 := dkwX0_made_3 ++ []
def dkwX0_made_2 : List UInt8 := [187, 0, 1, 89, 27, 44, 45, 183, 0, 3, 176, 187, 0, 7, 89, 27, 44, 45, 183, 0, 9, 176]
abbrev dktX0_made_2 : List UInt8 := dkwX0_made_2 ++ dktX0_made_3
def dkwX0_made_1 : List UInt8 := [170, 0, 0, 0, 0, 0, 60, 0, 0, 0, 0, 0, 0, 0, 2, 0, 0, 0, 27, 0, 0, 0, 38, 0, 0, 0, 49]
abbrev dktX0_made_1 : List UInt8 := dkwX0_made_1 ++ dktX0_made_2
def dkwX0_made_0 : List UInt8 := [26]
abbrev dktX0_made_0 : List UInt8 := dkwX0_made_0 ++ dktX0_made_1
theorem dksX0_made_0 : cX0_made.data.toList.drop 0 = dktX0_made_0 := by decide +kernel
theorem dksX0_made_1 : cX0_made.data.toList.drop 1 = dktX0_made_1 := dk_seg dksX0_made_0 1 rfl rfl
theorem dksX0_made_2 : cX0_made.data.toList.drop 28 = dktX0_made_2 := dk_seg dksX0_made_1 27 rfl rfl
theorem dksX0_made_3 : cX0_made.data.toList.drop 50 = dktX0_made_3 := dk_seg dksX0_made_2 22 rfl rfl
theorem dX0_made_0 : decode cX0_made 0 = .ok (.iload_n 0, 1) := dk_26 (dk_at dksX0_made_0 0 rfl rfl)
theorem dX0_made_1 : decode cX0_made 1 = .ok (.tableswitch 60 0 2 #[27, 38, 49], 27) := by decide +kernel
theorem dX0_made_28 : decode cX0_made 28 = .ok (.new 1, 3) := dk_187 0 1 (dk_at dksX0_made_2 0 rfl rfl)
theorem dX0_made_31 : decode cX0_made 31 = .ok (.dup, 1) := dk_89 (dk_at dksX0_made_2 3 rfl rfl)
theorem dX0_made_32 : decode cX0_made 32 = .ok (.iload_n 1, 1) := dk_27 (dk_at dksX0_made_2 4 rfl rfl)
theorem dX0_made_33 : decode cX0_made 33 = .ok (.aload_n 2, 1) := dk_44 (dk_at dksX0_made_2 5 rfl rfl)
theorem dX0_made_34 : decode cX0_made 34 = .ok (.aload_n 3, 1) := dk_45 (dk_at dksX0_made_2 6 rfl rfl)
theorem dX0_made_35 : decode cX0_made 35 = .ok (.invokespecial 3, 3) := dk_183 0 3 (dk_at dksX0_made_2 7 rfl rfl)
theorem dX0_made_38 : decode cX0_made 38 = .ok (.areturn, 1) := dk_176 (dk_at dksX0_made_2 10 rfl rfl)
theorem dX0_made_39 : decode cX0_made 39 = .ok (.new 7, 3) := dk_187 0 7 (dk_at dksX0_made_2 11 rfl rfl)
theorem dX0_made_42 : decode cX0_made 42 = .ok (.dup, 1) := dk_89 (dk_at dksX0_made_2 14 rfl rfl)
theorem dX0_made_43 : decode cX0_made 43 = .ok (.iload_n 1, 1) := dk_27 (dk_at dksX0_made_2 15 rfl rfl)
theorem dX0_made_44 : decode cX0_made 44 = .ok (.aload_n 2, 1) := dk_44 (dk_at dksX0_made_2 16 rfl rfl)
theorem dX0_made_45 : decode cX0_made 45 = .ok (.aload_n 3, 1) := dk_45 (dk_at dksX0_made_2 17 rfl rfl)
theorem dX0_made_46 : decode cX0_made 46 = .ok (.invokespecial 9, 3) := dk_183 0 9 (dk_at dksX0_made_2 18 rfl rfl)
theorem dX0_made_49 : decode cX0_made 49 = .ok (.areturn, 1) := dk_176 (dk_at dksX0_made_2 21 rfl rfl)
theorem dX0_made_50 : decode cX0_made 50 = .ok (.new 10, 3) := dk_187 0 10 (dk_at dksX0_made_3 0 rfl rfl)
theorem dX0_made_53 : decode cX0_made 53 = .ok (.dup, 1) := dk_89 (dk_at dksX0_made_3 3 rfl rfl)
theorem dX0_made_54 : decode cX0_made 54 = .ok (.iload_n 1, 1) := dk_27 (dk_at dksX0_made_3 4 rfl rfl)
theorem dX0_made_55 : decode cX0_made 55 = .ok (.aload_n 2, 1) := dk_44 (dk_at dksX0_made_3 5 rfl rfl)
theorem dX0_made_56 : decode cX0_made 56 = .ok (.aload_n 3, 1) := dk_45 (dk_at dksX0_made_3 6 rfl rfl)
theorem dX0_made_57 : decode cX0_made 57 = .ok (.invokespecial 12, 3) := dk_183 0 12 (dk_at dksX0_made_3 7 rfl rfl)
theorem dX0_made_60 : decode cX0_made 60 = .ok (.areturn, 1) := dk_176 (dk_at dksX0_made_3 10 rfl rfl)
theorem dX0_made_61 : decode cX0_made 61 = .ok (.new 13, 3) := dk_187 0 13 (dk_at dksX0_made_3 11 rfl rfl)
theorem dX0_made_64 : decode cX0_made 64 = .ok (.dup, 1) := dk_89 (dk_at dksX0_made_3 14 rfl rfl)
theorem dX0_made_65 : decode cX0_made 65 = .ok (.iload_n 1, 1) := dk_27 (dk_at dksX0_made_3 15 rfl rfl)
theorem dX0_made_66 : decode cX0_made 66 = .ok (.aload_n 2, 1) := dk_44 (dk_at dksX0_made_3 16 rfl rfl)
theorem dX0_made_67 : decode cX0_made 67 = .ok (.aload_n 3, 1) := dk_45 (dk_at dksX0_made_3 17 rfl rfl)
theorem dX0_made_68 : decode cX0_made 68 = .ok (.invokespecial 15, 3) := dk_183 0 15 (dk_at dksX0_made_3 18 rfl rfl)
theorem dX0_made_71 : decode cX0_made 71 = .ok (.areturn, 1) := dk_176 (dk_at dksX0_made_3 21 rfl rfl)
abbrev cX0_write : ByteArray := prog_1_method_14_code
def yX0_write : MethodName := ⟨RX0, "write", "(I)I"⟩
def dkwX0_write_1 : List UInt8 := [182, 0, 167, 42, 180, 0, 66, 180, 0, 166, 172, 77, 42, 44, 182, 0, 138, 172]
abbrev dktX0_write_1 : List UInt8 := dkwX0_write_1 ++ []
def dkwX0_write_0 : List UInt8 := [42, 27, 182, 0, 162, 77, 42, 180, 0, 66, 3, 181, 0, 166, 42, 180, 0, 66, 44, 180, 0, 114]
abbrev dktX0_write_0 : List UInt8 := dkwX0_write_0 ++ dktX0_write_1
theorem dksX0_write_0 : cX0_write.data.toList.drop 0 = dktX0_write_0 := by decide +kernel
theorem dksX0_write_1 : cX0_write.data.toList.drop 22 = dktX0_write_1 := dk_seg dksX0_write_0 22 rfl rfl
theorem dX0_write_0 : decode cX0_write 0 = .ok (.aload_n 0, 1) := dk_42 (dk_at dksX0_write_0 0 rfl rfl)
theorem dX0_write_1 : decode cX0_write 1 = .ok (.iload_n 1, 1) := dk_27 (dk_at dksX0_write_0 1 rfl rfl)
theorem dX0_write_2 : decode cX0_write 2 = .ok (.invokevirtual 162, 3) := dk_182 0 162 (dk_at dksX0_write_0 2 rfl rfl)
theorem dX0_write_5 : decode cX0_write 5 = .ok (.astore_n 2, 1) := dk_77 (dk_at dksX0_write_0 5 rfl rfl)
theorem dX0_write_6 : decode cX0_write 6 = .ok (.aload_n 0, 1) := dk_42 (dk_at dksX0_write_0 6 rfl rfl)
theorem dX0_write_7 : decode cX0_write 7 = .ok (.getfield 66, 3) := dk_180 0 66 (dk_at dksX0_write_0 7 rfl rfl)
theorem dX0_write_10 : decode cX0_write 10 = .ok (.iconst 0, 1) := dk_3 (dk_at dksX0_write_0 10 rfl rfl)
theorem dX0_write_11 : decode cX0_write 11 = .ok (.putfield 166, 3) := dk_181 0 166 (dk_at dksX0_write_0 11 rfl rfl)
theorem dX0_write_14 : decode cX0_write 14 = .ok (.aload_n 0, 1) := dk_42 (dk_at dksX0_write_0 14 rfl rfl)
theorem dX0_write_15 : decode cX0_write 15 = .ok (.getfield 66, 3) := dk_180 0 66 (dk_at dksX0_write_0 15 rfl rfl)
theorem dX0_write_18 : decode cX0_write 18 = .ok (.aload_n 2, 1) := dk_44 (dk_at dksX0_write_0 18 rfl rfl)
theorem dX0_write_19 : decode cX0_write 19 = .ok (.getfield 114, 3) := dk_180 0 114 (dk_at dksX0_write_0 19 rfl rfl)
theorem dX0_write_22 : decode cX0_write 22 = .ok (.invokevirtual 167, 3) := dk_182 0 167 (dk_at dksX0_write_1 0 rfl rfl)
theorem dX0_write_25 : decode cX0_write 25 = .ok (.aload_n 0, 1) := dk_42 (dk_at dksX0_write_1 3 rfl rfl)
theorem dX0_write_26 : decode cX0_write 26 = .ok (.getfield 66, 3) := dk_180 0 66 (dk_at dksX0_write_1 4 rfl rfl)
theorem dX0_write_29 : decode cX0_write 29 = .ok (.getfield 166, 3) := dk_180 0 166 (dk_at dksX0_write_1 7 rfl rfl)
theorem dX0_write_32 : decode cX0_write 32 = .ok (.ireturn, 1) := dk_172 (dk_at dksX0_write_1 10 rfl rfl)
theorem dX0_write_33 : decode cX0_write 33 = .ok (.astore_n 2, 1) := dk_77 (dk_at dksX0_write_1 11 rfl rfl)
theorem dX0_write_34 : decode cX0_write 34 = .ok (.aload_n 0, 1) := dk_42 (dk_at dksX0_write_1 12 rfl rfl)
theorem dX0_write_35 : decode cX0_write 35 = .ok (.aload_n 2, 1) := dk_44 (dk_at dksX0_write_1 13 rfl rfl)
theorem dX0_write_36 : decode cX0_write 36 = .ok (.invokevirtual 138, 3) := dk_182 0 138 (dk_at dksX0_write_1 14 rfl rfl)
theorem dX0_write_39 : decode cX0_write 39 = .ok (.ireturn, 1) := dk_172 (dk_at dksX0_write_1 17 rfl rfl)
abbrev cX0_tree : ByteArray := prog_1_method_10_code
def yX0_tree : MethodName := ⟨RX0, "tree", "(I)LBranchMender$Tree;"⟩
def dkwX0_tree_1 : List UInt8 := [180, 0, 36, 2, 182, 0, 106, 191, 77, 42, 180, 0, 36, 16, 254, 182, 0, 106, 191]
abbrev dktX0_tree_1 : List UInt8 := dkwX0_tree_1 ++ []
def dkwX0_tree_0 : List UInt8 := [42, 180, 0, 46, 27, 50, 77, 44, 180, 0, 114, 89, 180, 0, 118, 3, 96, 181, 0, 118, 44, 176, 77, 42]
abbrev dktX0_tree_0 : List UInt8 := dkwX0_tree_0 ++ dktX0_tree_1
theorem dksX0_tree_0 : cX0_tree.data.toList.drop 0 = dktX0_tree_0 := by decide +kernel
theorem dksX0_tree_1 : cX0_tree.data.toList.drop 24 = dktX0_tree_1 := dk_seg dksX0_tree_0 24 rfl rfl
theorem dX0_tree_0 : decode cX0_tree 0 = .ok (.aload_n 0, 1) := dk_42 (dk_at dksX0_tree_0 0 rfl rfl)
theorem dX0_tree_1 : decode cX0_tree 1 = .ok (.getfield 46, 3) := dk_180 0 46 (dk_at dksX0_tree_0 1 rfl rfl)
theorem dX0_tree_4 : decode cX0_tree 4 = .ok (.iload_n 1, 1) := dk_27 (dk_at dksX0_tree_0 4 rfl rfl)
theorem dX0_tree_5 : decode cX0_tree 5 = .ok (.aaload, 1) := dk_50 (dk_at dksX0_tree_0 5 rfl rfl)
theorem dX0_tree_6 : decode cX0_tree 6 = .ok (.astore_n 2, 1) := dk_77 (dk_at dksX0_tree_0 6 rfl rfl)
theorem dX0_tree_7 : decode cX0_tree 7 = .ok (.aload_n 2, 1) := dk_44 (dk_at dksX0_tree_0 7 rfl rfl)
theorem dX0_tree_8 : decode cX0_tree 8 = .ok (.getfield 114, 3) := dk_180 0 114 (dk_at dksX0_tree_0 8 rfl rfl)
theorem dX0_tree_11 : decode cX0_tree 11 = .ok (.dup, 1) := dk_89 (dk_at dksX0_tree_0 11 rfl rfl)
theorem dX0_tree_12 : decode cX0_tree 12 = .ok (.getfield 118, 3) := dk_180 0 118 (dk_at dksX0_tree_0 12 rfl rfl)
theorem dX0_tree_15 : decode cX0_tree 15 = .ok (.iconst 0, 1) := dk_3 (dk_at dksX0_tree_0 15 rfl rfl)
theorem dX0_tree_16 : decode cX0_tree 16 = .ok (.iadd, 1) := dk_96 (dk_at dksX0_tree_0 16 rfl rfl)
theorem dX0_tree_17 : decode cX0_tree 17 = .ok (.putfield 118, 3) := dk_181 0 118 (dk_at dksX0_tree_0 17 rfl rfl)
theorem dX0_tree_20 : decode cX0_tree 20 = .ok (.aload_n 2, 1) := dk_44 (dk_at dksX0_tree_0 20 rfl rfl)
theorem dX0_tree_21 : decode cX0_tree 21 = .ok (.areturn, 1) := dk_176 (dk_at dksX0_tree_0 21 rfl rfl)
theorem dX0_tree_22 : decode cX0_tree 22 = .ok (.astore_n 2, 1) := dk_77 (dk_at dksX0_tree_0 22 rfl rfl)
theorem dX0_tree_23 : decode cX0_tree 23 = .ok (.aload_n 0, 1) := dk_42 (dk_at dksX0_tree_0 23 rfl rfl)
theorem dX0_tree_24 : decode cX0_tree 24 = .ok (.getfield 36, 3) := dk_180 0 36 (dk_at dksX0_tree_1 0 rfl rfl)
theorem dX0_tree_27 : decode cX0_tree 27 = .ok (.iconst (-1), 1) := dk_2 (dk_at dksX0_tree_1 3 rfl rfl)
theorem dX0_tree_28 : decode cX0_tree 28 = .ok (.invokevirtual 106, 3) := dk_182 0 106 (dk_at dksX0_tree_1 4 rfl rfl)
theorem dX0_tree_31 : decode cX0_tree 31 = .ok (.athrow, 1) := dk_191 (dk_at dksX0_tree_1 7 rfl rfl)
theorem dX0_tree_32 : decode cX0_tree 32 = .ok (.astore_n 2, 1) := dk_77 (dk_at dksX0_tree_1 8 rfl rfl)
theorem dX0_tree_33 : decode cX0_tree 33 = .ok (.aload_n 0, 1) := dk_42 (dk_at dksX0_tree_1 9 rfl rfl)
theorem dX0_tree_34 : decode cX0_tree 34 = .ok (.getfield 36, 3) := dk_180 0 36 (dk_at dksX0_tree_1 10 rfl rfl)
theorem dX0_tree_37 : decode cX0_tree 37 = .ok (.bipush (-2), 2) := dk_16 254 (dk_at dksX0_tree_1 13 rfl rfl)
theorem dX0_tree_39 : decode cX0_tree 39 = .ok (.invokevirtual 106, 3) := dk_182 0 106 (dk_at dksX0_tree_1 15 rfl rfl)
theorem dX0_tree_42 : decode cX0_tree 42 = .ok (.athrow, 1) := dk_191 (dk_at dksX0_tree_1 18 rfl rfl)
abbrev cX0_letter : ByteArray := prog_1_method_15_code
def yX0_letter : MethodName := ⟨RX0, "letter", "(I)I"⟩
def dkwX0_letter_1 : List UInt8 := [167, 0, 4, 2, 172]
abbrev dktX0_letter_1 : List UInt8 := dkwX0_letter_1 ++ []
def dkwX0_letter_0 : List UInt8 := [27, 155, 0, 26, 27, 42, 180, 0, 66, 180, 0, 166, 162, 0, 15, 42, 180, 0, 66, 180, 0, 170, 27, 51]
abbrev dktX0_letter_0 : List UInt8 := dkwX0_letter_0 ++ dktX0_letter_1
theorem dksX0_letter_0 : cX0_letter.data.toList.drop 0 = dktX0_letter_0 := by decide +kernel
theorem dksX0_letter_1 : cX0_letter.data.toList.drop 24 = dktX0_letter_1 := dk_seg dksX0_letter_0 24 rfl rfl
theorem dX0_letter_0 : decode cX0_letter 0 = .ok (.iload_n 1, 1) := dk_27 (dk_at dksX0_letter_0 0 rfl rfl)
theorem dX0_letter_1 : decode cX0_letter 1 = .ok (.ifCond .lt 26, 3) := dk_155 0 26 (dk_at dksX0_letter_0 1 rfl rfl)
theorem dX0_letter_4 : decode cX0_letter 4 = .ok (.iload_n 1, 1) := dk_27 (dk_at dksX0_letter_0 4 rfl rfl)
theorem dX0_letter_5 : decode cX0_letter 5 = .ok (.aload_n 0, 1) := dk_42 (dk_at dksX0_letter_0 5 rfl rfl)
theorem dX0_letter_6 : decode cX0_letter 6 = .ok (.getfield 66, 3) := dk_180 0 66 (dk_at dksX0_letter_0 6 rfl rfl)
theorem dX0_letter_9 : decode cX0_letter 9 = .ok (.getfield 166, 3) := dk_180 0 166 (dk_at dksX0_letter_0 9 rfl rfl)
theorem dX0_letter_12 : decode cX0_letter 12 = .ok (.if_icmp .ge 15, 3) := dk_162 0 15 (dk_at dksX0_letter_0 12 rfl rfl)
theorem dX0_letter_15 : decode cX0_letter 15 = .ok (.aload_n 0, 1) := dk_42 (dk_at dksX0_letter_0 15 rfl rfl)
theorem dX0_letter_16 : decode cX0_letter 16 = .ok (.getfield 66, 3) := dk_180 0 66 (dk_at dksX0_letter_0 16 rfl rfl)
theorem dX0_letter_19 : decode cX0_letter 19 = .ok (.getfield 170, 3) := dk_180 0 170 (dk_at dksX0_letter_0 19 rfl rfl)
theorem dX0_letter_22 : decode cX0_letter 22 = .ok (.iload_n 1, 1) := dk_27 (dk_at dksX0_letter_0 22 rfl rfl)
theorem dX0_letter_23 : decode cX0_letter 23 = .ok (.baload, 1) := dk_51 (dk_at dksX0_letter_0 23 rfl rfl)
theorem dX0_letter_24 : decode cX0_letter 24 = .ok (.goto 4, 3) := dk_167 0 4 (dk_at dksX0_letter_1 0 rfl rfl)
theorem dX0_letter_27 : decode cX0_letter 27 = .ok (.iconst (-1), 1) := dk_2 (dk_at dksX0_letter_1 3 rfl rfl)
theorem dX0_letter_28 : decode cX0_letter 28 = .ok (.ireturn, 1) := dk_172 (dk_at dksX0_letter_1 4 rfl rfl)
abbrev cX0_copy : ByteArray := prog_1_method_16_code
def yX0_copy : MethodName := ⟨RX0, "copy", "(II)I"⟩
def dkwX0_copy_1 : List UInt8 := [83, 45, 180, 0, 152, 172, 78, 42, 45, 182, 0, 138, 172]
abbrev dktX0_copy_1 : List UInt8 := dkwX0_copy_1 ++ []
def dkwX0_copy_0 : List UInt8 := [42, 27, 182, 0, 162, 78, 42, 28, 184, 0, 142, 2, 182, 0, 131, 42, 180, 0, 46, 28, 45, 182, 0, 173]
abbrev dktX0_copy_0 : List UInt8 := dkwX0_copy_0 ++ dktX0_copy_1
theorem dksX0_copy_0 : cX0_copy.data.toList.drop 0 = dktX0_copy_0 := by decide +kernel
theorem dksX0_copy_1 : cX0_copy.data.toList.drop 24 = dktX0_copy_1 := dk_seg dksX0_copy_0 24 rfl rfl
theorem dX0_copy_0 : decode cX0_copy 0 = .ok (.aload_n 0, 1) := dk_42 (dk_at dksX0_copy_0 0 rfl rfl)
theorem dX0_copy_1 : decode cX0_copy 1 = .ok (.iload_n 1, 1) := dk_27 (dk_at dksX0_copy_0 1 rfl rfl)
theorem dX0_copy_2 : decode cX0_copy 2 = .ok (.invokevirtual 162, 3) := dk_182 0 162 (dk_at dksX0_copy_0 2 rfl rfl)
theorem dX0_copy_5 : decode cX0_copy 5 = .ok (.astore_n 3, 1) := dk_78 (dk_at dksX0_copy_0 5 rfl rfl)
theorem dX0_copy_6 : decode cX0_copy 6 = .ok (.aload_n 0, 1) := dk_42 (dk_at dksX0_copy_0 6 rfl rfl)
theorem dX0_copy_7 : decode cX0_copy 7 = .ok (.iload_n 2, 1) := dk_28 (dk_at dksX0_copy_0 7 rfl rfl)
theorem dX0_copy_8 : decode cX0_copy 8 = .ok (.invokestatic 142, 3) := dk_184 0 142 (dk_at dksX0_copy_0 8 rfl rfl)
theorem dX0_copy_11 : decode cX0_copy 11 = .ok (.iconst (-1), 1) := dk_2 (dk_at dksX0_copy_0 11 rfl rfl)
theorem dX0_copy_12 : decode cX0_copy 12 = .ok (.invokevirtual 131, 3) := dk_182 0 131 (dk_at dksX0_copy_0 12 rfl rfl)
theorem dX0_copy_15 : decode cX0_copy 15 = .ok (.aload_n 0, 1) := dk_42 (dk_at dksX0_copy_0 15 rfl rfl)
theorem dX0_copy_16 : decode cX0_copy 16 = .ok (.getfield 46, 3) := dk_180 0 46 (dk_at dksX0_copy_0 16 rfl rfl)
theorem dX0_copy_19 : decode cX0_copy 19 = .ok (.iload_n 2, 1) := dk_28 (dk_at dksX0_copy_0 19 rfl rfl)
theorem dX0_copy_20 : decode cX0_copy 20 = .ok (.aload_n 3, 1) := dk_45 (dk_at dksX0_copy_0 20 rfl rfl)
theorem dX0_copy_21 : decode cX0_copy 21 = .ok (.invokevirtual 173, 3) := dk_182 0 173 (dk_at dksX0_copy_0 21 rfl rfl)
theorem dX0_copy_24 : decode cX0_copy 24 = .ok (.aastore, 1) := dk_83 (dk_at dksX0_copy_1 0 rfl rfl)
theorem dX0_copy_25 : decode cX0_copy 25 = .ok (.aload_n 3, 1) := dk_45 (dk_at dksX0_copy_1 1 rfl rfl)
theorem dX0_copy_26 : decode cX0_copy 26 = .ok (.getfield 152, 3) := dk_180 0 152 (dk_at dksX0_copy_1 2 rfl rfl)
theorem dX0_copy_29 : decode cX0_copy 29 = .ok (.ireturn, 1) := dk_172 (dk_at dksX0_copy_1 5 rfl rfl)
theorem dX0_copy_30 : decode cX0_copy 30 = .ok (.astore_n 3, 1) := dk_78 (dk_at dksX0_copy_1 6 rfl rfl)
theorem dX0_copy_31 : decode cX0_copy 31 = .ok (.aload_n 0, 1) := dk_42 (dk_at dksX0_copy_1 7 rfl rfl)
theorem dX0_copy_32 : decode cX0_copy 32 = .ok (.aload_n 3, 1) := dk_45 (dk_at dksX0_copy_1 8 rfl rfl)
theorem dX0_copy_33 : decode cX0_copy 33 = .ok (.invokevirtual 138, 3) := dk_182 0 138 (dk_at dksX0_copy_1 9 rfl rfl)
theorem dX0_copy_36 : decode cX0_copy 36 = .ok (.ireturn, 1) := dk_172 (dk_at dksX0_copy_1 12 rfl rfl)
abbrev cX0_clear : ByteArray := prog_1_method_17_code
def yX0_clear : MethodName := ⟨RX0, "clear", "(I)I"⟩
def dkwX0_clear_1 : List UInt8 := [42, 180, 0, 46, 27, 1, 83, 28, 172, 77, 42, 44, 182, 0, 138, 172]
abbrev dktX0_clear_1 : List UInt8 := dkwX0_clear_1 ++ []
def dkwX0_clear_0 : List UInt8 := [42, 27, 184, 0, 142, 2, 182, 0, 131, 42, 180, 0, 46, 27, 50, 199, 0, 7, 3, 167, 0, 4, 4, 61]
abbrev dktX0_clear_0 : List UInt8 := dkwX0_clear_0 ++ dktX0_clear_1
theorem dksX0_clear_0 : cX0_clear.data.toList.drop 0 = dktX0_clear_0 := by decide +kernel
theorem dksX0_clear_1 : cX0_clear.data.toList.drop 24 = dktX0_clear_1 := dk_seg dksX0_clear_0 24 rfl rfl
theorem dX0_clear_0 : decode cX0_clear 0 = .ok (.aload_n 0, 1) := dk_42 (dk_at dksX0_clear_0 0 rfl rfl)
theorem dX0_clear_1 : decode cX0_clear 1 = .ok (.iload_n 1, 1) := dk_27 (dk_at dksX0_clear_0 1 rfl rfl)
theorem dX0_clear_2 : decode cX0_clear 2 = .ok (.invokestatic 142, 3) := dk_184 0 142 (dk_at dksX0_clear_0 2 rfl rfl)
theorem dX0_clear_5 : decode cX0_clear 5 = .ok (.iconst (-1), 1) := dk_2 (dk_at dksX0_clear_0 5 rfl rfl)
theorem dX0_clear_6 : decode cX0_clear 6 = .ok (.invokevirtual 131, 3) := dk_182 0 131 (dk_at dksX0_clear_0 6 rfl rfl)
theorem dX0_clear_9 : decode cX0_clear 9 = .ok (.aload_n 0, 1) := dk_42 (dk_at dksX0_clear_0 9 rfl rfl)
theorem dX0_clear_10 : decode cX0_clear 10 = .ok (.getfield 46, 3) := dk_180 0 46 (dk_at dksX0_clear_0 10 rfl rfl)
theorem dX0_clear_13 : decode cX0_clear 13 = .ok (.iload_n 1, 1) := dk_27 (dk_at dksX0_clear_0 13 rfl rfl)
theorem dX0_clear_14 : decode cX0_clear 14 = .ok (.aaload, 1) := dk_50 (dk_at dksX0_clear_0 14 rfl rfl)
theorem dX0_clear_15 : decode cX0_clear 15 = .ok (.ifnonnull 7, 3) := dk_199 0 7 (dk_at dksX0_clear_0 15 rfl rfl)
theorem dX0_clear_18 : decode cX0_clear 18 = .ok (.iconst 0, 1) := dk_3 (dk_at dksX0_clear_0 18 rfl rfl)
theorem dX0_clear_19 : decode cX0_clear 19 = .ok (.goto 4, 3) := dk_167 0 4 (dk_at dksX0_clear_0 19 rfl rfl)
theorem dX0_clear_22 : decode cX0_clear 22 = .ok (.iconst 1, 1) := dk_4 (dk_at dksX0_clear_0 22 rfl rfl)
theorem dX0_clear_23 : decode cX0_clear 23 = .ok (.istore_n 2, 1) := dk_61 (dk_at dksX0_clear_0 23 rfl rfl)
theorem dX0_clear_24 : decode cX0_clear 24 = .ok (.aload_n 0, 1) := dk_42 (dk_at dksX0_clear_1 0 rfl rfl)
theorem dX0_clear_25 : decode cX0_clear 25 = .ok (.getfield 46, 3) := dk_180 0 46 (dk_at dksX0_clear_1 1 rfl rfl)
theorem dX0_clear_28 : decode cX0_clear 28 = .ok (.iload_n 1, 1) := dk_27 (dk_at dksX0_clear_1 4 rfl rfl)
theorem dX0_clear_29 : decode cX0_clear 29 = .ok (.aconst_null, 1) := dk_1 (dk_at dksX0_clear_1 5 rfl rfl)
theorem dX0_clear_30 : decode cX0_clear 30 = .ok (.aastore, 1) := dk_83 (dk_at dksX0_clear_1 6 rfl rfl)
theorem dX0_clear_31 : decode cX0_clear 31 = .ok (.iload_n 2, 1) := dk_28 (dk_at dksX0_clear_1 7 rfl rfl)
theorem dX0_clear_32 : decode cX0_clear 32 = .ok (.ireturn, 1) := dk_172 (dk_at dksX0_clear_1 8 rfl rfl)
theorem dX0_clear_33 : decode cX0_clear 33 = .ok (.astore_n 2, 1) := dk_77 (dk_at dksX0_clear_1 9 rfl rfl)
theorem dX0_clear_34 : decode cX0_clear 34 = .ok (.aload_n 0, 1) := dk_42 (dk_at dksX0_clear_1 10 rfl rfl)
theorem dX0_clear_35 : decode cX0_clear 35 = .ok (.aload_n 2, 1) := dk_44 (dk_at dksX0_clear_1 11 rfl rfl)
theorem dX0_clear_36 : decode cX0_clear 36 = .ok (.invokevirtual 138, 3) := dk_182 0 138 (dk_at dksX0_clear_1 12 rfl rfl)
theorem dX0_clear_39 : decode cX0_clear 39 = .ok (.ireturn, 1) := dk_172 (dk_at dksX0_clear_1 15 rfl rfl)
abbrev cX0_node : ByteArray := prog_1_method_18_code
def yX0_node : MethodName := ⟨RX0, "node", "(III)I"⟩
def dkwX0_node_7 : List UInt8 := [58, 4, 42, 25, 4, 182, 0, 138, 172]
abbrev dktX0_node_7 : List UInt8 := dkwX0_node_7 ++ []
def dkwX0_node_6 : List UInt8 := [25, 5, 180, 0, 201, 190, 172, 25, 5, 180, 0, 204, 190, 172, 42, 180, 0, 36, 2, 182, 0, 106, 191]
abbrev dktX0_node_6 : List UInt8 := dkwX0_node_6 ++ dktX0_node_7
def dkwX0_node_5 : List UInt8 := [180, 0, 118, 172, 25, 5, 180, 0, 195, 25, 5, 180, 0, 198, 100, 4, 96, 172, 25, 5, 180, 0, 195, 172]
abbrev dktX0_node_5 : List UInt8 := dkwX0_node_5 ++ dktX0_node_6
def dkwX0_node_4 : List UInt8 := [180, 0, 189, 172, 25, 5, 180, 0, 192, 199, 0, 8, 16, 248, 167, 0, 11, 25, 5, 180, 0, 192]
abbrev dktX0_node_4 : List UInt8 := dkwX0_node_4 ++ dktX0_node_5
def dkwX0_node_3 : List UInt8 := [25, 5, 180, 0, 118, 172, 25, 5, 182, 0, 177, 172, 25, 5, 180, 0, 181, 182, 0, 185, 172, 25, 5]
abbrev dktX0_node_3 : List UInt8 := dkwX0_node_3 ++ dktX0_node_4
def dkwX0_node_2 : List UInt8 := [170, 0, 0, 0, 0, 0, 0, 135, 0, 0, 0, 0, 0, 0, 0, 8, 0, 0, 0, 52, 0, 0, 0, 58, 0, 0, 0, 64, 0, 0, 0, 73, 0, 0, 0, 79, 0, 0, 0, 101, 0, 0, 0, 115, 0, 0, 0, 121, 0, 0, 0, 128]
abbrev dktX0_node_2 : List UInt8 := dkwX0_node_2 ++ dktX0_node_3
def dkwX0_node_1 : List UInt8 := [167, 0, 4, 3, 2, 182, 0, 131, 25, 4, 180, 0, 155, 28, 50, 58, 5, 29]
abbrev dktX0_node_1 : List UInt8 := dkwX0_node_1 ++ dktX0_node_2
def dkwX0_node_0 : List UInt8 := [42, 27, 182, 0, 162, 58, 4, 42, 28, 155, 0, 16, 28, 25, 4, 180, 0, 152, 162, 0, 7, 4]
abbrev dktX0_node_0 : List UInt8 := dkwX0_node_0 ++ dktX0_node_1
theorem dksX0_node_0 : cX0_node.data.toList.drop 0 = dktX0_node_0 := by decide +kernel
theorem dksX0_node_1 : cX0_node.data.toList.drop 22 = dktX0_node_1 := dk_seg dksX0_node_0 22 rfl rfl
theorem dksX0_node_2 : cX0_node.data.toList.drop 40 = dktX0_node_2 := dk_seg dksX0_node_1 18 rfl rfl
theorem dksX0_node_3 : cX0_node.data.toList.drop 92 = dktX0_node_3 := dk_seg dksX0_node_2 52 rfl rfl
theorem dksX0_node_4 : cX0_node.data.toList.drop 115 = dktX0_node_4 := dk_seg dksX0_node_3 23 rfl rfl
theorem dksX0_node_5 : cX0_node.data.toList.drop 137 = dktX0_node_5 := dk_seg dksX0_node_4 22 rfl rfl
theorem dksX0_node_6 : cX0_node.data.toList.drop 161 = dktX0_node_6 := dk_seg dksX0_node_5 24 rfl rfl
theorem dksX0_node_7 : cX0_node.data.toList.drop 184 = dktX0_node_7 := dk_seg dksX0_node_6 23 rfl rfl
theorem dX0_node_0 : decode cX0_node 0 = .ok (.aload_n 0, 1) := dk_42 (dk_at dksX0_node_0 0 rfl rfl)
theorem dX0_node_1 : decode cX0_node 1 = .ok (.iload_n 1, 1) := dk_27 (dk_at dksX0_node_0 1 rfl rfl)
theorem dX0_node_2 : decode cX0_node 2 = .ok (.invokevirtual 162, 3) := dk_182 0 162 (dk_at dksX0_node_0 2 rfl rfl)
theorem dX0_node_5 : decode cX0_node 5 = .ok (.astore 4, 2) := dk_58 4 (dk_at dksX0_node_0 5 rfl rfl)
theorem dX0_node_7 : decode cX0_node 7 = .ok (.aload_n 0, 1) := dk_42 (dk_at dksX0_node_0 7 rfl rfl)
theorem dX0_node_8 : decode cX0_node 8 = .ok (.iload_n 2, 1) := dk_28 (dk_at dksX0_node_0 8 rfl rfl)
theorem dX0_node_9 : decode cX0_node 9 = .ok (.ifCond .lt 16, 3) := dk_155 0 16 (dk_at dksX0_node_0 9 rfl rfl)
theorem dX0_node_12 : decode cX0_node 12 = .ok (.iload_n 2, 1) := dk_28 (dk_at dksX0_node_0 12 rfl rfl)
theorem dX0_node_13 : decode cX0_node 13 = .ok (.aload 4, 2) := dk_25 4 (dk_at dksX0_node_0 13 rfl rfl)
theorem dX0_node_15 : decode cX0_node 15 = .ok (.getfield 152, 3) := dk_180 0 152 (dk_at dksX0_node_0 15 rfl rfl)
theorem dX0_node_18 : decode cX0_node 18 = .ok (.if_icmp .ge 7, 3) := dk_162 0 7 (dk_at dksX0_node_0 18 rfl rfl)
theorem dX0_node_21 : decode cX0_node 21 = .ok (.iconst 1, 1) := dk_4 (dk_at dksX0_node_0 21 rfl rfl)
theorem dX0_node_22 : decode cX0_node 22 = .ok (.goto 4, 3) := dk_167 0 4 (dk_at dksX0_node_1 0 rfl rfl)
theorem dX0_node_25 : decode cX0_node 25 = .ok (.iconst 0, 1) := dk_3 (dk_at dksX0_node_1 3 rfl rfl)
theorem dX0_node_26 : decode cX0_node 26 = .ok (.iconst (-1), 1) := dk_2 (dk_at dksX0_node_1 4 rfl rfl)
theorem dX0_node_27 : decode cX0_node 27 = .ok (.invokevirtual 131, 3) := dk_182 0 131 (dk_at dksX0_node_1 5 rfl rfl)
theorem dX0_node_30 : decode cX0_node 30 = .ok (.aload 4, 2) := dk_25 4 (dk_at dksX0_node_1 8 rfl rfl)
theorem dX0_node_32 : decode cX0_node 32 = .ok (.getfield 155, 3) := dk_180 0 155 (dk_at dksX0_node_1 10 rfl rfl)
theorem dX0_node_35 : decode cX0_node 35 = .ok (.iload_n 2, 1) := dk_28 (dk_at dksX0_node_1 13 rfl rfl)
theorem dX0_node_36 : decode cX0_node 36 = .ok (.aaload, 1) := dk_50 (dk_at dksX0_node_1 14 rfl rfl)
theorem dX0_node_37 : decode cX0_node 37 = .ok (.astore 5, 2) := dk_58 5 (dk_at dksX0_node_1 15 rfl rfl)
theorem dX0_node_39 : decode cX0_node 39 = .ok (.iload_n 3, 1) := dk_29 (dk_at dksX0_node_1 17 rfl rfl)
theorem dX0_node_40 : decode cX0_node 40 = .ok (.tableswitch 135 0 8 #[52, 58, 64, 73, 79, 101, 115, 121, 128], 52) := by decide +kernel
theorem dX0_node_92 : decode cX0_node 92 = .ok (.aload 5, 2) := dk_25 5 (dk_at dksX0_node_3 0 rfl rfl)
theorem dX0_node_94 : decode cX0_node 94 = .ok (.getfield 118, 3) := dk_180 0 118 (dk_at dksX0_node_3 2 rfl rfl)
theorem dX0_node_97 : decode cX0_node 97 = .ok (.ireturn, 1) := dk_172 (dk_at dksX0_node_3 5 rfl rfl)
theorem dX0_node_98 : decode cX0_node 98 = .ok (.aload 5, 2) := dk_25 5 (dk_at dksX0_node_3 6 rfl rfl)
theorem dX0_node_100 : decode cX0_node 100 = .ok (.invokevirtual 177, 3) := dk_182 0 177 (dk_at dksX0_node_3 8 rfl rfl)
theorem dX0_node_103 : decode cX0_node 103 = .ok (.ireturn, 1) := dk_172 (dk_at dksX0_node_3 11 rfl rfl)
theorem dX0_node_104 : decode cX0_node 104 = .ok (.aload 5, 2) := dk_25 5 (dk_at dksX0_node_3 12 rfl rfl)
theorem dX0_node_106 : decode cX0_node 106 = .ok (.getfield 181, 3) := dk_180 0 181 (dk_at dksX0_node_3 14 rfl rfl)
theorem dX0_node_109 : decode cX0_node 109 = .ok (.invokevirtual 185, 3) := dk_182 0 185 (dk_at dksX0_node_3 17 rfl rfl)
theorem dX0_node_112 : decode cX0_node 112 = .ok (.ireturn, 1) := dk_172 (dk_at dksX0_node_3 20 rfl rfl)
theorem dX0_node_113 : decode cX0_node 113 = .ok (.aload 5, 2) := dk_25 5 (dk_at dksX0_node_3 21 rfl rfl)
theorem dX0_node_115 : decode cX0_node 115 = .ok (.getfield 189, 3) := dk_180 0 189 (dk_at dksX0_node_4 0 rfl rfl)
theorem dX0_node_118 : decode cX0_node 118 = .ok (.ireturn, 1) := dk_172 (dk_at dksX0_node_4 3 rfl rfl)
theorem dX0_node_119 : decode cX0_node 119 = .ok (.aload 5, 2) := dk_25 5 (dk_at dksX0_node_4 4 rfl rfl)
theorem dX0_node_121 : decode cX0_node 121 = .ok (.getfield 192, 3) := dk_180 0 192 (dk_at dksX0_node_4 6 rfl rfl)
theorem dX0_node_124 : decode cX0_node 124 = .ok (.ifnonnull 8, 3) := dk_199 0 8 (dk_at dksX0_node_4 9 rfl rfl)
theorem dX0_node_127 : decode cX0_node 127 = .ok (.bipush (-8), 2) := dk_16 248 (dk_at dksX0_node_4 12 rfl rfl)
theorem dX0_node_129 : decode cX0_node 129 = .ok (.goto 11, 3) := dk_167 0 11 (dk_at dksX0_node_4 14 rfl rfl)
theorem dX0_node_132 : decode cX0_node 132 = .ok (.aload 5, 2) := dk_25 5 (dk_at dksX0_node_4 17 rfl rfl)
theorem dX0_node_134 : decode cX0_node 134 = .ok (.getfield 192, 3) := dk_180 0 192 (dk_at dksX0_node_4 19 rfl rfl)
theorem dX0_node_137 : decode cX0_node 137 = .ok (.getfield 118, 3) := dk_180 0 118 (dk_at dksX0_node_5 0 rfl rfl)
theorem dX0_node_140 : decode cX0_node 140 = .ok (.ireturn, 1) := dk_172 (dk_at dksX0_node_5 3 rfl rfl)
theorem dX0_node_141 : decode cX0_node 141 = .ok (.aload 5, 2) := dk_25 5 (dk_at dksX0_node_5 4 rfl rfl)
theorem dX0_node_143 : decode cX0_node 143 = .ok (.getfield 195, 3) := dk_180 0 195 (dk_at dksX0_node_5 6 rfl rfl)
theorem dX0_node_146 : decode cX0_node 146 = .ok (.aload 5, 2) := dk_25 5 (dk_at dksX0_node_5 9 rfl rfl)
theorem dX0_node_148 : decode cX0_node 148 = .ok (.getfield 198, 3) := dk_180 0 198 (dk_at dksX0_node_5 11 rfl rfl)
theorem dX0_node_151 : decode cX0_node 151 = .ok (.isub, 1) := dk_100 (dk_at dksX0_node_5 14 rfl rfl)
theorem dX0_node_152 : decode cX0_node 152 = .ok (.iconst 1, 1) := dk_4 (dk_at dksX0_node_5 15 rfl rfl)
theorem dX0_node_153 : decode cX0_node 153 = .ok (.iadd, 1) := dk_96 (dk_at dksX0_node_5 16 rfl rfl)
theorem dX0_node_154 : decode cX0_node 154 = .ok (.ireturn, 1) := dk_172 (dk_at dksX0_node_5 17 rfl rfl)
theorem dX0_node_155 : decode cX0_node 155 = .ok (.aload 5, 2) := dk_25 5 (dk_at dksX0_node_5 18 rfl rfl)
theorem dX0_node_157 : decode cX0_node 157 = .ok (.getfield 195, 3) := dk_180 0 195 (dk_at dksX0_node_5 20 rfl rfl)
theorem dX0_node_160 : decode cX0_node 160 = .ok (.ireturn, 1) := dk_172 (dk_at dksX0_node_5 23 rfl rfl)
theorem dX0_node_161 : decode cX0_node 161 = .ok (.aload 5, 2) := dk_25 5 (dk_at dksX0_node_6 0 rfl rfl)
theorem dX0_node_163 : decode cX0_node 163 = .ok (.getfield 201, 3) := dk_180 0 201 (dk_at dksX0_node_6 2 rfl rfl)
theorem dX0_node_166 : decode cX0_node 166 = .ok (.arraylength, 1) := dk_190 (dk_at dksX0_node_6 5 rfl rfl)
theorem dX0_node_167 : decode cX0_node 167 = .ok (.ireturn, 1) := dk_172 (dk_at dksX0_node_6 6 rfl rfl)
theorem dX0_node_168 : decode cX0_node 168 = .ok (.aload 5, 2) := dk_25 5 (dk_at dksX0_node_6 7 rfl rfl)
theorem dX0_node_170 : decode cX0_node 170 = .ok (.getfield 204, 3) := dk_180 0 204 (dk_at dksX0_node_6 9 rfl rfl)
theorem dX0_node_173 : decode cX0_node 173 = .ok (.arraylength, 1) := dk_190 (dk_at dksX0_node_6 12 rfl rfl)
theorem dX0_node_174 : decode cX0_node 174 = .ok (.ireturn, 1) := dk_172 (dk_at dksX0_node_6 13 rfl rfl)
theorem dX0_node_175 : decode cX0_node 175 = .ok (.aload_n 0, 1) := dk_42 (dk_at dksX0_node_6 14 rfl rfl)
theorem dX0_node_176 : decode cX0_node 176 = .ok (.getfield 36, 3) := dk_180 0 36 (dk_at dksX0_node_6 15 rfl rfl)
theorem dX0_node_179 : decode cX0_node 179 = .ok (.iconst (-1), 1) := dk_2 (dk_at dksX0_node_6 18 rfl rfl)
theorem dX0_node_180 : decode cX0_node 180 = .ok (.invokevirtual 106, 3) := dk_182 0 106 (dk_at dksX0_node_6 19 rfl rfl)
theorem dX0_node_183 : decode cX0_node 183 = .ok (.athrow, 1) := dk_191 (dk_at dksX0_node_6 22 rfl rfl)
theorem dX0_node_184 : decode cX0_node 184 = .ok (.astore 4, 2) := dk_58 4 (dk_at dksX0_node_7 0 rfl rfl)
theorem dX0_node_186 : decode cX0_node 186 = .ok (.aload_n 0, 1) := dk_42 (dk_at dksX0_node_7 2 rfl rfl)
theorem dX0_node_187 : decode cX0_node 187 = .ok (.aload 4, 2) := dk_25 4 (dk_at dksX0_node_7 3 rfl rfl)
theorem dX0_node_189 : decode cX0_node 189 = .ok (.invokevirtual 138, 3) := dk_182 0 138 (dk_at dksX0_node_7 5 rfl rfl)
theorem dX0_node_192 : decode cX0_node 192 = .ok (.ireturn, 1) := dk_172 (dk_at dksX0_node_7 8 rfl rfl)
abbrev cX0_size : ByteArray := prog_1_method_19_code
def yX0_size : MethodName := ⟨RX0, "size", "(I)I"⟩
def dkwX0_size_0 : List UInt8 := [42, 27, 182, 0, 162, 180, 0, 152, 172, 77, 42, 44, 182, 0, 138, 172]
abbrev dktX0_size_0 : List UInt8 := dkwX0_size_0 ++ []
theorem dksX0_size_0 : cX0_size.data.toList.drop 0 = dktX0_size_0 := by decide +kernel
theorem dX0_size_0 : decode cX0_size 0 = .ok (.aload_n 0, 1) := dk_42 (dk_at dksX0_size_0 0 rfl rfl)
theorem dX0_size_1 : decode cX0_size 1 = .ok (.iload_n 1, 1) := dk_27 (dk_at dksX0_size_0 1 rfl rfl)
theorem dX0_size_2 : decode cX0_size 2 = .ok (.invokevirtual 162, 3) := dk_182 0 162 (dk_at dksX0_size_0 2 rfl rfl)
theorem dX0_size_5 : decode cX0_size 5 = .ok (.getfield 152, 3) := dk_180 0 152 (dk_at dksX0_size_0 5 rfl rfl)
theorem dX0_size_8 : decode cX0_size 8 = .ok (.ireturn, 1) := dk_172 (dk_at dksX0_size_0 8 rfl rfl)
theorem dX0_size_9 : decode cX0_size 9 = .ok (.astore_n 2, 1) := dk_77 (dk_at dksX0_size_0 9 rfl rfl)
theorem dX0_size_10 : decode cX0_size 10 = .ok (.aload_n 0, 1) := dk_42 (dk_at dksX0_size_0 10 rfl rfl)
theorem dX0_size_11 : decode cX0_size 11 = .ok (.aload_n 2, 1) := dk_44 (dk_at dksX0_size_0 11 rfl rfl)
theorem dX0_size_12 : decode cX0_size 12 = .ok (.invokevirtual 138, 3) := dk_182 0 138 (dk_at dksX0_size_0 12 rfl rfl)
theorem dX0_size_15 : decode cX0_size 15 = .ok (.ireturn, 1) := dk_172 (dk_at dksX0_size_0 15 rfl rfl)
abbrev cX0_relabel : ByteArray := prog_1_method_23_code
def yX0_relabel : MethodName := ⟨RX0, "relabel", "(II)I"⟩
def dkwX0_relabel_4 : List UInt8 := [78, 42, 45, 182, 0, 138, 172]
abbrev dktX0_relabel_4 : List UInt8 := dkwX0_relabel_4 ++ []
def dkwX0_relabel_3 : List UInt8 := [21, 7, 154, 0, 10, 25, 4, 25, 6, 181, 0, 201, 42, 21, 7, 16, 252, 182, 0, 131, 25, 5, 190, 172]
abbrev dktX0_relabel_3 : List UInt8 := dkwX0_relabel_3 ++ dktX0_relabel_4
def dkwX0_relabel_2 : List UInt8 := [180, 0, 192, 198, 0, 14, 25, 4, 180, 0, 192, 182, 0, 225, 154, 0, 7, 4, 167, 0, 4, 3, 54, 7]
abbrev dktX0_relabel_2 : List UInt8 := dkwX0_relabel_2 ++ dktX0_relabel_3
def dkwX0_relabel_1 : List UInt8 := [184, 0, 221, 16, 253, 182, 0, 131, 25, 4, 180, 0, 201, 58, 6, 25, 4, 25, 5, 181, 0, 201, 25, 4]
abbrev dktX0_relabel_1 : List UInt8 := dkwX0_relabel_1 ++ dktX0_relabel_2
def dkwX0_relabel_0 : List UInt8 := [42, 27, 182, 0, 162, 78, 42, 45, 28, 182, 0, 214, 58, 4, 42, 182, 0, 217, 58, 5, 42, 25, 5]
abbrev dktX0_relabel_0 : List UInt8 := dkwX0_relabel_0 ++ dktX0_relabel_1
theorem dksX0_relabel_0 : cX0_relabel.data.toList.drop 0 = dktX0_relabel_0 := by decide +kernel
theorem dksX0_relabel_1 : cX0_relabel.data.toList.drop 23 = dktX0_relabel_1 := dk_seg dksX0_relabel_0 23 rfl rfl
theorem dksX0_relabel_2 : cX0_relabel.data.toList.drop 47 = dktX0_relabel_2 := dk_seg dksX0_relabel_1 24 rfl rfl
theorem dksX0_relabel_3 : cX0_relabel.data.toList.drop 71 = dktX0_relabel_3 := dk_seg dksX0_relabel_2 24 rfl rfl
theorem dksX0_relabel_4 : cX0_relabel.data.toList.drop 95 = dktX0_relabel_4 := dk_seg dksX0_relabel_3 24 rfl rfl
theorem dX0_relabel_0 : decode cX0_relabel 0 = .ok (.aload_n 0, 1) := dk_42 (dk_at dksX0_relabel_0 0 rfl rfl)
theorem dX0_relabel_1 : decode cX0_relabel 1 = .ok (.iload_n 1, 1) := dk_27 (dk_at dksX0_relabel_0 1 rfl rfl)
theorem dX0_relabel_2 : decode cX0_relabel 2 = .ok (.invokevirtual 162, 3) := dk_182 0 162 (dk_at dksX0_relabel_0 2 rfl rfl)
theorem dX0_relabel_5 : decode cX0_relabel 5 = .ok (.astore_n 3, 1) := dk_78 (dk_at dksX0_relabel_0 5 rfl rfl)
theorem dX0_relabel_6 : decode cX0_relabel 6 = .ok (.aload_n 0, 1) := dk_42 (dk_at dksX0_relabel_0 6 rfl rfl)
theorem dX0_relabel_7 : decode cX0_relabel 7 = .ok (.aload_n 3, 1) := dk_45 (dk_at dksX0_relabel_0 7 rfl rfl)
theorem dX0_relabel_8 : decode cX0_relabel 8 = .ok (.iload_n 2, 1) := dk_28 (dk_at dksX0_relabel_0 8 rfl rfl)
theorem dX0_relabel_9 : decode cX0_relabel 9 = .ok (.invokevirtual 214, 3) := dk_182 0 214 (dk_at dksX0_relabel_0 9 rfl rfl)
theorem dX0_relabel_12 : decode cX0_relabel 12 = .ok (.astore 4, 2) := dk_58 4 (dk_at dksX0_relabel_0 12 rfl rfl)
theorem dX0_relabel_14 : decode cX0_relabel 14 = .ok (.aload_n 0, 1) := dk_42 (dk_at dksX0_relabel_0 14 rfl rfl)
theorem dX0_relabel_15 : decode cX0_relabel 15 = .ok (.invokevirtual 217, 3) := dk_182 0 217 (dk_at dksX0_relabel_0 15 rfl rfl)
theorem dX0_relabel_18 : decode cX0_relabel 18 = .ok (.astore 5, 2) := dk_58 5 (dk_at dksX0_relabel_0 18 rfl rfl)
theorem dX0_relabel_20 : decode cX0_relabel 20 = .ok (.aload_n 0, 1) := dk_42 (dk_at dksX0_relabel_0 20 rfl rfl)
theorem dX0_relabel_21 : decode cX0_relabel 21 = .ok (.aload 5, 2) := dk_25 5 (dk_at dksX0_relabel_0 21 rfl rfl)
theorem dX0_relabel_23 : decode cX0_relabel 23 = .ok (.invokestatic 221, 3) := dk_184 0 221 (dk_at dksX0_relabel_1 0 rfl rfl)
theorem dX0_relabel_26 : decode cX0_relabel 26 = .ok (.bipush (-3), 2) := dk_16 253 (dk_at dksX0_relabel_1 3 rfl rfl)
theorem dX0_relabel_28 : decode cX0_relabel 28 = .ok (.invokevirtual 131, 3) := dk_182 0 131 (dk_at dksX0_relabel_1 5 rfl rfl)
theorem dX0_relabel_31 : decode cX0_relabel 31 = .ok (.aload 4, 2) := dk_25 4 (dk_at dksX0_relabel_1 8 rfl rfl)
theorem dX0_relabel_33 : decode cX0_relabel 33 = .ok (.getfield 201, 3) := dk_180 0 201 (dk_at dksX0_relabel_1 10 rfl rfl)
theorem dX0_relabel_36 : decode cX0_relabel 36 = .ok (.astore 6, 2) := dk_58 6 (dk_at dksX0_relabel_1 13 rfl rfl)
theorem dX0_relabel_38 : decode cX0_relabel 38 = .ok (.aload 4, 2) := dk_25 4 (dk_at dksX0_relabel_1 15 rfl rfl)
theorem dX0_relabel_40 : decode cX0_relabel 40 = .ok (.aload 5, 2) := dk_25 5 (dk_at dksX0_relabel_1 17 rfl rfl)
theorem dX0_relabel_42 : decode cX0_relabel 42 = .ok (.putfield 201, 3) := dk_181 0 201 (dk_at dksX0_relabel_1 19 rfl rfl)
theorem dX0_relabel_45 : decode cX0_relabel 45 = .ok (.aload 4, 2) := dk_25 4 (dk_at dksX0_relabel_1 22 rfl rfl)
theorem dX0_relabel_47 : decode cX0_relabel 47 = .ok (.getfield 192, 3) := dk_180 0 192 (dk_at dksX0_relabel_2 0 rfl rfl)
theorem dX0_relabel_50 : decode cX0_relabel 50 = .ok (.ifnull 14, 3) := dk_198 0 14 (dk_at dksX0_relabel_2 3 rfl rfl)
theorem dX0_relabel_53 : decode cX0_relabel 53 = .ok (.aload 4, 2) := dk_25 4 (dk_at dksX0_relabel_2 6 rfl rfl)
theorem dX0_relabel_55 : decode cX0_relabel 55 = .ok (.getfield 192, 3) := dk_180 0 192 (dk_at dksX0_relabel_2 8 rfl rfl)
theorem dX0_relabel_58 : decode cX0_relabel 58 = .ok (.invokevirtual 225, 3) := dk_182 0 225 (dk_at dksX0_relabel_2 11 rfl rfl)
theorem dX0_relabel_61 : decode cX0_relabel 61 = .ok (.ifCond .ne 7, 3) := dk_154 0 7 (dk_at dksX0_relabel_2 14 rfl rfl)
theorem dX0_relabel_64 : decode cX0_relabel 64 = .ok (.iconst 1, 1) := dk_4 (dk_at dksX0_relabel_2 17 rfl rfl)
theorem dX0_relabel_65 : decode cX0_relabel 65 = .ok (.goto 4, 3) := dk_167 0 4 (dk_at dksX0_relabel_2 18 rfl rfl)
theorem dX0_relabel_68 : decode cX0_relabel 68 = .ok (.iconst 0, 1) := dk_3 (dk_at dksX0_relabel_2 21 rfl rfl)
theorem dX0_relabel_69 : decode cX0_relabel 69 = .ok (.istore 7, 2) := dk_54 7 (dk_at dksX0_relabel_2 22 rfl rfl)
theorem dX0_relabel_71 : decode cX0_relabel 71 = .ok (.iload 7, 2) := dk_21 7 (dk_at dksX0_relabel_3 0 rfl rfl)
theorem dX0_relabel_73 : decode cX0_relabel 73 = .ok (.ifCond .ne 10, 3) := dk_154 0 10 (dk_at dksX0_relabel_3 2 rfl rfl)
theorem dX0_relabel_76 : decode cX0_relabel 76 = .ok (.aload 4, 2) := dk_25 4 (dk_at dksX0_relabel_3 5 rfl rfl)
theorem dX0_relabel_78 : decode cX0_relabel 78 = .ok (.aload 6, 2) := dk_25 6 (dk_at dksX0_relabel_3 7 rfl rfl)
theorem dX0_relabel_80 : decode cX0_relabel 80 = .ok (.putfield 201, 3) := dk_181 0 201 (dk_at dksX0_relabel_3 9 rfl rfl)
theorem dX0_relabel_83 : decode cX0_relabel 83 = .ok (.aload_n 0, 1) := dk_42 (dk_at dksX0_relabel_3 12 rfl rfl)
theorem dX0_relabel_84 : decode cX0_relabel 84 = .ok (.iload 7, 2) := dk_21 7 (dk_at dksX0_relabel_3 13 rfl rfl)
theorem dX0_relabel_86 : decode cX0_relabel 86 = .ok (.bipush (-4), 2) := dk_16 252 (dk_at dksX0_relabel_3 15 rfl rfl)
theorem dX0_relabel_88 : decode cX0_relabel 88 = .ok (.invokevirtual 131, 3) := dk_182 0 131 (dk_at dksX0_relabel_3 17 rfl rfl)
theorem dX0_relabel_91 : decode cX0_relabel 91 = .ok (.aload 5, 2) := dk_25 5 (dk_at dksX0_relabel_3 20 rfl rfl)
theorem dX0_relabel_93 : decode cX0_relabel 93 = .ok (.arraylength, 1) := dk_190 (dk_at dksX0_relabel_3 22 rfl rfl)
theorem dX0_relabel_94 : decode cX0_relabel 94 = .ok (.ireturn, 1) := dk_172 (dk_at dksX0_relabel_3 23 rfl rfl)
theorem dX0_relabel_95 : decode cX0_relabel 95 = .ok (.astore_n 3, 1) := dk_78 (dk_at dksX0_relabel_4 0 rfl rfl)
theorem dX0_relabel_96 : decode cX0_relabel 96 = .ok (.aload_n 0, 1) := dk_42 (dk_at dksX0_relabel_4 1 rfl rfl)
theorem dX0_relabel_97 : decode cX0_relabel 97 = .ok (.aload_n 3, 1) := dk_45 (dk_at dksX0_relabel_4 2 rfl rfl)
theorem dX0_relabel_98 : decode cX0_relabel 98 = .ok (.invokevirtual 138, 3) := dk_182 0 138 (dk_at dksX0_relabel_4 3 rfl rfl)
theorem dX0_relabel_101 : decode cX0_relabel 101 = .ok (.ireturn, 1) := dk_172 (dk_at dksX0_relabel_4 6 rfl rfl)
abbrev cX0_node_2 : ByteArray := prog_1_method_11_code
def yX0_node_2 : MethodName := ⟨RX0, "node", "(LBranchMender$Tree;I)LBranchMender$Node;"⟩
def dkwX0_node_2_0 : List UInt8 := [43, 28, 182, 0, 127, 78, 42, 45, 198, 0, 7, 4, 167, 0, 4, 3, 16, 250, 182, 0, 131, 45, 176]
abbrev dktX0_node_2_0 : List UInt8 := dkwX0_node_2_0 ++ []
theorem dksX0_node_2_0 : cX0_node_2.data.toList.drop 0 = dktX0_node_2_0 := by decide +kernel
theorem dX0_node_2_0 : decode cX0_node_2 0 = .ok (.aload_n 1, 1) := dk_43 (dk_at dksX0_node_2_0 0 rfl rfl)
theorem dX0_node_2_1 : decode cX0_node_2 1 = .ok (.iload_n 2, 1) := dk_28 (dk_at dksX0_node_2_0 1 rfl rfl)
theorem dX0_node_2_2 : decode cX0_node_2 2 = .ok (.invokevirtual 127, 3) := dk_182 0 127 (dk_at dksX0_node_2_0 2 rfl rfl)
theorem dX0_node_2_5 : decode cX0_node_2 5 = .ok (.astore_n 3, 1) := dk_78 (dk_at dksX0_node_2_0 5 rfl rfl)
theorem dX0_node_2_6 : decode cX0_node_2 6 = .ok (.aload_n 0, 1) := dk_42 (dk_at dksX0_node_2_0 6 rfl rfl)
theorem dX0_node_2_7 : decode cX0_node_2 7 = .ok (.aload_n 3, 1) := dk_45 (dk_at dksX0_node_2_0 7 rfl rfl)
theorem dX0_node_2_8 : decode cX0_node_2 8 = .ok (.ifnull 7, 3) := dk_198 0 7 (dk_at dksX0_node_2_0 8 rfl rfl)
theorem dX0_node_2_11 : decode cX0_node_2 11 = .ok (.iconst 1, 1) := dk_4 (dk_at dksX0_node_2_0 11 rfl rfl)
theorem dX0_node_2_12 : decode cX0_node_2 12 = .ok (.goto 4, 3) := dk_167 0 4 (dk_at dksX0_node_2_0 12 rfl rfl)
theorem dX0_node_2_15 : decode cX0_node_2 15 = .ok (.iconst 0, 1) := dk_3 (dk_at dksX0_node_2_0 15 rfl rfl)
theorem dX0_node_2_16 : decode cX0_node_2 16 = .ok (.bipush (-6), 2) := dk_16 250 (dk_at dksX0_node_2_0 16 rfl rfl)
theorem dX0_node_2_18 : decode cX0_node_2 18 = .ok (.invokevirtual 131, 3) := dk_182 0 131 (dk_at dksX0_node_2_0 18 rfl rfl)
theorem dX0_node_2_21 : decode cX0_node_2 21 = .ok (.aload_n 3, 1) := dk_45 (dk_at dksX0_node_2_0 21 rfl rfl)
theorem dX0_node_2_22 : decode cX0_node_2 22 = .ok (.areturn, 1) := dk_176 (dk_at dksX0_node_2_0 22 rfl rfl)
abbrev cX0_taken : ByteArray := prog_1_method_20_code
def yX0_taken : MethodName := ⟨RX0, "taken", "()[B"⟩
def dkwX0_taken_0 : List UInt8 := [42, 180, 0, 50, 3, 42, 180, 0, 135, 184, 0, 207, 76, 42, 3, 181, 0, 135, 43, 176]
abbrev dktX0_taken_0 : List UInt8 := dkwX0_taken_0 ++ []
theorem dksX0_taken_0 : cX0_taken.data.toList.drop 0 = dktX0_taken_0 := by decide +kernel
theorem dX0_taken_0 : decode cX0_taken 0 = .ok (.aload_n 0, 1) := dk_42 (dk_at dksX0_taken_0 0 rfl rfl)
theorem dX0_taken_1 : decode cX0_taken 1 = .ok (.getfield 50, 3) := dk_180 0 50 (dk_at dksX0_taken_0 1 rfl rfl)
theorem dX0_taken_4 : decode cX0_taken 4 = .ok (.iconst 0, 1) := dk_3 (dk_at dksX0_taken_0 4 rfl rfl)
theorem dX0_taken_5 : decode cX0_taken 5 = .ok (.aload_n 0, 1) := dk_42 (dk_at dksX0_taken_0 5 rfl rfl)
theorem dX0_taken_6 : decode cX0_taken 6 = .ok (.getfield 135, 3) := dk_180 0 135 (dk_at dksX0_taken_0 6 rfl rfl)
theorem dX0_taken_9 : decode cX0_taken 9 = .ok (.invokestatic 207, 3) := dk_184 0 207 (dk_at dksX0_taken_0 9 rfl rfl)
theorem dX0_taken_12 : decode cX0_taken 12 = .ok (.astore_n 1, 1) := dk_76 (dk_at dksX0_taken_0 12 rfl rfl)
theorem dX0_taken_13 : decode cX0_taken 13 = .ok (.aload_n 0, 1) := dk_42 (dk_at dksX0_taken_0 13 rfl rfl)
theorem dX0_taken_14 : decode cX0_taken 14 = .ok (.iconst 0, 1) := dk_3 (dk_at dksX0_taken_0 14 rfl rfl)
theorem dX0_taken_15 : decode cX0_taken 15 = .ok (.putfield 135, 3) := dk_181 0 135 (dk_at dksX0_taken_0 15 rfl rfl)
theorem dX0_taken_18 : decode cX0_taken 18 = .ok (.aload_n 1, 1) := dk_43 (dk_at dksX0_taken_0 18 rfl rfl)
theorem dX0_taken_19 : decode cX0_taken 19 = .ok (.areturn, 1) := dk_176 (dk_at dksX0_taken_0 19 rfl rfl)
abbrev cX0_isLabel : ByteArray := prog_1_method_21_code
def yX0_isLabel : MethodName := ⟨RX0, "isLabel", "([B)Z"⟩
def dkwX0_isLabel_2 : List UInt8 := [132, 2, 1, 167, 255, 228, 27, 172]
abbrev dktX0_isLabel_2 : List UInt8 := dkwX0_isLabel_2 ++ []
def dkwX0_isLabel_1 : List UInt8 := [162, 0, 28, 27, 153, 0, 16, 42, 28, 51, 184, 0, 16, 153, 0, 7, 4, 167, 0, 4, 3, 60]
abbrev dktX0_isLabel_1 : List UInt8 := dkwX0_isLabel_1 ++ dktX0_isLabel_2
def dkwX0_isLabel_0 : List UInt8 := [42, 190, 158, 0, 14, 42, 190, 16, 6, 163, 0, 7, 4, 167, 0, 4, 3, 60, 3, 61, 28, 42, 190]
abbrev dktX0_isLabel_0 : List UInt8 := dkwX0_isLabel_0 ++ dktX0_isLabel_1
theorem dksX0_isLabel_0 : cX0_isLabel.data.toList.drop 0 = dktX0_isLabel_0 := by decide +kernel
theorem dksX0_isLabel_1 : cX0_isLabel.data.toList.drop 23 = dktX0_isLabel_1 := dk_seg dksX0_isLabel_0 23 rfl rfl
theorem dksX0_isLabel_2 : cX0_isLabel.data.toList.drop 45 = dktX0_isLabel_2 := dk_seg dksX0_isLabel_1 22 rfl rfl
theorem dX0_isLabel_0 : decode cX0_isLabel 0 = .ok (.aload_n 0, 1) := dk_42 (dk_at dksX0_isLabel_0 0 rfl rfl)
theorem dX0_isLabel_1 : decode cX0_isLabel 1 = .ok (.arraylength, 1) := dk_190 (dk_at dksX0_isLabel_0 1 rfl rfl)
theorem dX0_isLabel_2 : decode cX0_isLabel 2 = .ok (.ifCond .le 14, 3) := dk_158 0 14 (dk_at dksX0_isLabel_0 2 rfl rfl)
theorem dX0_isLabel_5 : decode cX0_isLabel 5 = .ok (.aload_n 0, 1) := dk_42 (dk_at dksX0_isLabel_0 5 rfl rfl)
theorem dX0_isLabel_6 : decode cX0_isLabel 6 = .ok (.arraylength, 1) := dk_190 (dk_at dksX0_isLabel_0 6 rfl rfl)
theorem dX0_isLabel_7 : decode cX0_isLabel 7 = .ok (.bipush 6, 2) := dk_16 6 (dk_at dksX0_isLabel_0 7 rfl rfl)
theorem dX0_isLabel_9 : decode cX0_isLabel 9 = .ok (.if_icmp .gt 7, 3) := dk_163 0 7 (dk_at dksX0_isLabel_0 9 rfl rfl)
theorem dX0_isLabel_12 : decode cX0_isLabel 12 = .ok (.iconst 1, 1) := dk_4 (dk_at dksX0_isLabel_0 12 rfl rfl)
theorem dX0_isLabel_13 : decode cX0_isLabel 13 = .ok (.goto 4, 3) := dk_167 0 4 (dk_at dksX0_isLabel_0 13 rfl rfl)
theorem dX0_isLabel_16 : decode cX0_isLabel 16 = .ok (.iconst 0, 1) := dk_3 (dk_at dksX0_isLabel_0 16 rfl rfl)
theorem dX0_isLabel_17 : decode cX0_isLabel 17 = .ok (.istore_n 1, 1) := dk_60 (dk_at dksX0_isLabel_0 17 rfl rfl)
theorem dX0_isLabel_18 : decode cX0_isLabel 18 = .ok (.iconst 0, 1) := dk_3 (dk_at dksX0_isLabel_0 18 rfl rfl)
theorem dX0_isLabel_19 : decode cX0_isLabel 19 = .ok (.istore_n 2, 1) := dk_61 (dk_at dksX0_isLabel_0 19 rfl rfl)
theorem dX0_isLabel_20 : decode cX0_isLabel 20 = .ok (.iload_n 2, 1) := dk_28 (dk_at dksX0_isLabel_0 20 rfl rfl)
theorem dX0_isLabel_21 : decode cX0_isLabel 21 = .ok (.aload_n 0, 1) := dk_42 (dk_at dksX0_isLabel_0 21 rfl rfl)
theorem dX0_isLabel_22 : decode cX0_isLabel 22 = .ok (.arraylength, 1) := dk_190 (dk_at dksX0_isLabel_0 22 rfl rfl)
theorem dX0_isLabel_23 : decode cX0_isLabel 23 = .ok (.if_icmp .ge 28, 3) := dk_162 0 28 (dk_at dksX0_isLabel_1 0 rfl rfl)
theorem dX0_isLabel_26 : decode cX0_isLabel 26 = .ok (.iload_n 1, 1) := dk_27 (dk_at dksX0_isLabel_1 3 rfl rfl)
theorem dX0_isLabel_27 : decode cX0_isLabel 27 = .ok (.ifCond .eq 16, 3) := dk_153 0 16 (dk_at dksX0_isLabel_1 4 rfl rfl)
theorem dX0_isLabel_30 : decode cX0_isLabel 30 = .ok (.aload_n 0, 1) := dk_42 (dk_at dksX0_isLabel_1 7 rfl rfl)
theorem dX0_isLabel_31 : decode cX0_isLabel 31 = .ok (.iload_n 2, 1) := dk_28 (dk_at dksX0_isLabel_1 8 rfl rfl)
theorem dX0_isLabel_32 : decode cX0_isLabel 32 = .ok (.baload, 1) := dk_51 (dk_at dksX0_isLabel_1 9 rfl rfl)
theorem dX0_isLabel_33 : decode cX0_isLabel 33 = .ok (.invokestatic 16, 3) := dk_184 0 16 (dk_at dksX0_isLabel_1 10 rfl rfl)
theorem dX0_isLabel_36 : decode cX0_isLabel 36 = .ok (.ifCond .eq 7, 3) := dk_153 0 7 (dk_at dksX0_isLabel_1 13 rfl rfl)
theorem dX0_isLabel_39 : decode cX0_isLabel 39 = .ok (.iconst 1, 1) := dk_4 (dk_at dksX0_isLabel_1 16 rfl rfl)
theorem dX0_isLabel_40 : decode cX0_isLabel 40 = .ok (.goto 4, 3) := dk_167 0 4 (dk_at dksX0_isLabel_1 17 rfl rfl)
theorem dX0_isLabel_43 : decode cX0_isLabel 43 = .ok (.iconst 0, 1) := dk_3 (dk_at dksX0_isLabel_1 20 rfl rfl)
theorem dX0_isLabel_44 : decode cX0_isLabel 44 = .ok (.istore_n 1, 1) := dk_60 (dk_at dksX0_isLabel_1 21 rfl rfl)
theorem dX0_isLabel_45 : decode cX0_isLabel 45 = .ok (.iinc 2 1, 3) := dk_132 2 1 (dk_at dksX0_isLabel_2 0 rfl rfl)
theorem dX0_isLabel_48 : decode cX0_isLabel 48 = .ok (.goto (-28), 3) := dk_167 255 228 (dk_at dksX0_isLabel_2 3 rfl rfl)
theorem dX0_isLabel_51 : decode cX0_isLabel 51 = .ok (.iload_n 1, 1) := dk_27 (dk_at dksX0_isLabel_2 6 rfl rfl)
theorem dX0_isLabel_52 : decode cX0_isLabel 52 = .ok (.ireturn, 1) := dk_172 (dk_at dksX0_isLabel_2 7 rfl rfl)
abbrev cX0_retext : ByteArray := prog_1_method_24_code
def yX0_retext : MethodName := ⟨RX0, "retext", "(II)I"⟩
def dkwX0_retext_2 : List UInt8 := [182, 0, 138, 172]
abbrev dktX0_retext_2 : List UInt8 := dkwX0_retext_2 ++ []
def dkwX0_retext_1 : List UInt8 := [184, 0, 229, 16, 253, 182, 0, 131, 25, 4, 25, 5, 181, 0, 204, 25, 5, 190, 172, 78, 42, 45]
abbrev dktX0_retext_1 : List UInt8 := dkwX0_retext_1 ++ dktX0_retext_2
def dkwX0_retext_0 : List UInt8 := [42, 27, 182, 0, 162, 78, 42, 45, 28, 182, 0, 214, 58, 4, 42, 182, 0, 217, 58, 5, 42, 25, 5]
abbrev dktX0_retext_0 : List UInt8 := dkwX0_retext_0 ++ dktX0_retext_1
theorem dksX0_retext_0 : cX0_retext.data.toList.drop 0 = dktX0_retext_0 := by decide +kernel
theorem dksX0_retext_1 : cX0_retext.data.toList.drop 23 = dktX0_retext_1 := dk_seg dksX0_retext_0 23 rfl rfl
theorem dksX0_retext_2 : cX0_retext.data.toList.drop 45 = dktX0_retext_2 := dk_seg dksX0_retext_1 22 rfl rfl
theorem dX0_retext_0 : decode cX0_retext 0 = .ok (.aload_n 0, 1) := dk_42 (dk_at dksX0_retext_0 0 rfl rfl)
theorem dX0_retext_1 : decode cX0_retext 1 = .ok (.iload_n 1, 1) := dk_27 (dk_at dksX0_retext_0 1 rfl rfl)
theorem dX0_retext_2 : decode cX0_retext 2 = .ok (.invokevirtual 162, 3) := dk_182 0 162 (dk_at dksX0_retext_0 2 rfl rfl)
theorem dX0_retext_5 : decode cX0_retext 5 = .ok (.astore_n 3, 1) := dk_78 (dk_at dksX0_retext_0 5 rfl rfl)
theorem dX0_retext_6 : decode cX0_retext 6 = .ok (.aload_n 0, 1) := dk_42 (dk_at dksX0_retext_0 6 rfl rfl)
theorem dX0_retext_7 : decode cX0_retext 7 = .ok (.aload_n 3, 1) := dk_45 (dk_at dksX0_retext_0 7 rfl rfl)
theorem dX0_retext_8 : decode cX0_retext 8 = .ok (.iload_n 2, 1) := dk_28 (dk_at dksX0_retext_0 8 rfl rfl)
theorem dX0_retext_9 : decode cX0_retext 9 = .ok (.invokevirtual 214, 3) := dk_182 0 214 (dk_at dksX0_retext_0 9 rfl rfl)
theorem dX0_retext_12 : decode cX0_retext 12 = .ok (.astore 4, 2) := dk_58 4 (dk_at dksX0_retext_0 12 rfl rfl)
theorem dX0_retext_14 : decode cX0_retext 14 = .ok (.aload_n 0, 1) := dk_42 (dk_at dksX0_retext_0 14 rfl rfl)
theorem dX0_retext_15 : decode cX0_retext 15 = .ok (.invokevirtual 217, 3) := dk_182 0 217 (dk_at dksX0_retext_0 15 rfl rfl)
theorem dX0_retext_18 : decode cX0_retext 18 = .ok (.astore 5, 2) := dk_58 5 (dk_at dksX0_retext_0 18 rfl rfl)
theorem dX0_retext_20 : decode cX0_retext 20 = .ok (.aload_n 0, 1) := dk_42 (dk_at dksX0_retext_0 20 rfl rfl)
theorem dX0_retext_21 : decode cX0_retext 21 = .ok (.aload 5, 2) := dk_25 5 (dk_at dksX0_retext_0 21 rfl rfl)
theorem dX0_retext_23 : decode cX0_retext 23 = .ok (.invokestatic 229, 3) := dk_184 0 229 (dk_at dksX0_retext_1 0 rfl rfl)
theorem dX0_retext_26 : decode cX0_retext 26 = .ok (.bipush (-3), 2) := dk_16 253 (dk_at dksX0_retext_1 3 rfl rfl)
theorem dX0_retext_28 : decode cX0_retext 28 = .ok (.invokevirtual 131, 3) := dk_182 0 131 (dk_at dksX0_retext_1 5 rfl rfl)
theorem dX0_retext_31 : decode cX0_retext 31 = .ok (.aload 4, 2) := dk_25 4 (dk_at dksX0_retext_1 8 rfl rfl)
theorem dX0_retext_33 : decode cX0_retext 33 = .ok (.aload 5, 2) := dk_25 5 (dk_at dksX0_retext_1 10 rfl rfl)
theorem dX0_retext_35 : decode cX0_retext 35 = .ok (.putfield 204, 3) := dk_181 0 204 (dk_at dksX0_retext_1 12 rfl rfl)
theorem dX0_retext_38 : decode cX0_retext 38 = .ok (.aload 5, 2) := dk_25 5 (dk_at dksX0_retext_1 15 rfl rfl)
theorem dX0_retext_40 : decode cX0_retext 40 = .ok (.arraylength, 1) := dk_190 (dk_at dksX0_retext_1 17 rfl rfl)
theorem dX0_retext_41 : decode cX0_retext 41 = .ok (.ireturn, 1) := dk_172 (dk_at dksX0_retext_1 18 rfl rfl)
theorem dX0_retext_42 : decode cX0_retext 42 = .ok (.astore_n 3, 1) := dk_78 (dk_at dksX0_retext_1 19 rfl rfl)
theorem dX0_retext_43 : decode cX0_retext 43 = .ok (.aload_n 0, 1) := dk_42 (dk_at dksX0_retext_1 20 rfl rfl)
theorem dX0_retext_44 : decode cX0_retext 44 = .ok (.aload_n 3, 1) := dk_45 (dk_at dksX0_retext_1 21 rfl rfl)
theorem dX0_retext_45 : decode cX0_retext 45 = .ok (.invokevirtual 138, 3) := dk_182 0 138 (dk_at dksX0_retext_2 0 rfl rfl)
theorem dX0_retext_48 : decode cX0_retext 48 = .ok (.ireturn, 1) := dk_172 (dk_at dksX0_retext_2 3 rfl rfl)
abbrev cX0_isText : ByteArray := prog_1_method_22_code
def yX0_isText : MethodName := ⟨RX0, "isText", "([B)Z"⟩
def dkwX0_isText_2 : List UInt8 := [27, 172]
abbrev dktX0_isText_2 : List UInt8 := dkwX0_isText_2 ++ []
def dkwX0_isText_1 : List UInt8 := [153, 0, 16, 42, 28, 51, 184, 0, 211, 153, 0, 7, 4, 167, 0, 4, 3, 60, 132, 2, 1, 167, 255, 228]
abbrev dktX0_isText_1 : List UInt8 := dkwX0_isText_1 ++ dktX0_isText_2
def dkwX0_isText_0 : List UInt8 := [42, 190, 16, 8, 163, 0, 7, 4, 167, 0, 4, 3, 60, 3, 61, 28, 42, 190, 162, 0, 28, 27]
abbrev dktX0_isText_0 : List UInt8 := dkwX0_isText_0 ++ dktX0_isText_1
theorem dksX0_isText_0 : cX0_isText.data.toList.drop 0 = dktX0_isText_0 := by decide +kernel
theorem dksX0_isText_1 : cX0_isText.data.toList.drop 22 = dktX0_isText_1 := dk_seg dksX0_isText_0 22 rfl rfl
theorem dksX0_isText_2 : cX0_isText.data.toList.drop 46 = dktX0_isText_2 := dk_seg dksX0_isText_1 24 rfl rfl
theorem dX0_isText_0 : decode cX0_isText 0 = .ok (.aload_n 0, 1) := dk_42 (dk_at dksX0_isText_0 0 rfl rfl)
theorem dX0_isText_1 : decode cX0_isText 1 = .ok (.arraylength, 1) := dk_190 (dk_at dksX0_isText_0 1 rfl rfl)
theorem dX0_isText_2 : decode cX0_isText 2 = .ok (.bipush 8, 2) := dk_16 8 (dk_at dksX0_isText_0 2 rfl rfl)
theorem dX0_isText_4 : decode cX0_isText 4 = .ok (.if_icmp .gt 7, 3) := dk_163 0 7 (dk_at dksX0_isText_0 4 rfl rfl)
theorem dX0_isText_7 : decode cX0_isText 7 = .ok (.iconst 1, 1) := dk_4 (dk_at dksX0_isText_0 7 rfl rfl)
theorem dX0_isText_8 : decode cX0_isText 8 = .ok (.goto 4, 3) := dk_167 0 4 (dk_at dksX0_isText_0 8 rfl rfl)
theorem dX0_isText_11 : decode cX0_isText 11 = .ok (.iconst 0, 1) := dk_3 (dk_at dksX0_isText_0 11 rfl rfl)
theorem dX0_isText_12 : decode cX0_isText 12 = .ok (.istore_n 1, 1) := dk_60 (dk_at dksX0_isText_0 12 rfl rfl)
theorem dX0_isText_13 : decode cX0_isText 13 = .ok (.iconst 0, 1) := dk_3 (dk_at dksX0_isText_0 13 rfl rfl)
theorem dX0_isText_14 : decode cX0_isText 14 = .ok (.istore_n 2, 1) := dk_61 (dk_at dksX0_isText_0 14 rfl rfl)
theorem dX0_isText_15 : decode cX0_isText 15 = .ok (.iload_n 2, 1) := dk_28 (dk_at dksX0_isText_0 15 rfl rfl)
theorem dX0_isText_16 : decode cX0_isText 16 = .ok (.aload_n 0, 1) := dk_42 (dk_at dksX0_isText_0 16 rfl rfl)
theorem dX0_isText_17 : decode cX0_isText 17 = .ok (.arraylength, 1) := dk_190 (dk_at dksX0_isText_0 17 rfl rfl)
theorem dX0_isText_18 : decode cX0_isText 18 = .ok (.if_icmp .ge 28, 3) := dk_162 0 28 (dk_at dksX0_isText_0 18 rfl rfl)
theorem dX0_isText_21 : decode cX0_isText 21 = .ok (.iload_n 1, 1) := dk_27 (dk_at dksX0_isText_0 21 rfl rfl)
theorem dX0_isText_22 : decode cX0_isText 22 = .ok (.ifCond .eq 16, 3) := dk_153 0 16 (dk_at dksX0_isText_1 0 rfl rfl)
theorem dX0_isText_25 : decode cX0_isText 25 = .ok (.aload_n 0, 1) := dk_42 (dk_at dksX0_isText_1 3 rfl rfl)
theorem dX0_isText_26 : decode cX0_isText 26 = .ok (.iload_n 2, 1) := dk_28 (dk_at dksX0_isText_1 4 rfl rfl)
theorem dX0_isText_27 : decode cX0_isText 27 = .ok (.baload, 1) := dk_51 (dk_at dksX0_isText_1 5 rfl rfl)
theorem dX0_isText_28 : decode cX0_isText 28 = .ok (.invokestatic 211, 3) := dk_184 0 211 (dk_at dksX0_isText_1 6 rfl rfl)
theorem dX0_isText_31 : decode cX0_isText 31 = .ok (.ifCond .eq 7, 3) := dk_153 0 7 (dk_at dksX0_isText_1 9 rfl rfl)
theorem dX0_isText_34 : decode cX0_isText 34 = .ok (.iconst 1, 1) := dk_4 (dk_at dksX0_isText_1 12 rfl rfl)
theorem dX0_isText_35 : decode cX0_isText 35 = .ok (.goto 4, 3) := dk_167 0 4 (dk_at dksX0_isText_1 13 rfl rfl)
theorem dX0_isText_38 : decode cX0_isText 38 = .ok (.iconst 0, 1) := dk_3 (dk_at dksX0_isText_1 16 rfl rfl)
theorem dX0_isText_39 : decode cX0_isText 39 = .ok (.istore_n 1, 1) := dk_60 (dk_at dksX0_isText_1 17 rfl rfl)
theorem dX0_isText_40 : decode cX0_isText 40 = .ok (.iinc 2 1, 3) := dk_132 2 1 (dk_at dksX0_isText_1 18 rfl rfl)
theorem dX0_isText_43 : decode cX0_isText 43 = .ok (.goto (-28), 3) := dk_167 255 228 (dk_at dksX0_isText_1 21 rfl rfl)
theorem dX0_isText_46 : decode cX0_isText 46 = .ok (.iload_n 1, 1) := dk_27 (dk_at dksX0_isText_2 0 rfl rfl)
theorem dX0_isText_47 : decode cX0_isText 47 = .ok (.ireturn, 1) := dk_172 (dk_at dksX0_isText_2 1 rfl rfl)
abbrev cX0_put : ByteArray := prog_1_method_25_code
def yX0_put : MethodName := ⟨RX0, "put", "(IIIII)I"⟩
def dkwX0_put_10 : List UInt8 := [58, 6, 42, 25, 6, 182, 0, 138, 172]
abbrev dktX0_put_10 : List UInt8 := dkwX0_put_10 ++ []
def dkwX0_put_9 : List UInt8 := [180, 0, 46, 27, 25, 9, 83, 42, 89, 180, 0, 159, 4, 96, 181, 0, 159, 42, 180, 0, 159, 4, 100, 172]
abbrev dktX0_put_9 : List UInt8 := dkwX0_put_9 ++ dktX0_put_10
def dkwX0_put_8 : List UInt8 := [154, 0, 15, 25, 11, 182, 0, 225, 154, 0, 7, 4, 167, 0, 4, 3, 16, 252, 182, 0, 131, 42]
abbrev dktX0_put_8 : List UInt8 := dkwX0_put_8 ++ dktX0_put_9
def dkwX0_put_7 : List UInt8 := [25, 11, 182, 0, 249, 42, 25, 9, 182, 0, 252, 16, 251, 182, 0, 131, 42, 25, 10, 182, 0, 225]
abbrev dktX0_put_7 : List UInt8 := dkwX0_put_7 ++ dktX0_put_8
def dkwX0_put_6 : List UInt8 := [180, 0, 181, 21, 4, 182, 0, 242, 192, 0, 119, 182, 0, 246, 132, 12, 1, 167, 255, 228, 25, 10, 21, 4]
abbrev dktX0_put_6 : List UInt8 := dkwX0_put_6 ++ dktX0_put_7
def dkwX0_put_5 : List UInt8 := [25, 8, 178, 0, 235, 184, 0, 238, 58, 11, 3, 54, 12, 21, 12, 21, 5, 162, 0, 27, 25, 11, 25, 10]
abbrev dktX0_put_5 : List UInt8 := dkwX0_put_5 ++ dktX0_put_6
def dkwX0_put_4 : List UInt8 := [182, 0, 185, 21, 4, 100, 163, 0, 7, 4, 167, 0, 4, 3, 2, 182, 0, 131, 29, 42, 180, 0, 159]
abbrev dktX0_put_4 : List UInt8 := dkwX0_put_4 ++ dktX0_put_5
def dkwX0_put_3 : List UInt8 := [182, 0, 127, 58, 10, 42, 21, 4, 155, 0, 28, 21, 5, 155, 0, 23, 21, 5, 25, 10, 180, 0, 181]
abbrev dktX0_put_3 : List UInt8 := dkwX0_put_3 ++ dktX0_put_4
def dkwX0_put_2 : List UInt8 := [153, 0, 7, 4, 167, 0, 4, 3, 16, 253, 182, 0, 131, 25, 6, 182, 0, 173, 58, 9, 25, 9, 28]
abbrev dktX0_put_2 : List UInt8 := dkwX0_put_2 ++ dktX0_put_3
def dkwX0_put_1 : List UInt8 := [58, 8, 42, 29, 155, 0, 25, 29, 5, 163, 0, 20, 21, 7, 153, 0, 15, 25, 8, 184, 0, 221]
abbrev dktX0_put_1 : List UInt8 := dkwX0_put_1 ++ dktX0_put_2
def dkwX0_put_0 : List UInt8 := [42, 27, 182, 0, 162, 58, 6, 42, 25, 6, 28, 182, 0, 214, 182, 0, 232, 54, 7, 42, 182, 0, 217]
abbrev dktX0_put_0 : List UInt8 := dkwX0_put_0 ++ dktX0_put_1
theorem dksX0_put_0 : cX0_put.data.toList.drop 0 = dktX0_put_0 := by decide +kernel
theorem dksX0_put_1 : cX0_put.data.toList.drop 23 = dktX0_put_1 := dk_seg dksX0_put_0 23 rfl rfl
theorem dksX0_put_2 : cX0_put.data.toList.drop 45 = dktX0_put_2 := dk_seg dksX0_put_1 22 rfl rfl
theorem dksX0_put_3 : cX0_put.data.toList.drop 68 = dktX0_put_3 := dk_seg dksX0_put_2 23 rfl rfl
theorem dksX0_put_4 : cX0_put.data.toList.drop 91 = dktX0_put_4 := dk_seg dksX0_put_3 23 rfl rfl
theorem dksX0_put_5 : cX0_put.data.toList.drop 114 = dktX0_put_5 := dk_seg dksX0_put_4 23 rfl rfl
theorem dksX0_put_6 : cX0_put.data.toList.drop 138 = dktX0_put_6 := dk_seg dksX0_put_5 24 rfl rfl
theorem dksX0_put_7 : cX0_put.data.toList.drop 162 = dktX0_put_7 := dk_seg dksX0_put_6 24 rfl rfl
theorem dksX0_put_8 : cX0_put.data.toList.drop 184 = dktX0_put_8 := dk_seg dksX0_put_7 22 rfl rfl
theorem dksX0_put_9 : cX0_put.data.toList.drop 206 = dktX0_put_9 := dk_seg dksX0_put_8 22 rfl rfl
theorem dksX0_put_10 : cX0_put.data.toList.drop 230 = dktX0_put_10 := dk_seg dksX0_put_9 24 rfl rfl
theorem dX0_put_0 : decode cX0_put 0 = .ok (.aload_n 0, 1) := dk_42 (dk_at dksX0_put_0 0 rfl rfl)
theorem dX0_put_1 : decode cX0_put 1 = .ok (.iload_n 1, 1) := dk_27 (dk_at dksX0_put_0 1 rfl rfl)
theorem dX0_put_2 : decode cX0_put 2 = .ok (.invokevirtual 162, 3) := dk_182 0 162 (dk_at dksX0_put_0 2 rfl rfl)
theorem dX0_put_5 : decode cX0_put 5 = .ok (.astore 6, 2) := dk_58 6 (dk_at dksX0_put_0 5 rfl rfl)
theorem dX0_put_7 : decode cX0_put 7 = .ok (.aload_n 0, 1) := dk_42 (dk_at dksX0_put_0 7 rfl rfl)
theorem dX0_put_8 : decode cX0_put 8 = .ok (.aload 6, 2) := dk_25 6 (dk_at dksX0_put_0 8 rfl rfl)
theorem dX0_put_10 : decode cX0_put 10 = .ok (.iload_n 2, 1) := dk_28 (dk_at dksX0_put_0 10 rfl rfl)
theorem dX0_put_11 : decode cX0_put 11 = .ok (.invokevirtual 214, 3) := dk_182 0 214 (dk_at dksX0_put_0 11 rfl rfl)
theorem dX0_put_14 : decode cX0_put 14 = .ok (.invokevirtual 232, 3) := dk_182 0 232 (dk_at dksX0_put_0 14 rfl rfl)
theorem dX0_put_17 : decode cX0_put 17 = .ok (.istore 7, 2) := dk_54 7 (dk_at dksX0_put_0 17 rfl rfl)
theorem dX0_put_19 : decode cX0_put 19 = .ok (.aload_n 0, 1) := dk_42 (dk_at dksX0_put_0 19 rfl rfl)
theorem dX0_put_20 : decode cX0_put 20 = .ok (.invokevirtual 217, 3) := dk_182 0 217 (dk_at dksX0_put_0 20 rfl rfl)
theorem dX0_put_23 : decode cX0_put 23 = .ok (.astore 8, 2) := dk_58 8 (dk_at dksX0_put_1 0 rfl rfl)
theorem dX0_put_25 : decode cX0_put 25 = .ok (.aload_n 0, 1) := dk_42 (dk_at dksX0_put_1 2 rfl rfl)
theorem dX0_put_26 : decode cX0_put 26 = .ok (.iload_n 3, 1) := dk_29 (dk_at dksX0_put_1 3 rfl rfl)
theorem dX0_put_27 : decode cX0_put 27 = .ok (.ifCond .lt 25, 3) := dk_155 0 25 (dk_at dksX0_put_1 4 rfl rfl)
theorem dX0_put_30 : decode cX0_put 30 = .ok (.iload_n 3, 1) := dk_29 (dk_at dksX0_put_1 7 rfl rfl)
theorem dX0_put_31 : decode cX0_put 31 = .ok (.iconst 2, 1) := dk_5 (dk_at dksX0_put_1 8 rfl rfl)
theorem dX0_put_32 : decode cX0_put 32 = .ok (.if_icmp .gt 20, 3) := dk_163 0 20 (dk_at dksX0_put_1 9 rfl rfl)
theorem dX0_put_35 : decode cX0_put 35 = .ok (.iload 7, 2) := dk_21 7 (dk_at dksX0_put_1 12 rfl rfl)
theorem dX0_put_37 : decode cX0_put 37 = .ok (.ifCond .eq 15, 3) := dk_153 0 15 (dk_at dksX0_put_1 14 rfl rfl)
theorem dX0_put_40 : decode cX0_put 40 = .ok (.aload 8, 2) := dk_25 8 (dk_at dksX0_put_1 17 rfl rfl)
theorem dX0_put_42 : decode cX0_put 42 = .ok (.invokestatic 221, 3) := dk_184 0 221 (dk_at dksX0_put_1 19 rfl rfl)
theorem dX0_put_45 : decode cX0_put 45 = .ok (.ifCond .eq 7, 3) := dk_153 0 7 (dk_at dksX0_put_2 0 rfl rfl)
theorem dX0_put_48 : decode cX0_put 48 = .ok (.iconst 1, 1) := dk_4 (dk_at dksX0_put_2 3 rfl rfl)
theorem dX0_put_49 : decode cX0_put 49 = .ok (.goto 4, 3) := dk_167 0 4 (dk_at dksX0_put_2 4 rfl rfl)
theorem dX0_put_52 : decode cX0_put 52 = .ok (.iconst 0, 1) := dk_3 (dk_at dksX0_put_2 7 rfl rfl)
theorem dX0_put_53 : decode cX0_put 53 = .ok (.bipush (-3), 2) := dk_16 253 (dk_at dksX0_put_2 8 rfl rfl)
theorem dX0_put_55 : decode cX0_put 55 = .ok (.invokevirtual 131, 3) := dk_182 0 131 (dk_at dksX0_put_2 10 rfl rfl)
theorem dX0_put_58 : decode cX0_put 58 = .ok (.aload 6, 2) := dk_25 6 (dk_at dksX0_put_2 13 rfl rfl)
theorem dX0_put_60 : decode cX0_put 60 = .ok (.invokevirtual 173, 3) := dk_182 0 173 (dk_at dksX0_put_2 15 rfl rfl)
theorem dX0_put_63 : decode cX0_put 63 = .ok (.astore 9, 2) := dk_58 9 (dk_at dksX0_put_2 18 rfl rfl)
theorem dX0_put_65 : decode cX0_put 65 = .ok (.aload 9, 2) := dk_25 9 (dk_at dksX0_put_2 20 rfl rfl)
theorem dX0_put_67 : decode cX0_put 67 = .ok (.iload_n 2, 1) := dk_28 (dk_at dksX0_put_2 22 rfl rfl)
theorem dX0_put_68 : decode cX0_put 68 = .ok (.invokevirtual 127, 3) := dk_182 0 127 (dk_at dksX0_put_3 0 rfl rfl)
theorem dX0_put_71 : decode cX0_put 71 = .ok (.astore 10, 2) := dk_58 10 (dk_at dksX0_put_3 3 rfl rfl)
theorem dX0_put_73 : decode cX0_put 73 = .ok (.aload_n 0, 1) := dk_42 (dk_at dksX0_put_3 5 rfl rfl)
theorem dX0_put_74 : decode cX0_put 74 = .ok (.iload 4, 2) := dk_21 4 (dk_at dksX0_put_3 6 rfl rfl)
theorem dX0_put_76 : decode cX0_put 76 = .ok (.ifCond .lt 28, 3) := dk_155 0 28 (dk_at dksX0_put_3 8 rfl rfl)
theorem dX0_put_79 : decode cX0_put 79 = .ok (.iload 5, 2) := dk_21 5 (dk_at dksX0_put_3 11 rfl rfl)
theorem dX0_put_81 : decode cX0_put 81 = .ok (.ifCond .lt 23, 3) := dk_155 0 23 (dk_at dksX0_put_3 13 rfl rfl)
theorem dX0_put_84 : decode cX0_put 84 = .ok (.iload 5, 2) := dk_21 5 (dk_at dksX0_put_3 16 rfl rfl)
theorem dX0_put_86 : decode cX0_put 86 = .ok (.aload 10, 2) := dk_25 10 (dk_at dksX0_put_3 18 rfl rfl)
theorem dX0_put_88 : decode cX0_put 88 = .ok (.getfield 181, 3) := dk_180 0 181 (dk_at dksX0_put_3 20 rfl rfl)
theorem dX0_put_91 : decode cX0_put 91 = .ok (.invokevirtual 185, 3) := dk_182 0 185 (dk_at dksX0_put_4 0 rfl rfl)
theorem dX0_put_94 : decode cX0_put 94 = .ok (.iload 4, 2) := dk_21 4 (dk_at dksX0_put_4 3 rfl rfl)
theorem dX0_put_96 : decode cX0_put 96 = .ok (.isub, 1) := dk_100 (dk_at dksX0_put_4 5 rfl rfl)
theorem dX0_put_97 : decode cX0_put 97 = .ok (.if_icmp .gt 7, 3) := dk_163 0 7 (dk_at dksX0_put_4 6 rfl rfl)
theorem dX0_put_100 : decode cX0_put 100 = .ok (.iconst 1, 1) := dk_4 (dk_at dksX0_put_4 9 rfl rfl)
theorem dX0_put_101 : decode cX0_put 101 = .ok (.goto 4, 3) := dk_167 0 4 (dk_at dksX0_put_4 10 rfl rfl)
theorem dX0_put_104 : decode cX0_put 104 = .ok (.iconst 0, 1) := dk_3 (dk_at dksX0_put_4 13 rfl rfl)
theorem dX0_put_105 : decode cX0_put 105 = .ok (.iconst (-1), 1) := dk_2 (dk_at dksX0_put_4 14 rfl rfl)
theorem dX0_put_106 : decode cX0_put 106 = .ok (.invokevirtual 131, 3) := dk_182 0 131 (dk_at dksX0_put_4 15 rfl rfl)
theorem dX0_put_109 : decode cX0_put 109 = .ok (.iload_n 3, 1) := dk_29 (dk_at dksX0_put_4 18 rfl rfl)
theorem dX0_put_110 : decode cX0_put 110 = .ok (.aload_n 0, 1) := dk_42 (dk_at dksX0_put_4 19 rfl rfl)
theorem dX0_put_111 : decode cX0_put 111 = .ok (.getfield 159, 3) := dk_180 0 159 (dk_at dksX0_put_4 20 rfl rfl)
theorem dX0_put_114 : decode cX0_put 114 = .ok (.aload 8, 2) := dk_25 8 (dk_at dksX0_put_5 0 rfl rfl)
theorem dX0_put_116 : decode cX0_put 116 = .ok (.getstatic 235, 3) := dk_178 0 235 (dk_at dksX0_put_5 2 rfl rfl)
theorem dX0_put_119 : decode cX0_put 119 = .ok (.invokestatic 238, 3) := dk_184 0 238 (dk_at dksX0_put_5 5 rfl rfl)
theorem dX0_put_122 : decode cX0_put 122 = .ok (.astore 11, 2) := dk_58 11 (dk_at dksX0_put_5 8 rfl rfl)
theorem dX0_put_124 : decode cX0_put 124 = .ok (.iconst 0, 1) := dk_3 (dk_at dksX0_put_5 10 rfl rfl)
theorem dX0_put_125 : decode cX0_put 125 = .ok (.istore 12, 2) := dk_54 12 (dk_at dksX0_put_5 11 rfl rfl)
theorem dX0_put_127 : decode cX0_put 127 = .ok (.iload 12, 2) := dk_21 12 (dk_at dksX0_put_5 13 rfl rfl)
theorem dX0_put_129 : decode cX0_put 129 = .ok (.iload 5, 2) := dk_21 5 (dk_at dksX0_put_5 15 rfl rfl)
theorem dX0_put_131 : decode cX0_put 131 = .ok (.if_icmp .ge 27, 3) := dk_162 0 27 (dk_at dksX0_put_5 17 rfl rfl)
theorem dX0_put_134 : decode cX0_put 134 = .ok (.aload 11, 2) := dk_25 11 (dk_at dksX0_put_5 20 rfl rfl)
theorem dX0_put_136 : decode cX0_put 136 = .ok (.aload 10, 2) := dk_25 10 (dk_at dksX0_put_5 22 rfl rfl)
theorem dX0_put_138 : decode cX0_put 138 = .ok (.getfield 181, 3) := dk_180 0 181 (dk_at dksX0_put_6 0 rfl rfl)
theorem dX0_put_141 : decode cX0_put 141 = .ok (.iload 4, 2) := dk_21 4 (dk_at dksX0_put_6 3 rfl rfl)
theorem dX0_put_143 : decode cX0_put 143 = .ok (.invokevirtual 242, 3) := dk_182 0 242 (dk_at dksX0_put_6 5 rfl rfl)
theorem dX0_put_146 : decode cX0_put 146 = .ok (.checkcast 119, 3) := dk_192 0 119 (dk_at dksX0_put_6 8 rfl rfl)
theorem dX0_put_149 : decode cX0_put 149 = .ok (.invokevirtual 246, 3) := dk_182 0 246 (dk_at dksX0_put_6 11 rfl rfl)
theorem dX0_put_152 : decode cX0_put 152 = .ok (.iinc 12 1, 3) := dk_132 12 1 (dk_at dksX0_put_6 14 rfl rfl)
theorem dX0_put_155 : decode cX0_put 155 = .ok (.goto (-28), 3) := dk_167 255 228 (dk_at dksX0_put_6 17 rfl rfl)
theorem dX0_put_158 : decode cX0_put 158 = .ok (.aload 10, 2) := dk_25 10 (dk_at dksX0_put_6 20 rfl rfl)
theorem dX0_put_160 : decode cX0_put 160 = .ok (.iload 4, 2) := dk_21 4 (dk_at dksX0_put_6 22 rfl rfl)
theorem dX0_put_162 : decode cX0_put 162 = .ok (.aload 11, 2) := dk_25 11 (dk_at dksX0_put_7 0 rfl rfl)
theorem dX0_put_164 : decode cX0_put 164 = .ok (.invokevirtual 249, 3) := dk_182 0 249 (dk_at dksX0_put_7 2 rfl rfl)
theorem dX0_put_167 : decode cX0_put 167 = .ok (.aload_n 0, 1) := dk_42 (dk_at dksX0_put_7 5 rfl rfl)
theorem dX0_put_168 : decode cX0_put 168 = .ok (.aload 9, 2) := dk_25 9 (dk_at dksX0_put_7 6 rfl rfl)
theorem dX0_put_170 : decode cX0_put 170 = .ok (.invokevirtual 252, 3) := dk_182 0 252 (dk_at dksX0_put_7 8 rfl rfl)
theorem dX0_put_173 : decode cX0_put 173 = .ok (.bipush (-5), 2) := dk_16 251 (dk_at dksX0_put_7 11 rfl rfl)
theorem dX0_put_175 : decode cX0_put 175 = .ok (.invokevirtual 131, 3) := dk_182 0 131 (dk_at dksX0_put_7 13 rfl rfl)
theorem dX0_put_178 : decode cX0_put 178 = .ok (.aload_n 0, 1) := dk_42 (dk_at dksX0_put_7 16 rfl rfl)
theorem dX0_put_179 : decode cX0_put 179 = .ok (.aload 10, 2) := dk_25 10 (dk_at dksX0_put_7 17 rfl rfl)
theorem dX0_put_181 : decode cX0_put 181 = .ok (.invokevirtual 225, 3) := dk_182 0 225 (dk_at dksX0_put_7 19 rfl rfl)
theorem dX0_put_184 : decode cX0_put 184 = .ok (.ifCond .ne 15, 3) := dk_154 0 15 (dk_at dksX0_put_8 0 rfl rfl)
theorem dX0_put_187 : decode cX0_put 187 = .ok (.aload 11, 2) := dk_25 11 (dk_at dksX0_put_8 3 rfl rfl)
theorem dX0_put_189 : decode cX0_put 189 = .ok (.invokevirtual 225, 3) := dk_182 0 225 (dk_at dksX0_put_8 5 rfl rfl)
theorem dX0_put_192 : decode cX0_put 192 = .ok (.ifCond .ne 7, 3) := dk_154 0 7 (dk_at dksX0_put_8 8 rfl rfl)
theorem dX0_put_195 : decode cX0_put 195 = .ok (.iconst 1, 1) := dk_4 (dk_at dksX0_put_8 11 rfl rfl)
theorem dX0_put_196 : decode cX0_put 196 = .ok (.goto 4, 3) := dk_167 0 4 (dk_at dksX0_put_8 12 rfl rfl)
theorem dX0_put_199 : decode cX0_put 199 = .ok (.iconst 0, 1) := dk_3 (dk_at dksX0_put_8 15 rfl rfl)
theorem dX0_put_200 : decode cX0_put 200 = .ok (.bipush (-4), 2) := dk_16 252 (dk_at dksX0_put_8 16 rfl rfl)
theorem dX0_put_202 : decode cX0_put 202 = .ok (.invokevirtual 131, 3) := dk_182 0 131 (dk_at dksX0_put_8 18 rfl rfl)
theorem dX0_put_205 : decode cX0_put 205 = .ok (.aload_n 0, 1) := dk_42 (dk_at dksX0_put_8 21 rfl rfl)
theorem dX0_put_206 : decode cX0_put 206 = .ok (.getfield 46, 3) := dk_180 0 46 (dk_at dksX0_put_9 0 rfl rfl)
theorem dX0_put_209 : decode cX0_put 209 = .ok (.iload_n 1, 1) := dk_27 (dk_at dksX0_put_9 3 rfl rfl)
theorem dX0_put_210 : decode cX0_put 210 = .ok (.aload 9, 2) := dk_25 9 (dk_at dksX0_put_9 4 rfl rfl)
theorem dX0_put_212 : decode cX0_put 212 = .ok (.aastore, 1) := dk_83 (dk_at dksX0_put_9 6 rfl rfl)
theorem dX0_put_213 : decode cX0_put 213 = .ok (.aload_n 0, 1) := dk_42 (dk_at dksX0_put_9 7 rfl rfl)
theorem dX0_put_214 : decode cX0_put 214 = .ok (.dup, 1) := dk_89 (dk_at dksX0_put_9 8 rfl rfl)
theorem dX0_put_215 : decode cX0_put 215 = .ok (.getfield 159, 3) := dk_180 0 159 (dk_at dksX0_put_9 9 rfl rfl)
theorem dX0_put_218 : decode cX0_put 218 = .ok (.iconst 1, 1) := dk_4 (dk_at dksX0_put_9 12 rfl rfl)
theorem dX0_put_219 : decode cX0_put 219 = .ok (.iadd, 1) := dk_96 (dk_at dksX0_put_9 13 rfl rfl)
theorem dX0_put_220 : decode cX0_put 220 = .ok (.putfield 159, 3) := dk_181 0 159 (dk_at dksX0_put_9 14 rfl rfl)
theorem dX0_put_223 : decode cX0_put 223 = .ok (.aload_n 0, 1) := dk_42 (dk_at dksX0_put_9 17 rfl rfl)
theorem dX0_put_224 : decode cX0_put 224 = .ok (.getfield 159, 3) := dk_180 0 159 (dk_at dksX0_put_9 18 rfl rfl)
theorem dX0_put_227 : decode cX0_put 227 = .ok (.iconst 1, 1) := dk_4 (dk_at dksX0_put_9 21 rfl rfl)
theorem dX0_put_228 : decode cX0_put 228 = .ok (.isub, 1) := dk_100 (dk_at dksX0_put_9 22 rfl rfl)
theorem dX0_put_229 : decode cX0_put 229 = .ok (.ireturn, 1) := dk_172 (dk_at dksX0_put_9 23 rfl rfl)
theorem dX0_put_230 : decode cX0_put 230 = .ok (.astore 6, 2) := dk_58 6 (dk_at dksX0_put_10 0 rfl rfl)
theorem dX0_put_232 : decode cX0_put 232 = .ok (.aload_n 0, 1) := dk_42 (dk_at dksX0_put_10 2 rfl rfl)
theorem dX0_put_233 : decode cX0_put 233 = .ok (.aload 6, 2) := dk_25 6 (dk_at dksX0_put_10 3 rfl rfl)
theorem dX0_put_235 : decode cX0_put 235 = .ok (.invokevirtual 138, 3) := dk_182 0 138 (dk_at dksX0_put_10 5 rfl rfl)
theorem dX0_put_238 : decode cX0_put 238 = .ok (.ireturn, 1) := dk_172 (dk_at dksX0_put_10 8 rfl rfl)
abbrev cX0_take : ByteArray := prog_1_method_26_code
def yX0_take : MethodName := ⟨RX0, "take", "(II)I"⟩
def dkwX0_take_7 : List UInt8 := [182, 0, 138, 172]
abbrev dktX0_take_7 : List UInt8 := dkwX0_take_7 ++ []
def dkwX0_take_6 : List UInt8 := [182, 0, 131, 25, 4, 182, 0, 252, 87, 42, 180, 0, 46, 27, 25, 4, 83, 21, 8, 172, 78, 42, 45]
abbrev dktX0_take_6 : List UInt8 := dkwX0_take_6 ++ dktX0_take_7
def dkwX0_take_5 : List UInt8 := [132, 9, 1, 167, 255, 223, 42, 25, 6, 182, 0, 225, 154, 0, 7, 4, 167, 0, 4, 3, 16, 252]
abbrev dktX0_take_5 : List UInt8 := dkwX0_take_5 ++ dktX0_take_6
def dkwX0_take_4 : List UInt8 := [25, 6, 21, 7, 21, 9, 96, 25, 5, 180, 0, 181, 21, 9, 182, 1, 3, 192, 0, 119, 182, 0, 249]
abbrev dktX0_take_4 : List UInt8 := dkwX0_take_4 ++ dktX0_take_5
def dkwX0_take_3 : List UInt8 := [182, 0, 242, 87, 25, 5, 180, 0, 181, 182, 0, 185, 54, 8, 3, 54, 9, 21, 9, 21, 8, 162, 0, 32]
abbrev dktX0_take_3 : List UInt8 := dkwX0_take_3 ++ dktX0_take_4
def dkwX0_take_2 : List UInt8 := [180, 0, 192, 58, 6, 25, 6, 180, 0, 181, 25, 5, 182, 0, 255, 54, 7, 25, 6, 180, 0, 181, 21, 7]
abbrev dktX0_take_2 : List UInt8 := dkwX0_take_2 ++ dktX0_take_3
def dkwX0_take_1 : List UInt8 := [3, 16, 249, 182, 0, 131, 45, 182, 0, 173, 58, 4, 25, 4, 28, 182, 0, 127, 58, 5, 25, 5]
abbrev dktX0_take_1 : List UInt8 := dkwX0_take_1 ++ dktX0_take_2
def dkwX0_take_0 : List UInt8 := [42, 27, 182, 0, 162, 78, 42, 42, 45, 28, 182, 0, 214, 45, 180, 0, 114, 165, 0, 7, 4, 167, 0, 4]
abbrev dktX0_take_0 : List UInt8 := dkwX0_take_0 ++ dktX0_take_1
theorem dksX0_take_0 : cX0_take.data.toList.drop 0 = dktX0_take_0 := by decide +kernel
theorem dksX0_take_1 : cX0_take.data.toList.drop 24 = dktX0_take_1 := dk_seg dksX0_take_0 24 rfl rfl
theorem dksX0_take_2 : cX0_take.data.toList.drop 46 = dktX0_take_2 := dk_seg dksX0_take_1 22 rfl rfl
theorem dksX0_take_3 : cX0_take.data.toList.drop 70 = dktX0_take_3 := dk_seg dksX0_take_2 24 rfl rfl
theorem dksX0_take_4 : cX0_take.data.toList.drop 94 = dktX0_take_4 := dk_seg dksX0_take_3 24 rfl rfl
theorem dksX0_take_5 : cX0_take.data.toList.drop 117 = dktX0_take_5 := dk_seg dksX0_take_4 23 rfl rfl
theorem dksX0_take_6 : cX0_take.data.toList.drop 139 = dktX0_take_6 := dk_seg dksX0_take_5 22 rfl rfl
theorem dksX0_take_7 : cX0_take.data.toList.drop 162 = dktX0_take_7 := dk_seg dksX0_take_6 23 rfl rfl
theorem dX0_take_0 : decode cX0_take 0 = .ok (.aload_n 0, 1) := dk_42 (dk_at dksX0_take_0 0 rfl rfl)
theorem dX0_take_1 : decode cX0_take 1 = .ok (.iload_n 1, 1) := dk_27 (dk_at dksX0_take_0 1 rfl rfl)
theorem dX0_take_2 : decode cX0_take 2 = .ok (.invokevirtual 162, 3) := dk_182 0 162 (dk_at dksX0_take_0 2 rfl rfl)
theorem dX0_take_5 : decode cX0_take 5 = .ok (.astore_n 3, 1) := dk_78 (dk_at dksX0_take_0 5 rfl rfl)
theorem dX0_take_6 : decode cX0_take 6 = .ok (.aload_n 0, 1) := dk_42 (dk_at dksX0_take_0 6 rfl rfl)
theorem dX0_take_7 : decode cX0_take 7 = .ok (.aload_n 0, 1) := dk_42 (dk_at dksX0_take_0 7 rfl rfl)
theorem dX0_take_8 : decode cX0_take 8 = .ok (.aload_n 3, 1) := dk_45 (dk_at dksX0_take_0 8 rfl rfl)
theorem dX0_take_9 : decode cX0_take 9 = .ok (.iload_n 2, 1) := dk_28 (dk_at dksX0_take_0 9 rfl rfl)
theorem dX0_take_10 : decode cX0_take 10 = .ok (.invokevirtual 214, 3) := dk_182 0 214 (dk_at dksX0_take_0 10 rfl rfl)
theorem dX0_take_13 : decode cX0_take 13 = .ok (.aload_n 3, 1) := dk_45 (dk_at dksX0_take_0 13 rfl rfl)
theorem dX0_take_14 : decode cX0_take 14 = .ok (.getfield 114, 3) := dk_180 0 114 (dk_at dksX0_take_0 14 rfl rfl)
theorem dX0_take_17 : decode cX0_take 17 = .ok (.if_acmp .eq 7, 3) := dk_165 0 7 (dk_at dksX0_take_0 17 rfl rfl)
theorem dX0_take_20 : decode cX0_take 20 = .ok (.iconst 1, 1) := dk_4 (dk_at dksX0_take_0 20 rfl rfl)
theorem dX0_take_21 : decode cX0_take 21 = .ok (.goto 4, 3) := dk_167 0 4 (dk_at dksX0_take_0 21 rfl rfl)
theorem dX0_take_24 : decode cX0_take 24 = .ok (.iconst 0, 1) := dk_3 (dk_at dksX0_take_1 0 rfl rfl)
theorem dX0_take_25 : decode cX0_take 25 = .ok (.bipush (-7), 2) := dk_16 249 (dk_at dksX0_take_1 1 rfl rfl)
theorem dX0_take_27 : decode cX0_take 27 = .ok (.invokevirtual 131, 3) := dk_182 0 131 (dk_at dksX0_take_1 3 rfl rfl)
theorem dX0_take_30 : decode cX0_take 30 = .ok (.aload_n 3, 1) := dk_45 (dk_at dksX0_take_1 6 rfl rfl)
theorem dX0_take_31 : decode cX0_take 31 = .ok (.invokevirtual 173, 3) := dk_182 0 173 (dk_at dksX0_take_1 7 rfl rfl)
theorem dX0_take_34 : decode cX0_take 34 = .ok (.astore 4, 2) := dk_58 4 (dk_at dksX0_take_1 10 rfl rfl)
theorem dX0_take_36 : decode cX0_take 36 = .ok (.aload 4, 2) := dk_25 4 (dk_at dksX0_take_1 12 rfl rfl)
theorem dX0_take_38 : decode cX0_take 38 = .ok (.iload_n 2, 1) := dk_28 (dk_at dksX0_take_1 14 rfl rfl)
theorem dX0_take_39 : decode cX0_take 39 = .ok (.invokevirtual 127, 3) := dk_182 0 127 (dk_at dksX0_take_1 15 rfl rfl)
theorem dX0_take_42 : decode cX0_take 42 = .ok (.astore 5, 2) := dk_58 5 (dk_at dksX0_take_1 18 rfl rfl)
theorem dX0_take_44 : decode cX0_take 44 = .ok (.aload 5, 2) := dk_25 5 (dk_at dksX0_take_1 20 rfl rfl)
theorem dX0_take_46 : decode cX0_take 46 = .ok (.getfield 192, 3) := dk_180 0 192 (dk_at dksX0_take_2 0 rfl rfl)
theorem dX0_take_49 : decode cX0_take 49 = .ok (.astore 6, 2) := dk_58 6 (dk_at dksX0_take_2 3 rfl rfl)
theorem dX0_take_51 : decode cX0_take 51 = .ok (.aload 6, 2) := dk_25 6 (dk_at dksX0_take_2 5 rfl rfl)
theorem dX0_take_53 : decode cX0_take 53 = .ok (.getfield 181, 3) := dk_180 0 181 (dk_at dksX0_take_2 7 rfl rfl)
theorem dX0_take_56 : decode cX0_take 56 = .ok (.aload 5, 2) := dk_25 5 (dk_at dksX0_take_2 10 rfl rfl)
theorem dX0_take_58 : decode cX0_take 58 = .ok (.invokevirtual 255, 3) := dk_182 0 255 (dk_at dksX0_take_2 12 rfl rfl)
theorem dX0_take_61 : decode cX0_take 61 = .ok (.istore 7, 2) := dk_54 7 (dk_at dksX0_take_2 15 rfl rfl)
theorem dX0_take_63 : decode cX0_take 63 = .ok (.aload 6, 2) := dk_25 6 (dk_at dksX0_take_2 17 rfl rfl)
theorem dX0_take_65 : decode cX0_take 65 = .ok (.getfield 181, 3) := dk_180 0 181 (dk_at dksX0_take_2 19 rfl rfl)
theorem dX0_take_68 : decode cX0_take 68 = .ok (.iload 7, 2) := dk_21 7 (dk_at dksX0_take_2 22 rfl rfl)
theorem dX0_take_70 : decode cX0_take 70 = .ok (.invokevirtual 242, 3) := dk_182 0 242 (dk_at dksX0_take_3 0 rfl rfl)
theorem dX0_take_73 : decode cX0_take 73 = .ok (.pop, 1) := dk_87 (dk_at dksX0_take_3 3 rfl rfl)
theorem dX0_take_74 : decode cX0_take 74 = .ok (.aload 5, 2) := dk_25 5 (dk_at dksX0_take_3 4 rfl rfl)
theorem dX0_take_76 : decode cX0_take 76 = .ok (.getfield 181, 3) := dk_180 0 181 (dk_at dksX0_take_3 6 rfl rfl)
theorem dX0_take_79 : decode cX0_take 79 = .ok (.invokevirtual 185, 3) := dk_182 0 185 (dk_at dksX0_take_3 9 rfl rfl)
theorem dX0_take_82 : decode cX0_take 82 = .ok (.istore 8, 2) := dk_54 8 (dk_at dksX0_take_3 12 rfl rfl)
theorem dX0_take_84 : decode cX0_take 84 = .ok (.iconst 0, 1) := dk_3 (dk_at dksX0_take_3 14 rfl rfl)
theorem dX0_take_85 : decode cX0_take 85 = .ok (.istore 9, 2) := dk_54 9 (dk_at dksX0_take_3 15 rfl rfl)
theorem dX0_take_87 : decode cX0_take 87 = .ok (.iload 9, 2) := dk_21 9 (dk_at dksX0_take_3 17 rfl rfl)
theorem dX0_take_89 : decode cX0_take 89 = .ok (.iload 8, 2) := dk_21 8 (dk_at dksX0_take_3 19 rfl rfl)
theorem dX0_take_91 : decode cX0_take 91 = .ok (.if_icmp .ge 32, 3) := dk_162 0 32 (dk_at dksX0_take_3 21 rfl rfl)
theorem dX0_take_94 : decode cX0_take 94 = .ok (.aload 6, 2) := dk_25 6 (dk_at dksX0_take_4 0 rfl rfl)
theorem dX0_take_96 : decode cX0_take 96 = .ok (.iload 7, 2) := dk_21 7 (dk_at dksX0_take_4 2 rfl rfl)
theorem dX0_take_98 : decode cX0_take 98 = .ok (.iload 9, 2) := dk_21 9 (dk_at dksX0_take_4 4 rfl rfl)
theorem dX0_take_100 : decode cX0_take 100 = .ok (.iadd, 1) := dk_96 (dk_at dksX0_take_4 6 rfl rfl)
theorem dX0_take_101 : decode cX0_take 101 = .ok (.aload 5, 2) := dk_25 5 (dk_at dksX0_take_4 7 rfl rfl)
theorem dX0_take_103 : decode cX0_take 103 = .ok (.getfield 181, 3) := dk_180 0 181 (dk_at dksX0_take_4 9 rfl rfl)
theorem dX0_take_106 : decode cX0_take 106 = .ok (.iload 9, 2) := dk_21 9 (dk_at dksX0_take_4 12 rfl rfl)
theorem dX0_take_108 : decode cX0_take 108 = .ok (.invokevirtual 259, 3) := dk_182 1 3 (dk_at dksX0_take_4 14 rfl rfl)
theorem dX0_take_111 : decode cX0_take 111 = .ok (.checkcast 119, 3) := dk_192 0 119 (dk_at dksX0_take_4 17 rfl rfl)
theorem dX0_take_114 : decode cX0_take 114 = .ok (.invokevirtual 249, 3) := dk_182 0 249 (dk_at dksX0_take_4 20 rfl rfl)
theorem dX0_take_117 : decode cX0_take 117 = .ok (.iinc 9 1, 3) := dk_132 9 1 (dk_at dksX0_take_5 0 rfl rfl)
theorem dX0_take_120 : decode cX0_take 120 = .ok (.goto (-33), 3) := dk_167 255 223 (dk_at dksX0_take_5 3 rfl rfl)
theorem dX0_take_123 : decode cX0_take 123 = .ok (.aload_n 0, 1) := dk_42 (dk_at dksX0_take_5 6 rfl rfl)
theorem dX0_take_124 : decode cX0_take 124 = .ok (.aload 6, 2) := dk_25 6 (dk_at dksX0_take_5 7 rfl rfl)
theorem dX0_take_126 : decode cX0_take 126 = .ok (.invokevirtual 225, 3) := dk_182 0 225 (dk_at dksX0_take_5 9 rfl rfl)
theorem dX0_take_129 : decode cX0_take 129 = .ok (.ifCond .ne 7, 3) := dk_154 0 7 (dk_at dksX0_take_5 12 rfl rfl)
theorem dX0_take_132 : decode cX0_take 132 = .ok (.iconst 1, 1) := dk_4 (dk_at dksX0_take_5 15 rfl rfl)
theorem dX0_take_133 : decode cX0_take 133 = .ok (.goto 4, 3) := dk_167 0 4 (dk_at dksX0_take_5 16 rfl rfl)
theorem dX0_take_136 : decode cX0_take 136 = .ok (.iconst 0, 1) := dk_3 (dk_at dksX0_take_5 19 rfl rfl)
theorem dX0_take_137 : decode cX0_take 137 = .ok (.bipush (-4), 2) := dk_16 252 (dk_at dksX0_take_5 20 rfl rfl)
theorem dX0_take_139 : decode cX0_take 139 = .ok (.invokevirtual 131, 3) := dk_182 0 131 (dk_at dksX0_take_6 0 rfl rfl)
theorem dX0_take_142 : decode cX0_take 142 = .ok (.aload 4, 2) := dk_25 4 (dk_at dksX0_take_6 3 rfl rfl)
theorem dX0_take_144 : decode cX0_take 144 = .ok (.invokevirtual 252, 3) := dk_182 0 252 (dk_at dksX0_take_6 5 rfl rfl)
theorem dX0_take_147 : decode cX0_take 147 = .ok (.pop, 1) := dk_87 (dk_at dksX0_take_6 8 rfl rfl)
theorem dX0_take_148 : decode cX0_take 148 = .ok (.aload_n 0, 1) := dk_42 (dk_at dksX0_take_6 9 rfl rfl)
theorem dX0_take_149 : decode cX0_take 149 = .ok (.getfield 46, 3) := dk_180 0 46 (dk_at dksX0_take_6 10 rfl rfl)
theorem dX0_take_152 : decode cX0_take 152 = .ok (.iload_n 1, 1) := dk_27 (dk_at dksX0_take_6 13 rfl rfl)
theorem dX0_take_153 : decode cX0_take 153 = .ok (.aload 4, 2) := dk_25 4 (dk_at dksX0_take_6 14 rfl rfl)
theorem dX0_take_155 : decode cX0_take 155 = .ok (.aastore, 1) := dk_83 (dk_at dksX0_take_6 16 rfl rfl)
theorem dX0_take_156 : decode cX0_take 156 = .ok (.iload 8, 2) := dk_21 8 (dk_at dksX0_take_6 17 rfl rfl)
theorem dX0_take_158 : decode cX0_take 158 = .ok (.ireturn, 1) := dk_172 (dk_at dksX0_take_6 19 rfl rfl)
theorem dX0_take_159 : decode cX0_take 159 = .ok (.astore_n 3, 1) := dk_78 (dk_at dksX0_take_6 20 rfl rfl)
theorem dX0_take_160 : decode cX0_take 160 = .ok (.aload_n 0, 1) := dk_42 (dk_at dksX0_take_6 21 rfl rfl)
theorem dX0_take_161 : decode cX0_take 161 = .ok (.aload_n 3, 1) := dk_45 (dk_at dksX0_take_6 22 rfl rfl)
theorem dX0_take_162 : decode cX0_take 162 = .ok (.invokevirtual 138, 3) := dk_182 0 138 (dk_at dksX0_take_7 0 rfl rfl)
theorem dX0_take_165 : decode cX0_take 165 = .ok (.ireturn, 1) := dk_172 (dk_at dksX0_take_7 3 rfl rfl)
abbrev cX0_move : ByteArray := prog_1_method_27_code
def yX0_move : MethodName := ⟨RX0, "move", "(IIII)I"⟩
def dkwX0_move_9 : List UInt8 := [180, 0, 198, 100, 4, 96, 172, 58, 5, 42, 25, 5, 182, 0, 138, 172]
abbrev dktX0_move_9 : List UInt8 := dkwX0_move_9 ++ []
def dkwX0_move_8 : List UInt8 := [167, 0, 4, 3, 16, 252, 182, 0, 131, 42, 180, 0, 46, 27, 25, 8, 83, 25, 6, 180, 0, 195, 25, 6]
abbrev dktX0_move_8 : List UInt8 := dkwX0_move_8 ++ dktX0_move_9
def dkwX0_move_7 : List UInt8 := [182, 0, 249, 42, 25, 8, 182, 0, 252, 16, 251, 182, 0, 131, 42, 25, 10, 182, 0, 225, 154, 0, 7, 4]
abbrev dktX0_move_7 : List UInt8 := dkwX0_move_7 ++ dktX0_move_8
def dkwX0_move_6 : List UInt8 := [180, 0, 181, 182, 0, 185, 163, 0, 7, 4, 167, 0, 4, 3, 2, 182, 0, 131, 25, 10, 21, 4, 25, 9]
abbrev dktX0_move_6 : List UInt8 := dkwX0_move_6 ++ dktX0_move_7
def dkwX0_move_5 : List UInt8 := [25, 9, 180, 0, 192, 180, 0, 181, 25, 9, 182, 1, 6, 87, 42, 21, 4, 155, 0, 20, 21, 4, 25, 10]
abbrev dktX0_move_5 : List UInt8 := dkwX0_move_5 ++ dktX0_move_6
def dkwX0_move_4 : List UInt8 := [25, 5, 182, 0, 173, 58, 8, 25, 8, 28, 182, 0, 127, 58, 9, 25, 8, 29, 182, 0, 127, 58, 10]
abbrev dktX0_move_4 : List UInt8 := dkwX0_move_4 ++ dktX0_move_5
def dkwX0_move_3 : List UInt8 := [25, 7, 180, 0, 195, 25, 6, 180, 0, 195, 164, 0, 7, 4, 167, 0, 4, 3, 16, 249, 182, 0, 131]
abbrev dktX0_move_3 : List UInt8 := dkwX0_move_3 ++ dktX0_move_4
def dkwX0_move_2 : List UInt8 := [25, 7, 182, 0, 232, 16, 253, 182, 0, 131, 42, 25, 7, 180, 0, 195, 25, 6, 180, 0, 198, 161, 0, 16]
abbrev dktX0_move_2 : List UInt8 := dkwX0_move_2 ++ dktX0_move_3
def dkwX0_move_1 : List UInt8 := [165, 0, 7, 4, 167, 0, 4, 3, 16, 249, 182, 0, 131, 42, 25, 5, 29, 182, 0, 214, 58, 7, 42]
abbrev dktX0_move_1 : List UInt8 := dkwX0_move_1 ++ dktX0_move_2
def dkwX0_move_0 : List UInt8 := [42, 27, 182, 0, 162, 58, 5, 42, 25, 5, 28, 182, 0, 214, 58, 6, 42, 25, 6, 25, 5, 180, 0, 114]
abbrev dktX0_move_0 : List UInt8 := dkwX0_move_0 ++ dktX0_move_1
theorem dksX0_move_0 : cX0_move.data.toList.drop 0 = dktX0_move_0 := by decide +kernel
theorem dksX0_move_1 : cX0_move.data.toList.drop 24 = dktX0_move_1 := dk_seg dksX0_move_0 24 rfl rfl
theorem dksX0_move_2 : cX0_move.data.toList.drop 47 = dktX0_move_2 := dk_seg dksX0_move_1 23 rfl rfl
theorem dksX0_move_3 : cX0_move.data.toList.drop 71 = dktX0_move_3 := dk_seg dksX0_move_2 24 rfl rfl
theorem dksX0_move_4 : cX0_move.data.toList.drop 94 = dktX0_move_4 := dk_seg dksX0_move_3 23 rfl rfl
theorem dksX0_move_5 : cX0_move.data.toList.drop 117 = dktX0_move_5 := dk_seg dksX0_move_4 23 rfl rfl
theorem dksX0_move_6 : cX0_move.data.toList.drop 141 = dktX0_move_6 := dk_seg dksX0_move_5 24 rfl rfl
theorem dksX0_move_7 : cX0_move.data.toList.drop 165 = dktX0_move_7 := dk_seg dksX0_move_6 24 rfl rfl
theorem dksX0_move_8 : cX0_move.data.toList.drop 189 = dktX0_move_8 := dk_seg dksX0_move_7 24 rfl rfl
theorem dksX0_move_9 : cX0_move.data.toList.drop 213 = dktX0_move_9 := dk_seg dksX0_move_8 24 rfl rfl
theorem dX0_move_0 : decode cX0_move 0 = .ok (.aload_n 0, 1) := dk_42 (dk_at dksX0_move_0 0 rfl rfl)
theorem dX0_move_1 : decode cX0_move 1 = .ok (.iload_n 1, 1) := dk_27 (dk_at dksX0_move_0 1 rfl rfl)
theorem dX0_move_2 : decode cX0_move 2 = .ok (.invokevirtual 162, 3) := dk_182 0 162 (dk_at dksX0_move_0 2 rfl rfl)
theorem dX0_move_5 : decode cX0_move 5 = .ok (.astore 5, 2) := dk_58 5 (dk_at dksX0_move_0 5 rfl rfl)
theorem dX0_move_7 : decode cX0_move 7 = .ok (.aload_n 0, 1) := dk_42 (dk_at dksX0_move_0 7 rfl rfl)
theorem dX0_move_8 : decode cX0_move 8 = .ok (.aload 5, 2) := dk_25 5 (dk_at dksX0_move_0 8 rfl rfl)
theorem dX0_move_10 : decode cX0_move 10 = .ok (.iload_n 2, 1) := dk_28 (dk_at dksX0_move_0 10 rfl rfl)
theorem dX0_move_11 : decode cX0_move 11 = .ok (.invokevirtual 214, 3) := dk_182 0 214 (dk_at dksX0_move_0 11 rfl rfl)
theorem dX0_move_14 : decode cX0_move 14 = .ok (.astore 6, 2) := dk_58 6 (dk_at dksX0_move_0 14 rfl rfl)
theorem dX0_move_16 : decode cX0_move 16 = .ok (.aload_n 0, 1) := dk_42 (dk_at dksX0_move_0 16 rfl rfl)
theorem dX0_move_17 : decode cX0_move 17 = .ok (.aload 6, 2) := dk_25 6 (dk_at dksX0_move_0 17 rfl rfl)
theorem dX0_move_19 : decode cX0_move 19 = .ok (.aload 5, 2) := dk_25 5 (dk_at dksX0_move_0 19 rfl rfl)
theorem dX0_move_21 : decode cX0_move 21 = .ok (.getfield 114, 3) := dk_180 0 114 (dk_at dksX0_move_0 21 rfl rfl)
theorem dX0_move_24 : decode cX0_move 24 = .ok (.if_acmp .eq 7, 3) := dk_165 0 7 (dk_at dksX0_move_1 0 rfl rfl)
theorem dX0_move_27 : decode cX0_move 27 = .ok (.iconst 1, 1) := dk_4 (dk_at dksX0_move_1 3 rfl rfl)
theorem dX0_move_28 : decode cX0_move 28 = .ok (.goto 4, 3) := dk_167 0 4 (dk_at dksX0_move_1 4 rfl rfl)
theorem dX0_move_31 : decode cX0_move 31 = .ok (.iconst 0, 1) := dk_3 (dk_at dksX0_move_1 7 rfl rfl)
theorem dX0_move_32 : decode cX0_move 32 = .ok (.bipush (-7), 2) := dk_16 249 (dk_at dksX0_move_1 8 rfl rfl)
theorem dX0_move_34 : decode cX0_move 34 = .ok (.invokevirtual 131, 3) := dk_182 0 131 (dk_at dksX0_move_1 10 rfl rfl)
theorem dX0_move_37 : decode cX0_move 37 = .ok (.aload_n 0, 1) := dk_42 (dk_at dksX0_move_1 13 rfl rfl)
theorem dX0_move_38 : decode cX0_move 38 = .ok (.aload 5, 2) := dk_25 5 (dk_at dksX0_move_1 14 rfl rfl)
theorem dX0_move_40 : decode cX0_move 40 = .ok (.iload_n 3, 1) := dk_29 (dk_at dksX0_move_1 16 rfl rfl)
theorem dX0_move_41 : decode cX0_move 41 = .ok (.invokevirtual 214, 3) := dk_182 0 214 (dk_at dksX0_move_1 17 rfl rfl)
theorem dX0_move_44 : decode cX0_move 44 = .ok (.astore 7, 2) := dk_58 7 (dk_at dksX0_move_1 20 rfl rfl)
theorem dX0_move_46 : decode cX0_move 46 = .ok (.aload_n 0, 1) := dk_42 (dk_at dksX0_move_1 22 rfl rfl)
theorem dX0_move_47 : decode cX0_move 47 = .ok (.aload 7, 2) := dk_25 7 (dk_at dksX0_move_2 0 rfl rfl)
theorem dX0_move_49 : decode cX0_move 49 = .ok (.invokevirtual 232, 3) := dk_182 0 232 (dk_at dksX0_move_2 2 rfl rfl)
theorem dX0_move_52 : decode cX0_move 52 = .ok (.bipush (-3), 2) := dk_16 253 (dk_at dksX0_move_2 5 rfl rfl)
theorem dX0_move_54 : decode cX0_move 54 = .ok (.invokevirtual 131, 3) := dk_182 0 131 (dk_at dksX0_move_2 7 rfl rfl)
theorem dX0_move_57 : decode cX0_move 57 = .ok (.aload_n 0, 1) := dk_42 (dk_at dksX0_move_2 10 rfl rfl)
theorem dX0_move_58 : decode cX0_move 58 = .ok (.aload 7, 2) := dk_25 7 (dk_at dksX0_move_2 11 rfl rfl)
theorem dX0_move_60 : decode cX0_move 60 = .ok (.getfield 195, 3) := dk_180 0 195 (dk_at dksX0_move_2 13 rfl rfl)
theorem dX0_move_63 : decode cX0_move 63 = .ok (.aload 6, 2) := dk_25 6 (dk_at dksX0_move_2 16 rfl rfl)
theorem dX0_move_65 : decode cX0_move 65 = .ok (.getfield 198, 3) := dk_180 0 198 (dk_at dksX0_move_2 18 rfl rfl)
theorem dX0_move_68 : decode cX0_move 68 = .ok (.if_icmp .lt 16, 3) := dk_161 0 16 (dk_at dksX0_move_2 21 rfl rfl)
theorem dX0_move_71 : decode cX0_move 71 = .ok (.aload 7, 2) := dk_25 7 (dk_at dksX0_move_3 0 rfl rfl)
theorem dX0_move_73 : decode cX0_move 73 = .ok (.getfield 195, 3) := dk_180 0 195 (dk_at dksX0_move_3 2 rfl rfl)
theorem dX0_move_76 : decode cX0_move 76 = .ok (.aload 6, 2) := dk_25 6 (dk_at dksX0_move_3 5 rfl rfl)
theorem dX0_move_78 : decode cX0_move 78 = .ok (.getfield 195, 3) := dk_180 0 195 (dk_at dksX0_move_3 7 rfl rfl)
theorem dX0_move_81 : decode cX0_move 81 = .ok (.if_icmp .le 7, 3) := dk_164 0 7 (dk_at dksX0_move_3 10 rfl rfl)
theorem dX0_move_84 : decode cX0_move 84 = .ok (.iconst 1, 1) := dk_4 (dk_at dksX0_move_3 13 rfl rfl)
theorem dX0_move_85 : decode cX0_move 85 = .ok (.goto 4, 3) := dk_167 0 4 (dk_at dksX0_move_3 14 rfl rfl)
theorem dX0_move_88 : decode cX0_move 88 = .ok (.iconst 0, 1) := dk_3 (dk_at dksX0_move_3 17 rfl rfl)
theorem dX0_move_89 : decode cX0_move 89 = .ok (.bipush (-7), 2) := dk_16 249 (dk_at dksX0_move_3 18 rfl rfl)
theorem dX0_move_91 : decode cX0_move 91 = .ok (.invokevirtual 131, 3) := dk_182 0 131 (dk_at dksX0_move_3 20 rfl rfl)
theorem dX0_move_94 : decode cX0_move 94 = .ok (.aload 5, 2) := dk_25 5 (dk_at dksX0_move_4 0 rfl rfl)
theorem dX0_move_96 : decode cX0_move 96 = .ok (.invokevirtual 173, 3) := dk_182 0 173 (dk_at dksX0_move_4 2 rfl rfl)
theorem dX0_move_99 : decode cX0_move 99 = .ok (.astore 8, 2) := dk_58 8 (dk_at dksX0_move_4 5 rfl rfl)
theorem dX0_move_101 : decode cX0_move 101 = .ok (.aload 8, 2) := dk_25 8 (dk_at dksX0_move_4 7 rfl rfl)
theorem dX0_move_103 : decode cX0_move 103 = .ok (.iload_n 2, 1) := dk_28 (dk_at dksX0_move_4 9 rfl rfl)
theorem dX0_move_104 : decode cX0_move 104 = .ok (.invokevirtual 127, 3) := dk_182 0 127 (dk_at dksX0_move_4 10 rfl rfl)
theorem dX0_move_107 : decode cX0_move 107 = .ok (.astore 9, 2) := dk_58 9 (dk_at dksX0_move_4 13 rfl rfl)
theorem dX0_move_109 : decode cX0_move 109 = .ok (.aload 8, 2) := dk_25 8 (dk_at dksX0_move_4 15 rfl rfl)
theorem dX0_move_111 : decode cX0_move 111 = .ok (.iload_n 3, 1) := dk_29 (dk_at dksX0_move_4 17 rfl rfl)
theorem dX0_move_112 : decode cX0_move 112 = .ok (.invokevirtual 127, 3) := dk_182 0 127 (dk_at dksX0_move_4 18 rfl rfl)
theorem dX0_move_115 : decode cX0_move 115 = .ok (.astore 10, 2) := dk_58 10 (dk_at dksX0_move_4 21 rfl rfl)
theorem dX0_move_117 : decode cX0_move 117 = .ok (.aload 9, 2) := dk_25 9 (dk_at dksX0_move_5 0 rfl rfl)
theorem dX0_move_119 : decode cX0_move 119 = .ok (.getfield 192, 3) := dk_180 0 192 (dk_at dksX0_move_5 2 rfl rfl)
theorem dX0_move_122 : decode cX0_move 122 = .ok (.getfield 181, 3) := dk_180 0 181 (dk_at dksX0_move_5 5 rfl rfl)
theorem dX0_move_125 : decode cX0_move 125 = .ok (.aload 9, 2) := dk_25 9 (dk_at dksX0_move_5 8 rfl rfl)
theorem dX0_move_127 : decode cX0_move 127 = .ok (.invokevirtual 262, 3) := dk_182 1 6 (dk_at dksX0_move_5 10 rfl rfl)
theorem dX0_move_130 : decode cX0_move 130 = .ok (.pop, 1) := dk_87 (dk_at dksX0_move_5 13 rfl rfl)
theorem dX0_move_131 : decode cX0_move 131 = .ok (.aload_n 0, 1) := dk_42 (dk_at dksX0_move_5 14 rfl rfl)
theorem dX0_move_132 : decode cX0_move 132 = .ok (.iload 4, 2) := dk_21 4 (dk_at dksX0_move_5 15 rfl rfl)
theorem dX0_move_134 : decode cX0_move 134 = .ok (.ifCond .lt 20, 3) := dk_155 0 20 (dk_at dksX0_move_5 17 rfl rfl)
theorem dX0_move_137 : decode cX0_move 137 = .ok (.iload 4, 2) := dk_21 4 (dk_at dksX0_move_5 20 rfl rfl)
theorem dX0_move_139 : decode cX0_move 139 = .ok (.aload 10, 2) := dk_25 10 (dk_at dksX0_move_5 22 rfl rfl)
theorem dX0_move_141 : decode cX0_move 141 = .ok (.getfield 181, 3) := dk_180 0 181 (dk_at dksX0_move_6 0 rfl rfl)
theorem dX0_move_144 : decode cX0_move 144 = .ok (.invokevirtual 185, 3) := dk_182 0 185 (dk_at dksX0_move_6 3 rfl rfl)
theorem dX0_move_147 : decode cX0_move 147 = .ok (.if_icmp .gt 7, 3) := dk_163 0 7 (dk_at dksX0_move_6 6 rfl rfl)
theorem dX0_move_150 : decode cX0_move 150 = .ok (.iconst 1, 1) := dk_4 (dk_at dksX0_move_6 9 rfl rfl)
theorem dX0_move_151 : decode cX0_move 151 = .ok (.goto 4, 3) := dk_167 0 4 (dk_at dksX0_move_6 10 rfl rfl)
theorem dX0_move_154 : decode cX0_move 154 = .ok (.iconst 0, 1) := dk_3 (dk_at dksX0_move_6 13 rfl rfl)
theorem dX0_move_155 : decode cX0_move 155 = .ok (.iconst (-1), 1) := dk_2 (dk_at dksX0_move_6 14 rfl rfl)
theorem dX0_move_156 : decode cX0_move 156 = .ok (.invokevirtual 131, 3) := dk_182 0 131 (dk_at dksX0_move_6 15 rfl rfl)
theorem dX0_move_159 : decode cX0_move 159 = .ok (.aload 10, 2) := dk_25 10 (dk_at dksX0_move_6 18 rfl rfl)
theorem dX0_move_161 : decode cX0_move 161 = .ok (.iload 4, 2) := dk_21 4 (dk_at dksX0_move_6 20 rfl rfl)
theorem dX0_move_163 : decode cX0_move 163 = .ok (.aload 9, 2) := dk_25 9 (dk_at dksX0_move_6 22 rfl rfl)
theorem dX0_move_165 : decode cX0_move 165 = .ok (.invokevirtual 249, 3) := dk_182 0 249 (dk_at dksX0_move_7 0 rfl rfl)
theorem dX0_move_168 : decode cX0_move 168 = .ok (.aload_n 0, 1) := dk_42 (dk_at dksX0_move_7 3 rfl rfl)
theorem dX0_move_169 : decode cX0_move 169 = .ok (.aload 8, 2) := dk_25 8 (dk_at dksX0_move_7 4 rfl rfl)
theorem dX0_move_171 : decode cX0_move 171 = .ok (.invokevirtual 252, 3) := dk_182 0 252 (dk_at dksX0_move_7 6 rfl rfl)
theorem dX0_move_174 : decode cX0_move 174 = .ok (.bipush (-5), 2) := dk_16 251 (dk_at dksX0_move_7 9 rfl rfl)
theorem dX0_move_176 : decode cX0_move 176 = .ok (.invokevirtual 131, 3) := dk_182 0 131 (dk_at dksX0_move_7 11 rfl rfl)
theorem dX0_move_179 : decode cX0_move 179 = .ok (.aload_n 0, 1) := dk_42 (dk_at dksX0_move_7 14 rfl rfl)
theorem dX0_move_180 : decode cX0_move 180 = .ok (.aload 10, 2) := dk_25 10 (dk_at dksX0_move_7 15 rfl rfl)
theorem dX0_move_182 : decode cX0_move 182 = .ok (.invokevirtual 225, 3) := dk_182 0 225 (dk_at dksX0_move_7 17 rfl rfl)
theorem dX0_move_185 : decode cX0_move 185 = .ok (.ifCond .ne 7, 3) := dk_154 0 7 (dk_at dksX0_move_7 20 rfl rfl)
theorem dX0_move_188 : decode cX0_move 188 = .ok (.iconst 1, 1) := dk_4 (dk_at dksX0_move_7 23 rfl rfl)
theorem dX0_move_189 : decode cX0_move 189 = .ok (.goto 4, 3) := dk_167 0 4 (dk_at dksX0_move_8 0 rfl rfl)
theorem dX0_move_192 : decode cX0_move 192 = .ok (.iconst 0, 1) := dk_3 (dk_at dksX0_move_8 3 rfl rfl)
theorem dX0_move_193 : decode cX0_move 193 = .ok (.bipush (-4), 2) := dk_16 252 (dk_at dksX0_move_8 4 rfl rfl)
theorem dX0_move_195 : decode cX0_move 195 = .ok (.invokevirtual 131, 3) := dk_182 0 131 (dk_at dksX0_move_8 6 rfl rfl)
theorem dX0_move_198 : decode cX0_move 198 = .ok (.aload_n 0, 1) := dk_42 (dk_at dksX0_move_8 9 rfl rfl)
theorem dX0_move_199 : decode cX0_move 199 = .ok (.getfield 46, 3) := dk_180 0 46 (dk_at dksX0_move_8 10 rfl rfl)
theorem dX0_move_202 : decode cX0_move 202 = .ok (.iload_n 1, 1) := dk_27 (dk_at dksX0_move_8 13 rfl rfl)
theorem dX0_move_203 : decode cX0_move 203 = .ok (.aload 8, 2) := dk_25 8 (dk_at dksX0_move_8 14 rfl rfl)
theorem dX0_move_205 : decode cX0_move 205 = .ok (.aastore, 1) := dk_83 (dk_at dksX0_move_8 16 rfl rfl)
theorem dX0_move_206 : decode cX0_move 206 = .ok (.aload 6, 2) := dk_25 6 (dk_at dksX0_move_8 17 rfl rfl)
theorem dX0_move_208 : decode cX0_move 208 = .ok (.getfield 195, 3) := dk_180 0 195 (dk_at dksX0_move_8 19 rfl rfl)
theorem dX0_move_211 : decode cX0_move 211 = .ok (.aload 6, 2) := dk_25 6 (dk_at dksX0_move_8 22 rfl rfl)
theorem dX0_move_213 : decode cX0_move 213 = .ok (.getfield 198, 3) := dk_180 0 198 (dk_at dksX0_move_9 0 rfl rfl)
theorem dX0_move_216 : decode cX0_move 216 = .ok (.isub, 1) := dk_100 (dk_at dksX0_move_9 3 rfl rfl)
theorem dX0_move_217 : decode cX0_move 217 = .ok (.iconst 1, 1) := dk_4 (dk_at dksX0_move_9 4 rfl rfl)
theorem dX0_move_218 : decode cX0_move 218 = .ok (.iadd, 1) := dk_96 (dk_at dksX0_move_9 5 rfl rfl)
theorem dX0_move_219 : decode cX0_move 219 = .ok (.ireturn, 1) := dk_172 (dk_at dksX0_move_9 6 rfl rfl)
theorem dX0_move_220 : decode cX0_move 220 = .ok (.astore 5, 2) := dk_58 5 (dk_at dksX0_move_9 7 rfl rfl)
theorem dX0_move_222 : decode cX0_move 222 = .ok (.aload_n 0, 1) := dk_42 (dk_at dksX0_move_9 9 rfl rfl)
theorem dX0_move_223 : decode cX0_move 223 = .ok (.aload 5, 2) := dk_25 5 (dk_at dksX0_move_9 10 rfl rfl)
theorem dX0_move_225 : decode cX0_move 225 = .ok (.invokevirtual 138, 3) := dk_182 0 138 (dk_at dksX0_move_9 12 rfl rfl)
theorem dX0_move_228 : decode cX0_move 228 = .ok (.ireturn, 1) := dk_172 (dk_at dksX0_move_9 15 rfl rfl)
abbrev cX0_price : ByteArray := prog_1_method_28_code
def yX0_price : MethodName := ⟨RX0, "price", "(II)I"⟩
def dkwX0_price_2 : List UInt8 := [180, 1, 9, 27, 28, 79, 29, 172, 78, 42, 45, 182, 0, 138, 172]
abbrev dktX0_price_2 : List UInt8 := dkwX0_price_2 ++ []
def dkwX0_price_1 : List UInt8 := [167, 0, 4, 3, 2, 182, 0, 131, 42, 180, 0, 73, 180, 1, 9, 27, 46, 62, 42, 180, 0, 73]
abbrev dktX0_price_1 : List UInt8 := dkwX0_price_1 ++ dktX0_price_2
def dkwX0_price_0 : List UInt8 := [42, 27, 155, 0, 23, 27, 7, 162, 0, 18, 28, 155, 0, 14, 28, 17, 3, 232, 163, 0, 7, 4]
abbrev dktX0_price_0 : List UInt8 := dkwX0_price_0 ++ dktX0_price_1
theorem dksX0_price_0 : cX0_price.data.toList.drop 0 = dktX0_price_0 := by decide +kernel
theorem dksX0_price_1 : cX0_price.data.toList.drop 22 = dktX0_price_1 := dk_seg dksX0_price_0 22 rfl rfl
theorem dksX0_price_2 : cX0_price.data.toList.drop 44 = dktX0_price_2 := dk_seg dksX0_price_1 22 rfl rfl
theorem dX0_price_0 : decode cX0_price 0 = .ok (.aload_n 0, 1) := dk_42 (dk_at dksX0_price_0 0 rfl rfl)
theorem dX0_price_1 : decode cX0_price 1 = .ok (.iload_n 1, 1) := dk_27 (dk_at dksX0_price_0 1 rfl rfl)
theorem dX0_price_2 : decode cX0_price 2 = .ok (.ifCond .lt 23, 3) := dk_155 0 23 (dk_at dksX0_price_0 2 rfl rfl)
theorem dX0_price_5 : decode cX0_price 5 = .ok (.iload_n 1, 1) := dk_27 (dk_at dksX0_price_0 5 rfl rfl)
theorem dX0_price_6 : decode cX0_price 6 = .ok (.iconst 4, 1) := dk_7 (dk_at dksX0_price_0 6 rfl rfl)
theorem dX0_price_7 : decode cX0_price 7 = .ok (.if_icmp .ge 18, 3) := dk_162 0 18 (dk_at dksX0_price_0 7 rfl rfl)
theorem dX0_price_10 : decode cX0_price 10 = .ok (.iload_n 2, 1) := dk_28 (dk_at dksX0_price_0 10 rfl rfl)
theorem dX0_price_11 : decode cX0_price 11 = .ok (.ifCond .lt 14, 3) := dk_155 0 14 (dk_at dksX0_price_0 11 rfl rfl)
theorem dX0_price_14 : decode cX0_price 14 = .ok (.iload_n 2, 1) := dk_28 (dk_at dksX0_price_0 14 rfl rfl)
theorem dX0_price_15 : decode cX0_price 15 = .ok (.sipush 1000, 3) := dk_17 3 232 (dk_at dksX0_price_0 15 rfl rfl)
theorem dX0_price_18 : decode cX0_price 18 = .ok (.if_icmp .gt 7, 3) := dk_163 0 7 (dk_at dksX0_price_0 18 rfl rfl)
theorem dX0_price_21 : decode cX0_price 21 = .ok (.iconst 1, 1) := dk_4 (dk_at dksX0_price_0 21 rfl rfl)
theorem dX0_price_22 : decode cX0_price 22 = .ok (.goto 4, 3) := dk_167 0 4 (dk_at dksX0_price_1 0 rfl rfl)
theorem dX0_price_25 : decode cX0_price 25 = .ok (.iconst 0, 1) := dk_3 (dk_at dksX0_price_1 3 rfl rfl)
theorem dX0_price_26 : decode cX0_price 26 = .ok (.iconst (-1), 1) := dk_2 (dk_at dksX0_price_1 4 rfl rfl)
theorem dX0_price_27 : decode cX0_price 27 = .ok (.invokevirtual 131, 3) := dk_182 0 131 (dk_at dksX0_price_1 5 rfl rfl)
theorem dX0_price_30 : decode cX0_price 30 = .ok (.aload_n 0, 1) := dk_42 (dk_at dksX0_price_1 8 rfl rfl)
theorem dX0_price_31 : decode cX0_price 31 = .ok (.getfield 73, 3) := dk_180 0 73 (dk_at dksX0_price_1 9 rfl rfl)
theorem dX0_price_34 : decode cX0_price 34 = .ok (.getfield 265, 3) := dk_180 1 9 (dk_at dksX0_price_1 12 rfl rfl)
theorem dX0_price_37 : decode cX0_price 37 = .ok (.iload_n 1, 1) := dk_27 (dk_at dksX0_price_1 15 rfl rfl)
theorem dX0_price_38 : decode cX0_price 38 = .ok (.iaload, 1) := dk_46 (dk_at dksX0_price_1 16 rfl rfl)
theorem dX0_price_39 : decode cX0_price 39 = .ok (.istore_n 3, 1) := dk_62 (dk_at dksX0_price_1 17 rfl rfl)
theorem dX0_price_40 : decode cX0_price 40 = .ok (.aload_n 0, 1) := dk_42 (dk_at dksX0_price_1 18 rfl rfl)
theorem dX0_price_41 : decode cX0_price 41 = .ok (.getfield 73, 3) := dk_180 0 73 (dk_at dksX0_price_1 19 rfl rfl)
theorem dX0_price_44 : decode cX0_price 44 = .ok (.getfield 265, 3) := dk_180 1 9 (dk_at dksX0_price_2 0 rfl rfl)
theorem dX0_price_47 : decode cX0_price 47 = .ok (.iload_n 1, 1) := dk_27 (dk_at dksX0_price_2 3 rfl rfl)
theorem dX0_price_48 : decode cX0_price 48 = .ok (.iload_n 2, 1) := dk_28 (dk_at dksX0_price_2 4 rfl rfl)
theorem dX0_price_49 : decode cX0_price 49 = .ok (.iastore, 1) := dk_79 (dk_at dksX0_price_2 5 rfl rfl)
theorem dX0_price_50 : decode cX0_price 50 = .ok (.iload_n 3, 1) := dk_29 (dk_at dksX0_price_2 6 rfl rfl)
theorem dX0_price_51 : decode cX0_price 51 = .ok (.ireturn, 1) := dk_172 (dk_at dksX0_price_2 7 rfl rfl)
theorem dX0_price_52 : decode cX0_price 52 = .ok (.astore_n 3, 1) := dk_78 (dk_at dksX0_price_2 8 rfl rfl)
theorem dX0_price_53 : decode cX0_price 53 = .ok (.aload_n 0, 1) := dk_42 (dk_at dksX0_price_2 9 rfl rfl)
theorem dX0_price_54 : decode cX0_price 54 = .ok (.aload_n 3, 1) := dk_45 (dk_at dksX0_price_2 10 rfl rfl)
theorem dX0_price_55 : decode cX0_price 55 = .ok (.invokevirtual 138, 3) := dk_182 0 138 (dk_at dksX0_price_2 11 rfl rfl)
theorem dX0_price_58 : decode cX0_price 58 = .ok (.ireturn, 1) := dk_172 (dk_at dksX0_price_2 14 rfl rfl)
abbrev cX0_distance : ByteArray := prog_1_method_29_code
def yX0_distance : MethodName := ⟨RX0, "distance", "(II)I"⟩
def dkwX0_distance_1 : List UInt8 := [182, 0, 138, 172]
abbrev dktX0_distance_1 : List UInt8 := dkwX0_distance_1 ++ []
def dkwX0_distance_0 : List UInt8 := [42, 27, 182, 0, 162, 78, 42, 180, 0, 73, 45, 42, 28, 182, 0, 162, 182, 1, 12, 172, 78, 42, 45]
abbrev dktX0_distance_0 : List UInt8 := dkwX0_distance_0 ++ dktX0_distance_1
theorem dksX0_distance_0 : cX0_distance.data.toList.drop 0 = dktX0_distance_0 := by decide +kernel
theorem dksX0_distance_1 : cX0_distance.data.toList.drop 23 = dktX0_distance_1 := dk_seg dksX0_distance_0 23 rfl rfl
theorem dX0_distance_0 : decode cX0_distance 0 = .ok (.aload_n 0, 1) := dk_42 (dk_at dksX0_distance_0 0 rfl rfl)
theorem dX0_distance_1 : decode cX0_distance 1 = .ok (.iload_n 1, 1) := dk_27 (dk_at dksX0_distance_0 1 rfl rfl)
theorem dX0_distance_2 : decode cX0_distance 2 = .ok (.invokevirtual 162, 3) := dk_182 0 162 (dk_at dksX0_distance_0 2 rfl rfl)
theorem dX0_distance_5 : decode cX0_distance 5 = .ok (.astore_n 3, 1) := dk_78 (dk_at dksX0_distance_0 5 rfl rfl)
theorem dX0_distance_6 : decode cX0_distance 6 = .ok (.aload_n 0, 1) := dk_42 (dk_at dksX0_distance_0 6 rfl rfl)
theorem dX0_distance_7 : decode cX0_distance 7 = .ok (.getfield 73, 3) := dk_180 0 73 (dk_at dksX0_distance_0 7 rfl rfl)
theorem dX0_distance_10 : decode cX0_distance 10 = .ok (.aload_n 3, 1) := dk_45 (dk_at dksX0_distance_0 10 rfl rfl)
theorem dX0_distance_11 : decode cX0_distance 11 = .ok (.aload_n 0, 1) := dk_42 (dk_at dksX0_distance_0 11 rfl rfl)
theorem dX0_distance_12 : decode cX0_distance 12 = .ok (.iload_n 2, 1) := dk_28 (dk_at dksX0_distance_0 12 rfl rfl)
theorem dX0_distance_13 : decode cX0_distance 13 = .ok (.invokevirtual 162, 3) := dk_182 0 162 (dk_at dksX0_distance_0 13 rfl rfl)
theorem dX0_distance_16 : decode cX0_distance 16 = .ok (.invokevirtual 268, 3) := dk_182 1 12 (dk_at dksX0_distance_0 16 rfl rfl)
theorem dX0_distance_19 : decode cX0_distance 19 = .ok (.ireturn, 1) := dk_172 (dk_at dksX0_distance_0 19 rfl rfl)
theorem dX0_distance_20 : decode cX0_distance 20 = .ok (.astore_n 3, 1) := dk_78 (dk_at dksX0_distance_0 20 rfl rfl)
theorem dX0_distance_21 : decode cX0_distance 21 = .ok (.aload_n 0, 1) := dk_42 (dk_at dksX0_distance_0 21 rfl rfl)
theorem dX0_distance_22 : decode cX0_distance 22 = .ok (.aload_n 3, 1) := dk_45 (dk_at dksX0_distance_0 22 rfl rfl)
theorem dX0_distance_23 : decode cX0_distance 23 = .ok (.invokevirtual 138, 3) := dk_182 0 138 (dk_at dksX0_distance_1 0 rfl rfl)
theorem dX0_distance_26 : decode cX0_distance 26 = .ok (.ireturn, 1) := dk_172 (dk_at dksX0_distance_1 3 rfl rfl)
abbrev cX0_map : ByteArray := prog_1_method_31_code
def yX0_map : MethodName := ⟨RX0, "map", "(II)I"⟩
def dkwX0_map_12 : List UInt8 := [182, 1, 36, 132, 5, 1, 167, 255, 205, 42, 180, 1, 27, 172, 78, 42, 45, 182, 0, 138, 172]
abbrev dktX0_map_12 : List UInt8 := dkwX0_map_12 ++ []
def dkwX0_map_11 : List UInt8 := [21, 5, 50, 180, 1, 50, 51, 154, 0, 19, 42, 5, 25, 4, 180, 1, 48, 21, 5, 50, 180, 0, 118]
abbrev dktX0_map_11 : List UInt8 := dkwX0_map_11 ++ dktX0_map_12
def dkwX0_map_10 : List UInt8 := [54, 5, 21, 5, 25, 4, 180, 0, 152, 162, 0, 47, 42, 180, 0, 73, 180, 1, 44, 25, 4, 180, 1, 48]
abbrev dktX0_map_10 : List UInt8 := dkwX0_map_10 ++ dktX0_map_11
def dkwX0_map_9 : List UInt8 := [184, 1, 40, 154, 0, 13, 42, 4, 25, 7, 180, 0, 118, 182, 1, 36, 132, 5, 1, 167, 255, 125, 3]
abbrev dktX0_map_9 : List UInt8 := dkwX0_map_9 ++ dktX0_map_10
def dkwX0_map_8 : List UInt8 := [154, 0, 13, 42, 3, 25, 7, 180, 0, 118, 182, 1, 36, 25, 7, 180, 0, 204, 25, 6, 180, 0, 204]
abbrev dktX0_map_8 : List UInt8 := dkwX0_map_8 ++ dktX0_map_9
def dkwX0_map_7 : List UInt8 := [42, 89, 180, 1, 27, 4, 96, 181, 1, 27, 25, 7, 180, 0, 201, 25, 6, 180, 0, 201, 184, 1, 40]
abbrev dktX0_map_7 : List UInt8 := dkwX0_map_7 ++ dktX0_map_8
def dkwX0_map_6 : List UInt8 := [42, 180, 1, 27, 25, 7, 180, 0, 118, 79, 42, 180, 0, 94, 42, 180, 1, 27, 25, 6, 180, 0, 118, 79]
abbrev dktX0_map_6 : List UInt8 := dkwX0_map_6 ++ dktX0_map_7
def dkwX0_map_5 : List UInt8 := [50, 58, 6, 25, 6, 199, 0, 6, 167, 0, 102, 45, 180, 0, 155, 21, 5, 50, 58, 7, 42, 180, 0, 91]
abbrev dktX0_map_5 : List UInt8 := dkwX0_map_5 ++ dktX0_map_6
def dkwX0_map_4 : List UInt8 := [167, 255, 216, 3, 54, 5, 21, 5, 45, 180, 0, 152, 162, 0, 128, 42, 180, 0, 73, 180, 1, 33, 21, 5]
abbrev dktX0_map_4 : List UInt8 := dkwX0_map_4 ++ dktX0_map_5
def dkwX0_map_3 : List UInt8 := [21, 5, 50, 199, 0, 18, 42, 6, 45, 180, 0, 155, 21, 5, 50, 180, 0, 118, 182, 1, 36, 132, 5, 1]
abbrev dktX0_map_3 : List UInt8 := dkwX0_map_3 ++ dktX0_map_4
def dkwX0_map_2 : List UInt8 := [96, 181, 1, 30, 3, 54, 5, 21, 5, 45, 180, 0, 152, 162, 0, 37, 42, 180, 0, 73, 180, 1, 33]
abbrev dktX0_map_2 : List UInt8 := dkwX0_map_2 ++ dktX0_map_3
def dkwX0_map_1 : List UInt8 := [4, 181, 1, 23, 42, 3, 181, 1, 27, 42, 3, 181, 1, 16, 42, 45, 180, 0, 152, 25, 4, 180, 0, 152]
abbrev dktX0_map_1 : List UInt8 := dkwX0_map_1 ++ dktX0_map_2
def dkwX0_map_0 : List UInt8 := [42, 27, 182, 0, 162, 78, 42, 28, 182, 0, 162, 58, 4, 42, 180, 0, 73, 45, 25, 4, 182, 1, 19, 42]
abbrev dktX0_map_0 : List UInt8 := dkwX0_map_0 ++ dktX0_map_1
theorem dksX0_map_0 : cX0_map.data.toList.drop 0 = dktX0_map_0 := by decide +kernel
theorem dksX0_map_1 : cX0_map.data.toList.drop 24 = dktX0_map_1 := dk_seg dksX0_map_0 24 rfl rfl
theorem dksX0_map_2 : cX0_map.data.toList.drop 48 = dktX0_map_2 := dk_seg dksX0_map_1 24 rfl rfl
theorem dksX0_map_3 : cX0_map.data.toList.drop 71 = dktX0_map_3 := dk_seg dksX0_map_2 23 rfl rfl
theorem dksX0_map_4 : cX0_map.data.toList.drop 95 = dktX0_map_4 := dk_seg dksX0_map_3 24 rfl rfl
theorem dksX0_map_5 : cX0_map.data.toList.drop 119 = dktX0_map_5 := dk_seg dksX0_map_4 24 rfl rfl
theorem dksX0_map_6 : cX0_map.data.toList.drop 143 = dktX0_map_6 := dk_seg dksX0_map_5 24 rfl rfl
theorem dksX0_map_7 : cX0_map.data.toList.drop 167 = dktX0_map_7 := dk_seg dksX0_map_6 24 rfl rfl
theorem dksX0_map_8 : cX0_map.data.toList.drop 190 = dktX0_map_8 := dk_seg dksX0_map_7 23 rfl rfl
theorem dksX0_map_9 : cX0_map.data.toList.drop 213 = dktX0_map_9 := dk_seg dksX0_map_8 23 rfl rfl
theorem dksX0_map_10 : cX0_map.data.toList.drop 236 = dktX0_map_10 := dk_seg dksX0_map_9 23 rfl rfl
theorem dksX0_map_11 : cX0_map.data.toList.drop 260 = dktX0_map_11 := dk_seg dksX0_map_10 24 rfl rfl
theorem dksX0_map_12 : cX0_map.data.toList.drop 283 = dktX0_map_12 := dk_seg dksX0_map_11 23 rfl rfl
theorem dX0_map_0 : decode cX0_map 0 = .ok (.aload_n 0, 1) := dk_42 (dk_at dksX0_map_0 0 rfl rfl)
theorem dX0_map_1 : decode cX0_map 1 = .ok (.iload_n 1, 1) := dk_27 (dk_at dksX0_map_0 1 rfl rfl)
theorem dX0_map_2 : decode cX0_map 2 = .ok (.invokevirtual 162, 3) := dk_182 0 162 (dk_at dksX0_map_0 2 rfl rfl)
theorem dX0_map_5 : decode cX0_map 5 = .ok (.astore_n 3, 1) := dk_78 (dk_at dksX0_map_0 5 rfl rfl)
theorem dX0_map_6 : decode cX0_map 6 = .ok (.aload_n 0, 1) := dk_42 (dk_at dksX0_map_0 6 rfl rfl)
theorem dX0_map_7 : decode cX0_map 7 = .ok (.iload_n 2, 1) := dk_28 (dk_at dksX0_map_0 7 rfl rfl)
theorem dX0_map_8 : decode cX0_map 8 = .ok (.invokevirtual 162, 3) := dk_182 0 162 (dk_at dksX0_map_0 8 rfl rfl)
theorem dX0_map_11 : decode cX0_map 11 = .ok (.astore 4, 2) := dk_58 4 (dk_at dksX0_map_0 11 rfl rfl)
theorem dX0_map_13 : decode cX0_map 13 = .ok (.aload_n 0, 1) := dk_42 (dk_at dksX0_map_0 13 rfl rfl)
theorem dX0_map_14 : decode cX0_map 14 = .ok (.getfield 73, 3) := dk_180 0 73 (dk_at dksX0_map_0 14 rfl rfl)
theorem dX0_map_17 : decode cX0_map 17 = .ok (.aload_n 3, 1) := dk_45 (dk_at dksX0_map_0 17 rfl rfl)
theorem dX0_map_18 : decode cX0_map 18 = .ok (.aload 4, 2) := dk_25 4 (dk_at dksX0_map_0 18 rfl rfl)
theorem dX0_map_20 : decode cX0_map 20 = .ok (.invokevirtual 275, 3) := dk_182 1 19 (dk_at dksX0_map_0 20 rfl rfl)
theorem dX0_map_23 : decode cX0_map 23 = .ok (.aload_n 0, 1) := dk_42 (dk_at dksX0_map_0 23 rfl rfl)
theorem dX0_map_24 : decode cX0_map 24 = .ok (.iconst 1, 1) := dk_4 (dk_at dksX0_map_1 0 rfl rfl)
theorem dX0_map_25 : decode cX0_map 25 = .ok (.putfield 279, 3) := dk_181 1 23 (dk_at dksX0_map_1 1 rfl rfl)
theorem dX0_map_28 : decode cX0_map 28 = .ok (.aload_n 0, 1) := dk_42 (dk_at dksX0_map_1 4 rfl rfl)
theorem dX0_map_29 : decode cX0_map 29 = .ok (.iconst 0, 1) := dk_3 (dk_at dksX0_map_1 5 rfl rfl)
theorem dX0_map_30 : decode cX0_map 30 = .ok (.putfield 283, 3) := dk_181 1 27 (dk_at dksX0_map_1 6 rfl rfl)
theorem dX0_map_33 : decode cX0_map 33 = .ok (.aload_n 0, 1) := dk_42 (dk_at dksX0_map_1 9 rfl rfl)
theorem dX0_map_34 : decode cX0_map 34 = .ok (.iconst 0, 1) := dk_3 (dk_at dksX0_map_1 10 rfl rfl)
theorem dX0_map_35 : decode cX0_map 35 = .ok (.putfield 272, 3) := dk_181 1 16 (dk_at dksX0_map_1 11 rfl rfl)
theorem dX0_map_38 : decode cX0_map 38 = .ok (.aload_n 0, 1) := dk_42 (dk_at dksX0_map_1 14 rfl rfl)
theorem dX0_map_39 : decode cX0_map 39 = .ok (.aload_n 3, 1) := dk_45 (dk_at dksX0_map_1 15 rfl rfl)
theorem dX0_map_40 : decode cX0_map 40 = .ok (.getfield 152, 3) := dk_180 0 152 (dk_at dksX0_map_1 16 rfl rfl)
theorem dX0_map_43 : decode cX0_map 43 = .ok (.aload 4, 2) := dk_25 4 (dk_at dksX0_map_1 19 rfl rfl)
theorem dX0_map_45 : decode cX0_map 45 = .ok (.getfield 152, 3) := dk_180 0 152 (dk_at dksX0_map_1 21 rfl rfl)
theorem dX0_map_48 : decode cX0_map 48 = .ok (.iadd, 1) := dk_96 (dk_at dksX0_map_2 0 rfl rfl)
theorem dX0_map_49 : decode cX0_map 49 = .ok (.putfield 286, 3) := dk_181 1 30 (dk_at dksX0_map_2 1 rfl rfl)
theorem dX0_map_52 : decode cX0_map 52 = .ok (.iconst 0, 1) := dk_3 (dk_at dksX0_map_2 4 rfl rfl)
theorem dX0_map_53 : decode cX0_map 53 = .ok (.istore 5, 2) := dk_54 5 (dk_at dksX0_map_2 5 rfl rfl)
theorem dX0_map_55 : decode cX0_map 55 = .ok (.iload 5, 2) := dk_21 5 (dk_at dksX0_map_2 7 rfl rfl)
theorem dX0_map_57 : decode cX0_map 57 = .ok (.aload_n 3, 1) := dk_45 (dk_at dksX0_map_2 9 rfl rfl)
theorem dX0_map_58 : decode cX0_map 58 = .ok (.getfield 152, 3) := dk_180 0 152 (dk_at dksX0_map_2 10 rfl rfl)
theorem dX0_map_61 : decode cX0_map 61 = .ok (.if_icmp .ge 37, 3) := dk_162 0 37 (dk_at dksX0_map_2 13 rfl rfl)
theorem dX0_map_64 : decode cX0_map 64 = .ok (.aload_n 0, 1) := dk_42 (dk_at dksX0_map_2 16 rfl rfl)
theorem dX0_map_65 : decode cX0_map 65 = .ok (.getfield 73, 3) := dk_180 0 73 (dk_at dksX0_map_2 17 rfl rfl)
theorem dX0_map_68 : decode cX0_map 68 = .ok (.getfield 289, 3) := dk_180 1 33 (dk_at dksX0_map_2 20 rfl rfl)
theorem dX0_map_71 : decode cX0_map 71 = .ok (.iload 5, 2) := dk_21 5 (dk_at dksX0_map_3 0 rfl rfl)
theorem dX0_map_73 : decode cX0_map 73 = .ok (.aaload, 1) := dk_50 (dk_at dksX0_map_3 2 rfl rfl)
theorem dX0_map_74 : decode cX0_map 74 = .ok (.ifnonnull 18, 3) := dk_199 0 18 (dk_at dksX0_map_3 3 rfl rfl)
theorem dX0_map_77 : decode cX0_map 77 = .ok (.aload_n 0, 1) := dk_42 (dk_at dksX0_map_3 6 rfl rfl)
theorem dX0_map_78 : decode cX0_map 78 = .ok (.iconst 3, 1) := dk_6 (dk_at dksX0_map_3 7 rfl rfl)
theorem dX0_map_79 : decode cX0_map 79 = .ok (.aload_n 3, 1) := dk_45 (dk_at dksX0_map_3 8 rfl rfl)
theorem dX0_map_80 : decode cX0_map 80 = .ok (.getfield 155, 3) := dk_180 0 155 (dk_at dksX0_map_3 9 rfl rfl)
theorem dX0_map_83 : decode cX0_map 83 = .ok (.iload 5, 2) := dk_21 5 (dk_at dksX0_map_3 12 rfl rfl)
theorem dX0_map_85 : decode cX0_map 85 = .ok (.aaload, 1) := dk_50 (dk_at dksX0_map_3 14 rfl rfl)
theorem dX0_map_86 : decode cX0_map 86 = .ok (.getfield 118, 3) := dk_180 0 118 (dk_at dksX0_map_3 15 rfl rfl)
theorem dX0_map_89 : decode cX0_map 89 = .ok (.invokevirtual 292, 3) := dk_182 1 36 (dk_at dksX0_map_3 18 rfl rfl)
theorem dX0_map_92 : decode cX0_map 92 = .ok (.iinc 5 1, 3) := dk_132 5 1 (dk_at dksX0_map_3 21 rfl rfl)
theorem dX0_map_95 : decode cX0_map 95 = .ok (.goto (-40), 3) := dk_167 255 216 (dk_at dksX0_map_4 0 rfl rfl)
theorem dX0_map_98 : decode cX0_map 98 = .ok (.iconst 0, 1) := dk_3 (dk_at dksX0_map_4 3 rfl rfl)
theorem dX0_map_99 : decode cX0_map 99 = .ok (.istore 5, 2) := dk_54 5 (dk_at dksX0_map_4 4 rfl rfl)
theorem dX0_map_101 : decode cX0_map 101 = .ok (.iload 5, 2) := dk_21 5 (dk_at dksX0_map_4 6 rfl rfl)
theorem dX0_map_103 : decode cX0_map 103 = .ok (.aload_n 3, 1) := dk_45 (dk_at dksX0_map_4 8 rfl rfl)
theorem dX0_map_104 : decode cX0_map 104 = .ok (.getfield 152, 3) := dk_180 0 152 (dk_at dksX0_map_4 9 rfl rfl)
theorem dX0_map_107 : decode cX0_map 107 = .ok (.if_icmp .ge 128, 3) := dk_162 0 128 (dk_at dksX0_map_4 12 rfl rfl)
theorem dX0_map_110 : decode cX0_map 110 = .ok (.aload_n 0, 1) := dk_42 (dk_at dksX0_map_4 15 rfl rfl)
theorem dX0_map_111 : decode cX0_map 111 = .ok (.getfield 73, 3) := dk_180 0 73 (dk_at dksX0_map_4 16 rfl rfl)
theorem dX0_map_114 : decode cX0_map 114 = .ok (.getfield 289, 3) := dk_180 1 33 (dk_at dksX0_map_4 19 rfl rfl)
theorem dX0_map_117 : decode cX0_map 117 = .ok (.iload 5, 2) := dk_21 5 (dk_at dksX0_map_4 22 rfl rfl)
theorem dX0_map_119 : decode cX0_map 119 = .ok (.aaload, 1) := dk_50 (dk_at dksX0_map_5 0 rfl rfl)
theorem dX0_map_120 : decode cX0_map 120 = .ok (.astore 6, 2) := dk_58 6 (dk_at dksX0_map_5 1 rfl rfl)
theorem dX0_map_122 : decode cX0_map 122 = .ok (.aload 6, 2) := dk_25 6 (dk_at dksX0_map_5 3 rfl rfl)
theorem dX0_map_124 : decode cX0_map 124 = .ok (.ifnonnull 6, 3) := dk_199 0 6 (dk_at dksX0_map_5 5 rfl rfl)
theorem dX0_map_127 : decode cX0_map 127 = .ok (.goto 102, 3) := dk_167 0 102 (dk_at dksX0_map_5 8 rfl rfl)
theorem dX0_map_130 : decode cX0_map 130 = .ok (.aload_n 3, 1) := dk_45 (dk_at dksX0_map_5 11 rfl rfl)
theorem dX0_map_131 : decode cX0_map 131 = .ok (.getfield 155, 3) := dk_180 0 155 (dk_at dksX0_map_5 12 rfl rfl)
theorem dX0_map_134 : decode cX0_map 134 = .ok (.iload 5, 2) := dk_21 5 (dk_at dksX0_map_5 15 rfl rfl)
theorem dX0_map_136 : decode cX0_map 136 = .ok (.aaload, 1) := dk_50 (dk_at dksX0_map_5 17 rfl rfl)
theorem dX0_map_137 : decode cX0_map 137 = .ok (.astore 7, 2) := dk_58 7 (dk_at dksX0_map_5 18 rfl rfl)
theorem dX0_map_139 : decode cX0_map 139 = .ok (.aload_n 0, 1) := dk_42 (dk_at dksX0_map_5 20 rfl rfl)
theorem dX0_map_140 : decode cX0_map 140 = .ok (.getfield 91, 3) := dk_180 0 91 (dk_at dksX0_map_5 21 rfl rfl)
theorem dX0_map_143 : decode cX0_map 143 = .ok (.aload_n 0, 1) := dk_42 (dk_at dksX0_map_6 0 rfl rfl)
theorem dX0_map_144 : decode cX0_map 144 = .ok (.getfield 283, 3) := dk_180 1 27 (dk_at dksX0_map_6 1 rfl rfl)
theorem dX0_map_147 : decode cX0_map 147 = .ok (.aload 7, 2) := dk_25 7 (dk_at dksX0_map_6 4 rfl rfl)
theorem dX0_map_149 : decode cX0_map 149 = .ok (.getfield 118, 3) := dk_180 0 118 (dk_at dksX0_map_6 6 rfl rfl)
theorem dX0_map_152 : decode cX0_map 152 = .ok (.iastore, 1) := dk_79 (dk_at dksX0_map_6 9 rfl rfl)
theorem dX0_map_153 : decode cX0_map 153 = .ok (.aload_n 0, 1) := dk_42 (dk_at dksX0_map_6 10 rfl rfl)
theorem dX0_map_154 : decode cX0_map 154 = .ok (.getfield 94, 3) := dk_180 0 94 (dk_at dksX0_map_6 11 rfl rfl)
theorem dX0_map_157 : decode cX0_map 157 = .ok (.aload_n 0, 1) := dk_42 (dk_at dksX0_map_6 14 rfl rfl)
theorem dX0_map_158 : decode cX0_map 158 = .ok (.getfield 283, 3) := dk_180 1 27 (dk_at dksX0_map_6 15 rfl rfl)
theorem dX0_map_161 : decode cX0_map 161 = .ok (.aload 6, 2) := dk_25 6 (dk_at dksX0_map_6 18 rfl rfl)
theorem dX0_map_163 : decode cX0_map 163 = .ok (.getfield 118, 3) := dk_180 0 118 (dk_at dksX0_map_6 20 rfl rfl)
theorem dX0_map_166 : decode cX0_map 166 = .ok (.iastore, 1) := dk_79 (dk_at dksX0_map_6 23 rfl rfl)
theorem dX0_map_167 : decode cX0_map 167 = .ok (.aload_n 0, 1) := dk_42 (dk_at dksX0_map_7 0 rfl rfl)
theorem dX0_map_168 : decode cX0_map 168 = .ok (.dup, 1) := dk_89 (dk_at dksX0_map_7 1 rfl rfl)
theorem dX0_map_169 : decode cX0_map 169 = .ok (.getfield 283, 3) := dk_180 1 27 (dk_at dksX0_map_7 2 rfl rfl)
theorem dX0_map_172 : decode cX0_map 172 = .ok (.iconst 1, 1) := dk_4 (dk_at dksX0_map_7 5 rfl rfl)
theorem dX0_map_173 : decode cX0_map 173 = .ok (.iadd, 1) := dk_96 (dk_at dksX0_map_7 6 rfl rfl)
theorem dX0_map_174 : decode cX0_map 174 = .ok (.putfield 283, 3) := dk_181 1 27 (dk_at dksX0_map_7 7 rfl rfl)
theorem dX0_map_177 : decode cX0_map 177 = .ok (.aload 7, 2) := dk_25 7 (dk_at dksX0_map_7 10 rfl rfl)
theorem dX0_map_179 : decode cX0_map 179 = .ok (.getfield 201, 3) := dk_180 0 201 (dk_at dksX0_map_7 12 rfl rfl)
theorem dX0_map_182 : decode cX0_map 182 = .ok (.aload 6, 2) := dk_25 6 (dk_at dksX0_map_7 15 rfl rfl)
theorem dX0_map_184 : decode cX0_map 184 = .ok (.getfield 201, 3) := dk_180 0 201 (dk_at dksX0_map_7 17 rfl rfl)
theorem dX0_map_187 : decode cX0_map 187 = .ok (.invokestatic 296, 3) := dk_184 1 40 (dk_at dksX0_map_7 20 rfl rfl)
theorem dX0_map_190 : decode cX0_map 190 = .ok (.ifCond .ne 13, 3) := dk_154 0 13 (dk_at dksX0_map_8 0 rfl rfl)
theorem dX0_map_193 : decode cX0_map 193 = .ok (.aload_n 0, 1) := dk_42 (dk_at dksX0_map_8 3 rfl rfl)
theorem dX0_map_194 : decode cX0_map 194 = .ok (.iconst 0, 1) := dk_3 (dk_at dksX0_map_8 4 rfl rfl)
theorem dX0_map_195 : decode cX0_map 195 = .ok (.aload 7, 2) := dk_25 7 (dk_at dksX0_map_8 5 rfl rfl)
theorem dX0_map_197 : decode cX0_map 197 = .ok (.getfield 118, 3) := dk_180 0 118 (dk_at dksX0_map_8 7 rfl rfl)
theorem dX0_map_200 : decode cX0_map 200 = .ok (.invokevirtual 292, 3) := dk_182 1 36 (dk_at dksX0_map_8 10 rfl rfl)
theorem dX0_map_203 : decode cX0_map 203 = .ok (.aload 7, 2) := dk_25 7 (dk_at dksX0_map_8 13 rfl rfl)
theorem dX0_map_205 : decode cX0_map 205 = .ok (.getfield 204, 3) := dk_180 0 204 (dk_at dksX0_map_8 15 rfl rfl)
theorem dX0_map_208 : decode cX0_map 208 = .ok (.aload 6, 2) := dk_25 6 (dk_at dksX0_map_8 18 rfl rfl)
theorem dX0_map_210 : decode cX0_map 210 = .ok (.getfield 204, 3) := dk_180 0 204 (dk_at dksX0_map_8 20 rfl rfl)
theorem dX0_map_213 : decode cX0_map 213 = .ok (.invokestatic 296, 3) := dk_184 1 40 (dk_at dksX0_map_9 0 rfl rfl)
theorem dX0_map_216 : decode cX0_map 216 = .ok (.ifCond .ne 13, 3) := dk_154 0 13 (dk_at dksX0_map_9 3 rfl rfl)
theorem dX0_map_219 : decode cX0_map 219 = .ok (.aload_n 0, 1) := dk_42 (dk_at dksX0_map_9 6 rfl rfl)
theorem dX0_map_220 : decode cX0_map 220 = .ok (.iconst 1, 1) := dk_4 (dk_at dksX0_map_9 7 rfl rfl)
theorem dX0_map_221 : decode cX0_map 221 = .ok (.aload 7, 2) := dk_25 7 (dk_at dksX0_map_9 8 rfl rfl)
theorem dX0_map_223 : decode cX0_map 223 = .ok (.getfield 118, 3) := dk_180 0 118 (dk_at dksX0_map_9 10 rfl rfl)
theorem dX0_map_226 : decode cX0_map 226 = .ok (.invokevirtual 292, 3) := dk_182 1 36 (dk_at dksX0_map_9 13 rfl rfl)
theorem dX0_map_229 : decode cX0_map 229 = .ok (.iinc 5 1, 3) := dk_132 5 1 (dk_at dksX0_map_9 16 rfl rfl)
theorem dX0_map_232 : decode cX0_map 232 = .ok (.goto (-131), 3) := dk_167 255 125 (dk_at dksX0_map_9 19 rfl rfl)
theorem dX0_map_235 : decode cX0_map 235 = .ok (.iconst 0, 1) := dk_3 (dk_at dksX0_map_9 22 rfl rfl)
theorem dX0_map_236 : decode cX0_map 236 = .ok (.istore 5, 2) := dk_54 5 (dk_at dksX0_map_10 0 rfl rfl)
theorem dX0_map_238 : decode cX0_map 238 = .ok (.iload 5, 2) := dk_21 5 (dk_at dksX0_map_10 2 rfl rfl)
theorem dX0_map_240 : decode cX0_map 240 = .ok (.aload 4, 2) := dk_25 4 (dk_at dksX0_map_10 4 rfl rfl)
theorem dX0_map_242 : decode cX0_map 242 = .ok (.getfield 152, 3) := dk_180 0 152 (dk_at dksX0_map_10 6 rfl rfl)
theorem dX0_map_245 : decode cX0_map 245 = .ok (.if_icmp .ge 47, 3) := dk_162 0 47 (dk_at dksX0_map_10 9 rfl rfl)
theorem dX0_map_248 : decode cX0_map 248 = .ok (.aload_n 0, 1) := dk_42 (dk_at dksX0_map_10 12 rfl rfl)
theorem dX0_map_249 : decode cX0_map 249 = .ok (.getfield 73, 3) := dk_180 0 73 (dk_at dksX0_map_10 13 rfl rfl)
theorem dX0_map_252 : decode cX0_map 252 = .ok (.getfield 300, 3) := dk_180 1 44 (dk_at dksX0_map_10 16 rfl rfl)
theorem dX0_map_255 : decode cX0_map 255 = .ok (.aload 4, 2) := dk_25 4 (dk_at dksX0_map_10 19 rfl rfl)
theorem dX0_map_257 : decode cX0_map 257 = .ok (.getfield 304, 3) := dk_180 1 48 (dk_at dksX0_map_10 21 rfl rfl)
theorem dX0_map_260 : decode cX0_map 260 = .ok (.iload 5, 2) := dk_21 5 (dk_at dksX0_map_11 0 rfl rfl)
theorem dX0_map_262 : decode cX0_map 262 = .ok (.aaload, 1) := dk_50 (dk_at dksX0_map_11 2 rfl rfl)
theorem dX0_map_263 : decode cX0_map 263 = .ok (.getfield 306, 3) := dk_180 1 50 (dk_at dksX0_map_11 3 rfl rfl)
theorem dX0_map_266 : decode cX0_map 266 = .ok (.baload, 1) := dk_51 (dk_at dksX0_map_11 6 rfl rfl)
theorem dX0_map_267 : decode cX0_map 267 = .ok (.ifCond .ne 19, 3) := dk_154 0 19 (dk_at dksX0_map_11 7 rfl rfl)
theorem dX0_map_270 : decode cX0_map 270 = .ok (.aload_n 0, 1) := dk_42 (dk_at dksX0_map_11 10 rfl rfl)
theorem dX0_map_271 : decode cX0_map 271 = .ok (.iconst 2, 1) := dk_5 (dk_at dksX0_map_11 11 rfl rfl)
theorem dX0_map_272 : decode cX0_map 272 = .ok (.aload 4, 2) := dk_25 4 (dk_at dksX0_map_11 12 rfl rfl)
theorem dX0_map_274 : decode cX0_map 274 = .ok (.getfield 304, 3) := dk_180 1 48 (dk_at dksX0_map_11 14 rfl rfl)
theorem dX0_map_277 : decode cX0_map 277 = .ok (.iload 5, 2) := dk_21 5 (dk_at dksX0_map_11 17 rfl rfl)
theorem dX0_map_279 : decode cX0_map 279 = .ok (.aaload, 1) := dk_50 (dk_at dksX0_map_11 19 rfl rfl)
theorem dX0_map_280 : decode cX0_map 280 = .ok (.getfield 118, 3) := dk_180 0 118 (dk_at dksX0_map_11 20 rfl rfl)
theorem dX0_map_283 : decode cX0_map 283 = .ok (.invokevirtual 292, 3) := dk_182 1 36 (dk_at dksX0_map_12 0 rfl rfl)
theorem dX0_map_286 : decode cX0_map 286 = .ok (.iinc 5 1, 3) := dk_132 5 1 (dk_at dksX0_map_12 3 rfl rfl)
theorem dX0_map_289 : decode cX0_map 289 = .ok (.goto (-51), 3) := dk_167 255 205 (dk_at dksX0_map_12 6 rfl rfl)
theorem dX0_map_292 : decode cX0_map 292 = .ok (.aload_n 0, 1) := dk_42 (dk_at dksX0_map_12 9 rfl rfl)
theorem dX0_map_293 : decode cX0_map 293 = .ok (.getfield 283, 3) := dk_180 1 27 (dk_at dksX0_map_12 10 rfl rfl)
theorem dX0_map_296 : decode cX0_map 296 = .ok (.ireturn, 1) := dk_172 (dk_at dksX0_map_12 13 rfl rfl)
theorem dX0_map_297 : decode cX0_map 297 = .ok (.astore_n 3, 1) := dk_78 (dk_at dksX0_map_12 14 rfl rfl)
theorem dX0_map_298 : decode cX0_map 298 = .ok (.aload_n 0, 1) := dk_42 (dk_at dksX0_map_12 15 rfl rfl)
theorem dX0_map_299 : decode cX0_map 299 = .ok (.aload_n 3, 1) := dk_45 (dk_at dksX0_map_12 16 rfl rfl)
theorem dX0_map_300 : decode cX0_map 300 = .ok (.invokevirtual 138, 3) := dk_182 0 138 (dk_at dksX0_map_12 17 rfl rfl)
theorem dX0_map_303 : decode cX0_map 303 = .ok (.ireturn, 1) := dk_172 (dk_at dksX0_map_12 20 rfl rfl)
abbrev cX0_does : ByteArray := prog_1_method_30_code
def yX0_does : MethodName := ⟨RX0, "does", "(II)V"⟩
def dkwX0_does_2 : List UInt8 := [177]
abbrev dktX0_does_2 : List UInt8 := dkwX0_does_2 ++ []
def dkwX0_does_1 : List UInt8 := [42, 180, 1, 16, 42, 180, 0, 73, 180, 1, 9, 27, 46, 79, 42, 89, 180, 1, 16, 4, 96, 181, 1, 16]
abbrev dktX0_does_1 : List UInt8 := dkwX0_does_1 ++ dktX0_does_2
def dkwX0_does_0 : List UInt8 := [42, 180, 0, 97, 42, 180, 1, 16, 27, 79, 42, 180, 0, 100, 42, 180, 1, 16, 28, 79, 42, 180, 0, 103]
abbrev dktX0_does_0 : List UInt8 := dkwX0_does_0 ++ dktX0_does_1
theorem dksX0_does_0 : cX0_does.data.toList.drop 0 = dktX0_does_0 := by decide +kernel
theorem dksX0_does_1 : cX0_does.data.toList.drop 24 = dktX0_does_1 := dk_seg dksX0_does_0 24 rfl rfl
theorem dksX0_does_2 : cX0_does.data.toList.drop 48 = dktX0_does_2 := dk_seg dksX0_does_1 24 rfl rfl
theorem dX0_does_0 : decode cX0_does 0 = .ok (.aload_n 0, 1) := dk_42 (dk_at dksX0_does_0 0 rfl rfl)
theorem dX0_does_1 : decode cX0_does 1 = .ok (.getfield 97, 3) := dk_180 0 97 (dk_at dksX0_does_0 1 rfl rfl)
theorem dX0_does_4 : decode cX0_does 4 = .ok (.aload_n 0, 1) := dk_42 (dk_at dksX0_does_0 4 rfl rfl)
theorem dX0_does_5 : decode cX0_does 5 = .ok (.getfield 272, 3) := dk_180 1 16 (dk_at dksX0_does_0 5 rfl rfl)
theorem dX0_does_8 : decode cX0_does 8 = .ok (.iload_n 1, 1) := dk_27 (dk_at dksX0_does_0 8 rfl rfl)
theorem dX0_does_9 : decode cX0_does 9 = .ok (.iastore, 1) := dk_79 (dk_at dksX0_does_0 9 rfl rfl)
theorem dX0_does_10 : decode cX0_does 10 = .ok (.aload_n 0, 1) := dk_42 (dk_at dksX0_does_0 10 rfl rfl)
theorem dX0_does_11 : decode cX0_does 11 = .ok (.getfield 100, 3) := dk_180 0 100 (dk_at dksX0_does_0 11 rfl rfl)
theorem dX0_does_14 : decode cX0_does 14 = .ok (.aload_n 0, 1) := dk_42 (dk_at dksX0_does_0 14 rfl rfl)
theorem dX0_does_15 : decode cX0_does 15 = .ok (.getfield 272, 3) := dk_180 1 16 (dk_at dksX0_does_0 15 rfl rfl)
theorem dX0_does_18 : decode cX0_does 18 = .ok (.iload_n 2, 1) := dk_28 (dk_at dksX0_does_0 18 rfl rfl)
theorem dX0_does_19 : decode cX0_does 19 = .ok (.iastore, 1) := dk_79 (dk_at dksX0_does_0 19 rfl rfl)
theorem dX0_does_20 : decode cX0_does 20 = .ok (.aload_n 0, 1) := dk_42 (dk_at dksX0_does_0 20 rfl rfl)
theorem dX0_does_21 : decode cX0_does 21 = .ok (.getfield 103, 3) := dk_180 0 103 (dk_at dksX0_does_0 21 rfl rfl)
theorem dX0_does_24 : decode cX0_does 24 = .ok (.aload_n 0, 1) := dk_42 (dk_at dksX0_does_1 0 rfl rfl)
theorem dX0_does_25 : decode cX0_does 25 = .ok (.getfield 272, 3) := dk_180 1 16 (dk_at dksX0_does_1 1 rfl rfl)
theorem dX0_does_28 : decode cX0_does 28 = .ok (.aload_n 0, 1) := dk_42 (dk_at dksX0_does_1 4 rfl rfl)
theorem dX0_does_29 : decode cX0_does 29 = .ok (.getfield 73, 3) := dk_180 0 73 (dk_at dksX0_does_1 5 rfl rfl)
theorem dX0_does_32 : decode cX0_does 32 = .ok (.getfield 265, 3) := dk_180 1 9 (dk_at dksX0_does_1 8 rfl rfl)
theorem dX0_does_35 : decode cX0_does 35 = .ok (.iload_n 1, 1) := dk_27 (dk_at dksX0_does_1 11 rfl rfl)
theorem dX0_does_36 : decode cX0_does 36 = .ok (.iaload, 1) := dk_46 (dk_at dksX0_does_1 12 rfl rfl)
theorem dX0_does_37 : decode cX0_does 37 = .ok (.iastore, 1) := dk_79 (dk_at dksX0_does_1 13 rfl rfl)
theorem dX0_does_38 : decode cX0_does 38 = .ok (.aload_n 0, 1) := dk_42 (dk_at dksX0_does_1 14 rfl rfl)
theorem dX0_does_39 : decode cX0_does 39 = .ok (.dup, 1) := dk_89 (dk_at dksX0_does_1 15 rfl rfl)
theorem dX0_does_40 : decode cX0_does 40 = .ok (.getfield 272, 3) := dk_180 1 16 (dk_at dksX0_does_1 16 rfl rfl)
theorem dX0_does_43 : decode cX0_does 43 = .ok (.iconst 1, 1) := dk_4 (dk_at dksX0_does_1 19 rfl rfl)
theorem dX0_does_44 : decode cX0_does 44 = .ok (.iadd, 1) := dk_96 (dk_at dksX0_does_1 20 rfl rfl)
theorem dX0_does_45 : decode cX0_does 45 = .ok (.putfield 272, 3) := dk_181 1 16 (dk_at dksX0_does_1 21 rfl rfl)
theorem dX0_does_48 : decode cX0_does 48 = .ok (.return_, 1) := dk_177 (dk_at dksX0_does_2 0 rfl rfl)
abbrev cX0_pair : ByteArray := prog_1_method_32_code
def yX0_pair : MethodName := ⟨RX0, "pair", "(II)I"⟩
def dkwX0_pair_2 : List UInt8 := [180, 0, 91, 27, 46, 167, 0, 9, 42, 180, 0, 94, 27, 46, 172, 78, 42, 45, 182, 0, 138, 172]
abbrev dktX0_pair_2 : List UInt8 := dkwX0_pair_2 ++ []
def dkwX0_pair_1 : List UInt8 := [28, 153, 0, 8, 28, 4, 160, 0, 7, 4, 167, 0, 4, 3, 2, 182, 0, 131, 28, 154, 0, 12, 42]
abbrev dktX0_pair_1 : List UInt8 := dkwX0_pair_1 ++ dktX0_pair_2
def dkwX0_pair_0 : List UInt8 := [42, 27, 155, 0, 15, 27, 42, 180, 1, 27, 162, 0, 7, 4, 167, 0, 4, 3, 16, 250, 182, 0, 131, 42]
abbrev dktX0_pair_0 : List UInt8 := dkwX0_pair_0 ++ dktX0_pair_1
theorem dksX0_pair_0 : cX0_pair.data.toList.drop 0 = dktX0_pair_0 := by decide +kernel
theorem dksX0_pair_1 : cX0_pair.data.toList.drop 24 = dktX0_pair_1 := dk_seg dksX0_pair_0 24 rfl rfl
theorem dksX0_pair_2 : cX0_pair.data.toList.drop 47 = dktX0_pair_2 := dk_seg dksX0_pair_1 23 rfl rfl
theorem dX0_pair_0 : decode cX0_pair 0 = .ok (.aload_n 0, 1) := dk_42 (dk_at dksX0_pair_0 0 rfl rfl)
theorem dX0_pair_1 : decode cX0_pair 1 = .ok (.iload_n 1, 1) := dk_27 (dk_at dksX0_pair_0 1 rfl rfl)
theorem dX0_pair_2 : decode cX0_pair 2 = .ok (.ifCond .lt 15, 3) := dk_155 0 15 (dk_at dksX0_pair_0 2 rfl rfl)
theorem dX0_pair_5 : decode cX0_pair 5 = .ok (.iload_n 1, 1) := dk_27 (dk_at dksX0_pair_0 5 rfl rfl)
theorem dX0_pair_6 : decode cX0_pair 6 = .ok (.aload_n 0, 1) := dk_42 (dk_at dksX0_pair_0 6 rfl rfl)
theorem dX0_pair_7 : decode cX0_pair 7 = .ok (.getfield 283, 3) := dk_180 1 27 (dk_at dksX0_pair_0 7 rfl rfl)
theorem dX0_pair_10 : decode cX0_pair 10 = .ok (.if_icmp .ge 7, 3) := dk_162 0 7 (dk_at dksX0_pair_0 10 rfl rfl)
theorem dX0_pair_13 : decode cX0_pair 13 = .ok (.iconst 1, 1) := dk_4 (dk_at dksX0_pair_0 13 rfl rfl)
theorem dX0_pair_14 : decode cX0_pair 14 = .ok (.goto 4, 3) := dk_167 0 4 (dk_at dksX0_pair_0 14 rfl rfl)
theorem dX0_pair_17 : decode cX0_pair 17 = .ok (.iconst 0, 1) := dk_3 (dk_at dksX0_pair_0 17 rfl rfl)
theorem dX0_pair_18 : decode cX0_pair 18 = .ok (.bipush (-6), 2) := dk_16 250 (dk_at dksX0_pair_0 18 rfl rfl)
theorem dX0_pair_20 : decode cX0_pair 20 = .ok (.invokevirtual 131, 3) := dk_182 0 131 (dk_at dksX0_pair_0 20 rfl rfl)
theorem dX0_pair_23 : decode cX0_pair 23 = .ok (.aload_n 0, 1) := dk_42 (dk_at dksX0_pair_0 23 rfl rfl)
theorem dX0_pair_24 : decode cX0_pair 24 = .ok (.iload_n 2, 1) := dk_28 (dk_at dksX0_pair_1 0 rfl rfl)
theorem dX0_pair_25 : decode cX0_pair 25 = .ok (.ifCond .eq 8, 3) := dk_153 0 8 (dk_at dksX0_pair_1 1 rfl rfl)
theorem dX0_pair_28 : decode cX0_pair 28 = .ok (.iload_n 2, 1) := dk_28 (dk_at dksX0_pair_1 4 rfl rfl)
theorem dX0_pair_29 : decode cX0_pair 29 = .ok (.iconst 1, 1) := dk_4 (dk_at dksX0_pair_1 5 rfl rfl)
theorem dX0_pair_30 : decode cX0_pair 30 = .ok (.if_icmp .ne 7, 3) := dk_160 0 7 (dk_at dksX0_pair_1 6 rfl rfl)
theorem dX0_pair_33 : decode cX0_pair 33 = .ok (.iconst 1, 1) := dk_4 (dk_at dksX0_pair_1 9 rfl rfl)
theorem dX0_pair_34 : decode cX0_pair 34 = .ok (.goto 4, 3) := dk_167 0 4 (dk_at dksX0_pair_1 10 rfl rfl)
theorem dX0_pair_37 : decode cX0_pair 37 = .ok (.iconst 0, 1) := dk_3 (dk_at dksX0_pair_1 13 rfl rfl)
theorem dX0_pair_38 : decode cX0_pair 38 = .ok (.iconst (-1), 1) := dk_2 (dk_at dksX0_pair_1 14 rfl rfl)
theorem dX0_pair_39 : decode cX0_pair 39 = .ok (.invokevirtual 131, 3) := dk_182 0 131 (dk_at dksX0_pair_1 15 rfl rfl)
theorem dX0_pair_42 : decode cX0_pair 42 = .ok (.iload_n 2, 1) := dk_28 (dk_at dksX0_pair_1 18 rfl rfl)
theorem dX0_pair_43 : decode cX0_pair 43 = .ok (.ifCond .ne 12, 3) := dk_154 0 12 (dk_at dksX0_pair_1 19 rfl rfl)
theorem dX0_pair_46 : decode cX0_pair 46 = .ok (.aload_n 0, 1) := dk_42 (dk_at dksX0_pair_1 22 rfl rfl)
theorem dX0_pair_47 : decode cX0_pair 47 = .ok (.getfield 91, 3) := dk_180 0 91 (dk_at dksX0_pair_2 0 rfl rfl)
theorem dX0_pair_50 : decode cX0_pair 50 = .ok (.iload_n 1, 1) := dk_27 (dk_at dksX0_pair_2 3 rfl rfl)
theorem dX0_pair_51 : decode cX0_pair 51 = .ok (.iaload, 1) := dk_46 (dk_at dksX0_pair_2 4 rfl rfl)
theorem dX0_pair_52 : decode cX0_pair 52 = .ok (.goto 9, 3) := dk_167 0 9 (dk_at dksX0_pair_2 5 rfl rfl)
theorem dX0_pair_55 : decode cX0_pair 55 = .ok (.aload_n 0, 1) := dk_42 (dk_at dksX0_pair_2 8 rfl rfl)
theorem dX0_pair_56 : decode cX0_pair 56 = .ok (.getfield 94, 3) := dk_180 0 94 (dk_at dksX0_pair_2 9 rfl rfl)
theorem dX0_pair_59 : decode cX0_pair 59 = .ok (.iload_n 1, 1) := dk_27 (dk_at dksX0_pair_2 12 rfl rfl)
theorem dX0_pair_60 : decode cX0_pair 60 = .ok (.iaload, 1) := dk_46 (dk_at dksX0_pair_2 13 rfl rfl)
theorem dX0_pair_61 : decode cX0_pair 61 = .ok (.ireturn, 1) := dk_172 (dk_at dksX0_pair_2 14 rfl rfl)
theorem dX0_pair_62 : decode cX0_pair 62 = .ok (.astore_n 3, 1) := dk_78 (dk_at dksX0_pair_2 15 rfl rfl)
theorem dX0_pair_63 : decode cX0_pair 63 = .ok (.aload_n 0, 1) := dk_42 (dk_at dksX0_pair_2 16 rfl rfl)
theorem dX0_pair_64 : decode cX0_pair 64 = .ok (.aload_n 3, 1) := dk_45 (dk_at dksX0_pair_2 17 rfl rfl)
theorem dX0_pair_65 : decode cX0_pair 65 = .ok (.invokevirtual 138, 3) := dk_182 0 138 (dk_at dksX0_pair_2 18 rfl rfl)
theorem dX0_pair_68 : decode cX0_pair 68 = .ok (.ireturn, 1) := dk_172 (dk_at dksX0_pair_2 21 rfl rfl)
abbrev cX0_acts : ByteArray := prog_1_method_33_code
def yX0_acts : MethodName := ⟨RX0, "acts", "()I"⟩
theorem dX0_acts_0 : decode cX0_acts 0 = .ok (.aload_n 0, 1) := by decide +kernel
theorem dX0_acts_1 : decode cX0_acts 1 = .ok (.getfield 272, 3) := by decide +kernel
theorem dX0_acts_4 : decode cX0_acts 4 = .ok (.ireturn, 1) := by decide +kernel
abbrev cX0_act : ByteArray := prog_1_method_34_code
def yX0_act : MethodName := ⟨RX0, "act", "(II)I"⟩
def dkwX0_act_3 : List UInt8 := [180, 0, 103, 27, 46, 172, 78, 42, 45, 182, 0, 138, 172]
abbrev dktX0_act_3 : List UInt8 := dkwX0_act_3 ++ []
def dkwX0_act_2 : List UInt8 := [180, 0, 97, 27, 46, 167, 0, 23, 28, 4, 160, 0, 12, 42, 180, 0, 100, 27, 46, 167, 0, 9, 42]
abbrev dktX0_act_2 : List UInt8 := dkwX0_act_2 ++ dktX0_act_3
def dkwX0_act_1 : List UInt8 := [28, 155, 0, 12, 28, 5, 163, 0, 7, 4, 167, 0, 4, 3, 2, 182, 0, 131, 28, 154, 0, 12, 42]
abbrev dktX0_act_1 : List UInt8 := dkwX0_act_1 ++ dktX0_act_2
def dkwX0_act_0 : List UInt8 := [42, 27, 155, 0, 15, 27, 42, 180, 1, 16, 162, 0, 7, 4, 167, 0, 4, 3, 16, 250, 182, 0, 131, 42]
abbrev dktX0_act_0 : List UInt8 := dkwX0_act_0 ++ dktX0_act_1
theorem dksX0_act_0 : cX0_act.data.toList.drop 0 = dktX0_act_0 := by decide +kernel
theorem dksX0_act_1 : cX0_act.data.toList.drop 24 = dktX0_act_1 := dk_seg dksX0_act_0 24 rfl rfl
theorem dksX0_act_2 : cX0_act.data.toList.drop 47 = dktX0_act_2 := dk_seg dksX0_act_1 23 rfl rfl
theorem dksX0_act_3 : cX0_act.data.toList.drop 70 = dktX0_act_3 := dk_seg dksX0_act_2 23 rfl rfl
theorem dX0_act_0 : decode cX0_act 0 = .ok (.aload_n 0, 1) := dk_42 (dk_at dksX0_act_0 0 rfl rfl)
theorem dX0_act_1 : decode cX0_act 1 = .ok (.iload_n 1, 1) := dk_27 (dk_at dksX0_act_0 1 rfl rfl)
theorem dX0_act_2 : decode cX0_act 2 = .ok (.ifCond .lt 15, 3) := dk_155 0 15 (dk_at dksX0_act_0 2 rfl rfl)
theorem dX0_act_5 : decode cX0_act 5 = .ok (.iload_n 1, 1) := dk_27 (dk_at dksX0_act_0 5 rfl rfl)
theorem dX0_act_6 : decode cX0_act 6 = .ok (.aload_n 0, 1) := dk_42 (dk_at dksX0_act_0 6 rfl rfl)
theorem dX0_act_7 : decode cX0_act 7 = .ok (.getfield 272, 3) := dk_180 1 16 (dk_at dksX0_act_0 7 rfl rfl)
theorem dX0_act_10 : decode cX0_act 10 = .ok (.if_icmp .ge 7, 3) := dk_162 0 7 (dk_at dksX0_act_0 10 rfl rfl)
theorem dX0_act_13 : decode cX0_act 13 = .ok (.iconst 1, 1) := dk_4 (dk_at dksX0_act_0 13 rfl rfl)
theorem dX0_act_14 : decode cX0_act 14 = .ok (.goto 4, 3) := dk_167 0 4 (dk_at dksX0_act_0 14 rfl rfl)
theorem dX0_act_17 : decode cX0_act 17 = .ok (.iconst 0, 1) := dk_3 (dk_at dksX0_act_0 17 rfl rfl)
theorem dX0_act_18 : decode cX0_act 18 = .ok (.bipush (-6), 2) := dk_16 250 (dk_at dksX0_act_0 18 rfl rfl)
theorem dX0_act_20 : decode cX0_act 20 = .ok (.invokevirtual 131, 3) := dk_182 0 131 (dk_at dksX0_act_0 20 rfl rfl)
theorem dX0_act_23 : decode cX0_act 23 = .ok (.aload_n 0, 1) := dk_42 (dk_at dksX0_act_0 23 rfl rfl)
theorem dX0_act_24 : decode cX0_act 24 = .ok (.iload_n 2, 1) := dk_28 (dk_at dksX0_act_1 0 rfl rfl)
theorem dX0_act_25 : decode cX0_act 25 = .ok (.ifCond .lt 12, 3) := dk_155 0 12 (dk_at dksX0_act_1 1 rfl rfl)
theorem dX0_act_28 : decode cX0_act 28 = .ok (.iload_n 2, 1) := dk_28 (dk_at dksX0_act_1 4 rfl rfl)
theorem dX0_act_29 : decode cX0_act 29 = .ok (.iconst 2, 1) := dk_5 (dk_at dksX0_act_1 5 rfl rfl)
theorem dX0_act_30 : decode cX0_act 30 = .ok (.if_icmp .gt 7, 3) := dk_163 0 7 (dk_at dksX0_act_1 6 rfl rfl)
theorem dX0_act_33 : decode cX0_act 33 = .ok (.iconst 1, 1) := dk_4 (dk_at dksX0_act_1 9 rfl rfl)
theorem dX0_act_34 : decode cX0_act 34 = .ok (.goto 4, 3) := dk_167 0 4 (dk_at dksX0_act_1 10 rfl rfl)
theorem dX0_act_37 : decode cX0_act 37 = .ok (.iconst 0, 1) := dk_3 (dk_at dksX0_act_1 13 rfl rfl)
theorem dX0_act_38 : decode cX0_act 38 = .ok (.iconst (-1), 1) := dk_2 (dk_at dksX0_act_1 14 rfl rfl)
theorem dX0_act_39 : decode cX0_act 39 = .ok (.invokevirtual 131, 3) := dk_182 0 131 (dk_at dksX0_act_1 15 rfl rfl)
theorem dX0_act_42 : decode cX0_act 42 = .ok (.iload_n 2, 1) := dk_28 (dk_at dksX0_act_1 18 rfl rfl)
theorem dX0_act_43 : decode cX0_act 43 = .ok (.ifCond .ne 12, 3) := dk_154 0 12 (dk_at dksX0_act_1 19 rfl rfl)
theorem dX0_act_46 : decode cX0_act 46 = .ok (.aload_n 0, 1) := dk_42 (dk_at dksX0_act_1 22 rfl rfl)
theorem dX0_act_47 : decode cX0_act 47 = .ok (.getfield 97, 3) := dk_180 0 97 (dk_at dksX0_act_2 0 rfl rfl)
theorem dX0_act_50 : decode cX0_act 50 = .ok (.iload_n 1, 1) := dk_27 (dk_at dksX0_act_2 3 rfl rfl)
theorem dX0_act_51 : decode cX0_act 51 = .ok (.iaload, 1) := dk_46 (dk_at dksX0_act_2 4 rfl rfl)
theorem dX0_act_52 : decode cX0_act 52 = .ok (.goto 23, 3) := dk_167 0 23 (dk_at dksX0_act_2 5 rfl rfl)
theorem dX0_act_55 : decode cX0_act 55 = .ok (.iload_n 2, 1) := dk_28 (dk_at dksX0_act_2 8 rfl rfl)
theorem dX0_act_56 : decode cX0_act 56 = .ok (.iconst 1, 1) := dk_4 (dk_at dksX0_act_2 9 rfl rfl)
theorem dX0_act_57 : decode cX0_act 57 = .ok (.if_icmp .ne 12, 3) := dk_160 0 12 (dk_at dksX0_act_2 10 rfl rfl)
theorem dX0_act_60 : decode cX0_act 60 = .ok (.aload_n 0, 1) := dk_42 (dk_at dksX0_act_2 13 rfl rfl)
theorem dX0_act_61 : decode cX0_act 61 = .ok (.getfield 100, 3) := dk_180 0 100 (dk_at dksX0_act_2 14 rfl rfl)
theorem dX0_act_64 : decode cX0_act 64 = .ok (.iload_n 1, 1) := dk_27 (dk_at dksX0_act_2 17 rfl rfl)
theorem dX0_act_65 : decode cX0_act 65 = .ok (.iaload, 1) := dk_46 (dk_at dksX0_act_2 18 rfl rfl)
theorem dX0_act_66 : decode cX0_act 66 = .ok (.goto 9, 3) := dk_167 0 9 (dk_at dksX0_act_2 19 rfl rfl)
theorem dX0_act_69 : decode cX0_act 69 = .ok (.aload_n 0, 1) := dk_42 (dk_at dksX0_act_2 22 rfl rfl)
theorem dX0_act_70 : decode cX0_act 70 = .ok (.getfield 103, 3) := dk_180 0 103 (dk_at dksX0_act_3 0 rfl rfl)
theorem dX0_act_73 : decode cX0_act 73 = .ok (.iload_n 1, 1) := dk_27 (dk_at dksX0_act_3 3 rfl rfl)
theorem dX0_act_74 : decode cX0_act 74 = .ok (.iaload, 1) := dk_46 (dk_at dksX0_act_3 4 rfl rfl)
theorem dX0_act_75 : decode cX0_act 75 = .ok (.ireturn, 1) := dk_172 (dk_at dksX0_act_3 5 rfl rfl)
theorem dX0_act_76 : decode cX0_act 76 = .ok (.astore_n 3, 1) := dk_78 (dk_at dksX0_act_3 6 rfl rfl)
theorem dX0_act_77 : decode cX0_act 77 = .ok (.aload_n 0, 1) := dk_42 (dk_at dksX0_act_3 7 rfl rfl)
theorem dX0_act_78 : decode cX0_act 78 = .ok (.aload_n 3, 1) := dk_45 (dk_at dksX0_act_3 8 rfl rfl)
theorem dX0_act_79 : decode cX0_act 79 = .ok (.invokevirtual 138, 3) := dk_182 0 138 (dk_at dksX0_act_3 9 rfl rfl)
theorem dX0_act_82 : decode cX0_act 82 = .ok (.ireturn, 1) := dk_172 (dk_at dksX0_act_3 12 rfl rfl)
abbrev cX0_like : ByteArray := prog_1_method_35_code
def yX0_like : MethodName := ⟨RX0, "like", "()I"⟩
def dkwX0_like_1 : List UInt8 := [76, 42, 43, 182, 0, 138, 172]
abbrev dktX0_like_1 : List UInt8 := dkwX0_like_1 ++ []
def dkwX0_like_0 : List UInt8 := [42, 42, 180, 1, 23, 16, 250, 182, 0, 131, 17, 0, 200, 42, 180, 1, 27, 104, 42, 180, 1, 30, 108, 172]
abbrev dktX0_like_0 : List UInt8 := dkwX0_like_0 ++ dktX0_like_1
theorem dksX0_like_0 : cX0_like.data.toList.drop 0 = dktX0_like_0 := by decide +kernel
theorem dksX0_like_1 : cX0_like.data.toList.drop 24 = dktX0_like_1 := dk_seg dksX0_like_0 24 rfl rfl
theorem dX0_like_0 : decode cX0_like 0 = .ok (.aload_n 0, 1) := dk_42 (dk_at dksX0_like_0 0 rfl rfl)
theorem dX0_like_1 : decode cX0_like 1 = .ok (.aload_n 0, 1) := dk_42 (dk_at dksX0_like_0 1 rfl rfl)
theorem dX0_like_2 : decode cX0_like 2 = .ok (.getfield 279, 3) := dk_180 1 23 (dk_at dksX0_like_0 2 rfl rfl)
theorem dX0_like_5 : decode cX0_like 5 = .ok (.bipush (-6), 2) := dk_16 250 (dk_at dksX0_like_0 5 rfl rfl)
theorem dX0_like_7 : decode cX0_like 7 = .ok (.invokevirtual 131, 3) := dk_182 0 131 (dk_at dksX0_like_0 7 rfl rfl)
theorem dX0_like_10 : decode cX0_like 10 = .ok (.sipush 200, 3) := dk_17 0 200 (dk_at dksX0_like_0 10 rfl rfl)
theorem dX0_like_13 : decode cX0_like 13 = .ok (.aload_n 0, 1) := dk_42 (dk_at dksX0_like_0 13 rfl rfl)
theorem dX0_like_14 : decode cX0_like 14 = .ok (.getfield 283, 3) := dk_180 1 27 (dk_at dksX0_like_0 14 rfl rfl)
theorem dX0_like_17 : decode cX0_like 17 = .ok (.imul, 1) := dk_104 (dk_at dksX0_like_0 17 rfl rfl)
theorem dX0_like_18 : decode cX0_like 18 = .ok (.aload_n 0, 1) := dk_42 (dk_at dksX0_like_0 18 rfl rfl)
theorem dX0_like_19 : decode cX0_like 19 = .ok (.getfield 286, 3) := dk_180 1 30 (dk_at dksX0_like_0 19 rfl rfl)
theorem dX0_like_22 : decode cX0_like 22 = .ok (.idiv, 1) := dk_108 (dk_at dksX0_like_0 22 rfl rfl)
theorem dX0_like_23 : decode cX0_like 23 = .ok (.ireturn, 1) := dk_172 (dk_at dksX0_like_0 23 rfl rfl)
theorem dX0_like_24 : decode cX0_like 24 = .ok (.astore_n 1, 1) := dk_76 (dk_at dksX0_like_1 0 rfl rfl)
theorem dX0_like_25 : decode cX0_like 25 = .ok (.aload_n 0, 1) := dk_42 (dk_at dksX0_like_1 1 rfl rfl)
theorem dX0_like_26 : decode cX0_like 26 = .ok (.aload_n 1, 1) := dk_43 (dk_at dksX0_like_1 2 rfl rfl)
theorem dX0_like_27 : decode cX0_like 27 = .ok (.invokevirtual 138, 3) := dk_182 0 138 (dk_at dksX0_like_1 3 rfl rfl)
theorem dX0_like_30 : decode cX0_like 30 = .ok (.ireturn, 1) := dk_172 (dk_at dksX0_like_1 6 rfl rfl)
abbrev cX0_same : ByteArray := prog_1_method_36_code
def yX0_same : MethodName := ⟨RX0, "same", "(II)I"⟩
def dkwX0_same_2 : List UInt8 := [180, 0, 114, 180, 1, 58, 21, 5, 160, 0, 7, 4, 167, 0, 4, 3, 172, 78, 42, 45, 182, 0, 138, 172]
abbrev dktX0_same_2 : List UInt8 := dkwX0_same_2 ++ []
def dkwX0_same_1 : List UInt8 := [45, 182, 1, 55, 45, 180, 0, 114, 180, 1, 58, 54, 5, 42, 180, 0, 80, 25, 4, 182, 1, 55, 25, 4]
abbrev dktX0_same_1 : List UInt8 := dkwX0_same_1 ++ dktX0_same_2
def dkwX0_same_0 : List UInt8 := [42, 27, 182, 0, 162, 78, 42, 28, 182, 0, 162, 58, 4, 42, 180, 0, 80, 182, 1, 52, 42, 180, 0, 80]
abbrev dktX0_same_0 : List UInt8 := dkwX0_same_0 ++ dktX0_same_1
theorem dksX0_same_0 : cX0_same.data.toList.drop 0 = dktX0_same_0 := by decide +kernel
theorem dksX0_same_1 : cX0_same.data.toList.drop 24 = dktX0_same_1 := dk_seg dksX0_same_0 24 rfl rfl
theorem dksX0_same_2 : cX0_same.data.toList.drop 48 = dktX0_same_2 := dk_seg dksX0_same_1 24 rfl rfl
theorem dX0_same_0 : decode cX0_same 0 = .ok (.aload_n 0, 1) := dk_42 (dk_at dksX0_same_0 0 rfl rfl)
theorem dX0_same_1 : decode cX0_same 1 = .ok (.iload_n 1, 1) := dk_27 (dk_at dksX0_same_0 1 rfl rfl)
theorem dX0_same_2 : decode cX0_same 2 = .ok (.invokevirtual 162, 3) := dk_182 0 162 (dk_at dksX0_same_0 2 rfl rfl)
theorem dX0_same_5 : decode cX0_same 5 = .ok (.astore_n 3, 1) := dk_78 (dk_at dksX0_same_0 5 rfl rfl)
theorem dX0_same_6 : decode cX0_same 6 = .ok (.aload_n 0, 1) := dk_42 (dk_at dksX0_same_0 6 rfl rfl)
theorem dX0_same_7 : decode cX0_same 7 = .ok (.iload_n 2, 1) := dk_28 (dk_at dksX0_same_0 7 rfl rfl)
theorem dX0_same_8 : decode cX0_same 8 = .ok (.invokevirtual 162, 3) := dk_182 0 162 (dk_at dksX0_same_0 8 rfl rfl)
theorem dX0_same_11 : decode cX0_same 11 = .ok (.astore 4, 2) := dk_58 4 (dk_at dksX0_same_0 11 rfl rfl)
theorem dX0_same_13 : decode cX0_same 13 = .ok (.aload_n 0, 1) := dk_42 (dk_at dksX0_same_0 13 rfl rfl)
theorem dX0_same_14 : decode cX0_same 14 = .ok (.getfield 80, 3) := dk_180 0 80 (dk_at dksX0_same_0 14 rfl rfl)
theorem dX0_same_17 : decode cX0_same 17 = .ok (.invokevirtual 308, 3) := dk_182 1 52 (dk_at dksX0_same_0 17 rfl rfl)
theorem dX0_same_20 : decode cX0_same 20 = .ok (.aload_n 0, 1) := dk_42 (dk_at dksX0_same_0 20 rfl rfl)
theorem dX0_same_21 : decode cX0_same 21 = .ok (.getfield 80, 3) := dk_180 0 80 (dk_at dksX0_same_0 21 rfl rfl)
theorem dX0_same_24 : decode cX0_same 24 = .ok (.aload_n 3, 1) := dk_45 (dk_at dksX0_same_1 0 rfl rfl)
theorem dX0_same_25 : decode cX0_same 25 = .ok (.invokevirtual 311, 3) := dk_182 1 55 (dk_at dksX0_same_1 1 rfl rfl)
theorem dX0_same_28 : decode cX0_same 28 = .ok (.aload_n 3, 1) := dk_45 (dk_at dksX0_same_1 4 rfl rfl)
theorem dX0_same_29 : decode cX0_same 29 = .ok (.getfield 114, 3) := dk_180 0 114 (dk_at dksX0_same_1 5 rfl rfl)
theorem dX0_same_32 : decode cX0_same 32 = .ok (.getfield 314, 3) := dk_180 1 58 (dk_at dksX0_same_1 8 rfl rfl)
theorem dX0_same_35 : decode cX0_same 35 = .ok (.istore 5, 2) := dk_54 5 (dk_at dksX0_same_1 11 rfl rfl)
theorem dX0_same_37 : decode cX0_same 37 = .ok (.aload_n 0, 1) := dk_42 (dk_at dksX0_same_1 13 rfl rfl)
theorem dX0_same_38 : decode cX0_same 38 = .ok (.getfield 80, 3) := dk_180 0 80 (dk_at dksX0_same_1 14 rfl rfl)
theorem dX0_same_41 : decode cX0_same 41 = .ok (.aload 4, 2) := dk_25 4 (dk_at dksX0_same_1 17 rfl rfl)
theorem dX0_same_43 : decode cX0_same 43 = .ok (.invokevirtual 311, 3) := dk_182 1 55 (dk_at dksX0_same_1 19 rfl rfl)
theorem dX0_same_46 : decode cX0_same 46 = .ok (.aload 4, 2) := dk_25 4 (dk_at dksX0_same_1 22 rfl rfl)
theorem dX0_same_48 : decode cX0_same 48 = .ok (.getfield 114, 3) := dk_180 0 114 (dk_at dksX0_same_2 0 rfl rfl)
theorem dX0_same_51 : decode cX0_same 51 = .ok (.getfield 314, 3) := dk_180 1 58 (dk_at dksX0_same_2 3 rfl rfl)
theorem dX0_same_54 : decode cX0_same 54 = .ok (.iload 5, 2) := dk_21 5 (dk_at dksX0_same_2 6 rfl rfl)
theorem dX0_same_56 : decode cX0_same 56 = .ok (.if_icmp .ne 7, 3) := dk_160 0 7 (dk_at dksX0_same_2 8 rfl rfl)
theorem dX0_same_59 : decode cX0_same 59 = .ok (.iconst 1, 1) := dk_4 (dk_at dksX0_same_2 11 rfl rfl)
theorem dX0_same_60 : decode cX0_same 60 = .ok (.goto 4, 3) := dk_167 0 4 (dk_at dksX0_same_2 12 rfl rfl)
theorem dX0_same_63 : decode cX0_same 63 = .ok (.iconst 0, 1) := dk_3 (dk_at dksX0_same_2 15 rfl rfl)
theorem dX0_same_64 : decode cX0_same 64 = .ok (.ireturn, 1) := dk_172 (dk_at dksX0_same_2 16 rfl rfl)
theorem dX0_same_65 : decode cX0_same 65 = .ok (.astore_n 3, 1) := dk_78 (dk_at dksX0_same_2 17 rfl rfl)
theorem dX0_same_66 : decode cX0_same 66 = .ok (.aload_n 0, 1) := dk_42 (dk_at dksX0_same_2 18 rfl rfl)
theorem dX0_same_67 : decode cX0_same 67 = .ok (.aload_n 3, 1) := dk_45 (dk_at dksX0_same_2 19 rfl rfl)
theorem dX0_same_68 : decode cX0_same 68 = .ok (.invokevirtual 138, 3) := dk_182 0 138 (dk_at dksX0_same_2 20 rfl rfl)
theorem dX0_same_71 : decode cX0_same 71 = .ok (.ireturn, 1) := dk_172 (dk_at dksX0_same_2 23 rfl rfl)
abbrev cX0_unlike : ByteArray := prog_1_method_37_code
def yX0_unlike : MethodName := ⟨RX0, "unlike", "(I)I"⟩
def dkwX0_unlike_1 : List UInt8 := [180, 0, 80, 180, 1, 61, 172, 77, 42, 44, 182, 0, 138, 172]
abbrev dktX0_unlike_1 : List UInt8 := dkwX0_unlike_1 ++ []
def dkwX0_unlike_0 : List UInt8 := [42, 27, 182, 0, 162, 77, 42, 180, 0, 80, 182, 1, 52, 42, 180, 0, 80, 44, 182, 1, 55, 42]
abbrev dktX0_unlike_0 : List UInt8 := dkwX0_unlike_0 ++ dktX0_unlike_1
theorem dksX0_unlike_0 : cX0_unlike.data.toList.drop 0 = dktX0_unlike_0 := by decide +kernel
theorem dksX0_unlike_1 : cX0_unlike.data.toList.drop 22 = dktX0_unlike_1 := dk_seg dksX0_unlike_0 22 rfl rfl
theorem dX0_unlike_0 : decode cX0_unlike 0 = .ok (.aload_n 0, 1) := dk_42 (dk_at dksX0_unlike_0 0 rfl rfl)
theorem dX0_unlike_1 : decode cX0_unlike 1 = .ok (.iload_n 1, 1) := dk_27 (dk_at dksX0_unlike_0 1 rfl rfl)
theorem dX0_unlike_2 : decode cX0_unlike 2 = .ok (.invokevirtual 162, 3) := dk_182 0 162 (dk_at dksX0_unlike_0 2 rfl rfl)
theorem dX0_unlike_5 : decode cX0_unlike 5 = .ok (.astore_n 2, 1) := dk_77 (dk_at dksX0_unlike_0 5 rfl rfl)
theorem dX0_unlike_6 : decode cX0_unlike 6 = .ok (.aload_n 0, 1) := dk_42 (dk_at dksX0_unlike_0 6 rfl rfl)
theorem dX0_unlike_7 : decode cX0_unlike 7 = .ok (.getfield 80, 3) := dk_180 0 80 (dk_at dksX0_unlike_0 7 rfl rfl)
theorem dX0_unlike_10 : decode cX0_unlike 10 = .ok (.invokevirtual 308, 3) := dk_182 1 52 (dk_at dksX0_unlike_0 10 rfl rfl)
theorem dX0_unlike_13 : decode cX0_unlike 13 = .ok (.aload_n 0, 1) := dk_42 (dk_at dksX0_unlike_0 13 rfl rfl)
theorem dX0_unlike_14 : decode cX0_unlike 14 = .ok (.getfield 80, 3) := dk_180 0 80 (dk_at dksX0_unlike_0 14 rfl rfl)
theorem dX0_unlike_17 : decode cX0_unlike 17 = .ok (.aload_n 2, 1) := dk_44 (dk_at dksX0_unlike_0 17 rfl rfl)
theorem dX0_unlike_18 : decode cX0_unlike 18 = .ok (.invokevirtual 311, 3) := dk_182 1 55 (dk_at dksX0_unlike_0 18 rfl rfl)
theorem dX0_unlike_21 : decode cX0_unlike 21 = .ok (.aload_n 0, 1) := dk_42 (dk_at dksX0_unlike_0 21 rfl rfl)
theorem dX0_unlike_22 : decode cX0_unlike 22 = .ok (.getfield 80, 3) := dk_180 0 80 (dk_at dksX0_unlike_1 0 rfl rfl)
theorem dX0_unlike_25 : decode cX0_unlike 25 = .ok (.getfield 317, 3) := dk_180 1 61 (dk_at dksX0_unlike_1 3 rfl rfl)
theorem dX0_unlike_28 : decode cX0_unlike 28 = .ok (.ireturn, 1) := dk_172 (dk_at dksX0_unlike_1 6 rfl rfl)
theorem dX0_unlike_29 : decode cX0_unlike 29 = .ok (.astore_n 2, 1) := dk_77 (dk_at dksX0_unlike_1 7 rfl rfl)
theorem dX0_unlike_30 : decode cX0_unlike 30 = .ok (.aload_n 0, 1) := dk_42 (dk_at dksX0_unlike_1 8 rfl rfl)
theorem dX0_unlike_31 : decode cX0_unlike 31 = .ok (.aload_n 2, 1) := dk_44 (dk_at dksX0_unlike_1 9 rfl rfl)
theorem dX0_unlike_32 : decode cX0_unlike 32 = .ok (.invokevirtual 138, 3) := dk_182 0 138 (dk_at dksX0_unlike_1 10 rfl rfl)
theorem dX0_unlike_35 : decode cX0_unlike 35 = .ok (.ireturn, 1) := dk_172 (dk_at dksX0_unlike_1 13 rfl rfl)
abbrev cX0_shared : ByteArray := prog_1_method_38_code
def yX0_shared : MethodName := ⟨RX0, "shared", "(II)I"⟩
def dkwX0_shared_4 : List UInt8 := [172, 78, 42, 45, 182, 0, 138, 172]
abbrev dktX0_shared_4 : List UInt8 := dkwX0_shared_4 ++ []
def dkwX0_shared_3 : List UInt8 := [180, 1, 58, 21, 5, 162, 0, 7, 4, 167, 0, 4, 3, 96, 54, 6, 132, 7, 1, 167, 255, 219, 21, 6]
abbrev dktX0_shared_3 : List UInt8 := dkwX0_shared_3 ++ dktX0_shared_4
def dkwX0_shared_2 : List UInt8 := [54, 6, 3, 54, 7, 21, 7, 45, 180, 0, 152, 162, 0, 34, 21, 6, 45, 180, 0, 155, 21, 7, 50]
abbrev dktX0_shared_2 : List UInt8 := dkwX0_shared_2 ++ dktX0_shared_3
def dkwX0_shared_1 : List UInt8 := [25, 4, 182, 1, 55, 42, 180, 0, 80, 180, 1, 61, 54, 5, 42, 180, 0, 80, 45, 182, 1, 55, 3]
abbrev dktX0_shared_1 : List UInt8 := dkwX0_shared_1 ++ dktX0_shared_2
def dkwX0_shared_0 : List UInt8 := [42, 27, 182, 0, 162, 78, 42, 28, 182, 0, 162, 58, 4, 42, 180, 0, 80, 182, 1, 52, 42, 180, 0, 80]
abbrev dktX0_shared_0 : List UInt8 := dkwX0_shared_0 ++ dktX0_shared_1
theorem dksX0_shared_0 : cX0_shared.data.toList.drop 0 = dktX0_shared_0 := by decide +kernel
theorem dksX0_shared_1 : cX0_shared.data.toList.drop 24 = dktX0_shared_1 := dk_seg dksX0_shared_0 24 rfl rfl
theorem dksX0_shared_2 : cX0_shared.data.toList.drop 47 = dktX0_shared_2 := dk_seg dksX0_shared_1 23 rfl rfl
theorem dksX0_shared_3 : cX0_shared.data.toList.drop 70 = dktX0_shared_3 := dk_seg dksX0_shared_2 23 rfl rfl
theorem dksX0_shared_4 : cX0_shared.data.toList.drop 94 = dktX0_shared_4 := dk_seg dksX0_shared_3 24 rfl rfl
theorem dX0_shared_0 : decode cX0_shared 0 = .ok (.aload_n 0, 1) := dk_42 (dk_at dksX0_shared_0 0 rfl rfl)
theorem dX0_shared_1 : decode cX0_shared 1 = .ok (.iload_n 1, 1) := dk_27 (dk_at dksX0_shared_0 1 rfl rfl)
theorem dX0_shared_2 : decode cX0_shared 2 = .ok (.invokevirtual 162, 3) := dk_182 0 162 (dk_at dksX0_shared_0 2 rfl rfl)
theorem dX0_shared_5 : decode cX0_shared 5 = .ok (.astore_n 3, 1) := dk_78 (dk_at dksX0_shared_0 5 rfl rfl)
theorem dX0_shared_6 : decode cX0_shared 6 = .ok (.aload_n 0, 1) := dk_42 (dk_at dksX0_shared_0 6 rfl rfl)
theorem dX0_shared_7 : decode cX0_shared 7 = .ok (.iload_n 2, 1) := dk_28 (dk_at dksX0_shared_0 7 rfl rfl)
theorem dX0_shared_8 : decode cX0_shared 8 = .ok (.invokevirtual 162, 3) := dk_182 0 162 (dk_at dksX0_shared_0 8 rfl rfl)
theorem dX0_shared_11 : decode cX0_shared 11 = .ok (.astore 4, 2) := dk_58 4 (dk_at dksX0_shared_0 11 rfl rfl)
theorem dX0_shared_13 : decode cX0_shared 13 = .ok (.aload_n 0, 1) := dk_42 (dk_at dksX0_shared_0 13 rfl rfl)
theorem dX0_shared_14 : decode cX0_shared 14 = .ok (.getfield 80, 3) := dk_180 0 80 (dk_at dksX0_shared_0 14 rfl rfl)
theorem dX0_shared_17 : decode cX0_shared 17 = .ok (.invokevirtual 308, 3) := dk_182 1 52 (dk_at dksX0_shared_0 17 rfl rfl)
theorem dX0_shared_20 : decode cX0_shared 20 = .ok (.aload_n 0, 1) := dk_42 (dk_at dksX0_shared_0 20 rfl rfl)
theorem dX0_shared_21 : decode cX0_shared 21 = .ok (.getfield 80, 3) := dk_180 0 80 (dk_at dksX0_shared_0 21 rfl rfl)
theorem dX0_shared_24 : decode cX0_shared 24 = .ok (.aload 4, 2) := dk_25 4 (dk_at dksX0_shared_1 0 rfl rfl)
theorem dX0_shared_26 : decode cX0_shared 26 = .ok (.invokevirtual 311, 3) := dk_182 1 55 (dk_at dksX0_shared_1 2 rfl rfl)
theorem dX0_shared_29 : decode cX0_shared 29 = .ok (.aload_n 0, 1) := dk_42 (dk_at dksX0_shared_1 5 rfl rfl)
theorem dX0_shared_30 : decode cX0_shared 30 = .ok (.getfield 80, 3) := dk_180 0 80 (dk_at dksX0_shared_1 6 rfl rfl)
theorem dX0_shared_33 : decode cX0_shared 33 = .ok (.getfield 317, 3) := dk_180 1 61 (dk_at dksX0_shared_1 9 rfl rfl)
theorem dX0_shared_36 : decode cX0_shared 36 = .ok (.istore 5, 2) := dk_54 5 (dk_at dksX0_shared_1 12 rfl rfl)
theorem dX0_shared_38 : decode cX0_shared 38 = .ok (.aload_n 0, 1) := dk_42 (dk_at dksX0_shared_1 14 rfl rfl)
theorem dX0_shared_39 : decode cX0_shared 39 = .ok (.getfield 80, 3) := dk_180 0 80 (dk_at dksX0_shared_1 15 rfl rfl)
theorem dX0_shared_42 : decode cX0_shared 42 = .ok (.aload_n 3, 1) := dk_45 (dk_at dksX0_shared_1 18 rfl rfl)
theorem dX0_shared_43 : decode cX0_shared 43 = .ok (.invokevirtual 311, 3) := dk_182 1 55 (dk_at dksX0_shared_1 19 rfl rfl)
theorem dX0_shared_46 : decode cX0_shared 46 = .ok (.iconst 0, 1) := dk_3 (dk_at dksX0_shared_1 22 rfl rfl)
theorem dX0_shared_47 : decode cX0_shared 47 = .ok (.istore 6, 2) := dk_54 6 (dk_at dksX0_shared_2 0 rfl rfl)
theorem dX0_shared_49 : decode cX0_shared 49 = .ok (.iconst 0, 1) := dk_3 (dk_at dksX0_shared_2 2 rfl rfl)
theorem dX0_shared_50 : decode cX0_shared 50 = .ok (.istore 7, 2) := dk_54 7 (dk_at dksX0_shared_2 3 rfl rfl)
theorem dX0_shared_52 : decode cX0_shared 52 = .ok (.iload 7, 2) := dk_21 7 (dk_at dksX0_shared_2 5 rfl rfl)
theorem dX0_shared_54 : decode cX0_shared 54 = .ok (.aload_n 3, 1) := dk_45 (dk_at dksX0_shared_2 7 rfl rfl)
theorem dX0_shared_55 : decode cX0_shared 55 = .ok (.getfield 152, 3) := dk_180 0 152 (dk_at dksX0_shared_2 8 rfl rfl)
theorem dX0_shared_58 : decode cX0_shared 58 = .ok (.if_icmp .ge 34, 3) := dk_162 0 34 (dk_at dksX0_shared_2 11 rfl rfl)
theorem dX0_shared_61 : decode cX0_shared 61 = .ok (.iload 6, 2) := dk_21 6 (dk_at dksX0_shared_2 14 rfl rfl)
theorem dX0_shared_63 : decode cX0_shared 63 = .ok (.aload_n 3, 1) := dk_45 (dk_at dksX0_shared_2 16 rfl rfl)
theorem dX0_shared_64 : decode cX0_shared 64 = .ok (.getfield 155, 3) := dk_180 0 155 (dk_at dksX0_shared_2 17 rfl rfl)
theorem dX0_shared_67 : decode cX0_shared 67 = .ok (.iload 7, 2) := dk_21 7 (dk_at dksX0_shared_2 20 rfl rfl)
theorem dX0_shared_69 : decode cX0_shared 69 = .ok (.aaload, 1) := dk_50 (dk_at dksX0_shared_2 22 rfl rfl)
theorem dX0_shared_70 : decode cX0_shared 70 = .ok (.getfield 314, 3) := dk_180 1 58 (dk_at dksX0_shared_3 0 rfl rfl)
theorem dX0_shared_73 : decode cX0_shared 73 = .ok (.iload 5, 2) := dk_21 5 (dk_at dksX0_shared_3 3 rfl rfl)
theorem dX0_shared_75 : decode cX0_shared 75 = .ok (.if_icmp .ge 7, 3) := dk_162 0 7 (dk_at dksX0_shared_3 5 rfl rfl)
theorem dX0_shared_78 : decode cX0_shared 78 = .ok (.iconst 1, 1) := dk_4 (dk_at dksX0_shared_3 8 rfl rfl)
theorem dX0_shared_79 : decode cX0_shared 79 = .ok (.goto 4, 3) := dk_167 0 4 (dk_at dksX0_shared_3 9 rfl rfl)
theorem dX0_shared_82 : decode cX0_shared 82 = .ok (.iconst 0, 1) := dk_3 (dk_at dksX0_shared_3 12 rfl rfl)
theorem dX0_shared_83 : decode cX0_shared 83 = .ok (.iadd, 1) := dk_96 (dk_at dksX0_shared_3 13 rfl rfl)
theorem dX0_shared_84 : decode cX0_shared 84 = .ok (.istore 6, 2) := dk_54 6 (dk_at dksX0_shared_3 14 rfl rfl)
theorem dX0_shared_86 : decode cX0_shared 86 = .ok (.iinc 7 1, 3) := dk_132 7 1 (dk_at dksX0_shared_3 16 rfl rfl)
theorem dX0_shared_89 : decode cX0_shared 89 = .ok (.goto (-37), 3) := dk_167 255 219 (dk_at dksX0_shared_3 19 rfl rfl)
theorem dX0_shared_92 : decode cX0_shared 92 = .ok (.iload 6, 2) := dk_21 6 (dk_at dksX0_shared_3 22 rfl rfl)
theorem dX0_shared_94 : decode cX0_shared 94 = .ok (.ireturn, 1) := dk_172 (dk_at dksX0_shared_4 0 rfl rfl)
theorem dX0_shared_95 : decode cX0_shared 95 = .ok (.astore_n 3, 1) := dk_78 (dk_at dksX0_shared_4 1 rfl rfl)
theorem dX0_shared_96 : decode cX0_shared 96 = .ok (.aload_n 0, 1) := dk_42 (dk_at dksX0_shared_4 2 rfl rfl)
theorem dX0_shared_97 : decode cX0_shared 97 = .ok (.aload_n 3, 1) := dk_45 (dk_at dksX0_shared_4 3 rfl rfl)
theorem dX0_shared_98 : decode cX0_shared 98 = .ok (.invokevirtual 138, 3) := dk_182 0 138 (dk_at dksX0_shared_4 4 rfl rfl)
theorem dX0_shared_101 : decode cX0_shared 101 = .ok (.ireturn, 1) := dk_172 (dk_at dksX0_shared_4 7 rfl rfl)
abbrev cX0_merge : ByteArray := prog_1_method_39_code
def yX0_merge : MethodName := ⟨RX0, "merge", "(IIII)I"⟩
def dkwX0_merge_4 : List UInt8 := [172]
abbrev dktX0_merge_4 : List UInt8 := dkwX0_merge_4 ++ []
def dkwX0_merge_3 : List UInt8 := [180, 0, 46, 21, 4, 25, 8, 83, 42, 180, 0, 87, 180, 1, 71, 172, 58, 5, 42, 25, 5, 182, 0, 138]
abbrev dktX0_merge_3 : List UInt8 := dkwX0_merge_3 ++ dktX0_merge_4
def dkwX0_merge_2 : List UInt8 := [25, 8, 199, 0, 7, 3, 167, 0, 8, 25, 8, 180, 0, 152, 181, 1, 68, 25, 8, 198, 0, 12, 42]
abbrev dktX0_merge_2 : List UInt8 := dkwX0_merge_2 ++ dktX0_merge_3
def dkwX0_merge_1 : List UInt8 := [184, 0, 142, 2, 182, 0, 131, 42, 180, 0, 87, 25, 5, 25, 6, 25, 7, 182, 1, 64, 58, 8, 42]
abbrev dktX0_merge_1 : List UInt8 := dkwX0_merge_1 ++ dktX0_merge_2
def dkwX0_merge_0 : List UInt8 := [42, 27, 182, 0, 162, 58, 5, 42, 28, 182, 0, 162, 58, 6, 42, 29, 182, 0, 162, 58, 7, 42, 21, 4]
abbrev dktX0_merge_0 : List UInt8 := dkwX0_merge_0 ++ dktX0_merge_1
theorem dksX0_merge_0 : cX0_merge.data.toList.drop 0 = dktX0_merge_0 := by decide +kernel
theorem dksX0_merge_1 : cX0_merge.data.toList.drop 24 = dktX0_merge_1 := dk_seg dksX0_merge_0 24 rfl rfl
theorem dksX0_merge_2 : cX0_merge.data.toList.drop 47 = dktX0_merge_2 := dk_seg dksX0_merge_1 23 rfl rfl
theorem dksX0_merge_3 : cX0_merge.data.toList.drop 70 = dktX0_merge_3 := dk_seg dksX0_merge_2 23 rfl rfl
theorem dksX0_merge_4 : cX0_merge.data.toList.drop 94 = dktX0_merge_4 := dk_seg dksX0_merge_3 24 rfl rfl
theorem dX0_merge_0 : decode cX0_merge 0 = .ok (.aload_n 0, 1) := dk_42 (dk_at dksX0_merge_0 0 rfl rfl)
theorem dX0_merge_1 : decode cX0_merge 1 = .ok (.iload_n 1, 1) := dk_27 (dk_at dksX0_merge_0 1 rfl rfl)
theorem dX0_merge_2 : decode cX0_merge 2 = .ok (.invokevirtual 162, 3) := dk_182 0 162 (dk_at dksX0_merge_0 2 rfl rfl)
theorem dX0_merge_5 : decode cX0_merge 5 = .ok (.astore 5, 2) := dk_58 5 (dk_at dksX0_merge_0 5 rfl rfl)
theorem dX0_merge_7 : decode cX0_merge 7 = .ok (.aload_n 0, 1) := dk_42 (dk_at dksX0_merge_0 7 rfl rfl)
theorem dX0_merge_8 : decode cX0_merge 8 = .ok (.iload_n 2, 1) := dk_28 (dk_at dksX0_merge_0 8 rfl rfl)
theorem dX0_merge_9 : decode cX0_merge 9 = .ok (.invokevirtual 162, 3) := dk_182 0 162 (dk_at dksX0_merge_0 9 rfl rfl)
theorem dX0_merge_12 : decode cX0_merge 12 = .ok (.astore 6, 2) := dk_58 6 (dk_at dksX0_merge_0 12 rfl rfl)
theorem dX0_merge_14 : decode cX0_merge 14 = .ok (.aload_n 0, 1) := dk_42 (dk_at dksX0_merge_0 14 rfl rfl)
theorem dX0_merge_15 : decode cX0_merge 15 = .ok (.iload_n 3, 1) := dk_29 (dk_at dksX0_merge_0 15 rfl rfl)
theorem dX0_merge_16 : decode cX0_merge 16 = .ok (.invokevirtual 162, 3) := dk_182 0 162 (dk_at dksX0_merge_0 16 rfl rfl)
theorem dX0_merge_19 : decode cX0_merge 19 = .ok (.astore 7, 2) := dk_58 7 (dk_at dksX0_merge_0 19 rfl rfl)
theorem dX0_merge_21 : decode cX0_merge 21 = .ok (.aload_n 0, 1) := dk_42 (dk_at dksX0_merge_0 21 rfl rfl)
theorem dX0_merge_22 : decode cX0_merge 22 = .ok (.iload 4, 2) := dk_21 4 (dk_at dksX0_merge_0 22 rfl rfl)
theorem dX0_merge_24 : decode cX0_merge 24 = .ok (.invokestatic 142, 3) := dk_184 0 142 (dk_at dksX0_merge_1 0 rfl rfl)
theorem dX0_merge_27 : decode cX0_merge 27 = .ok (.iconst (-1), 1) := dk_2 (dk_at dksX0_merge_1 3 rfl rfl)
theorem dX0_merge_28 : decode cX0_merge 28 = .ok (.invokevirtual 131, 3) := dk_182 0 131 (dk_at dksX0_merge_1 4 rfl rfl)
theorem dX0_merge_31 : decode cX0_merge 31 = .ok (.aload_n 0, 1) := dk_42 (dk_at dksX0_merge_1 7 rfl rfl)
theorem dX0_merge_32 : decode cX0_merge 32 = .ok (.getfield 87, 3) := dk_180 0 87 (dk_at dksX0_merge_1 8 rfl rfl)
theorem dX0_merge_35 : decode cX0_merge 35 = .ok (.aload 5, 2) := dk_25 5 (dk_at dksX0_merge_1 11 rfl rfl)
theorem dX0_merge_37 : decode cX0_merge 37 = .ok (.aload 6, 2) := dk_25 6 (dk_at dksX0_merge_1 13 rfl rfl)
theorem dX0_merge_39 : decode cX0_merge 39 = .ok (.aload 7, 2) := dk_25 7 (dk_at dksX0_merge_1 15 rfl rfl)
theorem dX0_merge_41 : decode cX0_merge 41 = .ok (.invokevirtual 320, 3) := dk_182 1 64 (dk_at dksX0_merge_1 17 rfl rfl)
theorem dX0_merge_44 : decode cX0_merge 44 = .ok (.astore 8, 2) := dk_58 8 (dk_at dksX0_merge_1 20 rfl rfl)
theorem dX0_merge_46 : decode cX0_merge 46 = .ok (.aload_n 0, 1) := dk_42 (dk_at dksX0_merge_1 22 rfl rfl)
theorem dX0_merge_47 : decode cX0_merge 47 = .ok (.aload 8, 2) := dk_25 8 (dk_at dksX0_merge_2 0 rfl rfl)
theorem dX0_merge_49 : decode cX0_merge 49 = .ok (.ifnonnull 7, 3) := dk_199 0 7 (dk_at dksX0_merge_2 2 rfl rfl)
theorem dX0_merge_52 : decode cX0_merge 52 = .ok (.iconst 0, 1) := dk_3 (dk_at dksX0_merge_2 5 rfl rfl)
theorem dX0_merge_53 : decode cX0_merge 53 = .ok (.goto 8, 3) := dk_167 0 8 (dk_at dksX0_merge_2 6 rfl rfl)
theorem dX0_merge_56 : decode cX0_merge 56 = .ok (.aload 8, 2) := dk_25 8 (dk_at dksX0_merge_2 9 rfl rfl)
theorem dX0_merge_58 : decode cX0_merge 58 = .ok (.getfield 152, 3) := dk_180 0 152 (dk_at dksX0_merge_2 11 rfl rfl)
theorem dX0_merge_61 : decode cX0_merge 61 = .ok (.putfield 324, 3) := dk_181 1 68 (dk_at dksX0_merge_2 14 rfl rfl)
theorem dX0_merge_64 : decode cX0_merge 64 = .ok (.aload 8, 2) := dk_25 8 (dk_at dksX0_merge_2 17 rfl rfl)
theorem dX0_merge_66 : decode cX0_merge 66 = .ok (.ifnull 12, 3) := dk_198 0 12 (dk_at dksX0_merge_2 19 rfl rfl)
theorem dX0_merge_69 : decode cX0_merge 69 = .ok (.aload_n 0, 1) := dk_42 (dk_at dksX0_merge_2 22 rfl rfl)
theorem dX0_merge_70 : decode cX0_merge 70 = .ok (.getfield 46, 3) := dk_180 0 46 (dk_at dksX0_merge_3 0 rfl rfl)
theorem dX0_merge_73 : decode cX0_merge 73 = .ok (.iload 4, 2) := dk_21 4 (dk_at dksX0_merge_3 3 rfl rfl)
theorem dX0_merge_75 : decode cX0_merge 75 = .ok (.aload 8, 2) := dk_25 8 (dk_at dksX0_merge_3 5 rfl rfl)
theorem dX0_merge_77 : decode cX0_merge 77 = .ok (.aastore, 1) := dk_83 (dk_at dksX0_merge_3 7 rfl rfl)
theorem dX0_merge_78 : decode cX0_merge 78 = .ok (.aload_n 0, 1) := dk_42 (dk_at dksX0_merge_3 8 rfl rfl)
theorem dX0_merge_79 : decode cX0_merge 79 = .ok (.getfield 87, 3) := dk_180 0 87 (dk_at dksX0_merge_3 9 rfl rfl)
theorem dX0_merge_82 : decode cX0_merge 82 = .ok (.getfield 327, 3) := dk_180 1 71 (dk_at dksX0_merge_3 12 rfl rfl)
theorem dX0_merge_85 : decode cX0_merge 85 = .ok (.ireturn, 1) := dk_172 (dk_at dksX0_merge_3 15 rfl rfl)
theorem dX0_merge_86 : decode cX0_merge 86 = .ok (.astore 5, 2) := dk_58 5 (dk_at dksX0_merge_3 16 rfl rfl)
theorem dX0_merge_88 : decode cX0_merge 88 = .ok (.aload_n 0, 1) := dk_42 (dk_at dksX0_merge_3 18 rfl rfl)
theorem dX0_merge_89 : decode cX0_merge 89 = .ok (.aload 5, 2) := dk_25 5 (dk_at dksX0_merge_3 19 rfl rfl)
theorem dX0_merge_91 : decode cX0_merge 91 = .ok (.invokevirtual 138, 3) := dk_182 0 138 (dk_at dksX0_merge_3 21 rfl rfl)
theorem dX0_merge_94 : decode cX0_merge 94 = .ok (.ireturn, 1) := dk_172 (dk_at dksX0_merge_4 0 rfl rfl)
abbrev cX0_merged : ByteArray := prog_1_method_40_code
def yX0_merged : MethodName := ⟨RX0, "merged", "()I"⟩
theorem dX0_merged_0 : decode cX0_merged 0 = .ok (.aload_n 0, 1) := by decide +kernel
theorem dX0_merged_1 : decode cX0_merged 1 = .ok (.getfield 324, 3) := by decide +kernel
theorem dX0_merged_4 : decode cX0_merged 4 = .ok (.ireturn, 1) := by decide +kernel
abbrev cX0_clash : ByteArray := prog_1_method_41_code
def yX0_clash : MethodName := ⟨RX0, "clash", "(II)I"⟩
def dkwX0_clash_3 : List UInt8 := [172, 78, 42, 45, 182, 0, 138, 172]
abbrev dktX0_clash_3 : List UInt8 := dkwX0_clash_3 ++ []
def dkwX0_clash_2 : List UInt8 := [154, 0, 15, 42, 180, 0, 87, 180, 1, 73, 27, 46, 167, 0, 12, 42, 180, 0, 87, 180, 1, 76, 27, 46]
abbrev dktX0_clash_2 : List UInt8 := dkwX0_clash_2 ++ dktX0_clash_3
def dkwX0_clash_1 : List UInt8 := [182, 0, 131, 42, 28, 153, 0, 8, 28, 4, 160, 0, 7, 4, 167, 0, 4, 3, 2, 182, 0, 131, 28]
abbrev dktX0_clash_1 : List UInt8 := dkwX0_clash_1 ++ dktX0_clash_2
def dkwX0_clash_0 : List UInt8 := [42, 27, 155, 0, 18, 27, 42, 180, 0, 87, 180, 1, 71, 162, 0, 7, 4, 167, 0, 4, 3, 16, 250]
abbrev dktX0_clash_0 : List UInt8 := dkwX0_clash_0 ++ dktX0_clash_1
theorem dksX0_clash_0 : cX0_clash.data.toList.drop 0 = dktX0_clash_0 := by decide +kernel
theorem dksX0_clash_1 : cX0_clash.data.toList.drop 23 = dktX0_clash_1 := dk_seg dksX0_clash_0 23 rfl rfl
theorem dksX0_clash_2 : cX0_clash.data.toList.drop 46 = dktX0_clash_2 := dk_seg dksX0_clash_1 23 rfl rfl
theorem dksX0_clash_3 : cX0_clash.data.toList.drop 70 = dktX0_clash_3 := dk_seg dksX0_clash_2 24 rfl rfl
theorem dX0_clash_0 : decode cX0_clash 0 = .ok (.aload_n 0, 1) := dk_42 (dk_at dksX0_clash_0 0 rfl rfl)
theorem dX0_clash_1 : decode cX0_clash 1 = .ok (.iload_n 1, 1) := dk_27 (dk_at dksX0_clash_0 1 rfl rfl)
theorem dX0_clash_2 : decode cX0_clash 2 = .ok (.ifCond .lt 18, 3) := dk_155 0 18 (dk_at dksX0_clash_0 2 rfl rfl)
theorem dX0_clash_5 : decode cX0_clash 5 = .ok (.iload_n 1, 1) := dk_27 (dk_at dksX0_clash_0 5 rfl rfl)
theorem dX0_clash_6 : decode cX0_clash 6 = .ok (.aload_n 0, 1) := dk_42 (dk_at dksX0_clash_0 6 rfl rfl)
theorem dX0_clash_7 : decode cX0_clash 7 = .ok (.getfield 87, 3) := dk_180 0 87 (dk_at dksX0_clash_0 7 rfl rfl)
theorem dX0_clash_10 : decode cX0_clash 10 = .ok (.getfield 327, 3) := dk_180 1 71 (dk_at dksX0_clash_0 10 rfl rfl)
theorem dX0_clash_13 : decode cX0_clash 13 = .ok (.if_icmp .ge 7, 3) := dk_162 0 7 (dk_at dksX0_clash_0 13 rfl rfl)
theorem dX0_clash_16 : decode cX0_clash 16 = .ok (.iconst 1, 1) := dk_4 (dk_at dksX0_clash_0 16 rfl rfl)
theorem dX0_clash_17 : decode cX0_clash 17 = .ok (.goto 4, 3) := dk_167 0 4 (dk_at dksX0_clash_0 17 rfl rfl)
theorem dX0_clash_20 : decode cX0_clash 20 = .ok (.iconst 0, 1) := dk_3 (dk_at dksX0_clash_0 20 rfl rfl)
theorem dX0_clash_21 : decode cX0_clash 21 = .ok (.bipush (-6), 2) := dk_16 250 (dk_at dksX0_clash_0 21 rfl rfl)
theorem dX0_clash_23 : decode cX0_clash 23 = .ok (.invokevirtual 131, 3) := dk_182 0 131 (dk_at dksX0_clash_1 0 rfl rfl)
theorem dX0_clash_26 : decode cX0_clash 26 = .ok (.aload_n 0, 1) := dk_42 (dk_at dksX0_clash_1 3 rfl rfl)
theorem dX0_clash_27 : decode cX0_clash 27 = .ok (.iload_n 2, 1) := dk_28 (dk_at dksX0_clash_1 4 rfl rfl)
theorem dX0_clash_28 : decode cX0_clash 28 = .ok (.ifCond .eq 8, 3) := dk_153 0 8 (dk_at dksX0_clash_1 5 rfl rfl)
theorem dX0_clash_31 : decode cX0_clash 31 = .ok (.iload_n 2, 1) := dk_28 (dk_at dksX0_clash_1 8 rfl rfl)
theorem dX0_clash_32 : decode cX0_clash 32 = .ok (.iconst 1, 1) := dk_4 (dk_at dksX0_clash_1 9 rfl rfl)
theorem dX0_clash_33 : decode cX0_clash 33 = .ok (.if_icmp .ne 7, 3) := dk_160 0 7 (dk_at dksX0_clash_1 10 rfl rfl)
theorem dX0_clash_36 : decode cX0_clash 36 = .ok (.iconst 1, 1) := dk_4 (dk_at dksX0_clash_1 13 rfl rfl)
theorem dX0_clash_37 : decode cX0_clash 37 = .ok (.goto 4, 3) := dk_167 0 4 (dk_at dksX0_clash_1 14 rfl rfl)
theorem dX0_clash_40 : decode cX0_clash 40 = .ok (.iconst 0, 1) := dk_3 (dk_at dksX0_clash_1 17 rfl rfl)
theorem dX0_clash_41 : decode cX0_clash 41 = .ok (.iconst (-1), 1) := dk_2 (dk_at dksX0_clash_1 18 rfl rfl)
theorem dX0_clash_42 : decode cX0_clash 42 = .ok (.invokevirtual 131, 3) := dk_182 0 131 (dk_at dksX0_clash_1 19 rfl rfl)
theorem dX0_clash_45 : decode cX0_clash 45 = .ok (.iload_n 2, 1) := dk_28 (dk_at dksX0_clash_1 22 rfl rfl)
theorem dX0_clash_46 : decode cX0_clash 46 = .ok (.ifCond .ne 15, 3) := dk_154 0 15 (dk_at dksX0_clash_2 0 rfl rfl)
theorem dX0_clash_49 : decode cX0_clash 49 = .ok (.aload_n 0, 1) := dk_42 (dk_at dksX0_clash_2 3 rfl rfl)
theorem dX0_clash_50 : decode cX0_clash 50 = .ok (.getfield 87, 3) := dk_180 0 87 (dk_at dksX0_clash_2 4 rfl rfl)
theorem dX0_clash_53 : decode cX0_clash 53 = .ok (.getfield 329, 3) := dk_180 1 73 (dk_at dksX0_clash_2 7 rfl rfl)
theorem dX0_clash_56 : decode cX0_clash 56 = .ok (.iload_n 1, 1) := dk_27 (dk_at dksX0_clash_2 10 rfl rfl)
theorem dX0_clash_57 : decode cX0_clash 57 = .ok (.iaload, 1) := dk_46 (dk_at dksX0_clash_2 11 rfl rfl)
theorem dX0_clash_58 : decode cX0_clash 58 = .ok (.goto 12, 3) := dk_167 0 12 (dk_at dksX0_clash_2 12 rfl rfl)
theorem dX0_clash_61 : decode cX0_clash 61 = .ok (.aload_n 0, 1) := dk_42 (dk_at dksX0_clash_2 15 rfl rfl)
theorem dX0_clash_62 : decode cX0_clash 62 = .ok (.getfield 87, 3) := dk_180 0 87 (dk_at dksX0_clash_2 16 rfl rfl)
theorem dX0_clash_65 : decode cX0_clash 65 = .ok (.getfield 332, 3) := dk_180 1 76 (dk_at dksX0_clash_2 19 rfl rfl)
theorem dX0_clash_68 : decode cX0_clash 68 = .ok (.iload_n 1, 1) := dk_27 (dk_at dksX0_clash_2 22 rfl rfl)
theorem dX0_clash_69 : decode cX0_clash 69 = .ok (.iaload, 1) := dk_46 (dk_at dksX0_clash_2 23 rfl rfl)
theorem dX0_clash_70 : decode cX0_clash 70 = .ok (.ireturn, 1) := dk_172 (dk_at dksX0_clash_3 0 rfl rfl)
theorem dX0_clash_71 : decode cX0_clash 71 = .ok (.astore_n 3, 1) := dk_78 (dk_at dksX0_clash_3 1 rfl rfl)
theorem dX0_clash_72 : decode cX0_clash 72 = .ok (.aload_n 0, 1) := dk_42 (dk_at dksX0_clash_3 2 rfl rfl)
theorem dX0_clash_73 : decode cX0_clash 73 = .ok (.aload_n 3, 1) := dk_45 (dk_at dksX0_clash_3 3 rfl rfl)
theorem dX0_clash_74 : decode cX0_clash 74 = .ok (.invokevirtual 138, 3) := dk_182 0 138 (dk_at dksX0_clash_3 4 rfl rfl)
theorem dX0_clash_77 : decode cX0_clash 77 = .ok (.ireturn, 1) := dk_172 (dk_at dksX0_clash_3 7 rfl rfl)
abbrev cX0_found : ByteArray := prog_1_method_42_code
def yX0_found : MethodName := ⟨RX0, "found", "(I)I"⟩
def dkwX0_found_1 : List UInt8 := [182, 0, 131, 42, 180, 0, 40, 27, 116, 46, 172, 77, 42, 44, 182, 0, 138, 172]
abbrev dktX0_found_1 : List UInt8 := dkwX0_found_1 ++ []
def dkwX0_found_0 : List UInt8 := [42, 27, 2, 163, 0, 9, 27, 16, 249, 162, 0, 9, 27, 16, 247, 160, 0, 7, 4, 167, 0, 4, 3, 2]
abbrev dktX0_found_0 : List UInt8 := dkwX0_found_0 ++ dktX0_found_1
theorem dksX0_found_0 : cX0_found.data.toList.drop 0 = dktX0_found_0 := by decide +kernel
theorem dksX0_found_1 : cX0_found.data.toList.drop 24 = dktX0_found_1 := dk_seg dksX0_found_0 24 rfl rfl
theorem dX0_found_0 : decode cX0_found 0 = .ok (.aload_n 0, 1) := dk_42 (dk_at dksX0_found_0 0 rfl rfl)
theorem dX0_found_1 : decode cX0_found 1 = .ok (.iload_n 1, 1) := dk_27 (dk_at dksX0_found_0 1 rfl rfl)
theorem dX0_found_2 : decode cX0_found 2 = .ok (.iconst (-1), 1) := dk_2 (dk_at dksX0_found_0 2 rfl rfl)
theorem dX0_found_3 : decode cX0_found 3 = .ok (.if_icmp .gt 9, 3) := dk_163 0 9 (dk_at dksX0_found_0 3 rfl rfl)
theorem dX0_found_6 : decode cX0_found 6 = .ok (.iload_n 1, 1) := dk_27 (dk_at dksX0_found_0 6 rfl rfl)
theorem dX0_found_7 : decode cX0_found 7 = .ok (.bipush (-7), 2) := dk_16 249 (dk_at dksX0_found_0 7 rfl rfl)
theorem dX0_found_9 : decode cX0_found 9 = .ok (.if_icmp .ge 9, 3) := dk_162 0 9 (dk_at dksX0_found_0 9 rfl rfl)
theorem dX0_found_12 : decode cX0_found 12 = .ok (.iload_n 1, 1) := dk_27 (dk_at dksX0_found_0 12 rfl rfl)
theorem dX0_found_13 : decode cX0_found 13 = .ok (.bipush (-9), 2) := dk_16 247 (dk_at dksX0_found_0 13 rfl rfl)
theorem dX0_found_15 : decode cX0_found 15 = .ok (.if_icmp .ne 7, 3) := dk_160 0 7 (dk_at dksX0_found_0 15 rfl rfl)
theorem dX0_found_18 : decode cX0_found 18 = .ok (.iconst 1, 1) := dk_4 (dk_at dksX0_found_0 18 rfl rfl)
theorem dX0_found_19 : decode cX0_found 19 = .ok (.goto 4, 3) := dk_167 0 4 (dk_at dksX0_found_0 19 rfl rfl)
theorem dX0_found_22 : decode cX0_found 22 = .ok (.iconst 0, 1) := dk_3 (dk_at dksX0_found_0 22 rfl rfl)
theorem dX0_found_23 : decode cX0_found 23 = .ok (.iconst (-1), 1) := dk_2 (dk_at dksX0_found_0 23 rfl rfl)
theorem dX0_found_24 : decode cX0_found 24 = .ok (.invokevirtual 131, 3) := dk_182 0 131 (dk_at dksX0_found_1 0 rfl rfl)
theorem dX0_found_27 : decode cX0_found 27 = .ok (.aload_n 0, 1) := dk_42 (dk_at dksX0_found_1 3 rfl rfl)
theorem dX0_found_28 : decode cX0_found 28 = .ok (.getfield 40, 3) := dk_180 0 40 (dk_at dksX0_found_1 4 rfl rfl)
theorem dX0_found_31 : decode cX0_found 31 = .ok (.iload_n 1, 1) := dk_27 (dk_at dksX0_found_1 7 rfl rfl)
theorem dX0_found_32 : decode cX0_found 32 = .ok (.ineg, 1) := dk_116 (dk_at dksX0_found_1 8 rfl rfl)
theorem dX0_found_33 : decode cX0_found 33 = .ok (.iaload, 1) := dk_46 (dk_at dksX0_found_1 9 rfl rfl)
theorem dX0_found_34 : decode cX0_found 34 = .ok (.ireturn, 1) := dk_172 (dk_at dksX0_found_1 10 rfl rfl)
theorem dX0_found_35 : decode cX0_found 35 = .ok (.astore_n 2, 1) := dk_77 (dk_at dksX0_found_1 11 rfl rfl)
theorem dX0_found_36 : decode cX0_found 36 = .ok (.aload_n 0, 1) := dk_42 (dk_at dksX0_found_1 12 rfl rfl)
theorem dX0_found_37 : decode cX0_found 37 = .ok (.aload_n 2, 1) := dk_44 (dk_at dksX0_found_1 13 rfl rfl)
theorem dX0_found_38 : decode cX0_found 38 = .ok (.invokevirtual 138, 3) := dk_182 0 138 (dk_at dksX0_found_1 14 rfl rfl)
theorem dX0_found_41 : decode cX0_found 41 = .ok (.ireturn, 1) := dk_172 (dk_at dksX0_found_1 17 rfl rfl)
