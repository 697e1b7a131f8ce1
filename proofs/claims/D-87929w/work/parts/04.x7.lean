/-! BranchMenderModel -/
set_option maxRecDepth 100000
def RX7 : String := "BranchMenderModel"
def TX7 : u_T := fun k => match k with
  | 0 => ("BranchMenderModel", "nodes", "[I", true)
  | 1 => ("BranchMenderModel", "sizes", "[I", true)
  | 2 => ("BranchMenderModel", "nextName", "I", false)
  | 3 => ("BranchMenderModel", "tape", "[I", true)
  | 4 => ("BranchMenderModel", "taped", "I", false)
  | 5 => ("BranchMenderModel", "written", "[I", true)
  | 6 => ("BranchMenderModel", "writtenMany", "I", false)
  | 7 => ("BranchMenderModel", "prices", "[I", true)
  | 8 => ("BranchMenderModel", "findings", "[I", true)
  | 9 => ("BranchMenderModel", "open", "[I", true)
  | 10 => ("BranchMenderModel", "closing", "[I", true)
  | 11 => ("BranchMenderModel", "ahead", "[I", true)
  | 12 => ("BranchMenderModel", "low", "[I", true)
  | 13 => ("BranchMenderModel", "costs", "[I", true)
  | 14 => ("BranchMenderModel", "pairOf", "[I", true)
  | 15 => ("BranchMenderModel", "pairTo", "[I", true)
  | 16 => ("BranchMenderModel", "dueA", "[I", true)
  | 17 => ("BranchMenderModel", "dueN", "[I", true)
  | 18 => ("BranchMenderModel", "dueB", "[I", true)
  | 19 => ("BranchMenderModel", "dueM", "[I", true)
  | 20 => ("BranchMenderModel", "pairMany", "I", false)
  | 21 => ("BranchMenderModel", "actMany", "I", false)
  | 22 => ("BranchMenderModel", "mapped", "I", false)
  | 23 => ("BranchMenderModel", "pairOne", "[I", true)
  | 24 => ("BranchMenderModel", "pairTwo", "[I", true)
  | 25 => ("BranchMenderModel", "actWhich", "[I", true)
  | 26 => ("BranchMenderModel", "actName", "[I", true)
  | 27 => ("BranchMenderModel", "actPrice", "[I", true)
  | 28 => ("BranchMenderModel", "classes", "[I", true)
  | 29 => ("BranchMenderModel", "clashName", "[I", true)
  | 30 => ("BranchMenderModel", "clashWhat", "[I", true)
  | 31 => ("BranchMenderModel", "clashes", "I", false)
  | 32 => ("BranchMenderModel", "merged", "I", false)
  | 33 => ("BranchMenderModel", "isClash", "Z", false)
  | 34 => ("BranchMenderModel", "dueName", "[I", true)
  | _ => ("BranchMenderModel", "dueDeep", "[I", true)
def tyX7 : Nat → FieldType := fun k => match k with
  | 0 => .array .int
  | 1 => .array .int
  | 2 => .int
  | 3 => .array .int
  | 4 => .int
  | 5 => .array .int
  | 6 => .int
  | 7 => .array .int
  | 8 => .array .int
  | 9 => .array .int
  | 10 => .array .int
  | 11 => .array .int
  | 12 => .array .int
  | 13 => .array .int
  | 14 => .array .int
  | 15 => .array .int
  | 16 => .array .int
  | 17 => .array .int
  | 18 => .array .int
  | 19 => .array .int
  | 20 => .int
  | 21 => .int
  | 22 => .int
  | 23 => .array .int
  | 24 => .array .int
  | 25 => .array .int
  | 26 => .array .int
  | 27 => .array .int
  | 28 => .array .int
  | 29 => .array .int
  | 30 => .array .int
  | 31 => .int
  | 32 => .int
  | 33 => .boolean
  | 34 => .array .int
  | _ => .array .int
abbrev wsX70 : List Cond := u_ws RX7 TX7 36
set_option maxRecDepth 100000 in
theorem nmX7 : ∀ a, a < 36 → ∀ b, b < 36 → a ≠ b → (TX7 a).2.1 ≠ (TX7 b).2.1 := by decide +kernel
set_option maxRecDepth 100000 in
theorem tyX7_ok : ∀ k, k < 36 → parseFieldDescriptor (TX7 k).2.2.1 = some (tyX7 k) := by decide +kernel
abbrev cX7_init : ByteArray := prog_17_method_1_code
def yX7_init : MethodName := ⟨RX7, "<init>", "()V"⟩
def dkwX7_init_11 : List UInt8 := [6, 6, 79, 177]
abbrev dktX7_init_11 : List UInt8 := dkwX7_init_11 ++ []
def dkwX7_init_10 : List UInt8 := [180, 0, 22, 3, 5, 79, 42, 180, 0, 22, 4, 4, 79, 42, 180, 0, 22, 5, 6, 79, 42, 180, 0, 22]
abbrev dktX7_init_10 : List UInt8 := dkwX7_init_10 ++ dktX7_init_11
def dkwX7_init_9 : List UInt8 := [188, 10, 181, 0, 87, 42, 17, 3, 232, 188, 10, 181, 0, 90, 42, 17, 3, 232, 188, 10, 181, 0, 93, 42]
abbrev dktX7_init_9 : List UInt8 := dkwX7_init_9 ++ dktX7_init_10
def dkwX7_init_8 : List UInt8 := [181, 0, 78, 42, 16, 60, 188, 10, 181, 0, 81, 42, 17, 0, 130, 188, 10, 181, 0, 84, 42, 17, 0, 130]
abbrev dktX7_init_8 : List UInt8 := dkwX7_init_8 ++ dktX7_init_9
def dkwX7_init_7 : List UInt8 := [17, 0, 130, 188, 10, 181, 0, 72, 42, 17, 0, 130, 188, 10, 181, 0, 75, 42, 17, 0, 130, 188, 10]
abbrev dktX7_init_7 : List UInt8 := dkwX7_init_7 ++ dktX7_init_8
def dkwX7_init_6 : List UInt8 := [42, 2, 181, 0, 62, 42, 16, 30, 188, 10, 181, 0, 66, 42, 16, 30, 188, 10, 181, 0, 69, 42]
abbrev dktX7_init_6 : List UInt8 := dkwX7_init_6 ++ dktX7_init_7
def dkwX7_init_5 : List UInt8 := [42, 16, 64, 188, 10, 181, 0, 53, 42, 16, 64, 188, 10, 181, 0, 56, 42, 16, 64, 188, 10, 181, 0, 59]
abbrev dktX7_init_5 : List UInt8 := dkwX7_init_5 ++ dktX7_init_6
def dkwX7_init_4 : List UInt8 := [42, 16, 30, 188, 10, 181, 0, 44, 42, 16, 30, 188, 10, 181, 0, 47, 42, 16, 64, 188, 10, 181, 0, 50]
abbrev dktX7_init_4 : List UInt8 := dkwX7_init_4 ++ dktX7_init_5
def dkwX7_init_3 : List UInt8 := [42, 16, 60, 188, 10, 181, 0, 34, 42, 16, 60, 188, 10, 181, 0, 37, 42, 18, 40, 188, 10, 181, 0, 41]
abbrev dktX7_init_3 : List UInt8 := dkwX7_init_3 ++ dktX7_init_4
def dkwX7_init_2 : List UInt8 := [42, 16, 10, 188, 10, 181, 0, 25, 42, 16, 13, 188, 10, 181, 0, 28, 42, 16, 13, 188, 10, 181, 0, 31]
abbrev dktX7_init_2 : List UInt8 := dkwX7_init_2 ++ dktX7_init_3
def dkwX7_init_1 : List UInt8 := [17, 1, 144, 188, 10, 181, 0, 16, 42, 17, 7, 208, 188, 10, 181, 0, 19, 42, 7, 188, 10, 181, 0, 22]
abbrev dktX7_init_1 : List UInt8 := dkwX7_init_1 ++ dktX7_init_2
def dkwX7_init_0 : List UInt8 := [42, 183, 0, 1, 42, 17, 24, 126, 188, 10, 181, 0, 7, 42, 16, 11, 188, 10, 181, 0, 13, 42]
abbrev dktX7_init_0 : List UInt8 := dkwX7_init_0 ++ dktX7_init_1
theorem dksX7_init_0 : cX7_init.data.toList.drop 0 = dktX7_init_0 := by decide +kernel
theorem dksX7_init_1 : cX7_init.data.toList.drop 22 = dktX7_init_1 := dk_seg dksX7_init_0 22 rfl rfl
theorem dksX7_init_2 : cX7_init.data.toList.drop 46 = dktX7_init_2 := dk_seg dksX7_init_1 24 rfl rfl
theorem dksX7_init_3 : cX7_init.data.toList.drop 70 = dktX7_init_3 := dk_seg dksX7_init_2 24 rfl rfl
theorem dksX7_init_4 : cX7_init.data.toList.drop 94 = dktX7_init_4 := dk_seg dksX7_init_3 24 rfl rfl
theorem dksX7_init_5 : cX7_init.data.toList.drop 118 = dktX7_init_5 := dk_seg dksX7_init_4 24 rfl rfl
theorem dksX7_init_6 : cX7_init.data.toList.drop 142 = dktX7_init_6 := dk_seg dksX7_init_5 24 rfl rfl
theorem dksX7_init_7 : cX7_init.data.toList.drop 164 = dktX7_init_7 := dk_seg dksX7_init_6 22 rfl rfl
theorem dksX7_init_8 : cX7_init.data.toList.drop 187 = dktX7_init_8 := dk_seg dksX7_init_7 23 rfl rfl
theorem dksX7_init_9 : cX7_init.data.toList.drop 211 = dktX7_init_9 := dk_seg dksX7_init_8 24 rfl rfl
theorem dksX7_init_10 : cX7_init.data.toList.drop 235 = dktX7_init_10 := dk_seg dksX7_init_9 24 rfl rfl
theorem dksX7_init_11 : cX7_init.data.toList.drop 259 = dktX7_init_11 := dk_seg dksX7_init_10 24 rfl rfl
theorem dX7_init_0 : decode cX7_init 0 = .ok (.aload_n 0, 1) := dk_42 (dk_at dksX7_init_0 0 rfl rfl)
theorem dX7_init_1 : decode cX7_init 1 = .ok (.invokespecial 1, 3) := dk_183 0 1 (dk_at dksX7_init_0 1 rfl rfl)
theorem dX7_init_4 : decode cX7_init 4 = .ok (.aload_n 0, 1) := dk_42 (dk_at dksX7_init_0 4 rfl rfl)
theorem dX7_init_5 : decode cX7_init 5 = .ok (.sipush 6270, 3) := dk_17 24 126 (dk_at dksX7_init_0 5 rfl rfl)
theorem dX7_init_8 : decode cX7_init 8 = .ok (.newarray .int, 2) := dk_188_10 (dk_at dksX7_init_0 8 rfl rfl)
theorem dX7_init_10 : decode cX7_init 10 = .ok (.putfield 7, 3) := dk_181 0 7 (dk_at dksX7_init_0 10 rfl rfl)
theorem dX7_init_13 : decode cX7_init 13 = .ok (.aload_n 0, 1) := dk_42 (dk_at dksX7_init_0 13 rfl rfl)
theorem dX7_init_14 : decode cX7_init 14 = .ok (.bipush 11, 2) := dk_16 11 (dk_at dksX7_init_0 14 rfl rfl)
theorem dX7_init_16 : decode cX7_init 16 = .ok (.newarray .int, 2) := dk_188_10 (dk_at dksX7_init_0 16 rfl rfl)
theorem dX7_init_18 : decode cX7_init 18 = .ok (.putfield 13, 3) := dk_181 0 13 (dk_at dksX7_init_0 18 rfl rfl)
theorem dX7_init_21 : decode cX7_init 21 = .ok (.aload_n 0, 1) := dk_42 (dk_at dksX7_init_0 21 rfl rfl)
theorem dX7_init_22 : decode cX7_init 22 = .ok (.sipush 400, 3) := dk_17 1 144 (dk_at dksX7_init_1 0 rfl rfl)
theorem dX7_init_25 : decode cX7_init 25 = .ok (.newarray .int, 2) := dk_188_10 (dk_at dksX7_init_1 3 rfl rfl)
theorem dX7_init_27 : decode cX7_init 27 = .ok (.putfield 16, 3) := dk_181 0 16 (dk_at dksX7_init_1 5 rfl rfl)
theorem dX7_init_30 : decode cX7_init 30 = .ok (.aload_n 0, 1) := dk_42 (dk_at dksX7_init_1 8 rfl rfl)
theorem dX7_init_31 : decode cX7_init 31 = .ok (.sipush 2000, 3) := dk_17 7 208 (dk_at dksX7_init_1 9 rfl rfl)
theorem dX7_init_34 : decode cX7_init 34 = .ok (.newarray .int, 2) := dk_188_10 (dk_at dksX7_init_1 12 rfl rfl)
theorem dX7_init_36 : decode cX7_init 36 = .ok (.putfield 19, 3) := dk_181 0 19 (dk_at dksX7_init_1 14 rfl rfl)
theorem dX7_init_39 : decode cX7_init 39 = .ok (.aload_n 0, 1) := dk_42 (dk_at dksX7_init_1 17 rfl rfl)
theorem dX7_init_40 : decode cX7_init 40 = .ok (.iconst 4, 1) := dk_7 (dk_at dksX7_init_1 18 rfl rfl)
theorem dX7_init_41 : decode cX7_init 41 = .ok (.newarray .int, 2) := dk_188_10 (dk_at dksX7_init_1 19 rfl rfl)
theorem dX7_init_43 : decode cX7_init 43 = .ok (.putfield 22, 3) := dk_181 0 22 (dk_at dksX7_init_1 21 rfl rfl)
theorem dX7_init_46 : decode cX7_init 46 = .ok (.aload_n 0, 1) := dk_42 (dk_at dksX7_init_2 0 rfl rfl)
theorem dX7_init_47 : decode cX7_init 47 = .ok (.bipush 10, 2) := dk_16 10 (dk_at dksX7_init_2 1 rfl rfl)
theorem dX7_init_49 : decode cX7_init 49 = .ok (.newarray .int, 2) := dk_188_10 (dk_at dksX7_init_2 3 rfl rfl)
theorem dX7_init_51 : decode cX7_init 51 = .ok (.putfield 25, 3) := dk_181 0 25 (dk_at dksX7_init_2 5 rfl rfl)
theorem dX7_init_54 : decode cX7_init 54 = .ok (.aload_n 0, 1) := dk_42 (dk_at dksX7_init_2 8 rfl rfl)
theorem dX7_init_55 : decode cX7_init 55 = .ok (.bipush 13, 2) := dk_16 13 (dk_at dksX7_init_2 9 rfl rfl)
theorem dX7_init_57 : decode cX7_init 57 = .ok (.newarray .int, 2) := dk_188_10 (dk_at dksX7_init_2 11 rfl rfl)
theorem dX7_init_59 : decode cX7_init 59 = .ok (.putfield 28, 3) := dk_181 0 28 (dk_at dksX7_init_2 13 rfl rfl)
theorem dX7_init_62 : decode cX7_init 62 = .ok (.aload_n 0, 1) := dk_42 (dk_at dksX7_init_2 16 rfl rfl)
theorem dX7_init_63 : decode cX7_init 63 = .ok (.bipush 13, 2) := dk_16 13 (dk_at dksX7_init_2 17 rfl rfl)
theorem dX7_init_65 : decode cX7_init 65 = .ok (.newarray .int, 2) := dk_188_10 (dk_at dksX7_init_2 19 rfl rfl)
theorem dX7_init_67 : decode cX7_init 67 = .ok (.putfield 31, 3) := dk_181 0 31 (dk_at dksX7_init_2 21 rfl rfl)
theorem dX7_init_70 : decode cX7_init 70 = .ok (.aload_n 0, 1) := dk_42 (dk_at dksX7_init_3 0 rfl rfl)
theorem dX7_init_71 : decode cX7_init 71 = .ok (.bipush 60, 2) := dk_16 60 (dk_at dksX7_init_3 1 rfl rfl)
theorem dX7_init_73 : decode cX7_init 73 = .ok (.newarray .int, 2) := dk_188_10 (dk_at dksX7_init_3 3 rfl rfl)
theorem dX7_init_75 : decode cX7_init 75 = .ok (.putfield 34, 3) := dk_181 0 34 (dk_at dksX7_init_3 5 rfl rfl)
theorem dX7_init_78 : decode cX7_init 78 = .ok (.aload_n 0, 1) := dk_42 (dk_at dksX7_init_3 8 rfl rfl)
theorem dX7_init_79 : decode cX7_init 79 = .ok (.bipush 60, 2) := dk_16 60 (dk_at dksX7_init_3 9 rfl rfl)
theorem dX7_init_81 : decode cX7_init 81 = .ok (.newarray .int, 2) := dk_188_10 (dk_at dksX7_init_3 11 rfl rfl)
theorem dX7_init_83 : decode cX7_init 83 = .ok (.putfield 37, 3) := dk_181 0 37 (dk_at dksX7_init_3 13 rfl rfl)
theorem dX7_init_86 : decode cX7_init 86 = .ok (.aload_n 0, 1) := dk_42 (dk_at dksX7_init_3 16 rfl rfl)
theorem dX7_init_87 : decode cX7_init 87 = .ok (.ldc 40, 2) := dk_18 40 (dk_at dksX7_init_3 17 rfl rfl)
theorem dX7_init_89 : decode cX7_init 89 = .ok (.newarray .int, 2) := dk_188_10 (dk_at dksX7_init_3 19 rfl rfl)
theorem dX7_init_91 : decode cX7_init 91 = .ok (.putfield 41, 3) := dk_181 0 41 (dk_at dksX7_init_3 21 rfl rfl)
theorem dX7_init_94 : decode cX7_init 94 = .ok (.aload_n 0, 1) := dk_42 (dk_at dksX7_init_4 0 rfl rfl)
theorem dX7_init_95 : decode cX7_init 95 = .ok (.bipush 30, 2) := dk_16 30 (dk_at dksX7_init_4 1 rfl rfl)
theorem dX7_init_97 : decode cX7_init 97 = .ok (.newarray .int, 2) := dk_188_10 (dk_at dksX7_init_4 3 rfl rfl)
theorem dX7_init_99 : decode cX7_init 99 = .ok (.putfield 44, 3) := dk_181 0 44 (dk_at dksX7_init_4 5 rfl rfl)
theorem dX7_init_102 : decode cX7_init 102 = .ok (.aload_n 0, 1) := dk_42 (dk_at dksX7_init_4 8 rfl rfl)
theorem dX7_init_103 : decode cX7_init 103 = .ok (.bipush 30, 2) := dk_16 30 (dk_at dksX7_init_4 9 rfl rfl)
theorem dX7_init_105 : decode cX7_init 105 = .ok (.newarray .int, 2) := dk_188_10 (dk_at dksX7_init_4 11 rfl rfl)
theorem dX7_init_107 : decode cX7_init 107 = .ok (.putfield 47, 3) := dk_181 0 47 (dk_at dksX7_init_4 13 rfl rfl)
theorem dX7_init_110 : decode cX7_init 110 = .ok (.aload_n 0, 1) := dk_42 (dk_at dksX7_init_4 16 rfl rfl)
theorem dX7_init_111 : decode cX7_init 111 = .ok (.bipush 64, 2) := dk_16 64 (dk_at dksX7_init_4 17 rfl rfl)
theorem dX7_init_113 : decode cX7_init 113 = .ok (.newarray .int, 2) := dk_188_10 (dk_at dksX7_init_4 19 rfl rfl)
theorem dX7_init_115 : decode cX7_init 115 = .ok (.putfield 50, 3) := dk_181 0 50 (dk_at dksX7_init_4 21 rfl rfl)
theorem dX7_init_118 : decode cX7_init 118 = .ok (.aload_n 0, 1) := dk_42 (dk_at dksX7_init_5 0 rfl rfl)
theorem dX7_init_119 : decode cX7_init 119 = .ok (.bipush 64, 2) := dk_16 64 (dk_at dksX7_init_5 1 rfl rfl)
theorem dX7_init_121 : decode cX7_init 121 = .ok (.newarray .int, 2) := dk_188_10 (dk_at dksX7_init_5 3 rfl rfl)
theorem dX7_init_123 : decode cX7_init 123 = .ok (.putfield 53, 3) := dk_181 0 53 (dk_at dksX7_init_5 5 rfl rfl)
theorem dX7_init_126 : decode cX7_init 126 = .ok (.aload_n 0, 1) := dk_42 (dk_at dksX7_init_5 8 rfl rfl)
theorem dX7_init_127 : decode cX7_init 127 = .ok (.bipush 64, 2) := dk_16 64 (dk_at dksX7_init_5 9 rfl rfl)
theorem dX7_init_129 : decode cX7_init 129 = .ok (.newarray .int, 2) := dk_188_10 (dk_at dksX7_init_5 11 rfl rfl)
theorem dX7_init_131 : decode cX7_init 131 = .ok (.putfield 56, 3) := dk_181 0 56 (dk_at dksX7_init_5 13 rfl rfl)
theorem dX7_init_134 : decode cX7_init 134 = .ok (.aload_n 0, 1) := dk_42 (dk_at dksX7_init_5 16 rfl rfl)
theorem dX7_init_135 : decode cX7_init 135 = .ok (.bipush 64, 2) := dk_16 64 (dk_at dksX7_init_5 17 rfl rfl)
theorem dX7_init_137 : decode cX7_init 137 = .ok (.newarray .int, 2) := dk_188_10 (dk_at dksX7_init_5 19 rfl rfl)
theorem dX7_init_139 : decode cX7_init 139 = .ok (.putfield 59, 3) := dk_181 0 59 (dk_at dksX7_init_5 21 rfl rfl)
theorem dX7_init_142 : decode cX7_init 142 = .ok (.aload_n 0, 1) := dk_42 (dk_at dksX7_init_6 0 rfl rfl)
theorem dX7_init_143 : decode cX7_init 143 = .ok (.iconst (-1), 1) := dk_2 (dk_at dksX7_init_6 1 rfl rfl)
theorem dX7_init_144 : decode cX7_init 144 = .ok (.putfield 62, 3) := dk_181 0 62 (dk_at dksX7_init_6 2 rfl rfl)
theorem dX7_init_147 : decode cX7_init 147 = .ok (.aload_n 0, 1) := dk_42 (dk_at dksX7_init_6 5 rfl rfl)
theorem dX7_init_148 : decode cX7_init 148 = .ok (.bipush 30, 2) := dk_16 30 (dk_at dksX7_init_6 6 rfl rfl)
theorem dX7_init_150 : decode cX7_init 150 = .ok (.newarray .int, 2) := dk_188_10 (dk_at dksX7_init_6 8 rfl rfl)
theorem dX7_init_152 : decode cX7_init 152 = .ok (.putfield 66, 3) := dk_181 0 66 (dk_at dksX7_init_6 10 rfl rfl)
theorem dX7_init_155 : decode cX7_init 155 = .ok (.aload_n 0, 1) := dk_42 (dk_at dksX7_init_6 13 rfl rfl)
theorem dX7_init_156 : decode cX7_init 156 = .ok (.bipush 30, 2) := dk_16 30 (dk_at dksX7_init_6 14 rfl rfl)
theorem dX7_init_158 : decode cX7_init 158 = .ok (.newarray .int, 2) := dk_188_10 (dk_at dksX7_init_6 16 rfl rfl)
theorem dX7_init_160 : decode cX7_init 160 = .ok (.putfield 69, 3) := dk_181 0 69 (dk_at dksX7_init_6 18 rfl rfl)
theorem dX7_init_163 : decode cX7_init 163 = .ok (.aload_n 0, 1) := dk_42 (dk_at dksX7_init_6 21 rfl rfl)
theorem dX7_init_164 : decode cX7_init 164 = .ok (.sipush 130, 3) := dk_17 0 130 (dk_at dksX7_init_7 0 rfl rfl)
theorem dX7_init_167 : decode cX7_init 167 = .ok (.newarray .int, 2) := dk_188_10 (dk_at dksX7_init_7 3 rfl rfl)
theorem dX7_init_169 : decode cX7_init 169 = .ok (.putfield 72, 3) := dk_181 0 72 (dk_at dksX7_init_7 5 rfl rfl)
theorem dX7_init_172 : decode cX7_init 172 = .ok (.aload_n 0, 1) := dk_42 (dk_at dksX7_init_7 8 rfl rfl)
theorem dX7_init_173 : decode cX7_init 173 = .ok (.sipush 130, 3) := dk_17 0 130 (dk_at dksX7_init_7 9 rfl rfl)
theorem dX7_init_176 : decode cX7_init 176 = .ok (.newarray .int, 2) := dk_188_10 (dk_at dksX7_init_7 12 rfl rfl)
theorem dX7_init_178 : decode cX7_init 178 = .ok (.putfield 75, 3) := dk_181 0 75 (dk_at dksX7_init_7 14 rfl rfl)
theorem dX7_init_181 : decode cX7_init 181 = .ok (.aload_n 0, 1) := dk_42 (dk_at dksX7_init_7 17 rfl rfl)
theorem dX7_init_182 : decode cX7_init 182 = .ok (.sipush 130, 3) := dk_17 0 130 (dk_at dksX7_init_7 18 rfl rfl)
theorem dX7_init_185 : decode cX7_init 185 = .ok (.newarray .int, 2) := dk_188_10 (dk_at dksX7_init_7 21 rfl rfl)
theorem dX7_init_187 : decode cX7_init 187 = .ok (.putfield 78, 3) := dk_181 0 78 (dk_at dksX7_init_8 0 rfl rfl)
theorem dX7_init_190 : decode cX7_init 190 = .ok (.aload_n 0, 1) := dk_42 (dk_at dksX7_init_8 3 rfl rfl)
theorem dX7_init_191 : decode cX7_init 191 = .ok (.bipush 60, 2) := dk_16 60 (dk_at dksX7_init_8 4 rfl rfl)
theorem dX7_init_193 : decode cX7_init 193 = .ok (.newarray .int, 2) := dk_188_10 (dk_at dksX7_init_8 6 rfl rfl)
theorem dX7_init_195 : decode cX7_init 195 = .ok (.putfield 81, 3) := dk_181 0 81 (dk_at dksX7_init_8 8 rfl rfl)
theorem dX7_init_198 : decode cX7_init 198 = .ok (.aload_n 0, 1) := dk_42 (dk_at dksX7_init_8 11 rfl rfl)
theorem dX7_init_199 : decode cX7_init 199 = .ok (.sipush 130, 3) := dk_17 0 130 (dk_at dksX7_init_8 12 rfl rfl)
theorem dX7_init_202 : decode cX7_init 202 = .ok (.newarray .int, 2) := dk_188_10 (dk_at dksX7_init_8 15 rfl rfl)
theorem dX7_init_204 : decode cX7_init 204 = .ok (.putfield 84, 3) := dk_181 0 84 (dk_at dksX7_init_8 17 rfl rfl)
theorem dX7_init_207 : decode cX7_init 207 = .ok (.aload_n 0, 1) := dk_42 (dk_at dksX7_init_8 20 rfl rfl)
theorem dX7_init_208 : decode cX7_init 208 = .ok (.sipush 130, 3) := dk_17 0 130 (dk_at dksX7_init_8 21 rfl rfl)
theorem dX7_init_211 : decode cX7_init 211 = .ok (.newarray .int, 2) := dk_188_10 (dk_at dksX7_init_9 0 rfl rfl)
theorem dX7_init_213 : decode cX7_init 213 = .ok (.putfield 87, 3) := dk_181 0 87 (dk_at dksX7_init_9 2 rfl rfl)
theorem dX7_init_216 : decode cX7_init 216 = .ok (.aload_n 0, 1) := dk_42 (dk_at dksX7_init_9 5 rfl rfl)
theorem dX7_init_217 : decode cX7_init 217 = .ok (.sipush 1000, 3) := dk_17 3 232 (dk_at dksX7_init_9 6 rfl rfl)
theorem dX7_init_220 : decode cX7_init 220 = .ok (.newarray .int, 2) := dk_188_10 (dk_at dksX7_init_9 9 rfl rfl)
theorem dX7_init_222 : decode cX7_init 222 = .ok (.putfield 90, 3) := dk_181 0 90 (dk_at dksX7_init_9 11 rfl rfl)
theorem dX7_init_225 : decode cX7_init 225 = .ok (.aload_n 0, 1) := dk_42 (dk_at dksX7_init_9 14 rfl rfl)
theorem dX7_init_226 : decode cX7_init 226 = .ok (.sipush 1000, 3) := dk_17 3 232 (dk_at dksX7_init_9 15 rfl rfl)
theorem dX7_init_229 : decode cX7_init 229 = .ok (.newarray .int, 2) := dk_188_10 (dk_at dksX7_init_9 18 rfl rfl)
theorem dX7_init_231 : decode cX7_init 231 = .ok (.putfield 93, 3) := dk_181 0 93 (dk_at dksX7_init_9 20 rfl rfl)
theorem dX7_init_234 : decode cX7_init 234 = .ok (.aload_n 0, 1) := dk_42 (dk_at dksX7_init_9 23 rfl rfl)
theorem dX7_init_235 : decode cX7_init 235 = .ok (.getfield 22, 3) := dk_180 0 22 (dk_at dksX7_init_10 0 rfl rfl)
theorem dX7_init_238 : decode cX7_init 238 = .ok (.iconst 0, 1) := dk_3 (dk_at dksX7_init_10 3 rfl rfl)
theorem dX7_init_239 : decode cX7_init 239 = .ok (.iconst 2, 1) := dk_5 (dk_at dksX7_init_10 4 rfl rfl)
theorem dX7_init_240 : decode cX7_init 240 = .ok (.iastore, 1) := dk_79 (dk_at dksX7_init_10 5 rfl rfl)
theorem dX7_init_241 : decode cX7_init 241 = .ok (.aload_n 0, 1) := dk_42 (dk_at dksX7_init_10 6 rfl rfl)
theorem dX7_init_242 : decode cX7_init 242 = .ok (.getfield 22, 3) := dk_180 0 22 (dk_at dksX7_init_10 7 rfl rfl)
theorem dX7_init_245 : decode cX7_init 245 = .ok (.iconst 1, 1) := dk_4 (dk_at dksX7_init_10 10 rfl rfl)
theorem dX7_init_246 : decode cX7_init 246 = .ok (.iconst 1, 1) := dk_4 (dk_at dksX7_init_10 11 rfl rfl)
theorem dX7_init_247 : decode cX7_init 247 = .ok (.iastore, 1) := dk_79 (dk_at dksX7_init_10 12 rfl rfl)
theorem dX7_init_248 : decode cX7_init 248 = .ok (.aload_n 0, 1) := dk_42 (dk_at dksX7_init_10 13 rfl rfl)
theorem dX7_init_249 : decode cX7_init 249 = .ok (.getfield 22, 3) := dk_180 0 22 (dk_at dksX7_init_10 14 rfl rfl)
theorem dX7_init_252 : decode cX7_init 252 = .ok (.iconst 2, 1) := dk_5 (dk_at dksX7_init_10 17 rfl rfl)
theorem dX7_init_253 : decode cX7_init 253 = .ok (.iconst 3, 1) := dk_6 (dk_at dksX7_init_10 18 rfl rfl)
theorem dX7_init_254 : decode cX7_init 254 = .ok (.iastore, 1) := dk_79 (dk_at dksX7_init_10 19 rfl rfl)
theorem dX7_init_255 : decode cX7_init 255 = .ok (.aload_n 0, 1) := dk_42 (dk_at dksX7_init_10 20 rfl rfl)
theorem dX7_init_256 : decode cX7_init 256 = .ok (.getfield 22, 3) := dk_180 0 22 (dk_at dksX7_init_10 21 rfl rfl)
theorem dX7_init_259 : decode cX7_init 259 = .ok (.iconst 3, 1) := dk_6 (dk_at dksX7_init_11 0 rfl rfl)
theorem dX7_init_260 : decode cX7_init 260 = .ok (.iconst 3, 1) := dk_6 (dk_at dksX7_init_11 1 rfl rfl)
theorem dX7_init_261 : decode cX7_init 261 = .ok (.iastore, 1) := dk_79 (dk_at dksX7_init_11 2 rfl rfl)
theorem dX7_init_262 : decode cX7_init 262 = .ok (.return_, 1) := dk_177 (dk_at dksX7_init_11 3 rfl rfl)
abbrev cX7_feed : ByteArray := prog_17_method_20_code
def yX7_feed : MethodName := ⟨RX7, "feed", "(JI)I"⟩
def dkwX7_feed_3 : List UInt8 := [132, 4, 1, 167, 255, 223, 42, 89, 180, 0, 130, 29, 96, 181, 0, 130, 42, 180, 0, 130, 172]
abbrev dktX7_feed_3 : List UInt8 := dkwX7_feed_3 ++ []
def dkwX7_feed_2 : List UInt8 := [180, 0, 16, 42, 180, 0, 130, 21, 4, 96, 31, 16, 8, 21, 4, 104, 123, 20, 0, 133, 127, 136, 79]
abbrev dktX7_feed_2 : List UInt8 := dkwX7_feed_2 ++ dktX7_feed_3
def dkwX7_feed_1 : List UInt8 := [17, 1, 144, 164, 0, 10, 42, 16, 251, 182, 0, 126, 172, 3, 54, 4, 21, 4, 29, 162, 0, 33, 42]
abbrev dktX7_feed_1 : List UInt8 := dkwX7_feed_1 ++ dktX7_feed_2
def dkwX7_feed_0 : List UInt8 := [29, 4, 16, 8, 184, 0, 96, 154, 0, 9, 42, 2, 182, 0, 126, 172, 42, 180, 0, 130, 29, 96]
abbrev dktX7_feed_0 : List UInt8 := dkwX7_feed_0 ++ dktX7_feed_1
theorem dksX7_feed_0 : cX7_feed.data.toList.drop 0 = dktX7_feed_0 := by decide +kernel
theorem dksX7_feed_1 : cX7_feed.data.toList.drop 22 = dktX7_feed_1 := dk_seg dksX7_feed_0 22 rfl rfl
theorem dksX7_feed_2 : cX7_feed.data.toList.drop 45 = dktX7_feed_2 := dk_seg dksX7_feed_1 23 rfl rfl
theorem dksX7_feed_3 : cX7_feed.data.toList.drop 68 = dktX7_feed_3 := dk_seg dksX7_feed_2 23 rfl rfl
theorem dX7_feed_0 : decode cX7_feed 0 = .ok (.iload_n 3, 1) := dk_29 (dk_at dksX7_feed_0 0 rfl rfl)
theorem dX7_feed_1 : decode cX7_feed 1 = .ok (.iconst 1, 1) := dk_4 (dk_at dksX7_feed_0 1 rfl rfl)
theorem dX7_feed_2 : decode cX7_feed 2 = .ok (.bipush 8, 2) := dk_16 8 (dk_at dksX7_feed_0 2 rfl rfl)
theorem dX7_feed_4 : decode cX7_feed 4 = .ok (.invokestatic 96, 3) := dk_184 0 96 (dk_at dksX7_feed_0 4 rfl rfl)
theorem dX7_feed_7 : decode cX7_feed 7 = .ok (.ifCond .ne 9, 3) := dk_154 0 9 (dk_at dksX7_feed_0 7 rfl rfl)
theorem dX7_feed_10 : decode cX7_feed 10 = .ok (.aload_n 0, 1) := dk_42 (dk_at dksX7_feed_0 10 rfl rfl)
theorem dX7_feed_11 : decode cX7_feed 11 = .ok (.iconst (-1), 1) := dk_2 (dk_at dksX7_feed_0 11 rfl rfl)
theorem dX7_feed_12 : decode cX7_feed 12 = .ok (.invokevirtual 126, 3) := dk_182 0 126 (dk_at dksX7_feed_0 12 rfl rfl)
theorem dX7_feed_15 : decode cX7_feed 15 = .ok (.ireturn, 1) := dk_172 (dk_at dksX7_feed_0 15 rfl rfl)
theorem dX7_feed_16 : decode cX7_feed 16 = .ok (.aload_n 0, 1) := dk_42 (dk_at dksX7_feed_0 16 rfl rfl)
theorem dX7_feed_17 : decode cX7_feed 17 = .ok (.getfield 130, 3) := dk_180 0 130 (dk_at dksX7_feed_0 17 rfl rfl)
theorem dX7_feed_20 : decode cX7_feed 20 = .ok (.iload_n 3, 1) := dk_29 (dk_at dksX7_feed_0 20 rfl rfl)
theorem dX7_feed_21 : decode cX7_feed 21 = .ok (.iadd, 1) := dk_96 (dk_at dksX7_feed_0 21 rfl rfl)
theorem dX7_feed_22 : decode cX7_feed 22 = .ok (.sipush 400, 3) := dk_17 1 144 (dk_at dksX7_feed_1 0 rfl rfl)
theorem dX7_feed_25 : decode cX7_feed 25 = .ok (.if_icmp .le 10, 3) := dk_164 0 10 (dk_at dksX7_feed_1 3 rfl rfl)
theorem dX7_feed_28 : decode cX7_feed 28 = .ok (.aload_n 0, 1) := dk_42 (dk_at dksX7_feed_1 6 rfl rfl)
theorem dX7_feed_29 : decode cX7_feed 29 = .ok (.bipush (-5), 2) := dk_16 251 (dk_at dksX7_feed_1 7 rfl rfl)
theorem dX7_feed_31 : decode cX7_feed 31 = .ok (.invokevirtual 126, 3) := dk_182 0 126 (dk_at dksX7_feed_1 9 rfl rfl)
theorem dX7_feed_34 : decode cX7_feed 34 = .ok (.ireturn, 1) := dk_172 (dk_at dksX7_feed_1 12 rfl rfl)
theorem dX7_feed_35 : decode cX7_feed 35 = .ok (.iconst 0, 1) := dk_3 (dk_at dksX7_feed_1 13 rfl rfl)
theorem dX7_feed_36 : decode cX7_feed 36 = .ok (.istore 4, 2) := dk_54 4 (dk_at dksX7_feed_1 14 rfl rfl)
theorem dX7_feed_38 : decode cX7_feed 38 = .ok (.iload 4, 2) := dk_21 4 (dk_at dksX7_feed_1 16 rfl rfl)
theorem dX7_feed_40 : decode cX7_feed 40 = .ok (.iload_n 3, 1) := dk_29 (dk_at dksX7_feed_1 18 rfl rfl)
theorem dX7_feed_41 : decode cX7_feed 41 = .ok (.if_icmp .ge 33, 3) := dk_162 0 33 (dk_at dksX7_feed_1 19 rfl rfl)
theorem dX7_feed_44 : decode cX7_feed 44 = .ok (.aload_n 0, 1) := dk_42 (dk_at dksX7_feed_1 22 rfl rfl)
theorem dX7_feed_45 : decode cX7_feed 45 = .ok (.getfield 16, 3) := dk_180 0 16 (dk_at dksX7_feed_2 0 rfl rfl)
theorem dX7_feed_48 : decode cX7_feed 48 = .ok (.aload_n 0, 1) := dk_42 (dk_at dksX7_feed_2 3 rfl rfl)
theorem dX7_feed_49 : decode cX7_feed 49 = .ok (.getfield 130, 3) := dk_180 0 130 (dk_at dksX7_feed_2 4 rfl rfl)
theorem dX7_feed_52 : decode cX7_feed 52 = .ok (.iload 4, 2) := dk_21 4 (dk_at dksX7_feed_2 7 rfl rfl)
theorem dX7_feed_54 : decode cX7_feed 54 = .ok (.iadd, 1) := dk_96 (dk_at dksX7_feed_2 9 rfl rfl)
theorem dX7_feed_55 : decode cX7_feed 55 = .ok (.lload_n 1, 1) := dk_31 (dk_at dksX7_feed_2 10 rfl rfl)
theorem dX7_feed_56 : decode cX7_feed 56 = .ok (.bipush 8, 2) := dk_16 8 (dk_at dksX7_feed_2 11 rfl rfl)
theorem dX7_feed_58 : decode cX7_feed 58 = .ok (.iload 4, 2) := dk_21 4 (dk_at dksX7_feed_2 13 rfl rfl)
theorem dX7_feed_60 : decode cX7_feed 60 = .ok (.imul, 1) := dk_104 (dk_at dksX7_feed_2 15 rfl rfl)
theorem dX7_feed_61 : decode cX7_feed 61 = .ok (.lshr, 1) := dk_123 (dk_at dksX7_feed_2 16 rfl rfl)
theorem dX7_feed_62 : decode cX7_feed 62 = .ok (.ldc2_w 133, 3) := dk_20 0 133 (dk_at dksX7_feed_2 17 rfl rfl)
theorem dX7_feed_65 : decode cX7_feed 65 = .ok (.land, 1) := dk_127 (dk_at dksX7_feed_2 20 rfl rfl)
theorem dX7_feed_66 : decode cX7_feed 66 = .ok (.l2i, 1) := dk_136 (dk_at dksX7_feed_2 21 rfl rfl)
theorem dX7_feed_67 : decode cX7_feed 67 = .ok (.iastore, 1) := dk_79 (dk_at dksX7_feed_2 22 rfl rfl)
theorem dX7_feed_68 : decode cX7_feed 68 = .ok (.iinc 4 1, 3) := dk_132 4 1 (dk_at dksX7_feed_3 0 rfl rfl)
theorem dX7_feed_71 : decode cX7_feed 71 = .ok (.goto (-33), 3) := dk_167 255 223 (dk_at dksX7_feed_3 3 rfl rfl)
theorem dX7_feed_74 : decode cX7_feed 74 = .ok (.aload_n 0, 1) := dk_42 (dk_at dksX7_feed_3 6 rfl rfl)
theorem dX7_feed_75 : decode cX7_feed 75 = .ok (.dup, 1) := dk_89 (dk_at dksX7_feed_3 7 rfl rfl)
theorem dX7_feed_76 : decode cX7_feed 76 = .ok (.getfield 130, 3) := dk_180 0 130 (dk_at dksX7_feed_3 8 rfl rfl)
theorem dX7_feed_79 : decode cX7_feed 79 = .ok (.iload_n 3, 1) := dk_29 (dk_at dksX7_feed_3 11 rfl rfl)
theorem dX7_feed_80 : decode cX7_feed 80 = .ok (.iadd, 1) := dk_96 (dk_at dksX7_feed_3 12 rfl rfl)
theorem dX7_feed_81 : decode cX7_feed 81 = .ok (.putfield 130, 3) := dk_181 0 130 (dk_at dksX7_feed_3 13 rfl rfl)
theorem dX7_feed_84 : decode cX7_feed 84 = .ok (.aload_n 0, 1) := dk_42 (dk_at dksX7_feed_3 16 rfl rfl)
theorem dX7_feed_85 : decode cX7_feed 85 = .ok (.getfield 130, 3) := dk_180 0 130 (dk_at dksX7_feed_3 17 rfl rfl)
theorem dX7_feed_88 : decode cX7_feed 88 = .ok (.ireturn, 1) := dk_172 (dk_at dksX7_feed_3 20 rfl rfl)
abbrev cX7_in : ByteArray := prog_17_method_4_code
def yX7_in : MethodName := ⟨RX7, "in", "(III)Z"⟩
def dkwX7_in_0 : List UInt8 := [26, 27, 161, 0, 12, 26, 28, 163, 0, 7, 4, 167, 0, 4, 3, 172]
abbrev dktX7_in_0 : List UInt8 := dkwX7_in_0 ++ []
theorem dksX7_in_0 : cX7_in.data.toList.drop 0 = dktX7_in_0 := by decide +kernel
theorem dX7_in_0 : decode cX7_in 0 = .ok (.iload_n 0, 1) := dk_26 (dk_at dksX7_in_0 0 rfl rfl)
theorem dX7_in_1 : decode cX7_in 1 = .ok (.iload_n 1, 1) := dk_27 (dk_at dksX7_in_0 1 rfl rfl)
theorem dX7_in_2 : decode cX7_in 2 = .ok (.if_icmp .lt 12, 3) := dk_161 0 12 (dk_at dksX7_in_0 2 rfl rfl)
theorem dX7_in_5 : decode cX7_in 5 = .ok (.iload_n 0, 1) := dk_26 (dk_at dksX7_in_0 5 rfl rfl)
theorem dX7_in_6 : decode cX7_in 6 = .ok (.iload_n 2, 1) := dk_28 (dk_at dksX7_in_0 6 rfl rfl)
theorem dX7_in_7 : decode cX7_in 7 = .ok (.if_icmp .gt 7, 3) := dk_163 0 7 (dk_at dksX7_in_0 7 rfl rfl)
theorem dX7_in_10 : decode cX7_in 10 = .ok (.iconst 1, 1) := dk_4 (dk_at dksX7_in_0 10 rfl rfl)
theorem dX7_in_11 : decode cX7_in 11 = .ok (.goto 4, 3) := dk_167 0 4 (dk_at dksX7_in_0 11 rfl rfl)
theorem dX7_in_14 : decode cX7_in 14 = .ok (.iconst 0, 1) := dk_3 (dk_at dksX7_in_0 14 rfl rfl)
theorem dX7_in_15 : decode cX7_in 15 = .ok (.ireturn, 1) := dk_172 (dk_at dksX7_in_0 15 rfl rfl)
abbrev cX7_found0 : ByteArray := prog_17_method_3_code
def yX7_found0 : MethodName := ⟨RX7, "found0", "(I)I"⟩
def dkwX7_found0_0 : List UInt8 := [42, 180, 0, 25, 27, 116, 92, 46, 4, 96, 79, 27, 172]
abbrev dktX7_found0_0 : List UInt8 := dkwX7_found0_0 ++ []
theorem dksX7_found0_0 : cX7_found0.data.toList.drop 0 = dktX7_found0_0 := by decide +kernel
theorem dX7_found0_0 : decode cX7_found0 0 = .ok (.aload_n 0, 1) := dk_42 (dk_at dksX7_found0_0 0 rfl rfl)
theorem dX7_found0_1 : decode cX7_found0 1 = .ok (.getfield 25, 3) := dk_180 0 25 (dk_at dksX7_found0_0 1 rfl rfl)
theorem dX7_found0_4 : decode cX7_found0 4 = .ok (.iload_n 1, 1) := dk_27 (dk_at dksX7_found0_0 4 rfl rfl)
theorem dX7_found0_5 : decode cX7_found0 5 = .ok (.ineg, 1) := dk_116 (dk_at dksX7_found0_0 5 rfl rfl)
theorem dX7_found0_6 : decode cX7_found0 6 = .ok (.dup2, 1) := dk_92 (dk_at dksX7_found0_0 6 rfl rfl)
theorem dX7_found0_7 : decode cX7_found0 7 = .ok (.iaload, 1) := dk_46 (dk_at dksX7_found0_0 7 rfl rfl)
theorem dX7_found0_8 : decode cX7_found0 8 = .ok (.iconst 1, 1) := dk_4 (dk_at dksX7_found0_0 8 rfl rfl)
theorem dX7_found0_9 : decode cX7_found0 9 = .ok (.iadd, 1) := dk_96 (dk_at dksX7_found0_0 9 rfl rfl)
theorem dX7_found0_10 : decode cX7_found0 10 = .ok (.iastore, 1) := dk_79 (dk_at dksX7_found0_0 10 rfl rfl)
theorem dX7_found0_11 : decode cX7_found0 11 = .ok (.iload_n 1, 1) := dk_27 (dk_at dksX7_found0_0 11 rfl rfl)
theorem dX7_found0_12 : decode cX7_found0 12 = .ok (.ireturn, 1) := dk_172 (dk_at dksX7_found0_0 12 rfl rfl)
abbrev cX7_read : ByteArray := prog_17_method_26_code
def yX7_read : MethodName := ⟨RX7, "read", "(I)I"⟩
def dkwX7_read_4 : List UInt8 := [167, 255, 220, 42, 180, 0, 13, 27, 46, 172]
abbrev dktX7_read_4 : List UInt8 := dkwX7_read_4 ++ []
def dkwX7_read_3 : List UInt8 := [21, 4, 3, 42, 180, 0, 155, 182, 0, 108, 42, 89, 180, 0, 155, 4, 96, 181, 0, 155, 132, 4, 1]
abbrev dktX7_read_3 : List UInt8 := dkwX7_read_3 ++ dktX7_read_4
def dkwX7_read_2 : List UInt8 := [172, 42, 16, 8, 27, 182, 0, 151, 3, 54, 4, 21, 4, 42, 180, 0, 13, 27, 46, 162, 0, 31, 42, 27]
abbrev dktX7_read_2 : List UInt8 := dkwX7_read_2 ++ dktX7_read_3
def dkwX7_read_1 : List UInt8 := [28, 182, 0, 148, 62, 29, 155, 0, 19, 42, 180, 0, 25, 16, 9, 92, 46, 4, 96, 79, 16, 246, 29, 100]
abbrev dktX7_read_1 : List UInt8 := dkwX7_read_1 ++ dktX7_read_2
def dkwX7_read_0 : List UInt8 := [27, 184, 0, 100, 154, 0, 9, 42, 2, 182, 0, 126, 172, 42, 180, 0, 130, 61, 42, 3, 181, 0, 130, 42]
abbrev dktX7_read_0 : List UInt8 := dkwX7_read_0 ++ dktX7_read_1
theorem dksX7_read_0 : cX7_read.data.toList.drop 0 = dktX7_read_0 := by decide +kernel
theorem dksX7_read_1 : cX7_read.data.toList.drop 24 = dktX7_read_1 := dk_seg dksX7_read_0 24 rfl rfl
theorem dksX7_read_2 : cX7_read.data.toList.drop 48 = dktX7_read_2 := dk_seg dksX7_read_1 24 rfl rfl
theorem dksX7_read_3 : cX7_read.data.toList.drop 72 = dktX7_read_3 := dk_seg dksX7_read_2 24 rfl rfl
theorem dksX7_read_4 : cX7_read.data.toList.drop 95 = dktX7_read_4 := dk_seg dksX7_read_3 23 rfl rfl
theorem dX7_read_0 : decode cX7_read 0 = .ok (.iload_n 1, 1) := dk_27 (dk_at dksX7_read_0 0 rfl rfl)
theorem dX7_read_1 : decode cX7_read 1 = .ok (.invokestatic 100, 3) := dk_184 0 100 (dk_at dksX7_read_0 1 rfl rfl)
theorem dX7_read_4 : decode cX7_read 4 = .ok (.ifCond .ne 9, 3) := dk_154 0 9 (dk_at dksX7_read_0 4 rfl rfl)
theorem dX7_read_7 : decode cX7_read 7 = .ok (.aload_n 0, 1) := dk_42 (dk_at dksX7_read_0 7 rfl rfl)
theorem dX7_read_8 : decode cX7_read 8 = .ok (.iconst (-1), 1) := dk_2 (dk_at dksX7_read_0 8 rfl rfl)
theorem dX7_read_9 : decode cX7_read 9 = .ok (.invokevirtual 126, 3) := dk_182 0 126 (dk_at dksX7_read_0 9 rfl rfl)
theorem dX7_read_12 : decode cX7_read 12 = .ok (.ireturn, 1) := dk_172 (dk_at dksX7_read_0 12 rfl rfl)
theorem dX7_read_13 : decode cX7_read 13 = .ok (.aload_n 0, 1) := dk_42 (dk_at dksX7_read_0 13 rfl rfl)
theorem dX7_read_14 : decode cX7_read 14 = .ok (.getfield 130, 3) := dk_180 0 130 (dk_at dksX7_read_0 14 rfl rfl)
theorem dX7_read_17 : decode cX7_read 17 = .ok (.istore_n 2, 1) := dk_61 (dk_at dksX7_read_0 17 rfl rfl)
theorem dX7_read_18 : decode cX7_read 18 = .ok (.aload_n 0, 1) := dk_42 (dk_at dksX7_read_0 18 rfl rfl)
theorem dX7_read_19 : decode cX7_read 19 = .ok (.iconst 0, 1) := dk_3 (dk_at dksX7_read_0 19 rfl rfl)
theorem dX7_read_20 : decode cX7_read 20 = .ok (.putfield 130, 3) := dk_181 0 130 (dk_at dksX7_read_0 20 rfl rfl)
theorem dX7_read_23 : decode cX7_read 23 = .ok (.aload_n 0, 1) := dk_42 (dk_at dksX7_read_0 23 rfl rfl)
theorem dX7_read_24 : decode cX7_read 24 = .ok (.iload_n 2, 1) := dk_28 (dk_at dksX7_read_1 0 rfl rfl)
theorem dX7_read_25 : decode cX7_read 25 = .ok (.invokevirtual 148, 3) := dk_182 0 148 (dk_at dksX7_read_1 1 rfl rfl)
theorem dX7_read_28 : decode cX7_read 28 = .ok (.istore_n 3, 1) := dk_62 (dk_at dksX7_read_1 4 rfl rfl)
theorem dX7_read_29 : decode cX7_read 29 = .ok (.iload_n 3, 1) := dk_29 (dk_at dksX7_read_1 5 rfl rfl)
theorem dX7_read_30 : decode cX7_read 30 = .ok (.ifCond .lt 19, 3) := dk_155 0 19 (dk_at dksX7_read_1 6 rfl rfl)
theorem dX7_read_33 : decode cX7_read 33 = .ok (.aload_n 0, 1) := dk_42 (dk_at dksX7_read_1 9 rfl rfl)
theorem dX7_read_34 : decode cX7_read 34 = .ok (.getfield 25, 3) := dk_180 0 25 (dk_at dksX7_read_1 10 rfl rfl)
theorem dX7_read_37 : decode cX7_read 37 = .ok (.bipush 9, 2) := dk_16 9 (dk_at dksX7_read_1 13 rfl rfl)
theorem dX7_read_39 : decode cX7_read 39 = .ok (.dup2, 1) := dk_92 (dk_at dksX7_read_1 15 rfl rfl)
theorem dX7_read_40 : decode cX7_read 40 = .ok (.iaload, 1) := dk_46 (dk_at dksX7_read_1 16 rfl rfl)
theorem dX7_read_41 : decode cX7_read 41 = .ok (.iconst 1, 1) := dk_4 (dk_at dksX7_read_1 17 rfl rfl)
theorem dX7_read_42 : decode cX7_read 42 = .ok (.iadd, 1) := dk_96 (dk_at dksX7_read_1 18 rfl rfl)
theorem dX7_read_43 : decode cX7_read 43 = .ok (.iastore, 1) := dk_79 (dk_at dksX7_read_1 19 rfl rfl)
theorem dX7_read_44 : decode cX7_read 44 = .ok (.bipush (-10), 2) := dk_16 246 (dk_at dksX7_read_1 20 rfl rfl)
theorem dX7_read_46 : decode cX7_read 46 = .ok (.iload_n 3, 1) := dk_29 (dk_at dksX7_read_1 22 rfl rfl)
theorem dX7_read_47 : decode cX7_read 47 = .ok (.isub, 1) := dk_100 (dk_at dksX7_read_1 23 rfl rfl)
theorem dX7_read_48 : decode cX7_read 48 = .ok (.ireturn, 1) := dk_172 (dk_at dksX7_read_2 0 rfl rfl)
theorem dX7_read_49 : decode cX7_read 49 = .ok (.aload_n 0, 1) := dk_42 (dk_at dksX7_read_2 1 rfl rfl)
theorem dX7_read_50 : decode cX7_read 50 = .ok (.bipush 8, 2) := dk_16 8 (dk_at dksX7_read_2 2 rfl rfl)
theorem dX7_read_52 : decode cX7_read 52 = .ok (.iload_n 1, 1) := dk_27 (dk_at dksX7_read_2 4 rfl rfl)
theorem dX7_read_53 : decode cX7_read 53 = .ok (.invokevirtual 151, 3) := dk_182 0 151 (dk_at dksX7_read_2 5 rfl rfl)
theorem dX7_read_56 : decode cX7_read 56 = .ok (.iconst 0, 1) := dk_3 (dk_at dksX7_read_2 8 rfl rfl)
theorem dX7_read_57 : decode cX7_read 57 = .ok (.istore 4, 2) := dk_54 4 (dk_at dksX7_read_2 9 rfl rfl)
theorem dX7_read_59 : decode cX7_read 59 = .ok (.iload 4, 2) := dk_21 4 (dk_at dksX7_read_2 11 rfl rfl)
theorem dX7_read_61 : decode cX7_read 61 = .ok (.aload_n 0, 1) := dk_42 (dk_at dksX7_read_2 13 rfl rfl)
theorem dX7_read_62 : decode cX7_read 62 = .ok (.getfield 13, 3) := dk_180 0 13 (dk_at dksX7_read_2 14 rfl rfl)
theorem dX7_read_65 : decode cX7_read 65 = .ok (.iload_n 1, 1) := dk_27 (dk_at dksX7_read_2 17 rfl rfl)
theorem dX7_read_66 : decode cX7_read 66 = .ok (.iaload, 1) := dk_46 (dk_at dksX7_read_2 18 rfl rfl)
theorem dX7_read_67 : decode cX7_read 67 = .ok (.if_icmp .ge 31, 3) := dk_162 0 31 (dk_at dksX7_read_2 19 rfl rfl)
theorem dX7_read_70 : decode cX7_read 70 = .ok (.aload_n 0, 1) := dk_42 (dk_at dksX7_read_2 22 rfl rfl)
theorem dX7_read_71 : decode cX7_read 71 = .ok (.iload_n 1, 1) := dk_27 (dk_at dksX7_read_2 23 rfl rfl)
theorem dX7_read_72 : decode cX7_read 72 = .ok (.iload 4, 2) := dk_21 4 (dk_at dksX7_read_3 0 rfl rfl)
theorem dX7_read_74 : decode cX7_read 74 = .ok (.iconst 0, 1) := dk_3 (dk_at dksX7_read_3 2 rfl rfl)
theorem dX7_read_75 : decode cX7_read 75 = .ok (.aload_n 0, 1) := dk_42 (dk_at dksX7_read_3 3 rfl rfl)
theorem dX7_read_76 : decode cX7_read 76 = .ok (.getfield 155, 3) := dk_180 0 155 (dk_at dksX7_read_3 4 rfl rfl)
theorem dX7_read_79 : decode cX7_read 79 = .ok (.invokevirtual 108, 3) := dk_182 0 108 (dk_at dksX7_read_3 7 rfl rfl)
theorem dX7_read_82 : decode cX7_read 82 = .ok (.aload_n 0, 1) := dk_42 (dk_at dksX7_read_3 10 rfl rfl)
theorem dX7_read_83 : decode cX7_read 83 = .ok (.dup, 1) := dk_89 (dk_at dksX7_read_3 11 rfl rfl)
theorem dX7_read_84 : decode cX7_read 84 = .ok (.getfield 155, 3) := dk_180 0 155 (dk_at dksX7_read_3 12 rfl rfl)
theorem dX7_read_87 : decode cX7_read 87 = .ok (.iconst 1, 1) := dk_4 (dk_at dksX7_read_3 15 rfl rfl)
theorem dX7_read_88 : decode cX7_read 88 = .ok (.iadd, 1) := dk_96 (dk_at dksX7_read_3 16 rfl rfl)
theorem dX7_read_89 : decode cX7_read 89 = .ok (.putfield 155, 3) := dk_181 0 155 (dk_at dksX7_read_3 17 rfl rfl)
theorem dX7_read_92 : decode cX7_read 92 = .ok (.iinc 4 1, 3) := dk_132 4 1 (dk_at dksX7_read_3 20 rfl rfl)
theorem dX7_read_95 : decode cX7_read 95 = .ok (.goto (-36), 3) := dk_167 255 220 (dk_at dksX7_read_4 0 rfl rfl)
theorem dX7_read_98 : decode cX7_read 98 = .ok (.aload_n 0, 1) := dk_42 (dk_at dksX7_read_4 3 rfl rfl)
theorem dX7_read_99 : decode cX7_read 99 = .ok (.getfield 13, 3) := dk_180 0 13 (dk_at dksX7_read_4 4 rfl rfl)
theorem dX7_read_102 : decode cX7_read 102 = .ok (.iload_n 1, 1) := dk_27 (dk_at dksX7_read_4 7 rfl rfl)
theorem dX7_read_103 : decode cX7_read 103 = .ok (.iaload, 1) := dk_46 (dk_at dksX7_read_4 8 rfl rfl)
theorem dX7_read_104 : decode cX7_read 104 = .ok (.ireturn, 1) := dk_172 (dk_at dksX7_read_4 9 rfl rfl)
abbrev cX7_isPlace : ByteArray := prog_17_method_5_code
def yX7_isPlace : MethodName := ⟨RX7, "isPlace", "(I)Z"⟩
def dkwX7_isPlace_0 : List UInt8 := [26, 3, 16, 7, 184, 0, 96, 172]
abbrev dktX7_isPlace_0 : List UInt8 := dkwX7_isPlace_0 ++ []
theorem dksX7_isPlace_0 : cX7_isPlace.data.toList.drop 0 = dktX7_isPlace_0 := by decide +kernel
theorem dX7_isPlace_0 : decode cX7_isPlace 0 = .ok (.iload_n 0, 1) := dk_26 (dk_at dksX7_isPlace_0 0 rfl rfl)
theorem dX7_isPlace_1 : decode cX7_isPlace 1 = .ok (.iconst 0, 1) := dk_3 (dk_at dksX7_isPlace_0 1 rfl rfl)
theorem dX7_isPlace_2 : decode cX7_isPlace 2 = .ok (.bipush 7, 2) := dk_16 7 (dk_at dksX7_isPlace_0 2 rfl rfl)
theorem dX7_isPlace_4 : decode cX7_isPlace 4 = .ok (.invokestatic 96, 3) := dk_184 0 96 (dk_at dksX7_isPlace_0 4 rfl rfl)
theorem dX7_isPlace_7 : decode cX7_isPlace 7 = .ok (.ireturn, 1) := dk_172 (dk_at dksX7_isPlace_0 7 rfl rfl)
abbrev cX7_reads : ByteArray := prog_17_method_25_code
def yX7_reads : MethodName := ⟨RX7, "reads", "(I)I"⟩
def dkwX7_reads_19 : List UInt8 := [132, 3, 1, 167, 254, 75, 28, 154, 0, 12, 29, 27, 160, 0, 7, 2, 167, 0, 4, 29, 172]
abbrev dktX7_reads_19 : List UInt8 := dkwX7_reads_19 ++ []
def dkwX7_reads_18 : List UInt8 := [29, 27, 182, 0, 138, 16, 44, 160, 0, 7, 4, 167, 0, 4, 3, 54, 4, 21, 4, 153, 0, 6]
abbrev dktX7_reads_18 : List UInt8 := dkwX7_reads_18 ++ dktX7_reads_19
def dkwX7_reads_17 : List UInt8 := [180, 0, 31, 28, 4, 100, 46, 160, 0, 12, 132, 2, 255, 132, 3, 1, 167, 255, 229, 28, 158, 0, 18, 42]
abbrev dktX7_reads_17 : List UInt8 := dkwX7_reads_17 ++ dktX7_reads_18
def dkwX7_reads_16 : List UInt8 := [16, 8, 21, 5, 4, 6, 182, 0, 108, 132, 3, 1, 28, 158, 0, 29, 42, 29, 27, 182, 0, 138, 42]
abbrev dktX7_reads_16 : List UInt8 := dkwX7_reads_16 ++ dktX7_reads_17
def dkwX7_reads_15 : List UInt8 := [159, 0, 6, 167, 254, 167, 132, 2, 255, 132, 3, 1, 167, 0, 23, 21, 7, 16, 33, 160, 0, 16, 42]
abbrev dktX7_reads_15 : List UInt8 := dkwX7_reads_15 ++ dktX7_reads_16
def dkwX7_reads_14 : List UInt8 := [132, 3, 1, 21, 7, 16, 40, 159, 254, 187, 42, 29, 27, 182, 0, 138, 42, 180, 0, 31, 28, 4, 100, 46]
abbrev dktX7_reads_14 : List UInt8 := dkwX7_reads_14 ++ dktX7_reads_15
def dkwX7_reads_13 : List UInt8 := [16, 41, 167, 0, 17, 21, 7, 16, 123, 160, 0, 8, 16, 125, 167, 0, 5, 16, 62, 79, 132, 2, 1]
abbrev dktX7_reads_13 : List UInt8 := dkwX7_reads_13 ++ dktX7_reads_14
def dkwX7_reads_12 : List UInt8 := [182, 0, 108, 42, 180, 0, 28, 28, 21, 5, 79, 42, 180, 0, 31, 28, 21, 7, 16, 40, 160, 0, 8]
abbrev dktX7_reads_12 : List UInt8 := dkwX7_reads_12 ++ dktX7_reads_13
def dkwX7_reads_11 : List UInt8 := [4, 21, 7, 16, 40, 160, 0, 7, 3, 167, 0, 15, 21, 7, 16, 123, 160, 0, 7, 4, 167, 0, 4, 5]
abbrev dktX7_reads_11 : List UInt8 := dkwX7_reads_11 ++ dktX7_reads_12
def dkwX7_reads_10 : List UInt8 := [16, 40, 159, 0, 17, 21, 7, 16, 123, 159, 0, 10, 21, 7, 16, 60, 160, 0, 117, 42, 16, 8, 21, 5]
abbrev dktX7_reads_10 : List UInt8 := dkwX7_reads_10 ++ dktX7_reads_11
def dkwX7_reads_9 : List UInt8 := [16, 8, 182, 0, 144, 62, 29, 156, 0, 7, 2, 29, 100, 172, 42, 29, 27, 182, 0, 138, 54, 7, 21, 7]
abbrev dktX7_reads_9 : List UInt8 := dkwX7_reads_9 ++ dktX7_reads_10
def dkwX7_reads_8 : List UInt8 := [167, 255, 220, 42, 29, 27, 182, 0, 138, 16, 61, 160, 0, 26, 42, 21, 5, 29, 4, 96, 27, 16, 10]
abbrev dktX7_reads_8 : List UInt8 := dkwX7_reads_8 ++ dktX7_reads_9
def dkwX7_reads_7 : List UInt8 := [16, 8, 21, 5, 6, 182, 0, 122, 153, 0, 6, 21, 6, 172, 42, 16, 8, 21, 7, 182, 0, 119, 54, 7]
abbrev dktX7_reads_7 : List UInt8 := dkwX7_reads_7 ++ dktX7_reads_8
def dkwX7_reads_6 : List UInt8 := [42, 180, 0, 28, 28, 4, 100, 46, 4, 96, 54, 7, 21, 7, 21, 5, 162, 0, 35, 42, 16, 8, 21, 7]
abbrev dktX7_reads_6 : List UInt8 := dkwX7_reads_6 ++ dktX7_reads_7
def dkwX7_reads_5 : List UInt8 := [79, 28, 158, 0, 73, 42, 16, 8, 42, 180, 0, 28, 28, 4, 100, 46, 4, 182, 0, 104, 5, 160, 0, 54]
abbrev dktX7_reads_5 : List UInt8 := dkwX7_reads_5 ++ dktX7_reads_6
def dkwX7_reads_4 : List UInt8 := [16, 6, 182, 0, 144, 62, 29, 156, 0, 7, 2, 29, 100, 172, 42, 180, 0, 13, 16, 8, 92, 46, 4, 96]
abbrev dktX7_reads_4 : List UInt8 := dkwX7_reads_4 ++ dktX7_reads_5
def dkwX7_reads_3 : List UInt8 := [21, 5, 5, 28, 182, 0, 108, 42, 16, 8, 21, 5, 16, 10, 3, 182, 0, 108, 42, 21, 5, 29, 27, 6]
abbrev dktX7_reads_3 : List UInt8 := dkwX7_reads_3 ++ dktX7_reads_4
def dkwX7_reads_2 : List UInt8 := [28, 16, 12, 161, 0, 5, 29, 172, 29, 54, 6, 42, 16, 8, 21, 5, 4, 3, 182, 0, 108, 42, 16, 8]
abbrev dktX7_reads_2 : List UInt8 := dkwX7_reads_2 ++ dktX7_reads_3
def dkwX7_reads_1 : List UInt8 := [16, 8, 46, 54, 5, 42, 29, 27, 182, 0, 138, 184, 0, 135, 153, 0, 16, 21, 5, 16, 30, 159, 0, 9]
abbrev dktX7_reads_1 : List UInt8 := dkwX7_reads_1 ++ dktX7_reads_2
def dkwX7_reads_0 : List UInt8 := [42, 180, 0, 13, 16, 8, 3, 79, 3, 61, 3, 62, 4, 54, 4, 21, 4, 153, 1, 182, 42, 180, 0, 13]
abbrev dktX7_reads_0 : List UInt8 := dkwX7_reads_0 ++ dktX7_reads_1
theorem dksX7_reads_0 : cX7_reads.data.toList.drop 0 = dktX7_reads_0 := by decide +kernel
theorem dksX7_reads_1 : cX7_reads.data.toList.drop 24 = dktX7_reads_1 := dk_seg dksX7_reads_0 24 rfl rfl
theorem dksX7_reads_2 : cX7_reads.data.toList.drop 48 = dktX7_reads_2 := dk_seg dksX7_reads_1 24 rfl rfl
theorem dksX7_reads_3 : cX7_reads.data.toList.drop 72 = dktX7_reads_3 := dk_seg dksX7_reads_2 24 rfl rfl
theorem dksX7_reads_4 : cX7_reads.data.toList.drop 96 = dktX7_reads_4 := dk_seg dksX7_reads_3 24 rfl rfl
theorem dksX7_reads_5 : cX7_reads.data.toList.drop 120 = dktX7_reads_5 := dk_seg dksX7_reads_4 24 rfl rfl
theorem dksX7_reads_6 : cX7_reads.data.toList.drop 144 = dktX7_reads_6 := dk_seg dksX7_reads_5 24 rfl rfl
theorem dksX7_reads_7 : cX7_reads.data.toList.drop 168 = dktX7_reads_7 := dk_seg dksX7_reads_6 24 rfl rfl
theorem dksX7_reads_8 : cX7_reads.data.toList.drop 192 = dktX7_reads_8 := dk_seg dksX7_reads_7 24 rfl rfl
theorem dksX7_reads_9 : cX7_reads.data.toList.drop 215 = dktX7_reads_9 := dk_seg dksX7_reads_8 23 rfl rfl
theorem dksX7_reads_10 : cX7_reads.data.toList.drop 239 = dktX7_reads_10 := dk_seg dksX7_reads_9 24 rfl rfl
theorem dksX7_reads_11 : cX7_reads.data.toList.drop 263 = dktX7_reads_11 := dk_seg dksX7_reads_10 24 rfl rfl
theorem dksX7_reads_12 : cX7_reads.data.toList.drop 287 = dktX7_reads_12 := dk_seg dksX7_reads_11 24 rfl rfl
theorem dksX7_reads_13 : cX7_reads.data.toList.drop 310 = dktX7_reads_13 := dk_seg dksX7_reads_12 23 rfl rfl
theorem dksX7_reads_14 : cX7_reads.data.toList.drop 333 = dktX7_reads_14 := dk_seg dksX7_reads_13 23 rfl rfl
theorem dksX7_reads_15 : cX7_reads.data.toList.drop 357 = dktX7_reads_15 := dk_seg dksX7_reads_14 24 rfl rfl
theorem dksX7_reads_16 : cX7_reads.data.toList.drop 380 = dktX7_reads_16 := dk_seg dksX7_reads_15 23 rfl rfl
theorem dksX7_reads_17 : cX7_reads.data.toList.drop 403 = dktX7_reads_17 := dk_seg dksX7_reads_16 23 rfl rfl
theorem dksX7_reads_18 : cX7_reads.data.toList.drop 427 = dktX7_reads_18 := dk_seg dksX7_reads_17 24 rfl rfl
theorem dksX7_reads_19 : cX7_reads.data.toList.drop 449 = dktX7_reads_19 := dk_seg dksX7_reads_18 22 rfl rfl
theorem dX7_reads_0 : decode cX7_reads 0 = .ok (.aload_n 0, 1) := dk_42 (dk_at dksX7_reads_0 0 rfl rfl)
theorem dX7_reads_1 : decode cX7_reads 1 = .ok (.getfield 13, 3) := dk_180 0 13 (dk_at dksX7_reads_0 1 rfl rfl)
theorem dX7_reads_4 : decode cX7_reads 4 = .ok (.bipush 8, 2) := dk_16 8 (dk_at dksX7_reads_0 4 rfl rfl)
theorem dX7_reads_6 : decode cX7_reads 6 = .ok (.iconst 0, 1) := dk_3 (dk_at dksX7_reads_0 6 rfl rfl)
theorem dX7_reads_7 : decode cX7_reads 7 = .ok (.iastore, 1) := dk_79 (dk_at dksX7_reads_0 7 rfl rfl)
theorem dX7_reads_8 : decode cX7_reads 8 = .ok (.iconst 0, 1) := dk_3 (dk_at dksX7_reads_0 8 rfl rfl)
theorem dX7_reads_9 : decode cX7_reads 9 = .ok (.istore_n 2, 1) := dk_61 (dk_at dksX7_reads_0 9 rfl rfl)
theorem dX7_reads_10 : decode cX7_reads 10 = .ok (.iconst 0, 1) := dk_3 (dk_at dksX7_reads_0 10 rfl rfl)
theorem dX7_reads_11 : decode cX7_reads 11 = .ok (.istore_n 3, 1) := dk_62 (dk_at dksX7_reads_0 11 rfl rfl)
theorem dX7_reads_12 : decode cX7_reads 12 = .ok (.iconst 1, 1) := dk_4 (dk_at dksX7_reads_0 12 rfl rfl)
theorem dX7_reads_13 : decode cX7_reads 13 = .ok (.istore 4, 2) := dk_54 4 (dk_at dksX7_reads_0 13 rfl rfl)
theorem dX7_reads_15 : decode cX7_reads 15 = .ok (.iload 4, 2) := dk_21 4 (dk_at dksX7_reads_0 15 rfl rfl)
theorem dX7_reads_17 : decode cX7_reads 17 = .ok (.ifCond .eq 438, 3) := dk_153 1 182 (dk_at dksX7_reads_0 17 rfl rfl)
theorem dX7_reads_20 : decode cX7_reads 20 = .ok (.aload_n 0, 1) := dk_42 (dk_at dksX7_reads_0 20 rfl rfl)
theorem dX7_reads_21 : decode cX7_reads 21 = .ok (.getfield 13, 3) := dk_180 0 13 (dk_at dksX7_reads_0 21 rfl rfl)
theorem dX7_reads_24 : decode cX7_reads 24 = .ok (.bipush 8, 2) := dk_16 8 (dk_at dksX7_reads_1 0 rfl rfl)
theorem dX7_reads_26 : decode cX7_reads 26 = .ok (.iaload, 1) := dk_46 (dk_at dksX7_reads_1 2 rfl rfl)
theorem dX7_reads_27 : decode cX7_reads 27 = .ok (.istore 5, 2) := dk_54 5 (dk_at dksX7_reads_1 3 rfl rfl)
theorem dX7_reads_29 : decode cX7_reads 29 = .ok (.aload_n 0, 1) := dk_42 (dk_at dksX7_reads_1 5 rfl rfl)
theorem dX7_reads_30 : decode cX7_reads 30 = .ok (.iload_n 3, 1) := dk_29 (dk_at dksX7_reads_1 6 rfl rfl)
theorem dX7_reads_31 : decode cX7_reads 31 = .ok (.iload_n 1, 1) := dk_27 (dk_at dksX7_reads_1 7 rfl rfl)
theorem dX7_reads_32 : decode cX7_reads 32 = .ok (.invokevirtual 138, 3) := dk_182 0 138 (dk_at dksX7_reads_1 8 rfl rfl)
theorem dX7_reads_35 : decode cX7_reads 35 = .ok (.invokestatic 135, 3) := dk_184 0 135 (dk_at dksX7_reads_1 11 rfl rfl)
theorem dX7_reads_38 : decode cX7_reads 38 = .ok (.ifCond .eq 16, 3) := dk_153 0 16 (dk_at dksX7_reads_1 14 rfl rfl)
theorem dX7_reads_41 : decode cX7_reads 41 = .ok (.iload 5, 2) := dk_21 5 (dk_at dksX7_reads_1 17 rfl rfl)
theorem dX7_reads_43 : decode cX7_reads 43 = .ok (.bipush 30, 2) := dk_16 30 (dk_at dksX7_reads_1 19 rfl rfl)
theorem dX7_reads_45 : decode cX7_reads 45 = .ok (.if_icmp .eq 9, 3) := dk_159 0 9 (dk_at dksX7_reads_1 21 rfl rfl)
theorem dX7_reads_48 : decode cX7_reads 48 = .ok (.iload_n 2, 1) := dk_28 (dk_at dksX7_reads_2 0 rfl rfl)
theorem dX7_reads_49 : decode cX7_reads 49 = .ok (.bipush 12, 2) := dk_16 12 (dk_at dksX7_reads_2 1 rfl rfl)
theorem dX7_reads_51 : decode cX7_reads 51 = .ok (.if_icmp .lt 5, 3) := dk_161 0 5 (dk_at dksX7_reads_2 3 rfl rfl)
theorem dX7_reads_54 : decode cX7_reads 54 = .ok (.iload_n 3, 1) := dk_29 (dk_at dksX7_reads_2 6 rfl rfl)
theorem dX7_reads_55 : decode cX7_reads 55 = .ok (.ireturn, 1) := dk_172 (dk_at dksX7_reads_2 7 rfl rfl)
theorem dX7_reads_56 : decode cX7_reads 56 = .ok (.iload_n 3, 1) := dk_29 (dk_at dksX7_reads_2 8 rfl rfl)
theorem dX7_reads_57 : decode cX7_reads 57 = .ok (.istore 6, 2) := dk_54 6 (dk_at dksX7_reads_2 9 rfl rfl)
theorem dX7_reads_59 : decode cX7_reads 59 = .ok (.aload_n 0, 1) := dk_42 (dk_at dksX7_reads_2 11 rfl rfl)
theorem dX7_reads_60 : decode cX7_reads 60 = .ok (.bipush 8, 2) := dk_16 8 (dk_at dksX7_reads_2 12 rfl rfl)
theorem dX7_reads_62 : decode cX7_reads 62 = .ok (.iload 5, 2) := dk_21 5 (dk_at dksX7_reads_2 14 rfl rfl)
theorem dX7_reads_64 : decode cX7_reads 64 = .ok (.iconst 1, 1) := dk_4 (dk_at dksX7_reads_2 16 rfl rfl)
theorem dX7_reads_65 : decode cX7_reads 65 = .ok (.iconst 0, 1) := dk_3 (dk_at dksX7_reads_2 17 rfl rfl)
theorem dX7_reads_66 : decode cX7_reads 66 = .ok (.invokevirtual 108, 3) := dk_182 0 108 (dk_at dksX7_reads_2 18 rfl rfl)
theorem dX7_reads_69 : decode cX7_reads 69 = .ok (.aload_n 0, 1) := dk_42 (dk_at dksX7_reads_2 21 rfl rfl)
theorem dX7_reads_70 : decode cX7_reads 70 = .ok (.bipush 8, 2) := dk_16 8 (dk_at dksX7_reads_2 22 rfl rfl)
theorem dX7_reads_72 : decode cX7_reads 72 = .ok (.iload 5, 2) := dk_21 5 (dk_at dksX7_reads_3 0 rfl rfl)
theorem dX7_reads_74 : decode cX7_reads 74 = .ok (.iconst 2, 1) := dk_5 (dk_at dksX7_reads_3 2 rfl rfl)
theorem dX7_reads_75 : decode cX7_reads 75 = .ok (.iload_n 2, 1) := dk_28 (dk_at dksX7_reads_3 3 rfl rfl)
theorem dX7_reads_76 : decode cX7_reads 76 = .ok (.invokevirtual 108, 3) := dk_182 0 108 (dk_at dksX7_reads_3 4 rfl rfl)
theorem dX7_reads_79 : decode cX7_reads 79 = .ok (.aload_n 0, 1) := dk_42 (dk_at dksX7_reads_3 7 rfl rfl)
theorem dX7_reads_80 : decode cX7_reads 80 = .ok (.bipush 8, 2) := dk_16 8 (dk_at dksX7_reads_3 8 rfl rfl)
theorem dX7_reads_82 : decode cX7_reads 82 = .ok (.iload 5, 2) := dk_21 5 (dk_at dksX7_reads_3 10 rfl rfl)
theorem dX7_reads_84 : decode cX7_reads 84 = .ok (.bipush 10, 2) := dk_16 10 (dk_at dksX7_reads_3 12 rfl rfl)
theorem dX7_reads_86 : decode cX7_reads 86 = .ok (.iconst 0, 1) := dk_3 (dk_at dksX7_reads_3 14 rfl rfl)
theorem dX7_reads_87 : decode cX7_reads 87 = .ok (.invokevirtual 108, 3) := dk_182 0 108 (dk_at dksX7_reads_3 15 rfl rfl)
theorem dX7_reads_90 : decode cX7_reads 90 = .ok (.aload_n 0, 1) := dk_42 (dk_at dksX7_reads_3 18 rfl rfl)
theorem dX7_reads_91 : decode cX7_reads 91 = .ok (.iload 5, 2) := dk_21 5 (dk_at dksX7_reads_3 19 rfl rfl)
theorem dX7_reads_93 : decode cX7_reads 93 = .ok (.iload_n 3, 1) := dk_29 (dk_at dksX7_reads_3 21 rfl rfl)
theorem dX7_reads_94 : decode cX7_reads 94 = .ok (.iload_n 1, 1) := dk_27 (dk_at dksX7_reads_3 22 rfl rfl)
theorem dX7_reads_95 : decode cX7_reads 95 = .ok (.iconst 3, 1) := dk_6 (dk_at dksX7_reads_3 23 rfl rfl)
theorem dX7_reads_96 : decode cX7_reads 96 = .ok (.bipush 6, 2) := dk_16 6 (dk_at dksX7_reads_4 0 rfl rfl)
theorem dX7_reads_98 : decode cX7_reads 98 = .ok (.invokevirtual 144, 3) := dk_182 0 144 (dk_at dksX7_reads_4 2 rfl rfl)
theorem dX7_reads_101 : decode cX7_reads 101 = .ok (.istore_n 3, 1) := dk_62 (dk_at dksX7_reads_4 5 rfl rfl)
theorem dX7_reads_102 : decode cX7_reads 102 = .ok (.iload_n 3, 1) := dk_29 (dk_at dksX7_reads_4 6 rfl rfl)
theorem dX7_reads_103 : decode cX7_reads 103 = .ok (.ifCond .ge 7, 3) := dk_156 0 7 (dk_at dksX7_reads_4 7 rfl rfl)
theorem dX7_reads_106 : decode cX7_reads 106 = .ok (.iconst (-1), 1) := dk_2 (dk_at dksX7_reads_4 10 rfl rfl)
theorem dX7_reads_107 : decode cX7_reads 107 = .ok (.iload_n 3, 1) := dk_29 (dk_at dksX7_reads_4 11 rfl rfl)
theorem dX7_reads_108 : decode cX7_reads 108 = .ok (.isub, 1) := dk_100 (dk_at dksX7_reads_4 12 rfl rfl)
theorem dX7_reads_109 : decode cX7_reads 109 = .ok (.ireturn, 1) := dk_172 (dk_at dksX7_reads_4 13 rfl rfl)
theorem dX7_reads_110 : decode cX7_reads 110 = .ok (.aload_n 0, 1) := dk_42 (dk_at dksX7_reads_4 14 rfl rfl)
theorem dX7_reads_111 : decode cX7_reads 111 = .ok (.getfield 13, 3) := dk_180 0 13 (dk_at dksX7_reads_4 15 rfl rfl)
theorem dX7_reads_114 : decode cX7_reads 114 = .ok (.bipush 8, 2) := dk_16 8 (dk_at dksX7_reads_4 18 rfl rfl)
theorem dX7_reads_116 : decode cX7_reads 116 = .ok (.dup2, 1) := dk_92 (dk_at dksX7_reads_4 20 rfl rfl)
theorem dX7_reads_117 : decode cX7_reads 117 = .ok (.iaload, 1) := dk_46 (dk_at dksX7_reads_4 21 rfl rfl)
theorem dX7_reads_118 : decode cX7_reads 118 = .ok (.iconst 1, 1) := dk_4 (dk_at dksX7_reads_4 22 rfl rfl)
theorem dX7_reads_119 : decode cX7_reads 119 = .ok (.iadd, 1) := dk_96 (dk_at dksX7_reads_4 23 rfl rfl)
theorem dX7_reads_120 : decode cX7_reads 120 = .ok (.iastore, 1) := dk_79 (dk_at dksX7_reads_5 0 rfl rfl)
theorem dX7_reads_121 : decode cX7_reads 121 = .ok (.iload_n 2, 1) := dk_28 (dk_at dksX7_reads_5 1 rfl rfl)
theorem dX7_reads_122 : decode cX7_reads 122 = .ok (.ifCond .le 73, 3) := dk_158 0 73 (dk_at dksX7_reads_5 2 rfl rfl)
theorem dX7_reads_125 : decode cX7_reads 125 = .ok (.aload_n 0, 1) := dk_42 (dk_at dksX7_reads_5 5 rfl rfl)
theorem dX7_reads_126 : decode cX7_reads 126 = .ok (.bipush 8, 2) := dk_16 8 (dk_at dksX7_reads_5 6 rfl rfl)
theorem dX7_reads_128 : decode cX7_reads 128 = .ok (.aload_n 0, 1) := dk_42 (dk_at dksX7_reads_5 8 rfl rfl)
theorem dX7_reads_129 : decode cX7_reads 129 = .ok (.getfield 28, 3) := dk_180 0 28 (dk_at dksX7_reads_5 9 rfl rfl)
theorem dX7_reads_132 : decode cX7_reads 132 = .ok (.iload_n 2, 1) := dk_28 (dk_at dksX7_reads_5 12 rfl rfl)
theorem dX7_reads_133 : decode cX7_reads 133 = .ok (.iconst 1, 1) := dk_4 (dk_at dksX7_reads_5 13 rfl rfl)
theorem dX7_reads_134 : decode cX7_reads 134 = .ok (.isub, 1) := dk_100 (dk_at dksX7_reads_5 14 rfl rfl)
theorem dX7_reads_135 : decode cX7_reads 135 = .ok (.iaload, 1) := dk_46 (dk_at dksX7_reads_5 15 rfl rfl)
theorem dX7_reads_136 : decode cX7_reads 136 = .ok (.iconst 1, 1) := dk_4 (dk_at dksX7_reads_5 16 rfl rfl)
theorem dX7_reads_137 : decode cX7_reads 137 = .ok (.invokevirtual 104, 3) := dk_182 0 104 (dk_at dksX7_reads_5 17 rfl rfl)
theorem dX7_reads_140 : decode cX7_reads 140 = .ok (.iconst 2, 1) := dk_5 (dk_at dksX7_reads_5 20 rfl rfl)
theorem dX7_reads_141 : decode cX7_reads 141 = .ok (.if_icmp .ne 54, 3) := dk_160 0 54 (dk_at dksX7_reads_5 21 rfl rfl)
theorem dX7_reads_144 : decode cX7_reads 144 = .ok (.aload_n 0, 1) := dk_42 (dk_at dksX7_reads_6 0 rfl rfl)
theorem dX7_reads_145 : decode cX7_reads 145 = .ok (.getfield 28, 3) := dk_180 0 28 (dk_at dksX7_reads_6 1 rfl rfl)
theorem dX7_reads_148 : decode cX7_reads 148 = .ok (.iload_n 2, 1) := dk_28 (dk_at dksX7_reads_6 4 rfl rfl)
theorem dX7_reads_149 : decode cX7_reads 149 = .ok (.iconst 1, 1) := dk_4 (dk_at dksX7_reads_6 5 rfl rfl)
theorem dX7_reads_150 : decode cX7_reads 150 = .ok (.isub, 1) := dk_100 (dk_at dksX7_reads_6 6 rfl rfl)
theorem dX7_reads_151 : decode cX7_reads 151 = .ok (.iaload, 1) := dk_46 (dk_at dksX7_reads_6 7 rfl rfl)
theorem dX7_reads_152 : decode cX7_reads 152 = .ok (.iconst 1, 1) := dk_4 (dk_at dksX7_reads_6 8 rfl rfl)
theorem dX7_reads_153 : decode cX7_reads 153 = .ok (.iadd, 1) := dk_96 (dk_at dksX7_reads_6 9 rfl rfl)
theorem dX7_reads_154 : decode cX7_reads 154 = .ok (.istore 7, 2) := dk_54 7 (dk_at dksX7_reads_6 10 rfl rfl)
theorem dX7_reads_156 : decode cX7_reads 156 = .ok (.iload 7, 2) := dk_21 7 (dk_at dksX7_reads_6 12 rfl rfl)
theorem dX7_reads_158 : decode cX7_reads 158 = .ok (.iload 5, 2) := dk_21 5 (dk_at dksX7_reads_6 14 rfl rfl)
theorem dX7_reads_160 : decode cX7_reads 160 = .ok (.if_icmp .ge 35, 3) := dk_162 0 35 (dk_at dksX7_reads_6 16 rfl rfl)
theorem dX7_reads_163 : decode cX7_reads 163 = .ok (.aload_n 0, 1) := dk_42 (dk_at dksX7_reads_6 19 rfl rfl)
theorem dX7_reads_164 : decode cX7_reads 164 = .ok (.bipush 8, 2) := dk_16 8 (dk_at dksX7_reads_6 20 rfl rfl)
theorem dX7_reads_166 : decode cX7_reads 166 = .ok (.iload 7, 2) := dk_21 7 (dk_at dksX7_reads_6 22 rfl rfl)
theorem dX7_reads_168 : decode cX7_reads 168 = .ok (.bipush 8, 2) := dk_16 8 (dk_at dksX7_reads_7 0 rfl rfl)
theorem dX7_reads_170 : decode cX7_reads 170 = .ok (.iload 5, 2) := dk_21 5 (dk_at dksX7_reads_7 2 rfl rfl)
theorem dX7_reads_172 : decode cX7_reads 172 = .ok (.iconst 3, 1) := dk_6 (dk_at dksX7_reads_7 4 rfl rfl)
theorem dX7_reads_173 : decode cX7_reads 173 = .ok (.invokevirtual 122, 3) := dk_182 0 122 (dk_at dksX7_reads_7 5 rfl rfl)
theorem dX7_reads_176 : decode cX7_reads 176 = .ok (.ifCond .eq 6, 3) := dk_153 0 6 (dk_at dksX7_reads_7 8 rfl rfl)
theorem dX7_reads_179 : decode cX7_reads 179 = .ok (.iload 6, 2) := dk_21 6 (dk_at dksX7_reads_7 11 rfl rfl)
theorem dX7_reads_181 : decode cX7_reads 181 = .ok (.ireturn, 1) := dk_172 (dk_at dksX7_reads_7 13 rfl rfl)
theorem dX7_reads_182 : decode cX7_reads 182 = .ok (.aload_n 0, 1) := dk_42 (dk_at dksX7_reads_7 14 rfl rfl)
theorem dX7_reads_183 : decode cX7_reads 183 = .ok (.bipush 8, 2) := dk_16 8 (dk_at dksX7_reads_7 15 rfl rfl)
theorem dX7_reads_185 : decode cX7_reads 185 = .ok (.iload 7, 2) := dk_21 7 (dk_at dksX7_reads_7 17 rfl rfl)
theorem dX7_reads_187 : decode cX7_reads 187 = .ok (.invokevirtual 119, 3) := dk_182 0 119 (dk_at dksX7_reads_7 19 rfl rfl)
theorem dX7_reads_190 : decode cX7_reads 190 = .ok (.istore 7, 2) := dk_54 7 (dk_at dksX7_reads_7 22 rfl rfl)
theorem dX7_reads_192 : decode cX7_reads 192 = .ok (.goto (-36), 3) := dk_167 255 220 (dk_at dksX7_reads_8 0 rfl rfl)
theorem dX7_reads_195 : decode cX7_reads 195 = .ok (.aload_n 0, 1) := dk_42 (dk_at dksX7_reads_8 3 rfl rfl)
theorem dX7_reads_196 : decode cX7_reads 196 = .ok (.iload_n 3, 1) := dk_29 (dk_at dksX7_reads_8 4 rfl rfl)
theorem dX7_reads_197 : decode cX7_reads 197 = .ok (.iload_n 1, 1) := dk_27 (dk_at dksX7_reads_8 5 rfl rfl)
theorem dX7_reads_198 : decode cX7_reads 198 = .ok (.invokevirtual 138, 3) := dk_182 0 138 (dk_at dksX7_reads_8 6 rfl rfl)
theorem dX7_reads_201 : decode cX7_reads 201 = .ok (.bipush 61, 2) := dk_16 61 (dk_at dksX7_reads_8 9 rfl rfl)
theorem dX7_reads_203 : decode cX7_reads 203 = .ok (.if_icmp .ne 26, 3) := dk_160 0 26 (dk_at dksX7_reads_8 11 rfl rfl)
theorem dX7_reads_206 : decode cX7_reads 206 = .ok (.aload_n 0, 1) := dk_42 (dk_at dksX7_reads_8 14 rfl rfl)
theorem dX7_reads_207 : decode cX7_reads 207 = .ok (.iload 5, 2) := dk_21 5 (dk_at dksX7_reads_8 15 rfl rfl)
theorem dX7_reads_209 : decode cX7_reads 209 = .ok (.iload_n 3, 1) := dk_29 (dk_at dksX7_reads_8 17 rfl rfl)
theorem dX7_reads_210 : decode cX7_reads 210 = .ok (.iconst 1, 1) := dk_4 (dk_at dksX7_reads_8 18 rfl rfl)
theorem dX7_reads_211 : decode cX7_reads 211 = .ok (.iadd, 1) := dk_96 (dk_at dksX7_reads_8 19 rfl rfl)
theorem dX7_reads_212 : decode cX7_reads 212 = .ok (.iload_n 1, 1) := dk_27 (dk_at dksX7_reads_8 20 rfl rfl)
theorem dX7_reads_213 : decode cX7_reads 213 = .ok (.bipush 10, 2) := dk_16 10 (dk_at dksX7_reads_8 21 rfl rfl)
theorem dX7_reads_215 : decode cX7_reads 215 = .ok (.bipush 8, 2) := dk_16 8 (dk_at dksX7_reads_9 0 rfl rfl)
theorem dX7_reads_217 : decode cX7_reads 217 = .ok (.invokevirtual 144, 3) := dk_182 0 144 (dk_at dksX7_reads_9 2 rfl rfl)
theorem dX7_reads_220 : decode cX7_reads 220 = .ok (.istore_n 3, 1) := dk_62 (dk_at dksX7_reads_9 5 rfl rfl)
theorem dX7_reads_221 : decode cX7_reads 221 = .ok (.iload_n 3, 1) := dk_29 (dk_at dksX7_reads_9 6 rfl rfl)
theorem dX7_reads_222 : decode cX7_reads 222 = .ok (.ifCond .ge 7, 3) := dk_156 0 7 (dk_at dksX7_reads_9 7 rfl rfl)
theorem dX7_reads_225 : decode cX7_reads 225 = .ok (.iconst (-1), 1) := dk_2 (dk_at dksX7_reads_9 10 rfl rfl)
theorem dX7_reads_226 : decode cX7_reads 226 = .ok (.iload_n 3, 1) := dk_29 (dk_at dksX7_reads_9 11 rfl rfl)
theorem dX7_reads_227 : decode cX7_reads 227 = .ok (.isub, 1) := dk_100 (dk_at dksX7_reads_9 12 rfl rfl)
theorem dX7_reads_228 : decode cX7_reads 228 = .ok (.ireturn, 1) := dk_172 (dk_at dksX7_reads_9 13 rfl rfl)
theorem dX7_reads_229 : decode cX7_reads 229 = .ok (.aload_n 0, 1) := dk_42 (dk_at dksX7_reads_9 14 rfl rfl)
theorem dX7_reads_230 : decode cX7_reads 230 = .ok (.iload_n 3, 1) := dk_29 (dk_at dksX7_reads_9 15 rfl rfl)
theorem dX7_reads_231 : decode cX7_reads 231 = .ok (.iload_n 1, 1) := dk_27 (dk_at dksX7_reads_9 16 rfl rfl)
theorem dX7_reads_232 : decode cX7_reads 232 = .ok (.invokevirtual 138, 3) := dk_182 0 138 (dk_at dksX7_reads_9 17 rfl rfl)
theorem dX7_reads_235 : decode cX7_reads 235 = .ok (.istore 7, 2) := dk_54 7 (dk_at dksX7_reads_9 20 rfl rfl)
theorem dX7_reads_237 : decode cX7_reads 237 = .ok (.iload 7, 2) := dk_21 7 (dk_at dksX7_reads_9 22 rfl rfl)
theorem dX7_reads_239 : decode cX7_reads 239 = .ok (.bipush 40, 2) := dk_16 40 (dk_at dksX7_reads_10 0 rfl rfl)
theorem dX7_reads_241 : decode cX7_reads 241 = .ok (.if_icmp .eq 17, 3) := dk_159 0 17 (dk_at dksX7_reads_10 2 rfl rfl)
theorem dX7_reads_244 : decode cX7_reads 244 = .ok (.iload 7, 2) := dk_21 7 (dk_at dksX7_reads_10 5 rfl rfl)
theorem dX7_reads_246 : decode cX7_reads 246 = .ok (.bipush 123, 2) := dk_16 123 (dk_at dksX7_reads_10 7 rfl rfl)
theorem dX7_reads_248 : decode cX7_reads 248 = .ok (.if_icmp .eq 10, 3) := dk_159 0 10 (dk_at dksX7_reads_10 9 rfl rfl)
theorem dX7_reads_251 : decode cX7_reads 251 = .ok (.iload 7, 2) := dk_21 7 (dk_at dksX7_reads_10 12 rfl rfl)
theorem dX7_reads_253 : decode cX7_reads 253 = .ok (.bipush 60, 2) := dk_16 60 (dk_at dksX7_reads_10 14 rfl rfl)
theorem dX7_reads_255 : decode cX7_reads 255 = .ok (.if_icmp .ne 117, 3) := dk_160 0 117 (dk_at dksX7_reads_10 16 rfl rfl)
theorem dX7_reads_258 : decode cX7_reads 258 = .ok (.aload_n 0, 1) := dk_42 (dk_at dksX7_reads_10 19 rfl rfl)
theorem dX7_reads_259 : decode cX7_reads 259 = .ok (.bipush 8, 2) := dk_16 8 (dk_at dksX7_reads_10 20 rfl rfl)
theorem dX7_reads_261 : decode cX7_reads 261 = .ok (.iload 5, 2) := dk_21 5 (dk_at dksX7_reads_10 22 rfl rfl)
theorem dX7_reads_263 : decode cX7_reads 263 = .ok (.iconst 1, 1) := dk_4 (dk_at dksX7_reads_11 0 rfl rfl)
theorem dX7_reads_264 : decode cX7_reads 264 = .ok (.iload 7, 2) := dk_21 7 (dk_at dksX7_reads_11 1 rfl rfl)
theorem dX7_reads_266 : decode cX7_reads 266 = .ok (.bipush 40, 2) := dk_16 40 (dk_at dksX7_reads_11 3 rfl rfl)
theorem dX7_reads_268 : decode cX7_reads 268 = .ok (.if_icmp .ne 7, 3) := dk_160 0 7 (dk_at dksX7_reads_11 5 rfl rfl)
theorem dX7_reads_271 : decode cX7_reads 271 = .ok (.iconst 0, 1) := dk_3 (dk_at dksX7_reads_11 8 rfl rfl)
theorem dX7_reads_272 : decode cX7_reads 272 = .ok (.goto 15, 3) := dk_167 0 15 (dk_at dksX7_reads_11 9 rfl rfl)
theorem dX7_reads_275 : decode cX7_reads 275 = .ok (.iload 7, 2) := dk_21 7 (dk_at dksX7_reads_11 12 rfl rfl)
theorem dX7_reads_277 : decode cX7_reads 277 = .ok (.bipush 123, 2) := dk_16 123 (dk_at dksX7_reads_11 14 rfl rfl)
theorem dX7_reads_279 : decode cX7_reads 279 = .ok (.if_icmp .ne 7, 3) := dk_160 0 7 (dk_at dksX7_reads_11 16 rfl rfl)
theorem dX7_reads_282 : decode cX7_reads 282 = .ok (.iconst 1, 1) := dk_4 (dk_at dksX7_reads_11 19 rfl rfl)
theorem dX7_reads_283 : decode cX7_reads 283 = .ok (.goto 4, 3) := dk_167 0 4 (dk_at dksX7_reads_11 20 rfl rfl)
theorem dX7_reads_286 : decode cX7_reads 286 = .ok (.iconst 2, 1) := dk_5 (dk_at dksX7_reads_11 23 rfl rfl)
theorem dX7_reads_287 : decode cX7_reads 287 = .ok (.invokevirtual 108, 3) := dk_182 0 108 (dk_at dksX7_reads_12 0 rfl rfl)
theorem dX7_reads_290 : decode cX7_reads 290 = .ok (.aload_n 0, 1) := dk_42 (dk_at dksX7_reads_12 3 rfl rfl)
theorem dX7_reads_291 : decode cX7_reads 291 = .ok (.getfield 28, 3) := dk_180 0 28 (dk_at dksX7_reads_12 4 rfl rfl)
theorem dX7_reads_294 : decode cX7_reads 294 = .ok (.iload_n 2, 1) := dk_28 (dk_at dksX7_reads_12 7 rfl rfl)
theorem dX7_reads_295 : decode cX7_reads 295 = .ok (.iload 5, 2) := dk_21 5 (dk_at dksX7_reads_12 8 rfl rfl)
theorem dX7_reads_297 : decode cX7_reads 297 = .ok (.iastore, 1) := dk_79 (dk_at dksX7_reads_12 10 rfl rfl)
theorem dX7_reads_298 : decode cX7_reads 298 = .ok (.aload_n 0, 1) := dk_42 (dk_at dksX7_reads_12 11 rfl rfl)
theorem dX7_reads_299 : decode cX7_reads 299 = .ok (.getfield 31, 3) := dk_180 0 31 (dk_at dksX7_reads_12 12 rfl rfl)
theorem dX7_reads_302 : decode cX7_reads 302 = .ok (.iload_n 2, 1) := dk_28 (dk_at dksX7_reads_12 15 rfl rfl)
theorem dX7_reads_303 : decode cX7_reads 303 = .ok (.iload 7, 2) := dk_21 7 (dk_at dksX7_reads_12 16 rfl rfl)
theorem dX7_reads_305 : decode cX7_reads 305 = .ok (.bipush 40, 2) := dk_16 40 (dk_at dksX7_reads_12 18 rfl rfl)
theorem dX7_reads_307 : decode cX7_reads 307 = .ok (.if_icmp .ne 8, 3) := dk_160 0 8 (dk_at dksX7_reads_12 20 rfl rfl)
theorem dX7_reads_310 : decode cX7_reads 310 = .ok (.bipush 41, 2) := dk_16 41 (dk_at dksX7_reads_13 0 rfl rfl)
theorem dX7_reads_312 : decode cX7_reads 312 = .ok (.goto 17, 3) := dk_167 0 17 (dk_at dksX7_reads_13 2 rfl rfl)
theorem dX7_reads_315 : decode cX7_reads 315 = .ok (.iload 7, 2) := dk_21 7 (dk_at dksX7_reads_13 5 rfl rfl)
theorem dX7_reads_317 : decode cX7_reads 317 = .ok (.bipush 123, 2) := dk_16 123 (dk_at dksX7_reads_13 7 rfl rfl)
theorem dX7_reads_319 : decode cX7_reads 319 = .ok (.if_icmp .ne 8, 3) := dk_160 0 8 (dk_at dksX7_reads_13 9 rfl rfl)
theorem dX7_reads_322 : decode cX7_reads 322 = .ok (.bipush 125, 2) := dk_16 125 (dk_at dksX7_reads_13 12 rfl rfl)
theorem dX7_reads_324 : decode cX7_reads 324 = .ok (.goto 5, 3) := dk_167 0 5 (dk_at dksX7_reads_13 14 rfl rfl)
theorem dX7_reads_327 : decode cX7_reads 327 = .ok (.bipush 62, 2) := dk_16 62 (dk_at dksX7_reads_13 17 rfl rfl)
theorem dX7_reads_329 : decode cX7_reads 329 = .ok (.iastore, 1) := dk_79 (dk_at dksX7_reads_13 19 rfl rfl)
theorem dX7_reads_330 : decode cX7_reads 330 = .ok (.iinc 2 1, 3) := dk_132 2 1 (dk_at dksX7_reads_13 20 rfl rfl)
theorem dX7_reads_333 : decode cX7_reads 333 = .ok (.iinc 3 1, 3) := dk_132 3 1 (dk_at dksX7_reads_14 0 rfl rfl)
theorem dX7_reads_336 : decode cX7_reads 336 = .ok (.iload 7, 2) := dk_21 7 (dk_at dksX7_reads_14 3 rfl rfl)
theorem dX7_reads_338 : decode cX7_reads 338 = .ok (.bipush 40, 2) := dk_16 40 (dk_at dksX7_reads_14 5 rfl rfl)
theorem dX7_reads_340 : decode cX7_reads 340 = .ok (.if_icmp .eq (-325), 3) := dk_159 254 187 (dk_at dksX7_reads_14 7 rfl rfl)
theorem dX7_reads_343 : decode cX7_reads 343 = .ok (.aload_n 0, 1) := dk_42 (dk_at dksX7_reads_14 10 rfl rfl)
theorem dX7_reads_344 : decode cX7_reads 344 = .ok (.iload_n 3, 1) := dk_29 (dk_at dksX7_reads_14 11 rfl rfl)
theorem dX7_reads_345 : decode cX7_reads 345 = .ok (.iload_n 1, 1) := dk_27 (dk_at dksX7_reads_14 12 rfl rfl)
theorem dX7_reads_346 : decode cX7_reads 346 = .ok (.invokevirtual 138, 3) := dk_182 0 138 (dk_at dksX7_reads_14 13 rfl rfl)
theorem dX7_reads_349 : decode cX7_reads 349 = .ok (.aload_n 0, 1) := dk_42 (dk_at dksX7_reads_14 16 rfl rfl)
theorem dX7_reads_350 : decode cX7_reads 350 = .ok (.getfield 31, 3) := dk_180 0 31 (dk_at dksX7_reads_14 17 rfl rfl)
theorem dX7_reads_353 : decode cX7_reads 353 = .ok (.iload_n 2, 1) := dk_28 (dk_at dksX7_reads_14 20 rfl rfl)
theorem dX7_reads_354 : decode cX7_reads 354 = .ok (.iconst 1, 1) := dk_4 (dk_at dksX7_reads_14 21 rfl rfl)
theorem dX7_reads_355 : decode cX7_reads 355 = .ok (.isub, 1) := dk_100 (dk_at dksX7_reads_14 22 rfl rfl)
theorem dX7_reads_356 : decode cX7_reads 356 = .ok (.iaload, 1) := dk_46 (dk_at dksX7_reads_14 23 rfl rfl)
theorem dX7_reads_357 : decode cX7_reads 357 = .ok (.if_icmp .eq 6, 3) := dk_159 0 6 (dk_at dksX7_reads_15 0 rfl rfl)
theorem dX7_reads_360 : decode cX7_reads 360 = .ok (.goto (-345), 3) := dk_167 254 167 (dk_at dksX7_reads_15 3 rfl rfl)
theorem dX7_reads_363 : decode cX7_reads 363 = .ok (.iinc 2 (-1), 3) := dk_132 2 255 (dk_at dksX7_reads_15 6 rfl rfl)
theorem dX7_reads_366 : decode cX7_reads 366 = .ok (.iinc 3 1, 3) := dk_132 3 1 (dk_at dksX7_reads_15 9 rfl rfl)
theorem dX7_reads_369 : decode cX7_reads 369 = .ok (.goto 23, 3) := dk_167 0 23 (dk_at dksX7_reads_15 12 rfl rfl)
theorem dX7_reads_372 : decode cX7_reads 372 = .ok (.iload 7, 2) := dk_21 7 (dk_at dksX7_reads_15 15 rfl rfl)
theorem dX7_reads_374 : decode cX7_reads 374 = .ok (.bipush 33, 2) := dk_16 33 (dk_at dksX7_reads_15 17 rfl rfl)
theorem dX7_reads_376 : decode cX7_reads 376 = .ok (.if_icmp .ne 16, 3) := dk_160 0 16 (dk_at dksX7_reads_15 19 rfl rfl)
theorem dX7_reads_379 : decode cX7_reads 379 = .ok (.aload_n 0, 1) := dk_42 (dk_at dksX7_reads_15 22 rfl rfl)
theorem dX7_reads_380 : decode cX7_reads 380 = .ok (.bipush 8, 2) := dk_16 8 (dk_at dksX7_reads_16 0 rfl rfl)
theorem dX7_reads_382 : decode cX7_reads 382 = .ok (.iload 5, 2) := dk_21 5 (dk_at dksX7_reads_16 2 rfl rfl)
theorem dX7_reads_384 : decode cX7_reads 384 = .ok (.iconst 1, 1) := dk_4 (dk_at dksX7_reads_16 4 rfl rfl)
theorem dX7_reads_385 : decode cX7_reads 385 = .ok (.iconst 3, 1) := dk_6 (dk_at dksX7_reads_16 5 rfl rfl)
theorem dX7_reads_386 : decode cX7_reads 386 = .ok (.invokevirtual 108, 3) := dk_182 0 108 (dk_at dksX7_reads_16 6 rfl rfl)
theorem dX7_reads_389 : decode cX7_reads 389 = .ok (.iinc 3 1, 3) := dk_132 3 1 (dk_at dksX7_reads_16 9 rfl rfl)
theorem dX7_reads_392 : decode cX7_reads 392 = .ok (.iload_n 2, 1) := dk_28 (dk_at dksX7_reads_16 12 rfl rfl)
theorem dX7_reads_393 : decode cX7_reads 393 = .ok (.ifCond .le 29, 3) := dk_158 0 29 (dk_at dksX7_reads_16 13 rfl rfl)
theorem dX7_reads_396 : decode cX7_reads 396 = .ok (.aload_n 0, 1) := dk_42 (dk_at dksX7_reads_16 16 rfl rfl)
theorem dX7_reads_397 : decode cX7_reads 397 = .ok (.iload_n 3, 1) := dk_29 (dk_at dksX7_reads_16 17 rfl rfl)
theorem dX7_reads_398 : decode cX7_reads 398 = .ok (.iload_n 1, 1) := dk_27 (dk_at dksX7_reads_16 18 rfl rfl)
theorem dX7_reads_399 : decode cX7_reads 399 = .ok (.invokevirtual 138, 3) := dk_182 0 138 (dk_at dksX7_reads_16 19 rfl rfl)
theorem dX7_reads_402 : decode cX7_reads 402 = .ok (.aload_n 0, 1) := dk_42 (dk_at dksX7_reads_16 22 rfl rfl)
theorem dX7_reads_403 : decode cX7_reads 403 = .ok (.getfield 31, 3) := dk_180 0 31 (dk_at dksX7_reads_17 0 rfl rfl)
theorem dX7_reads_406 : decode cX7_reads 406 = .ok (.iload_n 2, 1) := dk_28 (dk_at dksX7_reads_17 3 rfl rfl)
theorem dX7_reads_407 : decode cX7_reads 407 = .ok (.iconst 1, 1) := dk_4 (dk_at dksX7_reads_17 4 rfl rfl)
theorem dX7_reads_408 : decode cX7_reads 408 = .ok (.isub, 1) := dk_100 (dk_at dksX7_reads_17 5 rfl rfl)
theorem dX7_reads_409 : decode cX7_reads 409 = .ok (.iaload, 1) := dk_46 (dk_at dksX7_reads_17 6 rfl rfl)
theorem dX7_reads_410 : decode cX7_reads 410 = .ok (.if_icmp .ne 12, 3) := dk_160 0 12 (dk_at dksX7_reads_17 7 rfl rfl)
theorem dX7_reads_413 : decode cX7_reads 413 = .ok (.iinc 2 (-1), 3) := dk_132 2 255 (dk_at dksX7_reads_17 10 rfl rfl)
theorem dX7_reads_416 : decode cX7_reads 416 = .ok (.iinc 3 1, 3) := dk_132 3 1 (dk_at dksX7_reads_17 13 rfl rfl)
theorem dX7_reads_419 : decode cX7_reads 419 = .ok (.goto (-27), 3) := dk_167 255 229 (dk_at dksX7_reads_17 16 rfl rfl)
theorem dX7_reads_422 : decode cX7_reads 422 = .ok (.iload_n 2, 1) := dk_28 (dk_at dksX7_reads_17 19 rfl rfl)
theorem dX7_reads_423 : decode cX7_reads 423 = .ok (.ifCond .le 18, 3) := dk_158 0 18 (dk_at dksX7_reads_17 20 rfl rfl)
theorem dX7_reads_426 : decode cX7_reads 426 = .ok (.aload_n 0, 1) := dk_42 (dk_at dksX7_reads_17 23 rfl rfl)
theorem dX7_reads_427 : decode cX7_reads 427 = .ok (.iload_n 3, 1) := dk_29 (dk_at dksX7_reads_18 0 rfl rfl)
theorem dX7_reads_428 : decode cX7_reads 428 = .ok (.iload_n 1, 1) := dk_27 (dk_at dksX7_reads_18 1 rfl rfl)
theorem dX7_reads_429 : decode cX7_reads 429 = .ok (.invokevirtual 138, 3) := dk_182 0 138 (dk_at dksX7_reads_18 2 rfl rfl)
theorem dX7_reads_432 : decode cX7_reads 432 = .ok (.bipush 44, 2) := dk_16 44 (dk_at dksX7_reads_18 5 rfl rfl)
theorem dX7_reads_434 : decode cX7_reads 434 = .ok (.if_icmp .ne 7, 3) := dk_160 0 7 (dk_at dksX7_reads_18 7 rfl rfl)
theorem dX7_reads_437 : decode cX7_reads 437 = .ok (.iconst 1, 1) := dk_4 (dk_at dksX7_reads_18 10 rfl rfl)
theorem dX7_reads_438 : decode cX7_reads 438 = .ok (.goto 4, 3) := dk_167 0 4 (dk_at dksX7_reads_18 11 rfl rfl)
theorem dX7_reads_441 : decode cX7_reads 441 = .ok (.iconst 0, 1) := dk_3 (dk_at dksX7_reads_18 14 rfl rfl)
theorem dX7_reads_442 : decode cX7_reads 442 = .ok (.istore 4, 2) := dk_54 4 (dk_at dksX7_reads_18 15 rfl rfl)
theorem dX7_reads_444 : decode cX7_reads 444 = .ok (.iload 4, 2) := dk_21 4 (dk_at dksX7_reads_18 17 rfl rfl)
theorem dX7_reads_446 : decode cX7_reads 446 = .ok (.ifCond .eq 6, 3) := dk_153 0 6 (dk_at dksX7_reads_18 19 rfl rfl)
theorem dX7_reads_449 : decode cX7_reads 449 = .ok (.iinc 3 1, 3) := dk_132 3 1 (dk_at dksX7_reads_19 0 rfl rfl)
theorem dX7_reads_452 : decode cX7_reads 452 = .ok (.goto (-437), 3) := dk_167 254 75 (dk_at dksX7_reads_19 3 rfl rfl)
theorem dX7_reads_455 : decode cX7_reads 455 = .ok (.iload_n 2, 1) := dk_28 (dk_at dksX7_reads_19 6 rfl rfl)
theorem dX7_reads_456 : decode cX7_reads 456 = .ok (.ifCond .ne 12, 3) := dk_154 0 12 (dk_at dksX7_reads_19 7 rfl rfl)
theorem dX7_reads_459 : decode cX7_reads 459 = .ok (.iload_n 3, 1) := dk_29 (dk_at dksX7_reads_19 10 rfl rfl)
theorem dX7_reads_460 : decode cX7_reads 460 = .ok (.iload_n 1, 1) := dk_27 (dk_at dksX7_reads_19 11 rfl rfl)
theorem dX7_reads_461 : decode cX7_reads 461 = .ok (.if_icmp .ne 7, 3) := dk_160 0 7 (dk_at dksX7_reads_19 12 rfl rfl)
theorem dX7_reads_464 : decode cX7_reads 464 = .ok (.iconst (-1), 1) := dk_2 (dk_at dksX7_reads_19 15 rfl rfl)
theorem dX7_reads_465 : decode cX7_reads 465 = .ok (.goto 4, 3) := dk_167 0 4 (dk_at dksX7_reads_19 16 rfl rfl)
theorem dX7_reads_468 : decode cX7_reads 468 = .ok (.iload_n 3, 1) := dk_29 (dk_at dksX7_reads_19 19 rfl rfl)
theorem dX7_reads_469 : decode cX7_reads 469 = .ok (.ireturn, 1) := dk_172 (dk_at dksX7_reads_19 20 rfl rfl)
abbrev cX7_at : ByteArray := prog_17_method_23_code
def yX7_at : MethodName := ⟨RX7, "at", "(II)I"⟩
def dkwX7_at_0 : List UInt8 := [27, 28, 162, 0, 12, 42, 180, 0, 16, 27, 46, 167, 0, 4, 2, 172]
abbrev dktX7_at_0 : List UInt8 := dkwX7_at_0 ++ []
theorem dksX7_at_0 : cX7_at.data.toList.drop 0 = dktX7_at_0 := by decide +kernel
theorem dX7_at_0 : decode cX7_at 0 = .ok (.iload_n 1, 1) := dk_27 (dk_at dksX7_at_0 0 rfl rfl)
theorem dX7_at_1 : decode cX7_at 1 = .ok (.iload_n 2, 1) := dk_28 (dk_at dksX7_at_0 1 rfl rfl)
theorem dX7_at_2 : decode cX7_at 2 = .ok (.if_icmp .ge 12, 3) := dk_162 0 12 (dk_at dksX7_at_0 2 rfl rfl)
theorem dX7_at_5 : decode cX7_at 5 = .ok (.aload_n 0, 1) := dk_42 (dk_at dksX7_at_0 5 rfl rfl)
theorem dX7_at_6 : decode cX7_at 6 = .ok (.getfield 16, 3) := dk_180 0 16 (dk_at dksX7_at_0 6 rfl rfl)
theorem dX7_at_9 : decode cX7_at 9 = .ok (.iload_n 1, 1) := dk_27 (dk_at dksX7_at_0 9 rfl rfl)
theorem dX7_at_10 : decode cX7_at 10 = .ok (.iaload, 1) := dk_46 (dk_at dksX7_at_0 10 rfl rfl)
theorem dX7_at_11 : decode cX7_at 11 = .ok (.goto 4, 3) := dk_167 0 4 (dk_at dksX7_at_0 11 rfl rfl)
theorem dX7_at_14 : decode cX7_at 14 = .ok (.iconst (-1), 1) := dk_2 (dk_at dksX7_at_0 14 rfl rfl)
theorem dX7_at_15 : decode cX7_at 15 = .ok (.ireturn, 1) := dk_172 (dk_at dksX7_at_0 15 rfl rfl)
abbrev cX7_isLetter : ByteArray := prog_17_method_21_code
def yX7_isLetter : MethodName := ⟨RX7, "isLetter", "(I)Z"⟩
def dkwX7_isLetter_0 : List UInt8 := [26, 16, 97, 161, 0, 13, 26, 16, 122, 163, 0, 7, 4, 167, 0, 4, 3, 172]
abbrev dktX7_isLetter_0 : List UInt8 := dkwX7_isLetter_0 ++ []
theorem dksX7_isLetter_0 : cX7_isLetter.data.toList.drop 0 = dktX7_isLetter_0 := by decide +kernel
theorem dX7_isLetter_0 : decode cX7_isLetter 0 = .ok (.iload_n 0, 1) := dk_26 (dk_at dksX7_isLetter_0 0 rfl rfl)
theorem dX7_isLetter_1 : decode cX7_isLetter 1 = .ok (.bipush 97, 2) := dk_16 97 (dk_at dksX7_isLetter_0 1 rfl rfl)
theorem dX7_isLetter_3 : decode cX7_isLetter 3 = .ok (.if_icmp .lt 13, 3) := dk_161 0 13 (dk_at dksX7_isLetter_0 3 rfl rfl)
theorem dX7_isLetter_6 : decode cX7_isLetter 6 = .ok (.iload_n 0, 1) := dk_26 (dk_at dksX7_isLetter_0 6 rfl rfl)
theorem dX7_isLetter_7 : decode cX7_isLetter 7 = .ok (.bipush 122, 2) := dk_16 122 (dk_at dksX7_isLetter_0 7 rfl rfl)
theorem dX7_isLetter_9 : decode cX7_isLetter 9 = .ok (.if_icmp .gt 7, 3) := dk_163 0 7 (dk_at dksX7_isLetter_0 9 rfl rfl)
theorem dX7_isLetter_12 : decode cX7_isLetter 12 = .ok (.iconst 1, 1) := dk_4 (dk_at dksX7_isLetter_0 12 rfl rfl)
theorem dX7_isLetter_13 : decode cX7_isLetter 13 = .ok (.goto 4, 3) := dk_167 0 4 (dk_at dksX7_isLetter_0 13 rfl rfl)
theorem dX7_isLetter_16 : decode cX7_isLetter 16 = .ok (.iconst 0, 1) := dk_3 (dk_at dksX7_isLetter_0 16 rfl rfl)
theorem dX7_isLetter_17 : decode cX7_isLetter 17 = .ok (.ireturn, 1) := dk_172 (dk_at dksX7_isLetter_0 17 rfl rfl)
abbrev cX7_set : ByteArray := prog_17_method_8_code
def yX7_set : MethodName := ⟨RX7, "set", "(IIII)V"⟩
def dkwX7_set_0 : List UInt8 := [42, 180, 0, 7, 16, 19, 16, 30, 27, 104, 28, 96, 104, 29, 96, 21, 4, 79, 177]
abbrev dktX7_set_0 : List UInt8 := dkwX7_set_0 ++ []
theorem dksX7_set_0 : cX7_set.data.toList.drop 0 = dktX7_set_0 := by decide +kernel
theorem dX7_set_0 : decode cX7_set 0 = .ok (.aload_n 0, 1) := dk_42 (dk_at dksX7_set_0 0 rfl rfl)
theorem dX7_set_1 : decode cX7_set 1 = .ok (.getfield 7, 3) := dk_180 0 7 (dk_at dksX7_set_0 1 rfl rfl)
theorem dX7_set_4 : decode cX7_set 4 = .ok (.bipush 19, 2) := dk_16 19 (dk_at dksX7_set_0 4 rfl rfl)
theorem dX7_set_6 : decode cX7_set 6 = .ok (.bipush 30, 2) := dk_16 30 (dk_at dksX7_set_0 6 rfl rfl)
theorem dX7_set_8 : decode cX7_set 8 = .ok (.iload_n 1, 1) := dk_27 (dk_at dksX7_set_0 8 rfl rfl)
theorem dX7_set_9 : decode cX7_set 9 = .ok (.imul, 1) := dk_104 (dk_at dksX7_set_0 9 rfl rfl)
theorem dX7_set_10 : decode cX7_set 10 = .ok (.iload_n 2, 1) := dk_28 (dk_at dksX7_set_0 10 rfl rfl)
theorem dX7_set_11 : decode cX7_set 11 = .ok (.iadd, 1) := dk_96 (dk_at dksX7_set_0 11 rfl rfl)
theorem dX7_set_12 : decode cX7_set 12 = .ok (.imul, 1) := dk_104 (dk_at dksX7_set_0 12 rfl rfl)
theorem dX7_set_13 : decode cX7_set 13 = .ok (.iload_n 3, 1) := dk_29 (dk_at dksX7_set_0 13 rfl rfl)
theorem dX7_set_14 : decode cX7_set 14 = .ok (.iadd, 1) := dk_96 (dk_at dksX7_set_0 14 rfl rfl)
theorem dX7_set_15 : decode cX7_set 15 = .ok (.iload 4, 2) := dk_21 4 (dk_at dksX7_set_0 15 rfl rfl)
theorem dX7_set_17 : decode cX7_set 17 = .ok (.iastore, 1) := dk_79 (dk_at dksX7_set_0 17 rfl rfl)
theorem dX7_set_18 : decode cX7_set 18 = .ok (.return_, 1) := dk_177 (dk_at dksX7_set_0 18 rfl rfl)
abbrev cX7_signs : ByteArray := prog_17_method_24_code
def yX7_signs : MethodName := ⟨RX7, "signs", "(IIIII)I"⟩
def dkwX7_signs_4 : List UInt8 := [100, 182, 0, 108, 21, 6, 28, 160, 0, 10, 2, 21, 6, 100, 167, 0, 5, 21, 6, 172]
abbrev dktX7_signs_4 : List UInt8 := dkwX7_signs_4 ++ []
def dkwX7_signs_3 : List UInt8 := [180, 0, 16, 21, 6, 46, 182, 0, 108, 132, 6, 1, 167, 255, 181, 42, 16, 8, 27, 21, 4, 21, 6, 28]
abbrev dktX7_signs_3 : List UInt8 := dkwX7_signs_3 ++ dktX7_signs_4
def dkwX7_signs_2 : List UInt8 := [160, 0, 8, 2, 21, 6, 100, 172, 42, 16, 8, 27, 21, 4, 4, 96, 21, 6, 96, 28, 100, 42]
abbrev dktX7_signs_2 : List UInt8 := dkwX7_signs_2 ++ dktX7_signs_3
def dkwX7_signs_1 : List UInt8 := [167, 0, 16, 42, 21, 6, 29, 182, 0, 138, 184, 0, 141, 153, 0, 46, 21, 6, 28, 100, 21, 5]
abbrev dktX7_signs_1 : List UInt8 := dkwX7_signs_1 ++ dktX7_signs_2
def dkwX7_signs_0 : List UInt8 := [28, 54, 6, 21, 4, 6, 160, 0, 19, 42, 21, 6, 29, 182, 0, 138, 184, 0, 135, 153, 0, 62]
abbrev dktX7_signs_0 : List UInt8 := dkwX7_signs_0 ++ dktX7_signs_1
theorem dksX7_signs_0 : cX7_signs.data.toList.drop 0 = dktX7_signs_0 := by decide +kernel
theorem dksX7_signs_1 : cX7_signs.data.toList.drop 22 = dktX7_signs_1 := dk_seg dksX7_signs_0 22 rfl rfl
theorem dksX7_signs_2 : cX7_signs.data.toList.drop 44 = dktX7_signs_2 := dk_seg dksX7_signs_1 22 rfl rfl
theorem dksX7_signs_3 : cX7_signs.data.toList.drop 66 = dktX7_signs_3 := dk_seg dksX7_signs_2 22 rfl rfl
theorem dksX7_signs_4 : cX7_signs.data.toList.drop 90 = dktX7_signs_4 := dk_seg dksX7_signs_3 24 rfl rfl
theorem dX7_signs_0 : decode cX7_signs 0 = .ok (.iload_n 2, 1) := dk_28 (dk_at dksX7_signs_0 0 rfl rfl)
theorem dX7_signs_1 : decode cX7_signs 1 = .ok (.istore 6, 2) := dk_54 6 (dk_at dksX7_signs_0 1 rfl rfl)
theorem dX7_signs_3 : decode cX7_signs 3 = .ok (.iload 4, 2) := dk_21 4 (dk_at dksX7_signs_0 3 rfl rfl)
theorem dX7_signs_5 : decode cX7_signs 5 = .ok (.iconst 3, 1) := dk_6 (dk_at dksX7_signs_0 5 rfl rfl)
theorem dX7_signs_6 : decode cX7_signs 6 = .ok (.if_icmp .ne 19, 3) := dk_160 0 19 (dk_at dksX7_signs_0 6 rfl rfl)
theorem dX7_signs_9 : decode cX7_signs 9 = .ok (.aload_n 0, 1) := dk_42 (dk_at dksX7_signs_0 9 rfl rfl)
theorem dX7_signs_10 : decode cX7_signs 10 = .ok (.iload 6, 2) := dk_21 6 (dk_at dksX7_signs_0 10 rfl rfl)
theorem dX7_signs_12 : decode cX7_signs 12 = .ok (.iload_n 3, 1) := dk_29 (dk_at dksX7_signs_0 12 rfl rfl)
theorem dX7_signs_13 : decode cX7_signs 13 = .ok (.invokevirtual 138, 3) := dk_182 0 138 (dk_at dksX7_signs_0 13 rfl rfl)
theorem dX7_signs_16 : decode cX7_signs 16 = .ok (.invokestatic 135, 3) := dk_184 0 135 (dk_at dksX7_signs_0 16 rfl rfl)
theorem dX7_signs_19 : decode cX7_signs 19 = .ok (.ifCond .eq 62, 3) := dk_153 0 62 (dk_at dksX7_signs_0 19 rfl rfl)
theorem dX7_signs_22 : decode cX7_signs 22 = .ok (.goto 16, 3) := dk_167 0 16 (dk_at dksX7_signs_1 0 rfl rfl)
theorem dX7_signs_25 : decode cX7_signs 25 = .ok (.aload_n 0, 1) := dk_42 (dk_at dksX7_signs_1 3 rfl rfl)
theorem dX7_signs_26 : decode cX7_signs 26 = .ok (.iload 6, 2) := dk_21 6 (dk_at dksX7_signs_1 4 rfl rfl)
theorem dX7_signs_28 : decode cX7_signs 28 = .ok (.iload_n 3, 1) := dk_29 (dk_at dksX7_signs_1 6 rfl rfl)
theorem dX7_signs_29 : decode cX7_signs 29 = .ok (.invokevirtual 138, 3) := dk_182 0 138 (dk_at dksX7_signs_1 7 rfl rfl)
theorem dX7_signs_32 : decode cX7_signs 32 = .ok (.invokestatic 141, 3) := dk_184 0 141 (dk_at dksX7_signs_1 10 rfl rfl)
theorem dX7_signs_35 : decode cX7_signs 35 = .ok (.ifCond .eq 46, 3) := dk_153 0 46 (dk_at dksX7_signs_1 13 rfl rfl)
theorem dX7_signs_38 : decode cX7_signs 38 = .ok (.iload 6, 2) := dk_21 6 (dk_at dksX7_signs_1 16 rfl rfl)
theorem dX7_signs_40 : decode cX7_signs 40 = .ok (.iload_n 2, 1) := dk_28 (dk_at dksX7_signs_1 18 rfl rfl)
theorem dX7_signs_41 : decode cX7_signs 41 = .ok (.isub, 1) := dk_100 (dk_at dksX7_signs_1 19 rfl rfl)
theorem dX7_signs_42 : decode cX7_signs 42 = .ok (.iload 5, 2) := dk_21 5 (dk_at dksX7_signs_1 20 rfl rfl)
theorem dX7_signs_44 : decode cX7_signs 44 = .ok (.if_icmp .ne 8, 3) := dk_160 0 8 (dk_at dksX7_signs_2 0 rfl rfl)
theorem dX7_signs_47 : decode cX7_signs 47 = .ok (.iconst (-1), 1) := dk_2 (dk_at dksX7_signs_2 3 rfl rfl)
theorem dX7_signs_48 : decode cX7_signs 48 = .ok (.iload 6, 2) := dk_21 6 (dk_at dksX7_signs_2 4 rfl rfl)
theorem dX7_signs_50 : decode cX7_signs 50 = .ok (.isub, 1) := dk_100 (dk_at dksX7_signs_2 6 rfl rfl)
theorem dX7_signs_51 : decode cX7_signs 51 = .ok (.ireturn, 1) := dk_172 (dk_at dksX7_signs_2 7 rfl rfl)
theorem dX7_signs_52 : decode cX7_signs 52 = .ok (.aload_n 0, 1) := dk_42 (dk_at dksX7_signs_2 8 rfl rfl)
theorem dX7_signs_53 : decode cX7_signs 53 = .ok (.bipush 8, 2) := dk_16 8 (dk_at dksX7_signs_2 9 rfl rfl)
theorem dX7_signs_55 : decode cX7_signs 55 = .ok (.iload_n 1, 1) := dk_27 (dk_at dksX7_signs_2 11 rfl rfl)
theorem dX7_signs_56 : decode cX7_signs 56 = .ok (.iload 4, 2) := dk_21 4 (dk_at dksX7_signs_2 12 rfl rfl)
theorem dX7_signs_58 : decode cX7_signs 58 = .ok (.iconst 1, 1) := dk_4 (dk_at dksX7_signs_2 14 rfl rfl)
theorem dX7_signs_59 : decode cX7_signs 59 = .ok (.iadd, 1) := dk_96 (dk_at dksX7_signs_2 15 rfl rfl)
theorem dX7_signs_60 : decode cX7_signs 60 = .ok (.iload 6, 2) := dk_21 6 (dk_at dksX7_signs_2 16 rfl rfl)
theorem dX7_signs_62 : decode cX7_signs 62 = .ok (.iadd, 1) := dk_96 (dk_at dksX7_signs_2 18 rfl rfl)
theorem dX7_signs_63 : decode cX7_signs 63 = .ok (.iload_n 2, 1) := dk_28 (dk_at dksX7_signs_2 19 rfl rfl)
theorem dX7_signs_64 : decode cX7_signs 64 = .ok (.isub, 1) := dk_100 (dk_at dksX7_signs_2 20 rfl rfl)
theorem dX7_signs_65 : decode cX7_signs 65 = .ok (.aload_n 0, 1) := dk_42 (dk_at dksX7_signs_2 21 rfl rfl)
theorem dX7_signs_66 : decode cX7_signs 66 = .ok (.getfield 16, 3) := dk_180 0 16 (dk_at dksX7_signs_3 0 rfl rfl)
theorem dX7_signs_69 : decode cX7_signs 69 = .ok (.iload 6, 2) := dk_21 6 (dk_at dksX7_signs_3 3 rfl rfl)
theorem dX7_signs_71 : decode cX7_signs 71 = .ok (.iaload, 1) := dk_46 (dk_at dksX7_signs_3 5 rfl rfl)
theorem dX7_signs_72 : decode cX7_signs 72 = .ok (.invokevirtual 108, 3) := dk_182 0 108 (dk_at dksX7_signs_3 6 rfl rfl)
theorem dX7_signs_75 : decode cX7_signs 75 = .ok (.iinc 6 1, 3) := dk_132 6 1 (dk_at dksX7_signs_3 9 rfl rfl)
theorem dX7_signs_78 : decode cX7_signs 78 = .ok (.goto (-75), 3) := dk_167 255 181 (dk_at dksX7_signs_3 12 rfl rfl)
theorem dX7_signs_81 : decode cX7_signs 81 = .ok (.aload_n 0, 1) := dk_42 (dk_at dksX7_signs_3 15 rfl rfl)
theorem dX7_signs_82 : decode cX7_signs 82 = .ok (.bipush 8, 2) := dk_16 8 (dk_at dksX7_signs_3 16 rfl rfl)
theorem dX7_signs_84 : decode cX7_signs 84 = .ok (.iload_n 1, 1) := dk_27 (dk_at dksX7_signs_3 18 rfl rfl)
theorem dX7_signs_85 : decode cX7_signs 85 = .ok (.iload 4, 2) := dk_21 4 (dk_at dksX7_signs_3 19 rfl rfl)
theorem dX7_signs_87 : decode cX7_signs 87 = .ok (.iload 6, 2) := dk_21 6 (dk_at dksX7_signs_3 21 rfl rfl)
theorem dX7_signs_89 : decode cX7_signs 89 = .ok (.iload_n 2, 1) := dk_28 (dk_at dksX7_signs_3 23 rfl rfl)
theorem dX7_signs_90 : decode cX7_signs 90 = .ok (.isub, 1) := dk_100 (dk_at dksX7_signs_4 0 rfl rfl)
theorem dX7_signs_91 : decode cX7_signs 91 = .ok (.invokevirtual 108, 3) := dk_182 0 108 (dk_at dksX7_signs_4 1 rfl rfl)
theorem dX7_signs_94 : decode cX7_signs 94 = .ok (.iload 6, 2) := dk_21 6 (dk_at dksX7_signs_4 4 rfl rfl)
theorem dX7_signs_96 : decode cX7_signs 96 = .ok (.iload_n 2, 1) := dk_28 (dk_at dksX7_signs_4 6 rfl rfl)
theorem dX7_signs_97 : decode cX7_signs 97 = .ok (.if_icmp .ne 10, 3) := dk_160 0 10 (dk_at dksX7_signs_4 7 rfl rfl)
theorem dX7_signs_100 : decode cX7_signs 100 = .ok (.iconst (-1), 1) := dk_2 (dk_at dksX7_signs_4 10 rfl rfl)
theorem dX7_signs_101 : decode cX7_signs 101 = .ok (.iload 6, 2) := dk_21 6 (dk_at dksX7_signs_4 11 rfl rfl)
theorem dX7_signs_103 : decode cX7_signs 103 = .ok (.isub, 1) := dk_100 (dk_at dksX7_signs_4 13 rfl rfl)
theorem dX7_signs_104 : decode cX7_signs 104 = .ok (.goto 5, 3) := dk_167 0 5 (dk_at dksX7_signs_4 14 rfl rfl)
theorem dX7_signs_107 : decode cX7_signs 107 = .ok (.iload 6, 2) := dk_21 6 (dk_at dksX7_signs_4 17 rfl rfl)
theorem dX7_signs_109 : decode cX7_signs 109 = .ok (.ireturn, 1) := dk_172 (dk_at dksX7_signs_4 19 rfl rfl)
abbrev cX7_isSign : ByteArray := prog_17_method_22_code
def yX7_isSign : MethodName := ⟨RX7, "isSign", "(I)Z"⟩
def dkwX7_isSign_1 : List UInt8 := [172]
abbrev dktX7_isSign_1 : List UInt8 := dkwX7_isSign_1 ++ []
def dkwX7_isSign_0 : List UInt8 := [26, 184, 0, 135, 154, 0, 15, 26, 16, 48, 161, 0, 13, 26, 16, 57, 163, 0, 7, 4, 167, 0, 4, 3]
abbrev dktX7_isSign_0 : List UInt8 := dkwX7_isSign_0 ++ dktX7_isSign_1
theorem dksX7_isSign_0 : cX7_isSign.data.toList.drop 0 = dktX7_isSign_0 := by decide +kernel
theorem dksX7_isSign_1 : cX7_isSign.data.toList.drop 24 = dktX7_isSign_1 := dk_seg dksX7_isSign_0 24 rfl rfl
theorem dX7_isSign_0 : decode cX7_isSign 0 = .ok (.iload_n 0, 1) := dk_26 (dk_at dksX7_isSign_0 0 rfl rfl)
theorem dX7_isSign_1 : decode cX7_isSign 1 = .ok (.invokestatic 135, 3) := dk_184 0 135 (dk_at dksX7_isSign_0 1 rfl rfl)
theorem dX7_isSign_4 : decode cX7_isSign 4 = .ok (.ifCond .ne 15, 3) := dk_154 0 15 (dk_at dksX7_isSign_0 4 rfl rfl)
theorem dX7_isSign_7 : decode cX7_isSign 7 = .ok (.iload_n 0, 1) := dk_26 (dk_at dksX7_isSign_0 7 rfl rfl)
theorem dX7_isSign_8 : decode cX7_isSign 8 = .ok (.bipush 48, 2) := dk_16 48 (dk_at dksX7_isSign_0 8 rfl rfl)
theorem dX7_isSign_10 : decode cX7_isSign 10 = .ok (.if_icmp .lt 13, 3) := dk_161 0 13 (dk_at dksX7_isSign_0 10 rfl rfl)
theorem dX7_isSign_13 : decode cX7_isSign 13 = .ok (.iload_n 0, 1) := dk_26 (dk_at dksX7_isSign_0 13 rfl rfl)
theorem dX7_isSign_14 : decode cX7_isSign 14 = .ok (.bipush 57, 2) := dk_16 57 (dk_at dksX7_isSign_0 14 rfl rfl)
theorem dX7_isSign_16 : decode cX7_isSign 16 = .ok (.if_icmp .gt 7, 3) := dk_163 0 7 (dk_at dksX7_isSign_0 16 rfl rfl)
theorem dX7_isSign_19 : decode cX7_isSign 19 = .ok (.iconst 1, 1) := dk_4 (dk_at dksX7_isSign_0 19 rfl rfl)
theorem dX7_isSign_20 : decode cX7_isSign 20 = .ok (.goto 4, 3) := dk_167 0 4 (dk_at dksX7_isSign_0 20 rfl rfl)
theorem dX7_isSign_23 : decode cX7_isSign 23 = .ok (.iconst 0, 1) := dk_3 (dk_at dksX7_isSign_0 23 rfl rfl)
theorem dX7_isSign_24 : decode cX7_isSign 24 = .ok (.ireturn, 1) := dk_172 (dk_at dksX7_isSign_1 0 rfl rfl)
abbrev cX7_of : ByteArray := prog_17_method_7_code
def yX7_of : MethodName := ⟨RX7, "of", "(III)I"⟩
def dkwX7_of_0 : List UInt8 := [42, 180, 0, 7, 16, 19, 16, 30, 27, 104, 28, 96, 104, 29, 96, 46, 172]
abbrev dktX7_of_0 : List UInt8 := dkwX7_of_0 ++ []
theorem dksX7_of_0 : cX7_of.data.toList.drop 0 = dktX7_of_0 := by decide +kernel
theorem dX7_of_0 : decode cX7_of 0 = .ok (.aload_n 0, 1) := dk_42 (dk_at dksX7_of_0 0 rfl rfl)
theorem dX7_of_1 : decode cX7_of 1 = .ok (.getfield 7, 3) := dk_180 0 7 (dk_at dksX7_of_0 1 rfl rfl)
theorem dX7_of_4 : decode cX7_of 4 = .ok (.bipush 19, 2) := dk_16 19 (dk_at dksX7_of_0 4 rfl rfl)
theorem dX7_of_6 : decode cX7_of 6 = .ok (.bipush 30, 2) := dk_16 30 (dk_at dksX7_of_0 6 rfl rfl)
theorem dX7_of_8 : decode cX7_of 8 = .ok (.iload_n 1, 1) := dk_27 (dk_at dksX7_of_0 8 rfl rfl)
theorem dX7_of_9 : decode cX7_of 9 = .ok (.imul, 1) := dk_104 (dk_at dksX7_of_0 9 rfl rfl)
theorem dX7_of_10 : decode cX7_of 10 = .ok (.iload_n 2, 1) := dk_28 (dk_at dksX7_of_0 10 rfl rfl)
theorem dX7_of_11 : decode cX7_of 11 = .ok (.iadd, 1) := dk_96 (dk_at dksX7_of_0 11 rfl rfl)
theorem dX7_of_12 : decode cX7_of 12 = .ok (.imul, 1) := dk_104 (dk_at dksX7_of_0 12 rfl rfl)
theorem dX7_of_13 : decode cX7_of 13 = .ok (.iload_n 3, 1) := dk_29 (dk_at dksX7_of_0 13 rfl rfl)
theorem dX7_of_14 : decode cX7_of 14 = .ok (.iadd, 1) := dk_96 (dk_at dksX7_of_0 14 rfl rfl)
theorem dX7_of_15 : decode cX7_of 15 = .ok (.iaload, 1) := dk_46 (dk_at dksX7_of_0 15 rfl rfl)
theorem dX7_of_16 : decode cX7_of 16 = .ok (.ireturn, 1) := dk_172 (dk_at dksX7_of_0 16 rfl rfl)
abbrev cX7_isLike : ByteArray := prog_17_method_17_code
def yX7_isLike : MethodName := ⟨RX7, "isLike", "(IIIII)Z"⟩
def dkwX7_isLike_2 : List UInt8 := [29, 21, 4, 21, 5, 21, 7, 96, 182, 0, 104, 159, 0, 5, 3, 172, 132, 7, 1, 167, 255, 218, 4, 172]
abbrev dktX7_isLike_2 : List UInt8 := dkwX7_isLike_2 ++ []
def dkwX7_isLike_1 : List UInt8 := [3, 172, 4, 54, 7, 21, 7, 21, 6, 163, 0, 37, 42, 27, 28, 21, 5, 21, 7, 96, 182, 0, 104, 42]
abbrev dktX7_isLike_1 : List UInt8 := dkwX7_isLike_1 ++ dktX7_isLike_2
def dkwX7_isLike_0 : List UInt8 := [42, 27, 28, 21, 5, 182, 0, 104, 54, 6, 42, 29, 21, 4, 21, 5, 182, 0, 104, 21, 6, 159, 0, 5]
abbrev dktX7_isLike_0 : List UInt8 := dkwX7_isLike_0 ++ dktX7_isLike_1
theorem dksX7_isLike_0 : cX7_isLike.data.toList.drop 0 = dktX7_isLike_0 := by decide +kernel
theorem dksX7_isLike_1 : cX7_isLike.data.toList.drop 24 = dktX7_isLike_1 := dk_seg dksX7_isLike_0 24 rfl rfl
theorem dksX7_isLike_2 : cX7_isLike.data.toList.drop 48 = dktX7_isLike_2 := dk_seg dksX7_isLike_1 24 rfl rfl
theorem dX7_isLike_0 : decode cX7_isLike 0 = .ok (.aload_n 0, 1) := dk_42 (dk_at dksX7_isLike_0 0 rfl rfl)
theorem dX7_isLike_1 : decode cX7_isLike 1 = .ok (.iload_n 1, 1) := dk_27 (dk_at dksX7_isLike_0 1 rfl rfl)
theorem dX7_isLike_2 : decode cX7_isLike 2 = .ok (.iload_n 2, 1) := dk_28 (dk_at dksX7_isLike_0 2 rfl rfl)
theorem dX7_isLike_3 : decode cX7_isLike 3 = .ok (.iload 5, 2) := dk_21 5 (dk_at dksX7_isLike_0 3 rfl rfl)
theorem dX7_isLike_5 : decode cX7_isLike 5 = .ok (.invokevirtual 104, 3) := dk_182 0 104 (dk_at dksX7_isLike_0 5 rfl rfl)
theorem dX7_isLike_8 : decode cX7_isLike 8 = .ok (.istore 6, 2) := dk_54 6 (dk_at dksX7_isLike_0 8 rfl rfl)
theorem dX7_isLike_10 : decode cX7_isLike 10 = .ok (.aload_n 0, 1) := dk_42 (dk_at dksX7_isLike_0 10 rfl rfl)
theorem dX7_isLike_11 : decode cX7_isLike 11 = .ok (.iload_n 3, 1) := dk_29 (dk_at dksX7_isLike_0 11 rfl rfl)
theorem dX7_isLike_12 : decode cX7_isLike 12 = .ok (.iload 4, 2) := dk_21 4 (dk_at dksX7_isLike_0 12 rfl rfl)
theorem dX7_isLike_14 : decode cX7_isLike 14 = .ok (.iload 5, 2) := dk_21 5 (dk_at dksX7_isLike_0 14 rfl rfl)
theorem dX7_isLike_16 : decode cX7_isLike 16 = .ok (.invokevirtual 104, 3) := dk_182 0 104 (dk_at dksX7_isLike_0 16 rfl rfl)
theorem dX7_isLike_19 : decode cX7_isLike 19 = .ok (.iload 6, 2) := dk_21 6 (dk_at dksX7_isLike_0 19 rfl rfl)
theorem dX7_isLike_21 : decode cX7_isLike 21 = .ok (.if_icmp .eq 5, 3) := dk_159 0 5 (dk_at dksX7_isLike_0 21 rfl rfl)
theorem dX7_isLike_24 : decode cX7_isLike 24 = .ok (.iconst 0, 1) := dk_3 (dk_at dksX7_isLike_1 0 rfl rfl)
theorem dX7_isLike_25 : decode cX7_isLike 25 = .ok (.ireturn, 1) := dk_172 (dk_at dksX7_isLike_1 1 rfl rfl)
theorem dX7_isLike_26 : decode cX7_isLike 26 = .ok (.iconst 1, 1) := dk_4 (dk_at dksX7_isLike_1 2 rfl rfl)
theorem dX7_isLike_27 : decode cX7_isLike 27 = .ok (.istore 7, 2) := dk_54 7 (dk_at dksX7_isLike_1 3 rfl rfl)
theorem dX7_isLike_29 : decode cX7_isLike 29 = .ok (.iload 7, 2) := dk_21 7 (dk_at dksX7_isLike_1 5 rfl rfl)
theorem dX7_isLike_31 : decode cX7_isLike 31 = .ok (.iload 6, 2) := dk_21 6 (dk_at dksX7_isLike_1 7 rfl rfl)
theorem dX7_isLike_33 : decode cX7_isLike 33 = .ok (.if_icmp .gt 37, 3) := dk_163 0 37 (dk_at dksX7_isLike_1 9 rfl rfl)
theorem dX7_isLike_36 : decode cX7_isLike 36 = .ok (.aload_n 0, 1) := dk_42 (dk_at dksX7_isLike_1 12 rfl rfl)
theorem dX7_isLike_37 : decode cX7_isLike 37 = .ok (.iload_n 1, 1) := dk_27 (dk_at dksX7_isLike_1 13 rfl rfl)
theorem dX7_isLike_38 : decode cX7_isLike 38 = .ok (.iload_n 2, 1) := dk_28 (dk_at dksX7_isLike_1 14 rfl rfl)
theorem dX7_isLike_39 : decode cX7_isLike 39 = .ok (.iload 5, 2) := dk_21 5 (dk_at dksX7_isLike_1 15 rfl rfl)
theorem dX7_isLike_41 : decode cX7_isLike 41 = .ok (.iload 7, 2) := dk_21 7 (dk_at dksX7_isLike_1 17 rfl rfl)
theorem dX7_isLike_43 : decode cX7_isLike 43 = .ok (.iadd, 1) := dk_96 (dk_at dksX7_isLike_1 19 rfl rfl)
theorem dX7_isLike_44 : decode cX7_isLike 44 = .ok (.invokevirtual 104, 3) := dk_182 0 104 (dk_at dksX7_isLike_1 20 rfl rfl)
theorem dX7_isLike_47 : decode cX7_isLike 47 = .ok (.aload_n 0, 1) := dk_42 (dk_at dksX7_isLike_1 23 rfl rfl)
theorem dX7_isLike_48 : decode cX7_isLike 48 = .ok (.iload_n 3, 1) := dk_29 (dk_at dksX7_isLike_2 0 rfl rfl)
theorem dX7_isLike_49 : decode cX7_isLike 49 = .ok (.iload 4, 2) := dk_21 4 (dk_at dksX7_isLike_2 1 rfl rfl)
theorem dX7_isLike_51 : decode cX7_isLike 51 = .ok (.iload 5, 2) := dk_21 5 (dk_at dksX7_isLike_2 3 rfl rfl)
theorem dX7_isLike_53 : decode cX7_isLike 53 = .ok (.iload 7, 2) := dk_21 7 (dk_at dksX7_isLike_2 5 rfl rfl)
theorem dX7_isLike_55 : decode cX7_isLike 55 = .ok (.iadd, 1) := dk_96 (dk_at dksX7_isLike_2 7 rfl rfl)
theorem dX7_isLike_56 : decode cX7_isLike 56 = .ok (.invokevirtual 104, 3) := dk_182 0 104 (dk_at dksX7_isLike_2 8 rfl rfl)
theorem dX7_isLike_59 : decode cX7_isLike 59 = .ok (.if_icmp .eq 5, 3) := dk_159 0 5 (dk_at dksX7_isLike_2 11 rfl rfl)
theorem dX7_isLike_62 : decode cX7_isLike 62 = .ok (.iconst 0, 1) := dk_3 (dk_at dksX7_isLike_2 14 rfl rfl)
theorem dX7_isLike_63 : decode cX7_isLike 63 = .ok (.ireturn, 1) := dk_172 (dk_at dksX7_isLike_2 15 rfl rfl)
theorem dX7_isLike_64 : decode cX7_isLike 64 = .ok (.iinc 7 1, 3) := dk_132 7 1 (dk_at dksX7_isLike_2 16 rfl rfl)
theorem dX7_isLike_67 : decode cX7_isLike 67 = .ok (.goto (-38), 3) := dk_167 255 218 (dk_at dksX7_isLike_2 19 rfl rfl)
theorem dX7_isLike_70 : decode cX7_isLike 70 = .ok (.iconst 1, 1) := dk_4 (dk_at dksX7_isLike_2 22 rfl rfl)
theorem dX7_isLike_71 : decode cX7_isLike 71 = .ok (.ireturn, 1) := dk_172 (dk_at dksX7_isLike_2 23 rfl rfl)
abbrev cX7_end : ByteArray := prog_17_method_12_code
def yX7_end : MethodName := ⟨RX7, "end", "(II)I"⟩
def dkwX7_end_1 : List UInt8 := [182, 0, 115, 164, 0, 9, 132, 3, 1, 167, 255, 228, 29, 172]
abbrev dktX7_end_1 : List UInt8 := dkwX7_end_1 ++ []
def dkwX7_end_0 : List UInt8 := [28, 4, 96, 62, 29, 42, 180, 0, 13, 27, 46, 162, 0, 24, 42, 27, 29, 182, 0, 115, 42, 27, 28]
abbrev dktX7_end_0 : List UInt8 := dkwX7_end_0 ++ dktX7_end_1
theorem dksX7_end_0 : cX7_end.data.toList.drop 0 = dktX7_end_0 := by decide +kernel
theorem dksX7_end_1 : cX7_end.data.toList.drop 23 = dktX7_end_1 := dk_seg dksX7_end_0 23 rfl rfl
theorem dX7_end_0 : decode cX7_end 0 = .ok (.iload_n 2, 1) := dk_28 (dk_at dksX7_end_0 0 rfl rfl)
theorem dX7_end_1 : decode cX7_end 1 = .ok (.iconst 1, 1) := dk_4 (dk_at dksX7_end_0 1 rfl rfl)
theorem dX7_end_2 : decode cX7_end 2 = .ok (.iadd, 1) := dk_96 (dk_at dksX7_end_0 2 rfl rfl)
theorem dX7_end_3 : decode cX7_end 3 = .ok (.istore_n 3, 1) := dk_62 (dk_at dksX7_end_0 3 rfl rfl)
theorem dX7_end_4 : decode cX7_end 4 = .ok (.iload_n 3, 1) := dk_29 (dk_at dksX7_end_0 4 rfl rfl)
theorem dX7_end_5 : decode cX7_end 5 = .ok (.aload_n 0, 1) := dk_42 (dk_at dksX7_end_0 5 rfl rfl)
theorem dX7_end_6 : decode cX7_end 6 = .ok (.getfield 13, 3) := dk_180 0 13 (dk_at dksX7_end_0 6 rfl rfl)
theorem dX7_end_9 : decode cX7_end 9 = .ok (.iload_n 1, 1) := dk_27 (dk_at dksX7_end_0 9 rfl rfl)
theorem dX7_end_10 : decode cX7_end 10 = .ok (.iaload, 1) := dk_46 (dk_at dksX7_end_0 10 rfl rfl)
theorem dX7_end_11 : decode cX7_end 11 = .ok (.if_icmp .ge 24, 3) := dk_162 0 24 (dk_at dksX7_end_0 11 rfl rfl)
theorem dX7_end_14 : decode cX7_end 14 = .ok (.aload_n 0, 1) := dk_42 (dk_at dksX7_end_0 14 rfl rfl)
theorem dX7_end_15 : decode cX7_end 15 = .ok (.iload_n 1, 1) := dk_27 (dk_at dksX7_end_0 15 rfl rfl)
theorem dX7_end_16 : decode cX7_end 16 = .ok (.iload_n 3, 1) := dk_29 (dk_at dksX7_end_0 16 rfl rfl)
theorem dX7_end_17 : decode cX7_end 17 = .ok (.invokevirtual 115, 3) := dk_182 0 115 (dk_at dksX7_end_0 17 rfl rfl)
theorem dX7_end_20 : decode cX7_end 20 = .ok (.aload_n 0, 1) := dk_42 (dk_at dksX7_end_0 20 rfl rfl)
theorem dX7_end_21 : decode cX7_end 21 = .ok (.iload_n 1, 1) := dk_27 (dk_at dksX7_end_0 21 rfl rfl)
theorem dX7_end_22 : decode cX7_end 22 = .ok (.iload_n 2, 1) := dk_28 (dk_at dksX7_end_0 22 rfl rfl)
theorem dX7_end_23 : decode cX7_end 23 = .ok (.invokevirtual 115, 3) := dk_182 0 115 (dk_at dksX7_end_1 0 rfl rfl)
theorem dX7_end_26 : decode cX7_end 26 = .ok (.if_icmp .le 9, 3) := dk_164 0 9 (dk_at dksX7_end_1 3 rfl rfl)
theorem dX7_end_29 : decode cX7_end 29 = .ok (.iinc 3 1, 3) := dk_132 3 1 (dk_at dksX7_end_1 6 rfl rfl)
theorem dX7_end_32 : decode cX7_end 32 = .ok (.goto (-28), 3) := dk_167 255 228 (dk_at dksX7_end_1 9 rfl rfl)
theorem dX7_end_35 : decode cX7_end 35 = .ok (.iload_n 3, 1) := dk_29 (dk_at dksX7_end_1 12 rfl rfl)
theorem dX7_end_36 : decode cX7_end 36 = .ok (.ireturn, 1) := dk_172 (dk_at dksX7_end_1 13 rfl rfl)
abbrev cX7_deep : ByteArray := prog_17_method_9_code
def yX7_deep : MethodName := ⟨RX7, "deep", "(II)I"⟩
def dkwX7_deep_0 : List UInt8 := [42, 27, 28, 5, 182, 0, 104, 172]
abbrev dktX7_deep_0 : List UInt8 := dkwX7_deep_0 ++ []
theorem dksX7_deep_0 : cX7_deep.data.toList.drop 0 = dktX7_deep_0 := by decide +kernel
theorem dX7_deep_0 : decode cX7_deep 0 = .ok (.aload_n 0, 1) := dk_42 (dk_at dksX7_deep_0 0 rfl rfl)
theorem dX7_deep_1 : decode cX7_deep 1 = .ok (.iload_n 1, 1) := dk_27 (dk_at dksX7_deep_0 1 rfl rfl)
theorem dX7_deep_2 : decode cX7_deep 2 = .ok (.iload_n 2, 1) := dk_28 (dk_at dksX7_deep_0 2 rfl rfl)
theorem dX7_deep_3 : decode cX7_deep 3 = .ok (.iconst 2, 1) := dk_5 (dk_at dksX7_deep_0 3 rfl rfl)
theorem dX7_deep_4 : decode cX7_deep 4 = .ok (.invokevirtual 104, 3) := dk_182 0 104 (dk_at dksX7_deep_0 4 rfl rfl)
theorem dX7_deep_7 : decode cX7_deep 7 = .ok (.ireturn, 1) := dk_172 (dk_at dksX7_deep_0 7 rfl rfl)
abbrev cX7_copyAll : ByteArray := prog_17_method_11_code
def yX7_copyAll : MethodName := ⟨RX7, "copyAll", "(II)V"⟩
def dkwX7_copyAll_1 : List UInt8 := [167, 255, 235, 42, 180, 0, 13, 28, 42, 180, 0, 13, 27, 46, 79, 177]
abbrev dktX7_copyAll_1 : List UInt8 := dkwX7_copyAll_1 ++ []
def dkwX7_copyAll_0 : List UInt8 := [3, 62, 29, 42, 180, 0, 13, 27, 46, 162, 0, 17, 42, 27, 29, 28, 29, 182, 0, 112, 132, 3, 1]
abbrev dktX7_copyAll_0 : List UInt8 := dkwX7_copyAll_0 ++ dktX7_copyAll_1
theorem dksX7_copyAll_0 : cX7_copyAll.data.toList.drop 0 = dktX7_copyAll_0 := by decide +kernel
theorem dksX7_copyAll_1 : cX7_copyAll.data.toList.drop 23 = dktX7_copyAll_1 := dk_seg dksX7_copyAll_0 23 rfl rfl
theorem dX7_copyAll_0 : decode cX7_copyAll 0 = .ok (.iconst 0, 1) := dk_3 (dk_at dksX7_copyAll_0 0 rfl rfl)
theorem dX7_copyAll_1 : decode cX7_copyAll 1 = .ok (.istore_n 3, 1) := dk_62 (dk_at dksX7_copyAll_0 1 rfl rfl)
theorem dX7_copyAll_2 : decode cX7_copyAll 2 = .ok (.iload_n 3, 1) := dk_29 (dk_at dksX7_copyAll_0 2 rfl rfl)
theorem dX7_copyAll_3 : decode cX7_copyAll 3 = .ok (.aload_n 0, 1) := dk_42 (dk_at dksX7_copyAll_0 3 rfl rfl)
theorem dX7_copyAll_4 : decode cX7_copyAll 4 = .ok (.getfield 13, 3) := dk_180 0 13 (dk_at dksX7_copyAll_0 4 rfl rfl)
theorem dX7_copyAll_7 : decode cX7_copyAll 7 = .ok (.iload_n 1, 1) := dk_27 (dk_at dksX7_copyAll_0 7 rfl rfl)
theorem dX7_copyAll_8 : decode cX7_copyAll 8 = .ok (.iaload, 1) := dk_46 (dk_at dksX7_copyAll_0 8 rfl rfl)
theorem dX7_copyAll_9 : decode cX7_copyAll 9 = .ok (.if_icmp .ge 17, 3) := dk_162 0 17 (dk_at dksX7_copyAll_0 9 rfl rfl)
theorem dX7_copyAll_12 : decode cX7_copyAll 12 = .ok (.aload_n 0, 1) := dk_42 (dk_at dksX7_copyAll_0 12 rfl rfl)
theorem dX7_copyAll_13 : decode cX7_copyAll 13 = .ok (.iload_n 1, 1) := dk_27 (dk_at dksX7_copyAll_0 13 rfl rfl)
theorem dX7_copyAll_14 : decode cX7_copyAll 14 = .ok (.iload_n 3, 1) := dk_29 (dk_at dksX7_copyAll_0 14 rfl rfl)
theorem dX7_copyAll_15 : decode cX7_copyAll 15 = .ok (.iload_n 2, 1) := dk_28 (dk_at dksX7_copyAll_0 15 rfl rfl)
theorem dX7_copyAll_16 : decode cX7_copyAll 16 = .ok (.iload_n 3, 1) := dk_29 (dk_at dksX7_copyAll_0 16 rfl rfl)
theorem dX7_copyAll_17 : decode cX7_copyAll 17 = .ok (.invokevirtual 112, 3) := dk_182 0 112 (dk_at dksX7_copyAll_0 17 rfl rfl)
theorem dX7_copyAll_20 : decode cX7_copyAll 20 = .ok (.iinc 3 1, 3) := dk_132 3 1 (dk_at dksX7_copyAll_0 20 rfl rfl)
theorem dX7_copyAll_23 : decode cX7_copyAll 23 = .ok (.goto (-21), 3) := dk_167 255 235 (dk_at dksX7_copyAll_1 0 rfl rfl)
theorem dX7_copyAll_26 : decode cX7_copyAll 26 = .ok (.aload_n 0, 1) := dk_42 (dk_at dksX7_copyAll_1 3 rfl rfl)
theorem dX7_copyAll_27 : decode cX7_copyAll 27 = .ok (.getfield 13, 3) := dk_180 0 13 (dk_at dksX7_copyAll_1 4 rfl rfl)
theorem dX7_copyAll_30 : decode cX7_copyAll 30 = .ok (.iload_n 2, 1) := dk_28 (dk_at dksX7_copyAll_1 7 rfl rfl)
theorem dX7_copyAll_31 : decode cX7_copyAll 31 = .ok (.aload_n 0, 1) := dk_42 (dk_at dksX7_copyAll_1 8 rfl rfl)
theorem dX7_copyAll_32 : decode cX7_copyAll 32 = .ok (.getfield 13, 3) := dk_180 0 13 (dk_at dksX7_copyAll_1 9 rfl rfl)
theorem dX7_copyAll_35 : decode cX7_copyAll 35 = .ok (.iload_n 1, 1) := dk_27 (dk_at dksX7_copyAll_1 12 rfl rfl)
theorem dX7_copyAll_36 : decode cX7_copyAll 36 = .ok (.iaload, 1) := dk_46 (dk_at dksX7_copyAll_1 13 rfl rfl)
theorem dX7_copyAll_37 : decode cX7_copyAll 37 = .ok (.iastore, 1) := dk_79 (dk_at dksX7_copyAll_1 14 rfl rfl)
theorem dX7_copyAll_38 : decode cX7_copyAll 38 = .ok (.return_, 1) := dk_177 (dk_at dksX7_copyAll_1 15 rfl rfl)
abbrev cX7_carry : ByteArray := prog_17_method_10_code
def yX7_carry : MethodName := ⟨RX7, "carry", "(IIII)V"⟩
def dkwX7_carry_1 : List UInt8 := [182, 0, 108, 132, 5, 1, 167, 255, 229, 177]
abbrev dktX7_carry_1 : List UInt8 := dkwX7_carry_1 ++ []
def dkwX7_carry_0 : List UInt8 := [3, 54, 5, 21, 5, 16, 19, 162, 0, 26, 42, 29, 21, 4, 21, 5, 42, 27, 28, 21, 5, 182, 0, 104]
abbrev dktX7_carry_0 : List UInt8 := dkwX7_carry_0 ++ dktX7_carry_1
theorem dksX7_carry_0 : cX7_carry.data.toList.drop 0 = dktX7_carry_0 := by decide +kernel
theorem dksX7_carry_1 : cX7_carry.data.toList.drop 24 = dktX7_carry_1 := dk_seg dksX7_carry_0 24 rfl rfl
theorem dX7_carry_0 : decode cX7_carry 0 = .ok (.iconst 0, 1) := dk_3 (dk_at dksX7_carry_0 0 rfl rfl)
theorem dX7_carry_1 : decode cX7_carry 1 = .ok (.istore 5, 2) := dk_54 5 (dk_at dksX7_carry_0 1 rfl rfl)
theorem dX7_carry_3 : decode cX7_carry 3 = .ok (.iload 5, 2) := dk_21 5 (dk_at dksX7_carry_0 3 rfl rfl)
theorem dX7_carry_5 : decode cX7_carry 5 = .ok (.bipush 19, 2) := dk_16 19 (dk_at dksX7_carry_0 5 rfl rfl)
theorem dX7_carry_7 : decode cX7_carry 7 = .ok (.if_icmp .ge 26, 3) := dk_162 0 26 (dk_at dksX7_carry_0 7 rfl rfl)
theorem dX7_carry_10 : decode cX7_carry 10 = .ok (.aload_n 0, 1) := dk_42 (dk_at dksX7_carry_0 10 rfl rfl)
theorem dX7_carry_11 : decode cX7_carry 11 = .ok (.iload_n 3, 1) := dk_29 (dk_at dksX7_carry_0 11 rfl rfl)
theorem dX7_carry_12 : decode cX7_carry 12 = .ok (.iload 4, 2) := dk_21 4 (dk_at dksX7_carry_0 12 rfl rfl)
theorem dX7_carry_14 : decode cX7_carry 14 = .ok (.iload 5, 2) := dk_21 5 (dk_at dksX7_carry_0 14 rfl rfl)
theorem dX7_carry_16 : decode cX7_carry 16 = .ok (.aload_n 0, 1) := dk_42 (dk_at dksX7_carry_0 16 rfl rfl)
theorem dX7_carry_17 : decode cX7_carry 17 = .ok (.iload_n 1, 1) := dk_27 (dk_at dksX7_carry_0 17 rfl rfl)
theorem dX7_carry_18 : decode cX7_carry 18 = .ok (.iload_n 2, 1) := dk_28 (dk_at dksX7_carry_0 18 rfl rfl)
theorem dX7_carry_19 : decode cX7_carry 19 = .ok (.iload 5, 2) := dk_21 5 (dk_at dksX7_carry_0 19 rfl rfl)
theorem dX7_carry_21 : decode cX7_carry 21 = .ok (.invokevirtual 104, 3) := dk_182 0 104 (dk_at dksX7_carry_0 21 rfl rfl)
theorem dX7_carry_24 : decode cX7_carry 24 = .ok (.invokevirtual 108, 3) := dk_182 0 108 (dk_at dksX7_carry_1 0 rfl rfl)
theorem dX7_carry_27 : decode cX7_carry 27 = .ok (.iinc 5 1, 3) := dk_132 5 1 (dk_at dksX7_carry_1 3 rfl rfl)
theorem dX7_carry_30 : decode cX7_carry 30 = .ok (.goto (-27), 3) := dk_167 255 229 (dk_at dksX7_carry_1 6 rfl rfl)
theorem dX7_carry_33 : decode cX7_carry 33 = .ok (.return_, 1) := dk_177 (dk_at dksX7_carry_1 9 rfl rfl)
abbrev cX7_write : ByteArray := prog_17_method_28_code
def yX7_write : MethodName := ⟨RX7, "write", "(I)I"⟩
def dkwX7_write_14 : List UInt8 := [4, 100, 3, 182, 0, 164, 42, 180, 0, 158, 172]
abbrev dktX7_write_14 : List UInt8 := dkwX7_write_14 ++ []
def dkwX7_write_13 : List UInt8 := [5, 160, 0, 9, 42, 16, 62, 182, 0, 168, 132, 4, 1, 167, 254, 224, 42, 27, 42, 180, 0, 13, 27, 46]
abbrev dktX7_write_13 : List UInt8 := dkwX7_write_13 ++ dktX7_write_14
def dkwX7_write_12 : List UInt8 := [21, 6, 154, 0, 15, 21, 5, 4, 160, 0, 9, 42, 16, 125, 182, 0, 168, 21, 6, 154, 0, 15, 21, 5]
abbrev dktX7_write_12 : List UInt8 := dkwX7_write_12 ++ dktX7_write_13
def dkwX7_write_11 : List UInt8 := [160, 0, 12, 42, 16, 33, 182, 0, 168, 167, 0, 14, 21, 6, 153, 0, 9, 42, 16, 40, 182, 0, 168]
abbrev dktX7_write_11 : List UInt8 := dkwX7_write_11 ++ dktX7_write_12
def dkwX7_write_10 : List UInt8 := [182, 0, 168, 167, 0, 44, 21, 5, 5, 160, 0, 12, 42, 16, 60, 182, 0, 168, 167, 0, 29, 21, 5, 6]
abbrev dktX7_write_10 : List UInt8 := dkwX7_write_10 ++ dktX7_write_11
def dkwX7_write_9 : List UInt8 := [21, 4, 4, 96, 164, 0, 7, 4, 167, 0, 4, 3, 54, 6, 21, 5, 4, 160, 0, 12, 42, 16, 123]
abbrev dktX7_write_9 : List UInt8 := dkwX7_write_9 ++ dktX7_write_10
def dkwX7_write_8 : List UInt8 := [132, 5, 1, 167, 255, 223, 42, 27, 21, 4, 4, 182, 0, 104, 54, 5, 42, 27, 21, 4, 182, 0, 119]
abbrev dktX7_write_8 : List UInt8 := dkwX7_write_8 ++ dktX7_write_9
def dkwX7_write_7 : List UInt8 := [182, 0, 104, 162, 0, 25, 42, 42, 27, 21, 4, 16, 11, 21, 5, 96, 182, 0, 104, 182, 0, 168]
abbrev dktX7_write_7 : List UInt8 := dkwX7_write_7 ++ dktX7_write_8
def dkwX7_write_6 : List UInt8 := [182, 0, 104, 158, 0, 9, 42, 16, 61, 182, 0, 168, 3, 54, 5, 21, 5, 42, 27, 21, 4, 16, 10]
abbrev dktX7_write_6 : List UInt8 := dkwX7_write_6 ++ dktX7_write_7
def dkwX7_write_5 : List UInt8 := [7, 21, 5, 96, 182, 0, 104, 182, 0, 168, 132, 5, 1, 167, 255, 225, 42, 27, 21, 4, 16, 10]
abbrev dktX7_write_5 : List UInt8 := dkwX7_write_5 ++ dktX7_write_6
def dkwX7_write_4 : List UInt8 := [182, 0, 168, 3, 54, 5, 21, 5, 42, 27, 21, 4, 6, 182, 0, 104, 162, 0, 24, 42, 42, 27, 21, 4]
abbrev dktX7_write_4 : List UInt8 := dkwX7_write_4 ++ dktX7_write_5
def dkwX7_write_3 : List UInt8 := [21, 4, 158, 0, 25, 42, 27, 21, 4, 4, 100, 42, 27, 21, 4, 182, 0, 115, 182, 0, 164, 42, 16, 44]
abbrev dktX7_write_3 : List UInt8 := dkwX7_write_3 ++ dktX7_write_4
def dkwX7_write_2 : List UInt8 := [182, 0, 115, 42, 27, 21, 4, 4, 100, 182, 0, 115, 4, 96, 160, 0, 9, 132, 3, 1, 167, 0, 30]
abbrev dktX7_write_2 : List UInt8 := dkwX7_write_2 ++ dktX7_write_3
def dkwX7_write_1 : List UInt8 := [54, 4, 21, 4, 42, 180, 0, 13, 27, 46, 162, 1, 27, 21, 4, 158, 0, 30, 42, 27, 21, 4]
abbrev dktX7_write_1 : List UInt8 := dkwX7_write_1 ++ dktX7_write_2
def dkwX7_write_0 : List UInt8 := [42, 27, 182, 0, 161, 61, 28, 156, 0, 9, 42, 28, 182, 0, 126, 172, 42, 3, 181, 0, 158, 3, 62, 3]
abbrev dktX7_write_0 : List UInt8 := dkwX7_write_0 ++ dktX7_write_1
theorem dksX7_write_0 : cX7_write.data.toList.drop 0 = dktX7_write_0 := by decide +kernel
theorem dksX7_write_1 : cX7_write.data.toList.drop 24 = dktX7_write_1 := dk_seg dksX7_write_0 24 rfl rfl
theorem dksX7_write_2 : cX7_write.data.toList.drop 46 = dktX7_write_2 := dk_seg dksX7_write_1 22 rfl rfl
theorem dksX7_write_3 : cX7_write.data.toList.drop 69 = dktX7_write_3 := dk_seg dksX7_write_2 23 rfl rfl
theorem dksX7_write_4 : cX7_write.data.toList.drop 93 = dktX7_write_4 := dk_seg dksX7_write_3 24 rfl rfl
theorem dksX7_write_5 : cX7_write.data.toList.drop 117 = dktX7_write_5 := dk_seg dksX7_write_4 24 rfl rfl
theorem dksX7_write_6 : cX7_write.data.toList.drop 139 = dktX7_write_6 := dk_seg dksX7_write_5 22 rfl rfl
theorem dksX7_write_7 : cX7_write.data.toList.drop 162 = dktX7_write_7 := dk_seg dksX7_write_6 23 rfl rfl
theorem dksX7_write_8 : cX7_write.data.toList.drop 184 = dktX7_write_8 := dk_seg dksX7_write_7 22 rfl rfl
theorem dksX7_write_9 : cX7_write.data.toList.drop 207 = dktX7_write_9 := dk_seg dksX7_write_8 23 rfl rfl
theorem dksX7_write_10 : cX7_write.data.toList.drop 230 = dktX7_write_10 := dk_seg dksX7_write_9 23 rfl rfl
theorem dksX7_write_11 : cX7_write.data.toList.drop 254 = dktX7_write_11 := dk_seg dksX7_write_10 24 rfl rfl
theorem dksX7_write_12 : cX7_write.data.toList.drop 277 = dktX7_write_12 := dk_seg dksX7_write_11 23 rfl rfl
theorem dksX7_write_13 : cX7_write.data.toList.drop 301 = dktX7_write_13 := dk_seg dksX7_write_12 24 rfl rfl
theorem dksX7_write_14 : cX7_write.data.toList.drop 325 = dktX7_write_14 := dk_seg dksX7_write_13 24 rfl rfl
theorem dX7_write_0 : decode cX7_write 0 = .ok (.aload_n 0, 1) := dk_42 (dk_at dksX7_write_0 0 rfl rfl)
theorem dX7_write_1 : decode cX7_write 1 = .ok (.iload_n 1, 1) := dk_27 (dk_at dksX7_write_0 1 rfl rfl)
theorem dX7_write_2 : decode cX7_write 2 = .ok (.invokevirtual 161, 3) := dk_182 0 161 (dk_at dksX7_write_0 2 rfl rfl)
theorem dX7_write_5 : decode cX7_write 5 = .ok (.istore_n 2, 1) := dk_61 (dk_at dksX7_write_0 5 rfl rfl)
theorem dX7_write_6 : decode cX7_write 6 = .ok (.iload_n 2, 1) := dk_28 (dk_at dksX7_write_0 6 rfl rfl)
theorem dX7_write_7 : decode cX7_write 7 = .ok (.ifCond .ge 9, 3) := dk_156 0 9 (dk_at dksX7_write_0 7 rfl rfl)
theorem dX7_write_10 : decode cX7_write 10 = .ok (.aload_n 0, 1) := dk_42 (dk_at dksX7_write_0 10 rfl rfl)
theorem dX7_write_11 : decode cX7_write 11 = .ok (.iload_n 2, 1) := dk_28 (dk_at dksX7_write_0 11 rfl rfl)
theorem dX7_write_12 : decode cX7_write 12 = .ok (.invokevirtual 126, 3) := dk_182 0 126 (dk_at dksX7_write_0 12 rfl rfl)
theorem dX7_write_15 : decode cX7_write 15 = .ok (.ireturn, 1) := dk_172 (dk_at dksX7_write_0 15 rfl rfl)
theorem dX7_write_16 : decode cX7_write 16 = .ok (.aload_n 0, 1) := dk_42 (dk_at dksX7_write_0 16 rfl rfl)
theorem dX7_write_17 : decode cX7_write 17 = .ok (.iconst 0, 1) := dk_3 (dk_at dksX7_write_0 17 rfl rfl)
theorem dX7_write_18 : decode cX7_write 18 = .ok (.putfield 158, 3) := dk_181 0 158 (dk_at dksX7_write_0 18 rfl rfl)
theorem dX7_write_21 : decode cX7_write 21 = .ok (.iconst 0, 1) := dk_3 (dk_at dksX7_write_0 21 rfl rfl)
theorem dX7_write_22 : decode cX7_write 22 = .ok (.istore_n 3, 1) := dk_62 (dk_at dksX7_write_0 22 rfl rfl)
theorem dX7_write_23 : decode cX7_write 23 = .ok (.iconst 0, 1) := dk_3 (dk_at dksX7_write_0 23 rfl rfl)
theorem dX7_write_24 : decode cX7_write 24 = .ok (.istore 4, 2) := dk_54 4 (dk_at dksX7_write_1 0 rfl rfl)
theorem dX7_write_26 : decode cX7_write 26 = .ok (.iload 4, 2) := dk_21 4 (dk_at dksX7_write_1 2 rfl rfl)
theorem dX7_write_28 : decode cX7_write 28 = .ok (.aload_n 0, 1) := dk_42 (dk_at dksX7_write_1 4 rfl rfl)
theorem dX7_write_29 : decode cX7_write 29 = .ok (.getfield 13, 3) := dk_180 0 13 (dk_at dksX7_write_1 5 rfl rfl)
theorem dX7_write_32 : decode cX7_write 32 = .ok (.iload_n 1, 1) := dk_27 (dk_at dksX7_write_1 8 rfl rfl)
theorem dX7_write_33 : decode cX7_write 33 = .ok (.iaload, 1) := dk_46 (dk_at dksX7_write_1 9 rfl rfl)
theorem dX7_write_34 : decode cX7_write 34 = .ok (.if_icmp .ge 283, 3) := dk_162 1 27 (dk_at dksX7_write_1 10 rfl rfl)
theorem dX7_write_37 : decode cX7_write 37 = .ok (.iload 4, 2) := dk_21 4 (dk_at dksX7_write_1 13 rfl rfl)
theorem dX7_write_39 : decode cX7_write 39 = .ok (.ifCond .le 30, 3) := dk_158 0 30 (dk_at dksX7_write_1 15 rfl rfl)
theorem dX7_write_42 : decode cX7_write 42 = .ok (.aload_n 0, 1) := dk_42 (dk_at dksX7_write_1 18 rfl rfl)
theorem dX7_write_43 : decode cX7_write 43 = .ok (.iload_n 1, 1) := dk_27 (dk_at dksX7_write_1 19 rfl rfl)
theorem dX7_write_44 : decode cX7_write 44 = .ok (.iload 4, 2) := dk_21 4 (dk_at dksX7_write_1 20 rfl rfl)
theorem dX7_write_46 : decode cX7_write 46 = .ok (.invokevirtual 115, 3) := dk_182 0 115 (dk_at dksX7_write_2 0 rfl rfl)
theorem dX7_write_49 : decode cX7_write 49 = .ok (.aload_n 0, 1) := dk_42 (dk_at dksX7_write_2 3 rfl rfl)
theorem dX7_write_50 : decode cX7_write 50 = .ok (.iload_n 1, 1) := dk_27 (dk_at dksX7_write_2 4 rfl rfl)
theorem dX7_write_51 : decode cX7_write 51 = .ok (.iload 4, 2) := dk_21 4 (dk_at dksX7_write_2 5 rfl rfl)
theorem dX7_write_53 : decode cX7_write 53 = .ok (.iconst 1, 1) := dk_4 (dk_at dksX7_write_2 7 rfl rfl)
theorem dX7_write_54 : decode cX7_write 54 = .ok (.isub, 1) := dk_100 (dk_at dksX7_write_2 8 rfl rfl)
theorem dX7_write_55 : decode cX7_write 55 = .ok (.invokevirtual 115, 3) := dk_182 0 115 (dk_at dksX7_write_2 9 rfl rfl)
theorem dX7_write_58 : decode cX7_write 58 = .ok (.iconst 1, 1) := dk_4 (dk_at dksX7_write_2 12 rfl rfl)
theorem dX7_write_59 : decode cX7_write 59 = .ok (.iadd, 1) := dk_96 (dk_at dksX7_write_2 13 rfl rfl)
theorem dX7_write_60 : decode cX7_write 60 = .ok (.if_icmp .ne 9, 3) := dk_160 0 9 (dk_at dksX7_write_2 14 rfl rfl)
theorem dX7_write_63 : decode cX7_write 63 = .ok (.iinc 3 1, 3) := dk_132 3 1 (dk_at dksX7_write_2 17 rfl rfl)
theorem dX7_write_66 : decode cX7_write 66 = .ok (.goto 30, 3) := dk_167 0 30 (dk_at dksX7_write_2 20 rfl rfl)
theorem dX7_write_69 : decode cX7_write 69 = .ok (.iload 4, 2) := dk_21 4 (dk_at dksX7_write_3 0 rfl rfl)
theorem dX7_write_71 : decode cX7_write 71 = .ok (.ifCond .le 25, 3) := dk_158 0 25 (dk_at dksX7_write_3 2 rfl rfl)
theorem dX7_write_74 : decode cX7_write 74 = .ok (.aload_n 0, 1) := dk_42 (dk_at dksX7_write_3 5 rfl rfl)
theorem dX7_write_75 : decode cX7_write 75 = .ok (.iload_n 1, 1) := dk_27 (dk_at dksX7_write_3 6 rfl rfl)
theorem dX7_write_76 : decode cX7_write 76 = .ok (.iload 4, 2) := dk_21 4 (dk_at dksX7_write_3 7 rfl rfl)
theorem dX7_write_78 : decode cX7_write 78 = .ok (.iconst 1, 1) := dk_4 (dk_at dksX7_write_3 9 rfl rfl)
theorem dX7_write_79 : decode cX7_write 79 = .ok (.isub, 1) := dk_100 (dk_at dksX7_write_3 10 rfl rfl)
theorem dX7_write_80 : decode cX7_write 80 = .ok (.aload_n 0, 1) := dk_42 (dk_at dksX7_write_3 11 rfl rfl)
theorem dX7_write_81 : decode cX7_write 81 = .ok (.iload_n 1, 1) := dk_27 (dk_at dksX7_write_3 12 rfl rfl)
theorem dX7_write_82 : decode cX7_write 82 = .ok (.iload 4, 2) := dk_21 4 (dk_at dksX7_write_3 13 rfl rfl)
theorem dX7_write_84 : decode cX7_write 84 = .ok (.invokevirtual 115, 3) := dk_182 0 115 (dk_at dksX7_write_3 15 rfl rfl)
theorem dX7_write_87 : decode cX7_write 87 = .ok (.invokevirtual 164, 3) := dk_182 0 164 (dk_at dksX7_write_3 18 rfl rfl)
theorem dX7_write_90 : decode cX7_write 90 = .ok (.aload_n 0, 1) := dk_42 (dk_at dksX7_write_3 21 rfl rfl)
theorem dX7_write_91 : decode cX7_write 91 = .ok (.bipush 44, 2) := dk_16 44 (dk_at dksX7_write_3 22 rfl rfl)
theorem dX7_write_93 : decode cX7_write 93 = .ok (.invokevirtual 168, 3) := dk_182 0 168 (dk_at dksX7_write_4 0 rfl rfl)
theorem dX7_write_96 : decode cX7_write 96 = .ok (.iconst 0, 1) := dk_3 (dk_at dksX7_write_4 3 rfl rfl)
theorem dX7_write_97 : decode cX7_write 97 = .ok (.istore 5, 2) := dk_54 5 (dk_at dksX7_write_4 4 rfl rfl)
theorem dX7_write_99 : decode cX7_write 99 = .ok (.iload 5, 2) := dk_21 5 (dk_at dksX7_write_4 6 rfl rfl)
theorem dX7_write_101 : decode cX7_write 101 = .ok (.aload_n 0, 1) := dk_42 (dk_at dksX7_write_4 8 rfl rfl)
theorem dX7_write_102 : decode cX7_write 102 = .ok (.iload_n 1, 1) := dk_27 (dk_at dksX7_write_4 9 rfl rfl)
theorem dX7_write_103 : decode cX7_write 103 = .ok (.iload 4, 2) := dk_21 4 (dk_at dksX7_write_4 10 rfl rfl)
theorem dX7_write_105 : decode cX7_write 105 = .ok (.iconst 3, 1) := dk_6 (dk_at dksX7_write_4 12 rfl rfl)
theorem dX7_write_106 : decode cX7_write 106 = .ok (.invokevirtual 104, 3) := dk_182 0 104 (dk_at dksX7_write_4 13 rfl rfl)
theorem dX7_write_109 : decode cX7_write 109 = .ok (.if_icmp .ge 24, 3) := dk_162 0 24 (dk_at dksX7_write_4 16 rfl rfl)
theorem dX7_write_112 : decode cX7_write 112 = .ok (.aload_n 0, 1) := dk_42 (dk_at dksX7_write_4 19 rfl rfl)
theorem dX7_write_113 : decode cX7_write 113 = .ok (.aload_n 0, 1) := dk_42 (dk_at dksX7_write_4 20 rfl rfl)
theorem dX7_write_114 : decode cX7_write 114 = .ok (.iload_n 1, 1) := dk_27 (dk_at dksX7_write_4 21 rfl rfl)
theorem dX7_write_115 : decode cX7_write 115 = .ok (.iload 4, 2) := dk_21 4 (dk_at dksX7_write_4 22 rfl rfl)
theorem dX7_write_117 : decode cX7_write 117 = .ok (.iconst 4, 1) := dk_7 (dk_at dksX7_write_5 0 rfl rfl)
theorem dX7_write_118 : decode cX7_write 118 = .ok (.iload 5, 2) := dk_21 5 (dk_at dksX7_write_5 1 rfl rfl)
theorem dX7_write_120 : decode cX7_write 120 = .ok (.iadd, 1) := dk_96 (dk_at dksX7_write_5 3 rfl rfl)
theorem dX7_write_121 : decode cX7_write 121 = .ok (.invokevirtual 104, 3) := dk_182 0 104 (dk_at dksX7_write_5 4 rfl rfl)
theorem dX7_write_124 : decode cX7_write 124 = .ok (.invokevirtual 168, 3) := dk_182 0 168 (dk_at dksX7_write_5 7 rfl rfl)
theorem dX7_write_127 : decode cX7_write 127 = .ok (.iinc 5 1, 3) := dk_132 5 1 (dk_at dksX7_write_5 10 rfl rfl)
theorem dX7_write_130 : decode cX7_write 130 = .ok (.goto (-31), 3) := dk_167 255 225 (dk_at dksX7_write_5 13 rfl rfl)
theorem dX7_write_133 : decode cX7_write 133 = .ok (.aload_n 0, 1) := dk_42 (dk_at dksX7_write_5 16 rfl rfl)
theorem dX7_write_134 : decode cX7_write 134 = .ok (.iload_n 1, 1) := dk_27 (dk_at dksX7_write_5 17 rfl rfl)
theorem dX7_write_135 : decode cX7_write 135 = .ok (.iload 4, 2) := dk_21 4 (dk_at dksX7_write_5 18 rfl rfl)
theorem dX7_write_137 : decode cX7_write 137 = .ok (.bipush 10, 2) := dk_16 10 (dk_at dksX7_write_5 20 rfl rfl)
theorem dX7_write_139 : decode cX7_write 139 = .ok (.invokevirtual 104, 3) := dk_182 0 104 (dk_at dksX7_write_6 0 rfl rfl)
theorem dX7_write_142 : decode cX7_write 142 = .ok (.ifCond .le 9, 3) := dk_158 0 9 (dk_at dksX7_write_6 3 rfl rfl)
theorem dX7_write_145 : decode cX7_write 145 = .ok (.aload_n 0, 1) := dk_42 (dk_at dksX7_write_6 6 rfl rfl)
theorem dX7_write_146 : decode cX7_write 146 = .ok (.bipush 61, 2) := dk_16 61 (dk_at dksX7_write_6 7 rfl rfl)
theorem dX7_write_148 : decode cX7_write 148 = .ok (.invokevirtual 168, 3) := dk_182 0 168 (dk_at dksX7_write_6 9 rfl rfl)
theorem dX7_write_151 : decode cX7_write 151 = .ok (.iconst 0, 1) := dk_3 (dk_at dksX7_write_6 12 rfl rfl)
theorem dX7_write_152 : decode cX7_write 152 = .ok (.istore 5, 2) := dk_54 5 (dk_at dksX7_write_6 13 rfl rfl)
theorem dX7_write_154 : decode cX7_write 154 = .ok (.iload 5, 2) := dk_21 5 (dk_at dksX7_write_6 15 rfl rfl)
theorem dX7_write_156 : decode cX7_write 156 = .ok (.aload_n 0, 1) := dk_42 (dk_at dksX7_write_6 17 rfl rfl)
theorem dX7_write_157 : decode cX7_write 157 = .ok (.iload_n 1, 1) := dk_27 (dk_at dksX7_write_6 18 rfl rfl)
theorem dX7_write_158 : decode cX7_write 158 = .ok (.iload 4, 2) := dk_21 4 (dk_at dksX7_write_6 19 rfl rfl)
theorem dX7_write_160 : decode cX7_write 160 = .ok (.bipush 10, 2) := dk_16 10 (dk_at dksX7_write_6 21 rfl rfl)
theorem dX7_write_162 : decode cX7_write 162 = .ok (.invokevirtual 104, 3) := dk_182 0 104 (dk_at dksX7_write_7 0 rfl rfl)
theorem dX7_write_165 : decode cX7_write 165 = .ok (.if_icmp .ge 25, 3) := dk_162 0 25 (dk_at dksX7_write_7 3 rfl rfl)
theorem dX7_write_168 : decode cX7_write 168 = .ok (.aload_n 0, 1) := dk_42 (dk_at dksX7_write_7 6 rfl rfl)
theorem dX7_write_169 : decode cX7_write 169 = .ok (.aload_n 0, 1) := dk_42 (dk_at dksX7_write_7 7 rfl rfl)
theorem dX7_write_170 : decode cX7_write 170 = .ok (.iload_n 1, 1) := dk_27 (dk_at dksX7_write_7 8 rfl rfl)
theorem dX7_write_171 : decode cX7_write 171 = .ok (.iload 4, 2) := dk_21 4 (dk_at dksX7_write_7 9 rfl rfl)
theorem dX7_write_173 : decode cX7_write 173 = .ok (.bipush 11, 2) := dk_16 11 (dk_at dksX7_write_7 11 rfl rfl)
theorem dX7_write_175 : decode cX7_write 175 = .ok (.iload 5, 2) := dk_21 5 (dk_at dksX7_write_7 13 rfl rfl)
theorem dX7_write_177 : decode cX7_write 177 = .ok (.iadd, 1) := dk_96 (dk_at dksX7_write_7 15 rfl rfl)
theorem dX7_write_178 : decode cX7_write 178 = .ok (.invokevirtual 104, 3) := dk_182 0 104 (dk_at dksX7_write_7 16 rfl rfl)
theorem dX7_write_181 : decode cX7_write 181 = .ok (.invokevirtual 168, 3) := dk_182 0 168 (dk_at dksX7_write_7 19 rfl rfl)
theorem dX7_write_184 : decode cX7_write 184 = .ok (.iinc 5 1, 3) := dk_132 5 1 (dk_at dksX7_write_8 0 rfl rfl)
theorem dX7_write_187 : decode cX7_write 187 = .ok (.goto (-33), 3) := dk_167 255 223 (dk_at dksX7_write_8 3 rfl rfl)
theorem dX7_write_190 : decode cX7_write 190 = .ok (.aload_n 0, 1) := dk_42 (dk_at dksX7_write_8 6 rfl rfl)
theorem dX7_write_191 : decode cX7_write 191 = .ok (.iload_n 1, 1) := dk_27 (dk_at dksX7_write_8 7 rfl rfl)
theorem dX7_write_192 : decode cX7_write 192 = .ok (.iload 4, 2) := dk_21 4 (dk_at dksX7_write_8 8 rfl rfl)
theorem dX7_write_194 : decode cX7_write 194 = .ok (.iconst 1, 1) := dk_4 (dk_at dksX7_write_8 10 rfl rfl)
theorem dX7_write_195 : decode cX7_write 195 = .ok (.invokevirtual 104, 3) := dk_182 0 104 (dk_at dksX7_write_8 11 rfl rfl)
theorem dX7_write_198 : decode cX7_write 198 = .ok (.istore 5, 2) := dk_54 5 (dk_at dksX7_write_8 14 rfl rfl)
theorem dX7_write_200 : decode cX7_write 200 = .ok (.aload_n 0, 1) := dk_42 (dk_at dksX7_write_8 16 rfl rfl)
theorem dX7_write_201 : decode cX7_write 201 = .ok (.iload_n 1, 1) := dk_27 (dk_at dksX7_write_8 17 rfl rfl)
theorem dX7_write_202 : decode cX7_write 202 = .ok (.iload 4, 2) := dk_21 4 (dk_at dksX7_write_8 18 rfl rfl)
theorem dX7_write_204 : decode cX7_write 204 = .ok (.invokevirtual 119, 3) := dk_182 0 119 (dk_at dksX7_write_8 20 rfl rfl)
theorem dX7_write_207 : decode cX7_write 207 = .ok (.iload 4, 2) := dk_21 4 (dk_at dksX7_write_9 0 rfl rfl)
theorem dX7_write_209 : decode cX7_write 209 = .ok (.iconst 1, 1) := dk_4 (dk_at dksX7_write_9 2 rfl rfl)
theorem dX7_write_210 : decode cX7_write 210 = .ok (.iadd, 1) := dk_96 (dk_at dksX7_write_9 3 rfl rfl)
theorem dX7_write_211 : decode cX7_write 211 = .ok (.if_icmp .le 7, 3) := dk_164 0 7 (dk_at dksX7_write_9 4 rfl rfl)
theorem dX7_write_214 : decode cX7_write 214 = .ok (.iconst 1, 1) := dk_4 (dk_at dksX7_write_9 7 rfl rfl)
theorem dX7_write_215 : decode cX7_write 215 = .ok (.goto 4, 3) := dk_167 0 4 (dk_at dksX7_write_9 8 rfl rfl)
theorem dX7_write_218 : decode cX7_write 218 = .ok (.iconst 0, 1) := dk_3 (dk_at dksX7_write_9 11 rfl rfl)
theorem dX7_write_219 : decode cX7_write 219 = .ok (.istore 6, 2) := dk_54 6 (dk_at dksX7_write_9 12 rfl rfl)
theorem dX7_write_221 : decode cX7_write 221 = .ok (.iload 5, 2) := dk_21 5 (dk_at dksX7_write_9 14 rfl rfl)
theorem dX7_write_223 : decode cX7_write 223 = .ok (.iconst 1, 1) := dk_4 (dk_at dksX7_write_9 16 rfl rfl)
theorem dX7_write_224 : decode cX7_write 224 = .ok (.if_icmp .ne 12, 3) := dk_160 0 12 (dk_at dksX7_write_9 17 rfl rfl)
theorem dX7_write_227 : decode cX7_write 227 = .ok (.aload_n 0, 1) := dk_42 (dk_at dksX7_write_9 20 rfl rfl)
theorem dX7_write_228 : decode cX7_write 228 = .ok (.bipush 123, 2) := dk_16 123 (dk_at dksX7_write_9 21 rfl rfl)
theorem dX7_write_230 : decode cX7_write 230 = .ok (.invokevirtual 168, 3) := dk_182 0 168 (dk_at dksX7_write_10 0 rfl rfl)
theorem dX7_write_233 : decode cX7_write 233 = .ok (.goto 44, 3) := dk_167 0 44 (dk_at dksX7_write_10 3 rfl rfl)
theorem dX7_write_236 : decode cX7_write 236 = .ok (.iload 5, 2) := dk_21 5 (dk_at dksX7_write_10 6 rfl rfl)
theorem dX7_write_238 : decode cX7_write 238 = .ok (.iconst 2, 1) := dk_5 (dk_at dksX7_write_10 8 rfl rfl)
theorem dX7_write_239 : decode cX7_write 239 = .ok (.if_icmp .ne 12, 3) := dk_160 0 12 (dk_at dksX7_write_10 9 rfl rfl)
theorem dX7_write_242 : decode cX7_write 242 = .ok (.aload_n 0, 1) := dk_42 (dk_at dksX7_write_10 12 rfl rfl)
theorem dX7_write_243 : decode cX7_write 243 = .ok (.bipush 60, 2) := dk_16 60 (dk_at dksX7_write_10 13 rfl rfl)
theorem dX7_write_245 : decode cX7_write 245 = .ok (.invokevirtual 168, 3) := dk_182 0 168 (dk_at dksX7_write_10 15 rfl rfl)
theorem dX7_write_248 : decode cX7_write 248 = .ok (.goto 29, 3) := dk_167 0 29 (dk_at dksX7_write_10 18 rfl rfl)
theorem dX7_write_251 : decode cX7_write 251 = .ok (.iload 5, 2) := dk_21 5 (dk_at dksX7_write_10 21 rfl rfl)
theorem dX7_write_253 : decode cX7_write 253 = .ok (.iconst 3, 1) := dk_6 (dk_at dksX7_write_10 23 rfl rfl)
theorem dX7_write_254 : decode cX7_write 254 = .ok (.if_icmp .ne 12, 3) := dk_160 0 12 (dk_at dksX7_write_11 0 rfl rfl)
theorem dX7_write_257 : decode cX7_write 257 = .ok (.aload_n 0, 1) := dk_42 (dk_at dksX7_write_11 3 rfl rfl)
theorem dX7_write_258 : decode cX7_write 258 = .ok (.bipush 33, 2) := dk_16 33 (dk_at dksX7_write_11 4 rfl rfl)
theorem dX7_write_260 : decode cX7_write 260 = .ok (.invokevirtual 168, 3) := dk_182 0 168 (dk_at dksX7_write_11 6 rfl rfl)
theorem dX7_write_263 : decode cX7_write 263 = .ok (.goto 14, 3) := dk_167 0 14 (dk_at dksX7_write_11 9 rfl rfl)
theorem dX7_write_266 : decode cX7_write 266 = .ok (.iload 6, 2) := dk_21 6 (dk_at dksX7_write_11 12 rfl rfl)
theorem dX7_write_268 : decode cX7_write 268 = .ok (.ifCond .eq 9, 3) := dk_153 0 9 (dk_at dksX7_write_11 14 rfl rfl)
theorem dX7_write_271 : decode cX7_write 271 = .ok (.aload_n 0, 1) := dk_42 (dk_at dksX7_write_11 17 rfl rfl)
theorem dX7_write_272 : decode cX7_write 272 = .ok (.bipush 40, 2) := dk_16 40 (dk_at dksX7_write_11 18 rfl rfl)
theorem dX7_write_274 : decode cX7_write 274 = .ok (.invokevirtual 168, 3) := dk_182 0 168 (dk_at dksX7_write_11 20 rfl rfl)
theorem dX7_write_277 : decode cX7_write 277 = .ok (.iload 6, 2) := dk_21 6 (dk_at dksX7_write_12 0 rfl rfl)
theorem dX7_write_279 : decode cX7_write 279 = .ok (.ifCond .ne 15, 3) := dk_154 0 15 (dk_at dksX7_write_12 2 rfl rfl)
theorem dX7_write_282 : decode cX7_write 282 = .ok (.iload 5, 2) := dk_21 5 (dk_at dksX7_write_12 5 rfl rfl)
theorem dX7_write_284 : decode cX7_write 284 = .ok (.iconst 1, 1) := dk_4 (dk_at dksX7_write_12 7 rfl rfl)
theorem dX7_write_285 : decode cX7_write 285 = .ok (.if_icmp .ne 9, 3) := dk_160 0 9 (dk_at dksX7_write_12 8 rfl rfl)
theorem dX7_write_288 : decode cX7_write 288 = .ok (.aload_n 0, 1) := dk_42 (dk_at dksX7_write_12 11 rfl rfl)
theorem dX7_write_289 : decode cX7_write 289 = .ok (.bipush 125, 2) := dk_16 125 (dk_at dksX7_write_12 12 rfl rfl)
theorem dX7_write_291 : decode cX7_write 291 = .ok (.invokevirtual 168, 3) := dk_182 0 168 (dk_at dksX7_write_12 14 rfl rfl)
theorem dX7_write_294 : decode cX7_write 294 = .ok (.iload 6, 2) := dk_21 6 (dk_at dksX7_write_12 17 rfl rfl)
theorem dX7_write_296 : decode cX7_write 296 = .ok (.ifCond .ne 15, 3) := dk_154 0 15 (dk_at dksX7_write_12 19 rfl rfl)
theorem dX7_write_299 : decode cX7_write 299 = .ok (.iload 5, 2) := dk_21 5 (dk_at dksX7_write_12 22 rfl rfl)
theorem dX7_write_301 : decode cX7_write 301 = .ok (.iconst 2, 1) := dk_5 (dk_at dksX7_write_13 0 rfl rfl)
theorem dX7_write_302 : decode cX7_write 302 = .ok (.if_icmp .ne 9, 3) := dk_160 0 9 (dk_at dksX7_write_13 1 rfl rfl)
theorem dX7_write_305 : decode cX7_write 305 = .ok (.aload_n 0, 1) := dk_42 (dk_at dksX7_write_13 4 rfl rfl)
theorem dX7_write_306 : decode cX7_write 306 = .ok (.bipush 62, 2) := dk_16 62 (dk_at dksX7_write_13 5 rfl rfl)
theorem dX7_write_308 : decode cX7_write 308 = .ok (.invokevirtual 168, 3) := dk_182 0 168 (dk_at dksX7_write_13 7 rfl rfl)
theorem dX7_write_311 : decode cX7_write 311 = .ok (.iinc 4 1, 3) := dk_132 4 1 (dk_at dksX7_write_13 10 rfl rfl)
theorem dX7_write_314 : decode cX7_write 314 = .ok (.goto (-288), 3) := dk_167 254 224 (dk_at dksX7_write_13 13 rfl rfl)
theorem dX7_write_317 : decode cX7_write 317 = .ok (.aload_n 0, 1) := dk_42 (dk_at dksX7_write_13 16 rfl rfl)
theorem dX7_write_318 : decode cX7_write 318 = .ok (.iload_n 1, 1) := dk_27 (dk_at dksX7_write_13 17 rfl rfl)
theorem dX7_write_319 : decode cX7_write 319 = .ok (.aload_n 0, 1) := dk_42 (dk_at dksX7_write_13 18 rfl rfl)
theorem dX7_write_320 : decode cX7_write 320 = .ok (.getfield 13, 3) := dk_180 0 13 (dk_at dksX7_write_13 19 rfl rfl)
theorem dX7_write_323 : decode cX7_write 323 = .ok (.iload_n 1, 1) := dk_27 (dk_at dksX7_write_13 22 rfl rfl)
theorem dX7_write_324 : decode cX7_write 324 = .ok (.iaload, 1) := dk_46 (dk_at dksX7_write_13 23 rfl rfl)
theorem dX7_write_325 : decode cX7_write 325 = .ok (.iconst 1, 1) := dk_4 (dk_at dksX7_write_14 0 rfl rfl)
theorem dX7_write_326 : decode cX7_write 326 = .ok (.isub, 1) := dk_100 (dk_at dksX7_write_14 1 rfl rfl)
theorem dX7_write_327 : decode cX7_write 327 = .ok (.iconst 0, 1) := dk_3 (dk_at dksX7_write_14 2 rfl rfl)
theorem dX7_write_328 : decode cX7_write 328 = .ok (.invokevirtual 164, 3) := dk_182 0 164 (dk_at dksX7_write_14 3 rfl rfl)
theorem dX7_write_331 : decode cX7_write 331 = .ok (.aload_n 0, 1) := dk_42 (dk_at dksX7_write_14 6 rfl rfl)
theorem dX7_write_332 : decode cX7_write 332 = .ok (.getfield 158, 3) := dk_180 0 158 (dk_at dksX7_write_14 7 rfl rfl)
theorem dX7_write_335 : decode cX7_write 335 = .ok (.ireturn, 1) := dk_172 (dk_at dksX7_write_14 10 rfl rfl)
abbrev cX7_lacks : ByteArray := prog_17_method_6_code
def yX7_lacks : MethodName := ⟨RX7, "lacks", "(I)I"⟩
def dkwX7_lacks_1 : List UInt8 := [167, 0, 4, 3, 172]
abbrev dktX7_lacks_1 : List UInt8 := dkwX7_lacks_1 ++ []
def dkwX7_lacks_0 : List UInt8 := [27, 184, 0, 100, 154, 0, 7, 2, 167, 0, 18, 42, 180, 0, 13, 27, 46, 154, 0, 8, 16, 254]
abbrev dktX7_lacks_0 : List UInt8 := dkwX7_lacks_0 ++ dktX7_lacks_1
theorem dksX7_lacks_0 : cX7_lacks.data.toList.drop 0 = dktX7_lacks_0 := by decide +kernel
theorem dksX7_lacks_1 : cX7_lacks.data.toList.drop 22 = dktX7_lacks_1 := dk_seg dksX7_lacks_0 22 rfl rfl
theorem dX7_lacks_0 : decode cX7_lacks 0 = .ok (.iload_n 1, 1) := dk_27 (dk_at dksX7_lacks_0 0 rfl rfl)
theorem dX7_lacks_1 : decode cX7_lacks 1 = .ok (.invokestatic 100, 3) := dk_184 0 100 (dk_at dksX7_lacks_0 1 rfl rfl)
theorem dX7_lacks_4 : decode cX7_lacks 4 = .ok (.ifCond .ne 7, 3) := dk_154 0 7 (dk_at dksX7_lacks_0 4 rfl rfl)
theorem dX7_lacks_7 : decode cX7_lacks 7 = .ok (.iconst (-1), 1) := dk_2 (dk_at dksX7_lacks_0 7 rfl rfl)
theorem dX7_lacks_8 : decode cX7_lacks 8 = .ok (.goto 18, 3) := dk_167 0 18 (dk_at dksX7_lacks_0 8 rfl rfl)
theorem dX7_lacks_11 : decode cX7_lacks 11 = .ok (.aload_n 0, 1) := dk_42 (dk_at dksX7_lacks_0 11 rfl rfl)
theorem dX7_lacks_12 : decode cX7_lacks 12 = .ok (.getfield 13, 3) := dk_180 0 13 (dk_at dksX7_lacks_0 12 rfl rfl)
theorem dX7_lacks_15 : decode cX7_lacks 15 = .ok (.iload_n 1, 1) := dk_27 (dk_at dksX7_lacks_0 15 rfl rfl)
theorem dX7_lacks_16 : decode cX7_lacks 16 = .ok (.iaload, 1) := dk_46 (dk_at dksX7_lacks_0 16 rfl rfl)
theorem dX7_lacks_17 : decode cX7_lacks 17 = .ok (.ifCond .ne 8, 3) := dk_154 0 8 (dk_at dksX7_lacks_0 17 rfl rfl)
theorem dX7_lacks_20 : decode cX7_lacks 20 = .ok (.bipush (-2), 2) := dk_16 254 (dk_at dksX7_lacks_0 20 rfl rfl)
theorem dX7_lacks_22 : decode cX7_lacks 22 = .ok (.goto 4, 3) := dk_167 0 4 (dk_at dksX7_lacks_1 0 rfl rfl)
theorem dX7_lacks_25 : decode cX7_lacks 25 = .ok (.iconst 0, 1) := dk_3 (dk_at dksX7_lacks_1 3 rfl rfl)
theorem dX7_lacks_26 : decode cX7_lacks 26 = .ok (.ireturn, 1) := dk_172 (dk_at dksX7_lacks_1 4 rfl rfl)
abbrev cX7_closes : ByteArray := prog_17_method_29_code
def yX7_closes : MethodName := ⟨RX7, "closes", "(III)V"⟩
def dkwX7_closes_3 : List UInt8 := [167, 255, 193, 177]
abbrev dktX7_closes_3 : List UInt8 := dkwX7_closes_3 ++ []
def dkwX7_closes_2 : List UInt8 := [5, 160, 0, 8, 16, 62, 167, 0, 5, 16, 41, 182, 0, 168, 42, 27, 21, 4, 182, 0, 172, 54, 4]
abbrev dktX7_closes_2 : List UInt8 := dkwX7_closes_2 ++ dktX7_closes_3
def dkwX7_closes_1 : List UInt8 := [42, 27, 21, 4, 4, 182, 0, 104, 54, 5, 42, 21, 5, 4, 160, 0, 8, 16, 125, 167, 0, 16, 21, 5]
abbrev dktX7_closes_1 : List UInt8 := dkwX7_closes_1 ++ dktX7_closes_2
def dkwX7_closes_0 : List UInt8 := [42, 27, 28, 182, 0, 172, 54, 4, 21, 4, 155, 0, 64, 42, 27, 21, 4, 182, 0, 115, 29, 161, 0, 53]
abbrev dktX7_closes_0 : List UInt8 := dkwX7_closes_0 ++ dktX7_closes_1
theorem dksX7_closes_0 : cX7_closes.data.toList.drop 0 = dktX7_closes_0 := by decide +kernel
theorem dksX7_closes_1 : cX7_closes.data.toList.drop 24 = dktX7_closes_1 := dk_seg dksX7_closes_0 24 rfl rfl
theorem dksX7_closes_2 : cX7_closes.data.toList.drop 48 = dktX7_closes_2 := dk_seg dksX7_closes_1 24 rfl rfl
theorem dksX7_closes_3 : cX7_closes.data.toList.drop 71 = dktX7_closes_3 := dk_seg dksX7_closes_2 23 rfl rfl
theorem dX7_closes_0 : decode cX7_closes 0 = .ok (.aload_n 0, 1) := dk_42 (dk_at dksX7_closes_0 0 rfl rfl)
theorem dX7_closes_1 : decode cX7_closes 1 = .ok (.iload_n 1, 1) := dk_27 (dk_at dksX7_closes_0 1 rfl rfl)
theorem dX7_closes_2 : decode cX7_closes 2 = .ok (.iload_n 2, 1) := dk_28 (dk_at dksX7_closes_0 2 rfl rfl)
theorem dX7_closes_3 : decode cX7_closes 3 = .ok (.invokevirtual 172, 3) := dk_182 0 172 (dk_at dksX7_closes_0 3 rfl rfl)
theorem dX7_closes_6 : decode cX7_closes 6 = .ok (.istore 4, 2) := dk_54 4 (dk_at dksX7_closes_0 6 rfl rfl)
theorem dX7_closes_8 : decode cX7_closes 8 = .ok (.iload 4, 2) := dk_21 4 (dk_at dksX7_closes_0 8 rfl rfl)
theorem dX7_closes_10 : decode cX7_closes 10 = .ok (.ifCond .lt 64, 3) := dk_155 0 64 (dk_at dksX7_closes_0 10 rfl rfl)
theorem dX7_closes_13 : decode cX7_closes 13 = .ok (.aload_n 0, 1) := dk_42 (dk_at dksX7_closes_0 13 rfl rfl)
theorem dX7_closes_14 : decode cX7_closes 14 = .ok (.iload_n 1, 1) := dk_27 (dk_at dksX7_closes_0 14 rfl rfl)
theorem dX7_closes_15 : decode cX7_closes 15 = .ok (.iload 4, 2) := dk_21 4 (dk_at dksX7_closes_0 15 rfl rfl)
theorem dX7_closes_17 : decode cX7_closes 17 = .ok (.invokevirtual 115, 3) := dk_182 0 115 (dk_at dksX7_closes_0 17 rfl rfl)
theorem dX7_closes_20 : decode cX7_closes 20 = .ok (.iload_n 3, 1) := dk_29 (dk_at dksX7_closes_0 20 rfl rfl)
theorem dX7_closes_21 : decode cX7_closes 21 = .ok (.if_icmp .lt 53, 3) := dk_161 0 53 (dk_at dksX7_closes_0 21 rfl rfl)
theorem dX7_closes_24 : decode cX7_closes 24 = .ok (.aload_n 0, 1) := dk_42 (dk_at dksX7_closes_1 0 rfl rfl)
theorem dX7_closes_25 : decode cX7_closes 25 = .ok (.iload_n 1, 1) := dk_27 (dk_at dksX7_closes_1 1 rfl rfl)
theorem dX7_closes_26 : decode cX7_closes 26 = .ok (.iload 4, 2) := dk_21 4 (dk_at dksX7_closes_1 2 rfl rfl)
theorem dX7_closes_28 : decode cX7_closes 28 = .ok (.iconst 1, 1) := dk_4 (dk_at dksX7_closes_1 4 rfl rfl)
theorem dX7_closes_29 : decode cX7_closes 29 = .ok (.invokevirtual 104, 3) := dk_182 0 104 (dk_at dksX7_closes_1 5 rfl rfl)
theorem dX7_closes_32 : decode cX7_closes 32 = .ok (.istore 5, 2) := dk_54 5 (dk_at dksX7_closes_1 8 rfl rfl)
theorem dX7_closes_34 : decode cX7_closes 34 = .ok (.aload_n 0, 1) := dk_42 (dk_at dksX7_closes_1 10 rfl rfl)
theorem dX7_closes_35 : decode cX7_closes 35 = .ok (.iload 5, 2) := dk_21 5 (dk_at dksX7_closes_1 11 rfl rfl)
theorem dX7_closes_37 : decode cX7_closes 37 = .ok (.iconst 1, 1) := dk_4 (dk_at dksX7_closes_1 13 rfl rfl)
theorem dX7_closes_38 : decode cX7_closes 38 = .ok (.if_icmp .ne 8, 3) := dk_160 0 8 (dk_at dksX7_closes_1 14 rfl rfl)
theorem dX7_closes_41 : decode cX7_closes 41 = .ok (.bipush 125, 2) := dk_16 125 (dk_at dksX7_closes_1 17 rfl rfl)
theorem dX7_closes_43 : decode cX7_closes 43 = .ok (.goto 16, 3) := dk_167 0 16 (dk_at dksX7_closes_1 19 rfl rfl)
theorem dX7_closes_46 : decode cX7_closes 46 = .ok (.iload 5, 2) := dk_21 5 (dk_at dksX7_closes_1 22 rfl rfl)
theorem dX7_closes_48 : decode cX7_closes 48 = .ok (.iconst 2, 1) := dk_5 (dk_at dksX7_closes_2 0 rfl rfl)
theorem dX7_closes_49 : decode cX7_closes 49 = .ok (.if_icmp .ne 8, 3) := dk_160 0 8 (dk_at dksX7_closes_2 1 rfl rfl)
theorem dX7_closes_52 : decode cX7_closes 52 = .ok (.bipush 62, 2) := dk_16 62 (dk_at dksX7_closes_2 4 rfl rfl)
theorem dX7_closes_54 : decode cX7_closes 54 = .ok (.goto 5, 3) := dk_167 0 5 (dk_at dksX7_closes_2 6 rfl rfl)
theorem dX7_closes_57 : decode cX7_closes 57 = .ok (.bipush 41, 2) := dk_16 41 (dk_at dksX7_closes_2 9 rfl rfl)
theorem dX7_closes_59 : decode cX7_closes 59 = .ok (.invokevirtual 168, 3) := dk_182 0 168 (dk_at dksX7_closes_2 11 rfl rfl)
theorem dX7_closes_62 : decode cX7_closes 62 = .ok (.aload_n 0, 1) := dk_42 (dk_at dksX7_closes_2 14 rfl rfl)
theorem dX7_closes_63 : decode cX7_closes 63 = .ok (.iload_n 1, 1) := dk_27 (dk_at dksX7_closes_2 15 rfl rfl)
theorem dX7_closes_64 : decode cX7_closes 64 = .ok (.iload 4, 2) := dk_21 4 (dk_at dksX7_closes_2 16 rfl rfl)
theorem dX7_closes_66 : decode cX7_closes 66 = .ok (.invokevirtual 172, 3) := dk_182 0 172 (dk_at dksX7_closes_2 18 rfl rfl)
theorem dX7_closes_69 : decode cX7_closes 69 = .ok (.istore 4, 2) := dk_54 4 (dk_at dksX7_closes_2 21 rfl rfl)
theorem dX7_closes_71 : decode cX7_closes 71 = .ok (.goto (-63), 3) := dk_167 255 193 (dk_at dksX7_closes_3 0 rfl rfl)
theorem dX7_closes_74 : decode cX7_closes 74 = .ok (.return_, 1) := dk_177 (dk_at dksX7_closes_3 3 rfl rfl)
abbrev cX7_parent : ByteArray := prog_17_method_13_code
def yX7_parent : MethodName := ⟨RX7, "parent", "(II)I"⟩
def dkwX7_parent_1 : List UInt8 := [132, 3, 255, 167, 255, 234, 29, 172]
abbrev dktX7_parent_1 : List UInt8 := dkwX7_parent_1 ++ []
def dkwX7_parent_0 : List UInt8 := [28, 4, 100, 62, 29, 155, 0, 24, 42, 27, 29, 182, 0, 115, 42, 27, 28, 182, 0, 115, 161, 0, 9]
abbrev dktX7_parent_0 : List UInt8 := dkwX7_parent_0 ++ dktX7_parent_1
theorem dksX7_parent_0 : cX7_parent.data.toList.drop 0 = dktX7_parent_0 := by decide +kernel
theorem dksX7_parent_1 : cX7_parent.data.toList.drop 23 = dktX7_parent_1 := dk_seg dksX7_parent_0 23 rfl rfl
theorem dX7_parent_0 : decode cX7_parent 0 = .ok (.iload_n 2, 1) := dk_28 (dk_at dksX7_parent_0 0 rfl rfl)
theorem dX7_parent_1 : decode cX7_parent 1 = .ok (.iconst 1, 1) := dk_4 (dk_at dksX7_parent_0 1 rfl rfl)
theorem dX7_parent_2 : decode cX7_parent 2 = .ok (.isub, 1) := dk_100 (dk_at dksX7_parent_0 2 rfl rfl)
theorem dX7_parent_3 : decode cX7_parent 3 = .ok (.istore_n 3, 1) := dk_62 (dk_at dksX7_parent_0 3 rfl rfl)
theorem dX7_parent_4 : decode cX7_parent 4 = .ok (.iload_n 3, 1) := dk_29 (dk_at dksX7_parent_0 4 rfl rfl)
theorem dX7_parent_5 : decode cX7_parent 5 = .ok (.ifCond .lt 24, 3) := dk_155 0 24 (dk_at dksX7_parent_0 5 rfl rfl)
theorem dX7_parent_8 : decode cX7_parent 8 = .ok (.aload_n 0, 1) := dk_42 (dk_at dksX7_parent_0 8 rfl rfl)
theorem dX7_parent_9 : decode cX7_parent 9 = .ok (.iload_n 1, 1) := dk_27 (dk_at dksX7_parent_0 9 rfl rfl)
theorem dX7_parent_10 : decode cX7_parent 10 = .ok (.iload_n 3, 1) := dk_29 (dk_at dksX7_parent_0 10 rfl rfl)
theorem dX7_parent_11 : decode cX7_parent 11 = .ok (.invokevirtual 115, 3) := dk_182 0 115 (dk_at dksX7_parent_0 11 rfl rfl)
theorem dX7_parent_14 : decode cX7_parent 14 = .ok (.aload_n 0, 1) := dk_42 (dk_at dksX7_parent_0 14 rfl rfl)
theorem dX7_parent_15 : decode cX7_parent 15 = .ok (.iload_n 1, 1) := dk_27 (dk_at dksX7_parent_0 15 rfl rfl)
theorem dX7_parent_16 : decode cX7_parent 16 = .ok (.iload_n 2, 1) := dk_28 (dk_at dksX7_parent_0 16 rfl rfl)
theorem dX7_parent_17 : decode cX7_parent 17 = .ok (.invokevirtual 115, 3) := dk_182 0 115 (dk_at dksX7_parent_0 17 rfl rfl)
theorem dX7_parent_20 : decode cX7_parent 20 = .ok (.if_icmp .lt 9, 3) := dk_161 0 9 (dk_at dksX7_parent_0 20 rfl rfl)
theorem dX7_parent_23 : decode cX7_parent 23 = .ok (.iinc 3 (-1), 3) := dk_132 3 255 (dk_at dksX7_parent_1 0 rfl rfl)
theorem dX7_parent_26 : decode cX7_parent 26 = .ok (.goto (-22), 3) := dk_167 255 234 (dk_at dksX7_parent_1 3 rfl rfl)
theorem dX7_parent_29 : decode cX7_parent 29 = .ok (.iload_n 3, 1) := dk_29 (dk_at dksX7_parent_1 6 rfl rfl)
theorem dX7_parent_30 : decode cX7_parent 30 = .ok (.ireturn, 1) := dk_172 (dk_at dksX7_parent_1 7 rfl rfl)
abbrev cX7_writes : ByteArray := prog_17_method_27_code
def yX7_writes : MethodName := ⟨RX7, "writes", "(I)V"⟩
def dkwX7_writes_0 : List UInt8 := [42, 180, 0, 19, 42, 180, 0, 158, 27, 79, 42, 89, 180, 0, 158, 4, 96, 181, 0, 158, 177]
abbrev dktX7_writes_0 : List UInt8 := dkwX7_writes_0 ++ []
theorem dksX7_writes_0 : cX7_writes.data.toList.drop 0 = dktX7_writes_0 := by decide +kernel
theorem dX7_writes_0 : decode cX7_writes 0 = .ok (.aload_n 0, 1) := dk_42 (dk_at dksX7_writes_0 0 rfl rfl)
theorem dX7_writes_1 : decode cX7_writes 1 = .ok (.getfield 19, 3) := dk_180 0 19 (dk_at dksX7_writes_0 1 rfl rfl)
theorem dX7_writes_4 : decode cX7_writes 4 = .ok (.aload_n 0, 1) := dk_42 (dk_at dksX7_writes_0 4 rfl rfl)
theorem dX7_writes_5 : decode cX7_writes 5 = .ok (.getfield 158, 3) := dk_180 0 158 (dk_at dksX7_writes_0 5 rfl rfl)
theorem dX7_writes_8 : decode cX7_writes 8 = .ok (.iload_n 1, 1) := dk_27 (dk_at dksX7_writes_0 8 rfl rfl)
theorem dX7_writes_9 : decode cX7_writes 9 = .ok (.iastore, 1) := dk_79 (dk_at dksX7_writes_0 9 rfl rfl)
theorem dX7_writes_10 : decode cX7_writes 10 = .ok (.aload_n 0, 1) := dk_42 (dk_at dksX7_writes_0 10 rfl rfl)
theorem dX7_writes_11 : decode cX7_writes 11 = .ok (.dup, 1) := dk_89 (dk_at dksX7_writes_0 11 rfl rfl)
theorem dX7_writes_12 : decode cX7_writes 12 = .ok (.getfield 158, 3) := dk_180 0 158 (dk_at dksX7_writes_0 12 rfl rfl)
theorem dX7_writes_15 : decode cX7_writes 15 = .ok (.iconst 1, 1) := dk_4 (dk_at dksX7_writes_0 15 rfl rfl)
theorem dX7_writes_16 : decode cX7_writes 16 = .ok (.iadd, 1) := dk_96 (dk_at dksX7_writes_0 16 rfl rfl)
theorem dX7_writes_17 : decode cX7_writes 17 = .ok (.putfield 158, 3) := dk_181 0 158 (dk_at dksX7_writes_0 17 rfl rfl)
theorem dX7_writes_20 : decode cX7_writes 20 = .ok (.return_, 1) := dk_177 (dk_at dksX7_writes_0 20 rfl rfl)
abbrev cX7_letter : ByteArray := prog_17_method_30_code
def yX7_letter : MethodName := ⟨RX7, "letter", "(I)I"⟩
def dkwX7_letter_1 : List UInt8 := [172]
abbrev dktX7_letter_1 : List UInt8 := dkwX7_letter_1 ++ []
def dkwX7_letter_0 : List UInt8 := [27, 3, 42, 180, 0, 158, 4, 100, 184, 0, 96, 153, 0, 12, 42, 180, 0, 19, 27, 46, 167, 0, 4, 2]
abbrev dktX7_letter_0 : List UInt8 := dkwX7_letter_0 ++ dktX7_letter_1
theorem dksX7_letter_0 : cX7_letter.data.toList.drop 0 = dktX7_letter_0 := by decide +kernel
theorem dksX7_letter_1 : cX7_letter.data.toList.drop 24 = dktX7_letter_1 := dk_seg dksX7_letter_0 24 rfl rfl
theorem dX7_letter_0 : decode cX7_letter 0 = .ok (.iload_n 1, 1) := dk_27 (dk_at dksX7_letter_0 0 rfl rfl)
theorem dX7_letter_1 : decode cX7_letter 1 = .ok (.iconst 0, 1) := dk_3 (dk_at dksX7_letter_0 1 rfl rfl)
theorem dX7_letter_2 : decode cX7_letter 2 = .ok (.aload_n 0, 1) := dk_42 (dk_at dksX7_letter_0 2 rfl rfl)
theorem dX7_letter_3 : decode cX7_letter 3 = .ok (.getfield 158, 3) := dk_180 0 158 (dk_at dksX7_letter_0 3 rfl rfl)
theorem dX7_letter_6 : decode cX7_letter 6 = .ok (.iconst 1, 1) := dk_4 (dk_at dksX7_letter_0 6 rfl rfl)
theorem dX7_letter_7 : decode cX7_letter 7 = .ok (.isub, 1) := dk_100 (dk_at dksX7_letter_0 7 rfl rfl)
theorem dX7_letter_8 : decode cX7_letter 8 = .ok (.invokestatic 96, 3) := dk_184 0 96 (dk_at dksX7_letter_0 8 rfl rfl)
theorem dX7_letter_11 : decode cX7_letter 11 = .ok (.ifCond .eq 12, 3) := dk_153 0 12 (dk_at dksX7_letter_0 11 rfl rfl)
theorem dX7_letter_14 : decode cX7_letter 14 = .ok (.aload_n 0, 1) := dk_42 (dk_at dksX7_letter_0 14 rfl rfl)
theorem dX7_letter_15 : decode cX7_letter 15 = .ok (.getfield 19, 3) := dk_180 0 19 (dk_at dksX7_letter_0 15 rfl rfl)
theorem dX7_letter_18 : decode cX7_letter 18 = .ok (.iload_n 1, 1) := dk_27 (dk_at dksX7_letter_0 18 rfl rfl)
theorem dX7_letter_19 : decode cX7_letter 19 = .ok (.iaload, 1) := dk_46 (dk_at dksX7_letter_0 19 rfl rfl)
theorem dX7_letter_20 : decode cX7_letter 20 = .ok (.goto 4, 3) := dk_167 0 4 (dk_at dksX7_letter_0 20 rfl rfl)
theorem dX7_letter_23 : decode cX7_letter 23 = .ok (.iconst (-1), 1) := dk_2 (dk_at dksX7_letter_0 23 rfl rfl)
theorem dX7_letter_24 : decode cX7_letter 24 = .ok (.ireturn, 1) := dk_172 (dk_at dksX7_letter_1 0 rfl rfl)
abbrev cX7_copy : ByteArray := prog_17_method_31_code
def yX7_copy : MethodName := ⟨RX7, "copy", "(II)I"⟩
def dkwX7_copy_1 : List UInt8 := [2, 182, 0, 126, 172, 42, 27, 28, 182, 0, 151, 42, 180, 0, 13, 28, 46, 172]
abbrev dktX7_copy_1 : List UInt8 := dkwX7_copy_1 ++ []
def dkwX7_copy_0 : List UInt8 := [42, 27, 182, 0, 161, 62, 29, 156, 0, 9, 42, 29, 182, 0, 126, 172, 28, 184, 0, 100, 154, 0, 9, 42]
abbrev dktX7_copy_0 : List UInt8 := dkwX7_copy_0 ++ dktX7_copy_1
theorem dksX7_copy_0 : cX7_copy.data.toList.drop 0 = dktX7_copy_0 := by decide +kernel
theorem dksX7_copy_1 : cX7_copy.data.toList.drop 24 = dktX7_copy_1 := dk_seg dksX7_copy_0 24 rfl rfl
theorem dX7_copy_0 : decode cX7_copy 0 = .ok (.aload_n 0, 1) := dk_42 (dk_at dksX7_copy_0 0 rfl rfl)
theorem dX7_copy_1 : decode cX7_copy 1 = .ok (.iload_n 1, 1) := dk_27 (dk_at dksX7_copy_0 1 rfl rfl)
theorem dX7_copy_2 : decode cX7_copy 2 = .ok (.invokevirtual 161, 3) := dk_182 0 161 (dk_at dksX7_copy_0 2 rfl rfl)
theorem dX7_copy_5 : decode cX7_copy 5 = .ok (.istore_n 3, 1) := dk_62 (dk_at dksX7_copy_0 5 rfl rfl)
theorem dX7_copy_6 : decode cX7_copy 6 = .ok (.iload_n 3, 1) := dk_29 (dk_at dksX7_copy_0 6 rfl rfl)
theorem dX7_copy_7 : decode cX7_copy 7 = .ok (.ifCond .ge 9, 3) := dk_156 0 9 (dk_at dksX7_copy_0 7 rfl rfl)
theorem dX7_copy_10 : decode cX7_copy 10 = .ok (.aload_n 0, 1) := dk_42 (dk_at dksX7_copy_0 10 rfl rfl)
theorem dX7_copy_11 : decode cX7_copy 11 = .ok (.iload_n 3, 1) := dk_29 (dk_at dksX7_copy_0 11 rfl rfl)
theorem dX7_copy_12 : decode cX7_copy 12 = .ok (.invokevirtual 126, 3) := dk_182 0 126 (dk_at dksX7_copy_0 12 rfl rfl)
theorem dX7_copy_15 : decode cX7_copy 15 = .ok (.ireturn, 1) := dk_172 (dk_at dksX7_copy_0 15 rfl rfl)
theorem dX7_copy_16 : decode cX7_copy 16 = .ok (.iload_n 2, 1) := dk_28 (dk_at dksX7_copy_0 16 rfl rfl)
theorem dX7_copy_17 : decode cX7_copy 17 = .ok (.invokestatic 100, 3) := dk_184 0 100 (dk_at dksX7_copy_0 17 rfl rfl)
theorem dX7_copy_20 : decode cX7_copy 20 = .ok (.ifCond .ne 9, 3) := dk_154 0 9 (dk_at dksX7_copy_0 20 rfl rfl)
theorem dX7_copy_23 : decode cX7_copy 23 = .ok (.aload_n 0, 1) := dk_42 (dk_at dksX7_copy_0 23 rfl rfl)
theorem dX7_copy_24 : decode cX7_copy 24 = .ok (.iconst (-1), 1) := dk_2 (dk_at dksX7_copy_1 0 rfl rfl)
theorem dX7_copy_25 : decode cX7_copy 25 = .ok (.invokevirtual 126, 3) := dk_182 0 126 (dk_at dksX7_copy_1 1 rfl rfl)
theorem dX7_copy_28 : decode cX7_copy 28 = .ok (.ireturn, 1) := dk_172 (dk_at dksX7_copy_1 4 rfl rfl)
theorem dX7_copy_29 : decode cX7_copy 29 = .ok (.aload_n 0, 1) := dk_42 (dk_at dksX7_copy_1 5 rfl rfl)
theorem dX7_copy_30 : decode cX7_copy 30 = .ok (.iload_n 1, 1) := dk_27 (dk_at dksX7_copy_1 6 rfl rfl)
theorem dX7_copy_31 : decode cX7_copy 31 = .ok (.iload_n 2, 1) := dk_28 (dk_at dksX7_copy_1 7 rfl rfl)
theorem dX7_copy_32 : decode cX7_copy 32 = .ok (.invokevirtual 151, 3) := dk_182 0 151 (dk_at dksX7_copy_1 8 rfl rfl)
theorem dX7_copy_35 : decode cX7_copy 35 = .ok (.aload_n 0, 1) := dk_42 (dk_at dksX7_copy_1 11 rfl rfl)
theorem dX7_copy_36 : decode cX7_copy 36 = .ok (.getfield 13, 3) := dk_180 0 13 (dk_at dksX7_copy_1 12 rfl rfl)
theorem dX7_copy_39 : decode cX7_copy 39 = .ok (.iload_n 2, 1) := dk_28 (dk_at dksX7_copy_1 15 rfl rfl)
theorem dX7_copy_40 : decode cX7_copy 40 = .ok (.iaload, 1) := dk_46 (dk_at dksX7_copy_1 16 rfl rfl)
theorem dX7_copy_41 : decode cX7_copy 41 = .ok (.ireturn, 1) := dk_172 (dk_at dksX7_copy_1 17 rfl rfl)
abbrev cX7_clear : ByteArray := prog_17_method_32_code
def yX7_clear : MethodName := ⟨RX7, "clear", "(I)I"⟩
def dkwX7_clear_1 : List UInt8 := [167, 0, 4, 3, 61, 42, 180, 0, 13, 27, 3, 79, 28, 172]
abbrev dktX7_clear_1 : List UInt8 := dkwX7_clear_1 ++ []
def dkwX7_clear_0 : List UInt8 := [27, 184, 0, 100, 154, 0, 9, 42, 2, 182, 0, 126, 172, 42, 180, 0, 13, 27, 46, 158, 0, 7, 4]
abbrev dktX7_clear_0 : List UInt8 := dkwX7_clear_0 ++ dktX7_clear_1
theorem dksX7_clear_0 : cX7_clear.data.toList.drop 0 = dktX7_clear_0 := by decide +kernel
theorem dksX7_clear_1 : cX7_clear.data.toList.drop 23 = dktX7_clear_1 := dk_seg dksX7_clear_0 23 rfl rfl
theorem dX7_clear_0 : decode cX7_clear 0 = .ok (.iload_n 1, 1) := dk_27 (dk_at dksX7_clear_0 0 rfl rfl)
theorem dX7_clear_1 : decode cX7_clear 1 = .ok (.invokestatic 100, 3) := dk_184 0 100 (dk_at dksX7_clear_0 1 rfl rfl)
theorem dX7_clear_4 : decode cX7_clear 4 = .ok (.ifCond .ne 9, 3) := dk_154 0 9 (dk_at dksX7_clear_0 4 rfl rfl)
theorem dX7_clear_7 : decode cX7_clear 7 = .ok (.aload_n 0, 1) := dk_42 (dk_at dksX7_clear_0 7 rfl rfl)
theorem dX7_clear_8 : decode cX7_clear 8 = .ok (.iconst (-1), 1) := dk_2 (dk_at dksX7_clear_0 8 rfl rfl)
theorem dX7_clear_9 : decode cX7_clear 9 = .ok (.invokevirtual 126, 3) := dk_182 0 126 (dk_at dksX7_clear_0 9 rfl rfl)
theorem dX7_clear_12 : decode cX7_clear 12 = .ok (.ireturn, 1) := dk_172 (dk_at dksX7_clear_0 12 rfl rfl)
theorem dX7_clear_13 : decode cX7_clear 13 = .ok (.aload_n 0, 1) := dk_42 (dk_at dksX7_clear_0 13 rfl rfl)
theorem dX7_clear_14 : decode cX7_clear 14 = .ok (.getfield 13, 3) := dk_180 0 13 (dk_at dksX7_clear_0 14 rfl rfl)
theorem dX7_clear_17 : decode cX7_clear 17 = .ok (.iload_n 1, 1) := dk_27 (dk_at dksX7_clear_0 17 rfl rfl)
theorem dX7_clear_18 : decode cX7_clear 18 = .ok (.iaload, 1) := dk_46 (dk_at dksX7_clear_0 18 rfl rfl)
theorem dX7_clear_19 : decode cX7_clear 19 = .ok (.ifCond .le 7, 3) := dk_158 0 7 (dk_at dksX7_clear_0 19 rfl rfl)
theorem dX7_clear_22 : decode cX7_clear 22 = .ok (.iconst 1, 1) := dk_4 (dk_at dksX7_clear_0 22 rfl rfl)
theorem dX7_clear_23 : decode cX7_clear 23 = .ok (.goto 4, 3) := dk_167 0 4 (dk_at dksX7_clear_1 0 rfl rfl)
theorem dX7_clear_26 : decode cX7_clear 26 = .ok (.iconst 0, 1) := dk_3 (dk_at dksX7_clear_1 3 rfl rfl)
theorem dX7_clear_27 : decode cX7_clear 27 = .ok (.istore_n 2, 1) := dk_61 (dk_at dksX7_clear_1 4 rfl rfl)
theorem dX7_clear_28 : decode cX7_clear 28 = .ok (.aload_n 0, 1) := dk_42 (dk_at dksX7_clear_1 5 rfl rfl)
theorem dX7_clear_29 : decode cX7_clear 29 = .ok (.getfield 13, 3) := dk_180 0 13 (dk_at dksX7_clear_1 6 rfl rfl)
theorem dX7_clear_32 : decode cX7_clear 32 = .ok (.iload_n 1, 1) := dk_27 (dk_at dksX7_clear_1 9 rfl rfl)
theorem dX7_clear_33 : decode cX7_clear 33 = .ok (.iconst 0, 1) := dk_3 (dk_at dksX7_clear_1 10 rfl rfl)
theorem dX7_clear_34 : decode cX7_clear 34 = .ok (.iastore, 1) := dk_79 (dk_at dksX7_clear_1 11 rfl rfl)
theorem dX7_clear_35 : decode cX7_clear 35 = .ok (.iload_n 2, 1) := dk_28 (dk_at dksX7_clear_1 12 rfl rfl)
theorem dX7_clear_36 : decode cX7_clear 36 = .ok (.ireturn, 1) := dk_172 (dk_at dksX7_clear_1 13 rfl rfl)
abbrev cX7_node : ByteArray := prog_17_method_34_code
def yX7_node : MethodName := ⟨RX7, "node", "(III)I"⟩
def dkwX7_node_7 : List UInt8 := [182, 0, 104, 172, 42, 27, 28, 16, 10, 182, 0, 104, 172]
abbrev dktX7_node_7 : List UInt8 := dkwX7_node_7 ++ []
def dkwX7_node_6 : List UInt8 := [182, 0, 104, 172, 42, 27, 28, 182, 0, 119, 28, 100, 172, 42, 27, 28, 182, 0, 178, 172, 42, 27, 28, 6]
abbrev dktX7_node_6 : List UInt8 := dkwX7_node_6 ++ dktX7_node_7
def dkwX7_node_5 : List UInt8 := [27, 28, 182, 0, 115, 172, 28, 154, 0, 8, 16, 248, 167, 0, 15, 42, 27, 42, 27, 28, 182, 0, 172, 3]
abbrev dktX7_node_5 : List UInt8 := dkwX7_node_5 ++ dktX7_node_6
def dkwX7_node_4 : List UInt8 := [42, 27, 28, 3, 182, 0, 104, 172, 42, 27, 28, 4, 182, 0, 104, 172, 42, 27, 28, 182, 0, 175, 172, 42]
abbrev dktX7_node_4 : List UInt8 := dkwX7_node_4 ++ dktX7_node_5
def dkwX7_node_3 : List UInt8 := [170, 0, 0, 0, 0, 0, 0, 124, 0, 0, 0, 0, 0, 0, 0, 7, 0, 0, 0, 48, 0, 0, 0, 56, 0, 0, 0, 64, 0, 0, 0, 71, 0, 0, 0, 78, 0, 0, 0, 100, 0, 0, 0, 109, 0, 0, 0, 116]
abbrev dktX7_node_3 : List UInt8 := dkwX7_node_3 ++ dktX7_node_4
def dkwX7_node_2 : List UInt8 := [2, 182, 0, 126, 172, 29]
abbrev dktX7_node_2 : List UInt8 := dkwX7_node_2 ++ dktX7_node_3
def dkwX7_node_1 : List UInt8 := [180, 0, 13, 27, 46, 4, 100, 184, 0, 96, 153, 0, 13, 29, 3, 16, 8, 184, 0, 96, 154, 0, 9, 42]
abbrev dktX7_node_1 : List UInt8 := dkwX7_node_1 ++ dktX7_node_2
def dkwX7_node_0 : List UInt8 := [42, 27, 182, 0, 161, 54, 4, 21, 4, 156, 0, 10, 42, 21, 4, 182, 0, 126, 172, 28, 3, 42]
abbrev dktX7_node_0 : List UInt8 := dkwX7_node_0 ++ dktX7_node_1
theorem dksX7_node_0 : cX7_node.data.toList.drop 0 = dktX7_node_0 := by decide +kernel
theorem dksX7_node_1 : cX7_node.data.toList.drop 22 = dktX7_node_1 := dk_seg dksX7_node_0 22 rfl rfl
theorem dksX7_node_2 : cX7_node.data.toList.drop 46 = dktX7_node_2 := dk_seg dksX7_node_1 24 rfl rfl
theorem dksX7_node_3 : cX7_node.data.toList.drop 52 = dktX7_node_3 := dk_seg dksX7_node_2 6 rfl rfl
theorem dksX7_node_4 : cX7_node.data.toList.drop 100 = dktX7_node_4 := dk_seg dksX7_node_3 48 rfl rfl
theorem dksX7_node_5 : cX7_node.data.toList.drop 124 = dktX7_node_5 := dk_seg dksX7_node_4 24 rfl rfl
theorem dksX7_node_6 : cX7_node.data.toList.drop 148 = dktX7_node_6 := dk_seg dksX7_node_5 24 rfl rfl
theorem dksX7_node_7 : cX7_node.data.toList.drop 172 = dktX7_node_7 := dk_seg dksX7_node_6 24 rfl rfl
theorem dX7_node_0 : decode cX7_node 0 = .ok (.aload_n 0, 1) := dk_42 (dk_at dksX7_node_0 0 rfl rfl)
theorem dX7_node_1 : decode cX7_node 1 = .ok (.iload_n 1, 1) := dk_27 (dk_at dksX7_node_0 1 rfl rfl)
theorem dX7_node_2 : decode cX7_node 2 = .ok (.invokevirtual 161, 3) := dk_182 0 161 (dk_at dksX7_node_0 2 rfl rfl)
theorem dX7_node_5 : decode cX7_node 5 = .ok (.istore 4, 2) := dk_54 4 (dk_at dksX7_node_0 5 rfl rfl)
theorem dX7_node_7 : decode cX7_node 7 = .ok (.iload 4, 2) := dk_21 4 (dk_at dksX7_node_0 7 rfl rfl)
theorem dX7_node_9 : decode cX7_node 9 = .ok (.ifCond .ge 10, 3) := dk_156 0 10 (dk_at dksX7_node_0 9 rfl rfl)
theorem dX7_node_12 : decode cX7_node 12 = .ok (.aload_n 0, 1) := dk_42 (dk_at dksX7_node_0 12 rfl rfl)
theorem dX7_node_13 : decode cX7_node 13 = .ok (.iload 4, 2) := dk_21 4 (dk_at dksX7_node_0 13 rfl rfl)
theorem dX7_node_15 : decode cX7_node 15 = .ok (.invokevirtual 126, 3) := dk_182 0 126 (dk_at dksX7_node_0 15 rfl rfl)
theorem dX7_node_18 : decode cX7_node 18 = .ok (.ireturn, 1) := dk_172 (dk_at dksX7_node_0 18 rfl rfl)
theorem dX7_node_19 : decode cX7_node 19 = .ok (.iload_n 2, 1) := dk_28 (dk_at dksX7_node_0 19 rfl rfl)
theorem dX7_node_20 : decode cX7_node 20 = .ok (.iconst 0, 1) := dk_3 (dk_at dksX7_node_0 20 rfl rfl)
theorem dX7_node_21 : decode cX7_node 21 = .ok (.aload_n 0, 1) := dk_42 (dk_at dksX7_node_0 21 rfl rfl)
theorem dX7_node_22 : decode cX7_node 22 = .ok (.getfield 13, 3) := dk_180 0 13 (dk_at dksX7_node_1 0 rfl rfl)
theorem dX7_node_25 : decode cX7_node 25 = .ok (.iload_n 1, 1) := dk_27 (dk_at dksX7_node_1 3 rfl rfl)
theorem dX7_node_26 : decode cX7_node 26 = .ok (.iaload, 1) := dk_46 (dk_at dksX7_node_1 4 rfl rfl)
theorem dX7_node_27 : decode cX7_node 27 = .ok (.iconst 1, 1) := dk_4 (dk_at dksX7_node_1 5 rfl rfl)
theorem dX7_node_28 : decode cX7_node 28 = .ok (.isub, 1) := dk_100 (dk_at dksX7_node_1 6 rfl rfl)
theorem dX7_node_29 : decode cX7_node 29 = .ok (.invokestatic 96, 3) := dk_184 0 96 (dk_at dksX7_node_1 7 rfl rfl)
theorem dX7_node_32 : decode cX7_node 32 = .ok (.ifCond .eq 13, 3) := dk_153 0 13 (dk_at dksX7_node_1 10 rfl rfl)
theorem dX7_node_35 : decode cX7_node 35 = .ok (.iload_n 3, 1) := dk_29 (dk_at dksX7_node_1 13 rfl rfl)
theorem dX7_node_36 : decode cX7_node 36 = .ok (.iconst 0, 1) := dk_3 (dk_at dksX7_node_1 14 rfl rfl)
theorem dX7_node_37 : decode cX7_node 37 = .ok (.bipush 8, 2) := dk_16 8 (dk_at dksX7_node_1 15 rfl rfl)
theorem dX7_node_39 : decode cX7_node 39 = .ok (.invokestatic 96, 3) := dk_184 0 96 (dk_at dksX7_node_1 17 rfl rfl)
theorem dX7_node_42 : decode cX7_node 42 = .ok (.ifCond .ne 9, 3) := dk_154 0 9 (dk_at dksX7_node_1 20 rfl rfl)
theorem dX7_node_45 : decode cX7_node 45 = .ok (.aload_n 0, 1) := dk_42 (dk_at dksX7_node_1 23 rfl rfl)
theorem dX7_node_46 : decode cX7_node 46 = .ok (.iconst (-1), 1) := dk_2 (dk_at dksX7_node_2 0 rfl rfl)
theorem dX7_node_47 : decode cX7_node 47 = .ok (.invokevirtual 126, 3) := dk_182 0 126 (dk_at dksX7_node_2 1 rfl rfl)
theorem dX7_node_50 : decode cX7_node 50 = .ok (.ireturn, 1) := dk_172 (dk_at dksX7_node_2 4 rfl rfl)
theorem dX7_node_51 : decode cX7_node 51 = .ok (.iload_n 3, 1) := dk_29 (dk_at dksX7_node_2 5 rfl rfl)
theorem dX7_node_52 : decode cX7_node 52 = .ok (.tableswitch 124 0 7 #[48, 56, 64, 71, 78, 100, 109, 116], 48) := by decide +kernel
theorem dX7_node_100 : decode cX7_node 100 = .ok (.aload_n 0, 1) := dk_42 (dk_at dksX7_node_4 0 rfl rfl)
theorem dX7_node_101 : decode cX7_node 101 = .ok (.iload_n 1, 1) := dk_27 (dk_at dksX7_node_4 1 rfl rfl)
theorem dX7_node_102 : decode cX7_node 102 = .ok (.iload_n 2, 1) := dk_28 (dk_at dksX7_node_4 2 rfl rfl)
theorem dX7_node_103 : decode cX7_node 103 = .ok (.iconst 0, 1) := dk_3 (dk_at dksX7_node_4 3 rfl rfl)
theorem dX7_node_104 : decode cX7_node 104 = .ok (.invokevirtual 104, 3) := dk_182 0 104 (dk_at dksX7_node_4 4 rfl rfl)
theorem dX7_node_107 : decode cX7_node 107 = .ok (.ireturn, 1) := dk_172 (dk_at dksX7_node_4 7 rfl rfl)
theorem dX7_node_108 : decode cX7_node 108 = .ok (.aload_n 0, 1) := dk_42 (dk_at dksX7_node_4 8 rfl rfl)
theorem dX7_node_109 : decode cX7_node 109 = .ok (.iload_n 1, 1) := dk_27 (dk_at dksX7_node_4 9 rfl rfl)
theorem dX7_node_110 : decode cX7_node 110 = .ok (.iload_n 2, 1) := dk_28 (dk_at dksX7_node_4 10 rfl rfl)
theorem dX7_node_111 : decode cX7_node 111 = .ok (.iconst 1, 1) := dk_4 (dk_at dksX7_node_4 11 rfl rfl)
theorem dX7_node_112 : decode cX7_node 112 = .ok (.invokevirtual 104, 3) := dk_182 0 104 (dk_at dksX7_node_4 12 rfl rfl)
theorem dX7_node_115 : decode cX7_node 115 = .ok (.ireturn, 1) := dk_172 (dk_at dksX7_node_4 15 rfl rfl)
theorem dX7_node_116 : decode cX7_node 116 = .ok (.aload_n 0, 1) := dk_42 (dk_at dksX7_node_4 16 rfl rfl)
theorem dX7_node_117 : decode cX7_node 117 = .ok (.iload_n 1, 1) := dk_27 (dk_at dksX7_node_4 17 rfl rfl)
theorem dX7_node_118 : decode cX7_node 118 = .ok (.iload_n 2, 1) := dk_28 (dk_at dksX7_node_4 18 rfl rfl)
theorem dX7_node_119 : decode cX7_node 119 = .ok (.invokevirtual 175, 3) := dk_182 0 175 (dk_at dksX7_node_4 19 rfl rfl)
theorem dX7_node_122 : decode cX7_node 122 = .ok (.ireturn, 1) := dk_172 (dk_at dksX7_node_4 22 rfl rfl)
theorem dX7_node_123 : decode cX7_node 123 = .ok (.aload_n 0, 1) := dk_42 (dk_at dksX7_node_4 23 rfl rfl)
theorem dX7_node_124 : decode cX7_node 124 = .ok (.iload_n 1, 1) := dk_27 (dk_at dksX7_node_5 0 rfl rfl)
theorem dX7_node_125 : decode cX7_node 125 = .ok (.iload_n 2, 1) := dk_28 (dk_at dksX7_node_5 1 rfl rfl)
theorem dX7_node_126 : decode cX7_node 126 = .ok (.invokevirtual 115, 3) := dk_182 0 115 (dk_at dksX7_node_5 2 rfl rfl)
theorem dX7_node_129 : decode cX7_node 129 = .ok (.ireturn, 1) := dk_172 (dk_at dksX7_node_5 5 rfl rfl)
theorem dX7_node_130 : decode cX7_node 130 = .ok (.iload_n 2, 1) := dk_28 (dk_at dksX7_node_5 6 rfl rfl)
theorem dX7_node_131 : decode cX7_node 131 = .ok (.ifCond .ne 8, 3) := dk_154 0 8 (dk_at dksX7_node_5 7 rfl rfl)
theorem dX7_node_134 : decode cX7_node 134 = .ok (.bipush (-8), 2) := dk_16 248 (dk_at dksX7_node_5 10 rfl rfl)
theorem dX7_node_136 : decode cX7_node 136 = .ok (.goto 15, 3) := dk_167 0 15 (dk_at dksX7_node_5 12 rfl rfl)
theorem dX7_node_139 : decode cX7_node 139 = .ok (.aload_n 0, 1) := dk_42 (dk_at dksX7_node_5 15 rfl rfl)
theorem dX7_node_140 : decode cX7_node 140 = .ok (.iload_n 1, 1) := dk_27 (dk_at dksX7_node_5 16 rfl rfl)
theorem dX7_node_141 : decode cX7_node 141 = .ok (.aload_n 0, 1) := dk_42 (dk_at dksX7_node_5 17 rfl rfl)
theorem dX7_node_142 : decode cX7_node 142 = .ok (.iload_n 1, 1) := dk_27 (dk_at dksX7_node_5 18 rfl rfl)
theorem dX7_node_143 : decode cX7_node 143 = .ok (.iload_n 2, 1) := dk_28 (dk_at dksX7_node_5 19 rfl rfl)
theorem dX7_node_144 : decode cX7_node 144 = .ok (.invokevirtual 172, 3) := dk_182 0 172 (dk_at dksX7_node_5 20 rfl rfl)
theorem dX7_node_147 : decode cX7_node 147 = .ok (.iconst 0, 1) := dk_3 (dk_at dksX7_node_5 23 rfl rfl)
theorem dX7_node_148 : decode cX7_node 148 = .ok (.invokevirtual 104, 3) := dk_182 0 104 (dk_at dksX7_node_6 0 rfl rfl)
theorem dX7_node_151 : decode cX7_node 151 = .ok (.ireturn, 1) := dk_172 (dk_at dksX7_node_6 3 rfl rfl)
theorem dX7_node_152 : decode cX7_node 152 = .ok (.aload_n 0, 1) := dk_42 (dk_at dksX7_node_6 4 rfl rfl)
theorem dX7_node_153 : decode cX7_node 153 = .ok (.iload_n 1, 1) := dk_27 (dk_at dksX7_node_6 5 rfl rfl)
theorem dX7_node_154 : decode cX7_node 154 = .ok (.iload_n 2, 1) := dk_28 (dk_at dksX7_node_6 6 rfl rfl)
theorem dX7_node_155 : decode cX7_node 155 = .ok (.invokevirtual 119, 3) := dk_182 0 119 (dk_at dksX7_node_6 7 rfl rfl)
theorem dX7_node_158 : decode cX7_node 158 = .ok (.iload_n 2, 1) := dk_28 (dk_at dksX7_node_6 10 rfl rfl)
theorem dX7_node_159 : decode cX7_node 159 = .ok (.isub, 1) := dk_100 (dk_at dksX7_node_6 11 rfl rfl)
theorem dX7_node_160 : decode cX7_node 160 = .ok (.ireturn, 1) := dk_172 (dk_at dksX7_node_6 12 rfl rfl)
theorem dX7_node_161 : decode cX7_node 161 = .ok (.aload_n 0, 1) := dk_42 (dk_at dksX7_node_6 13 rfl rfl)
theorem dX7_node_162 : decode cX7_node 162 = .ok (.iload_n 1, 1) := dk_27 (dk_at dksX7_node_6 14 rfl rfl)
theorem dX7_node_163 : decode cX7_node 163 = .ok (.iload_n 2, 1) := dk_28 (dk_at dksX7_node_6 15 rfl rfl)
theorem dX7_node_164 : decode cX7_node 164 = .ok (.invokevirtual 178, 3) := dk_182 0 178 (dk_at dksX7_node_6 16 rfl rfl)
theorem dX7_node_167 : decode cX7_node 167 = .ok (.ireturn, 1) := dk_172 (dk_at dksX7_node_6 19 rfl rfl)
theorem dX7_node_168 : decode cX7_node 168 = .ok (.aload_n 0, 1) := dk_42 (dk_at dksX7_node_6 20 rfl rfl)
theorem dX7_node_169 : decode cX7_node 169 = .ok (.iload_n 1, 1) := dk_27 (dk_at dksX7_node_6 21 rfl rfl)
theorem dX7_node_170 : decode cX7_node 170 = .ok (.iload_n 2, 1) := dk_28 (dk_at dksX7_node_6 22 rfl rfl)
theorem dX7_node_171 : decode cX7_node 171 = .ok (.iconst 3, 1) := dk_6 (dk_at dksX7_node_6 23 rfl rfl)
theorem dX7_node_172 : decode cX7_node 172 = .ok (.invokevirtual 104, 3) := dk_182 0 104 (dk_at dksX7_node_7 0 rfl rfl)
theorem dX7_node_175 : decode cX7_node 175 = .ok (.ireturn, 1) := dk_172 (dk_at dksX7_node_7 3 rfl rfl)
theorem dX7_node_176 : decode cX7_node 176 = .ok (.aload_n 0, 1) := dk_42 (dk_at dksX7_node_7 4 rfl rfl)
theorem dX7_node_177 : decode cX7_node 177 = .ok (.iload_n 1, 1) := dk_27 (dk_at dksX7_node_7 5 rfl rfl)
theorem dX7_node_178 : decode cX7_node 178 = .ok (.iload_n 2, 1) := dk_28 (dk_at dksX7_node_7 6 rfl rfl)
theorem dX7_node_179 : decode cX7_node 179 = .ok (.bipush 10, 2) := dk_16 10 (dk_at dksX7_node_7 7 rfl rfl)
theorem dX7_node_181 : decode cX7_node 181 = .ok (.invokevirtual 104, 3) := dk_182 0 104 (dk_at dksX7_node_7 9 rfl rfl)
theorem dX7_node_184 : decode cX7_node 184 = .ok (.ireturn, 1) := dk_172 (dk_at dksX7_node_7 12 rfl rfl)
abbrev cX7_children : ByteArray := prog_17_method_15_code
def yX7_children : MethodName := ⟨RX7, "children", "(II)I"⟩
def dkwX7_children_1 : List UInt8 := [21, 4, 182, 0, 119, 54, 4, 167, 255, 233, 29, 172]
abbrev dktX7_children_1 : List UInt8 := dkwX7_children_1 ++ []
def dkwX7_children_0 : List UInt8 := [3, 62, 28, 4, 96, 54, 4, 21, 4, 42, 27, 28, 182, 0, 119, 162, 0, 18, 132, 3, 1, 42, 27]
abbrev dktX7_children_0 : List UInt8 := dkwX7_children_0 ++ dktX7_children_1
theorem dksX7_children_0 : cX7_children.data.toList.drop 0 = dktX7_children_0 := by decide +kernel
theorem dksX7_children_1 : cX7_children.data.toList.drop 23 = dktX7_children_1 := dk_seg dksX7_children_0 23 rfl rfl
theorem dX7_children_0 : decode cX7_children 0 = .ok (.iconst 0, 1) := dk_3 (dk_at dksX7_children_0 0 rfl rfl)
theorem dX7_children_1 : decode cX7_children 1 = .ok (.istore_n 3, 1) := dk_62 (dk_at dksX7_children_0 1 rfl rfl)
theorem dX7_children_2 : decode cX7_children 2 = .ok (.iload_n 2, 1) := dk_28 (dk_at dksX7_children_0 2 rfl rfl)
theorem dX7_children_3 : decode cX7_children 3 = .ok (.iconst 1, 1) := dk_4 (dk_at dksX7_children_0 3 rfl rfl)
theorem dX7_children_4 : decode cX7_children 4 = .ok (.iadd, 1) := dk_96 (dk_at dksX7_children_0 4 rfl rfl)
theorem dX7_children_5 : decode cX7_children 5 = .ok (.istore 4, 2) := dk_54 4 (dk_at dksX7_children_0 5 rfl rfl)
theorem dX7_children_7 : decode cX7_children 7 = .ok (.iload 4, 2) := dk_21 4 (dk_at dksX7_children_0 7 rfl rfl)
theorem dX7_children_9 : decode cX7_children 9 = .ok (.aload_n 0, 1) := dk_42 (dk_at dksX7_children_0 9 rfl rfl)
theorem dX7_children_10 : decode cX7_children 10 = .ok (.iload_n 1, 1) := dk_27 (dk_at dksX7_children_0 10 rfl rfl)
theorem dX7_children_11 : decode cX7_children 11 = .ok (.iload_n 2, 1) := dk_28 (dk_at dksX7_children_0 11 rfl rfl)
theorem dX7_children_12 : decode cX7_children 12 = .ok (.invokevirtual 119, 3) := dk_182 0 119 (dk_at dksX7_children_0 12 rfl rfl)
theorem dX7_children_15 : decode cX7_children 15 = .ok (.if_icmp .ge 18, 3) := dk_162 0 18 (dk_at dksX7_children_0 15 rfl rfl)
theorem dX7_children_18 : decode cX7_children 18 = .ok (.iinc 3 1, 3) := dk_132 3 1 (dk_at dksX7_children_0 18 rfl rfl)
theorem dX7_children_21 : decode cX7_children 21 = .ok (.aload_n 0, 1) := dk_42 (dk_at dksX7_children_0 21 rfl rfl)
theorem dX7_children_22 : decode cX7_children 22 = .ok (.iload_n 1, 1) := dk_27 (dk_at dksX7_children_0 22 rfl rfl)
theorem dX7_children_23 : decode cX7_children 23 = .ok (.iload 4, 2) := dk_21 4 (dk_at dksX7_children_1 0 rfl rfl)
theorem dX7_children_25 : decode cX7_children 25 = .ok (.invokevirtual 119, 3) := dk_182 0 119 (dk_at dksX7_children_1 2 rfl rfl)
theorem dX7_children_28 : decode cX7_children 28 = .ok (.istore 4, 2) := dk_54 4 (dk_at dksX7_children_1 5 rfl rfl)
theorem dX7_children_30 : decode cX7_children 30 = .ok (.goto (-23), 3) := dk_167 255 233 (dk_at dksX7_children_1 7 rfl rfl)
theorem dX7_children_33 : decode cX7_children 33 = .ok (.iload_n 3, 1) := dk_29 (dk_at dksX7_children_1 10 rfl rfl)
theorem dX7_children_34 : decode cX7_children 34 = .ok (.ireturn, 1) := dk_172 (dk_at dksX7_children_1 11 rfl rfl)
abbrev cX7_behind : ByteArray := prog_17_method_33_code
def yX7_behind : MethodName := ⟨RX7, "behind", "(II)I"⟩
def dkwX7_behind_1 : List UInt8 := [21, 4, 182, 0, 119, 28, 164, 0, 7, 3, 167, 0, 4, 4, 96, 62, 132, 4, 1, 167, 255, 228, 29, 172]
abbrev dktX7_behind_1 : List UInt8 := dkwX7_behind_1 ++ []
def dkwX7_behind_0 : List UInt8 := [42, 27, 28, 182, 0, 119, 28, 100, 4, 100, 62, 3, 54, 4, 21, 4, 28, 162, 0, 28, 29, 42, 27]
abbrev dktX7_behind_0 : List UInt8 := dkwX7_behind_0 ++ dktX7_behind_1
theorem dksX7_behind_0 : cX7_behind.data.toList.drop 0 = dktX7_behind_0 := by decide +kernel
theorem dksX7_behind_1 : cX7_behind.data.toList.drop 23 = dktX7_behind_1 := dk_seg dksX7_behind_0 23 rfl rfl
theorem dX7_behind_0 : decode cX7_behind 0 = .ok (.aload_n 0, 1) := dk_42 (dk_at dksX7_behind_0 0 rfl rfl)
theorem dX7_behind_1 : decode cX7_behind 1 = .ok (.iload_n 1, 1) := dk_27 (dk_at dksX7_behind_0 1 rfl rfl)
theorem dX7_behind_2 : decode cX7_behind 2 = .ok (.iload_n 2, 1) := dk_28 (dk_at dksX7_behind_0 2 rfl rfl)
theorem dX7_behind_3 : decode cX7_behind 3 = .ok (.invokevirtual 119, 3) := dk_182 0 119 (dk_at dksX7_behind_0 3 rfl rfl)
theorem dX7_behind_6 : decode cX7_behind 6 = .ok (.iload_n 2, 1) := dk_28 (dk_at dksX7_behind_0 6 rfl rfl)
theorem dX7_behind_7 : decode cX7_behind 7 = .ok (.isub, 1) := dk_100 (dk_at dksX7_behind_0 7 rfl rfl)
theorem dX7_behind_8 : decode cX7_behind 8 = .ok (.iconst 1, 1) := dk_4 (dk_at dksX7_behind_0 8 rfl rfl)
theorem dX7_behind_9 : decode cX7_behind 9 = .ok (.isub, 1) := dk_100 (dk_at dksX7_behind_0 9 rfl rfl)
theorem dX7_behind_10 : decode cX7_behind 10 = .ok (.istore_n 3, 1) := dk_62 (dk_at dksX7_behind_0 10 rfl rfl)
theorem dX7_behind_11 : decode cX7_behind 11 = .ok (.iconst 0, 1) := dk_3 (dk_at dksX7_behind_0 11 rfl rfl)
theorem dX7_behind_12 : decode cX7_behind 12 = .ok (.istore 4, 2) := dk_54 4 (dk_at dksX7_behind_0 12 rfl rfl)
theorem dX7_behind_14 : decode cX7_behind 14 = .ok (.iload 4, 2) := dk_21 4 (dk_at dksX7_behind_0 14 rfl rfl)
theorem dX7_behind_16 : decode cX7_behind 16 = .ok (.iload_n 2, 1) := dk_28 (dk_at dksX7_behind_0 16 rfl rfl)
theorem dX7_behind_17 : decode cX7_behind 17 = .ok (.if_icmp .ge 28, 3) := dk_162 0 28 (dk_at dksX7_behind_0 17 rfl rfl)
theorem dX7_behind_20 : decode cX7_behind 20 = .ok (.iload_n 3, 1) := dk_29 (dk_at dksX7_behind_0 20 rfl rfl)
theorem dX7_behind_21 : decode cX7_behind 21 = .ok (.aload_n 0, 1) := dk_42 (dk_at dksX7_behind_0 21 rfl rfl)
theorem dX7_behind_22 : decode cX7_behind 22 = .ok (.iload_n 1, 1) := dk_27 (dk_at dksX7_behind_0 22 rfl rfl)
theorem dX7_behind_23 : decode cX7_behind 23 = .ok (.iload 4, 2) := dk_21 4 (dk_at dksX7_behind_1 0 rfl rfl)
theorem dX7_behind_25 : decode cX7_behind 25 = .ok (.invokevirtual 119, 3) := dk_182 0 119 (dk_at dksX7_behind_1 2 rfl rfl)
theorem dX7_behind_28 : decode cX7_behind 28 = .ok (.iload_n 2, 1) := dk_28 (dk_at dksX7_behind_1 5 rfl rfl)
theorem dX7_behind_29 : decode cX7_behind 29 = .ok (.if_icmp .le 7, 3) := dk_164 0 7 (dk_at dksX7_behind_1 6 rfl rfl)
theorem dX7_behind_32 : decode cX7_behind 32 = .ok (.iconst 0, 1) := dk_3 (dk_at dksX7_behind_1 9 rfl rfl)
theorem dX7_behind_33 : decode cX7_behind 33 = .ok (.goto 4, 3) := dk_167 0 4 (dk_at dksX7_behind_1 10 rfl rfl)
theorem dX7_behind_36 : decode cX7_behind 36 = .ok (.iconst 1, 1) := dk_4 (dk_at dksX7_behind_1 13 rfl rfl)
theorem dX7_behind_37 : decode cX7_behind 37 = .ok (.iadd, 1) := dk_96 (dk_at dksX7_behind_1 14 rfl rfl)
theorem dX7_behind_38 : decode cX7_behind 38 = .ok (.istore_n 3, 1) := dk_62 (dk_at dksX7_behind_1 15 rfl rfl)
theorem dX7_behind_39 : decode cX7_behind 39 = .ok (.iinc 4 1, 3) := dk_132 4 1 (dk_at dksX7_behind_1 16 rfl rfl)
theorem dX7_behind_42 : decode cX7_behind 42 = .ok (.goto (-28), 3) := dk_167 255 228 (dk_at dksX7_behind_1 19 rfl rfl)
theorem dX7_behind_45 : decode cX7_behind 45 = .ok (.iload_n 3, 1) := dk_29 (dk_at dksX7_behind_1 22 rfl rfl)
theorem dX7_behind_46 : decode cX7_behind 46 = .ok (.ireturn, 1) := dk_172 (dk_at dksX7_behind_1 23 rfl rfl)
abbrev cX7_size : ByteArray := prog_17_method_35_code
def yX7_size : MethodName := ⟨RX7, "size", "(I)I"⟩
def dkwX7_size_1 : List UInt8 := [172]
abbrev dktX7_size_1 : List UInt8 := dkwX7_size_1 ++ []
def dkwX7_size_0 : List UInt8 := [42, 27, 182, 0, 161, 61, 28, 156, 0, 11, 42, 28, 182, 0, 126, 167, 0, 9, 42, 180, 0, 13, 27, 46]
abbrev dktX7_size_0 : List UInt8 := dkwX7_size_0 ++ dktX7_size_1
theorem dksX7_size_0 : cX7_size.data.toList.drop 0 = dktX7_size_0 := by decide +kernel
theorem dksX7_size_1 : cX7_size.data.toList.drop 24 = dktX7_size_1 := dk_seg dksX7_size_0 24 rfl rfl
theorem dX7_size_0 : decode cX7_size 0 = .ok (.aload_n 0, 1) := dk_42 (dk_at dksX7_size_0 0 rfl rfl)
theorem dX7_size_1 : decode cX7_size 1 = .ok (.iload_n 1, 1) := dk_27 (dk_at dksX7_size_0 1 rfl rfl)
theorem dX7_size_2 : decode cX7_size 2 = .ok (.invokevirtual 161, 3) := dk_182 0 161 (dk_at dksX7_size_0 2 rfl rfl)
theorem dX7_size_5 : decode cX7_size 5 = .ok (.istore_n 2, 1) := dk_61 (dk_at dksX7_size_0 5 rfl rfl)
theorem dX7_size_6 : decode cX7_size 6 = .ok (.iload_n 2, 1) := dk_28 (dk_at dksX7_size_0 6 rfl rfl)
theorem dX7_size_7 : decode cX7_size 7 = .ok (.ifCond .ge 11, 3) := dk_156 0 11 (dk_at dksX7_size_0 7 rfl rfl)
theorem dX7_size_10 : decode cX7_size 10 = .ok (.aload_n 0, 1) := dk_42 (dk_at dksX7_size_0 10 rfl rfl)
theorem dX7_size_11 : decode cX7_size 11 = .ok (.iload_n 2, 1) := dk_28 (dk_at dksX7_size_0 11 rfl rfl)
theorem dX7_size_12 : decode cX7_size 12 = .ok (.invokevirtual 126, 3) := dk_182 0 126 (dk_at dksX7_size_0 12 rfl rfl)
theorem dX7_size_15 : decode cX7_size 15 = .ok (.goto 9, 3) := dk_167 0 9 (dk_at dksX7_size_0 15 rfl rfl)
theorem dX7_size_18 : decode cX7_size 18 = .ok (.aload_n 0, 1) := dk_42 (dk_at dksX7_size_0 18 rfl rfl)
theorem dX7_size_19 : decode cX7_size 19 = .ok (.getfield 13, 3) := dk_180 0 13 (dk_at dksX7_size_0 19 rfl rfl)
theorem dX7_size_22 : decode cX7_size 22 = .ok (.iload_n 1, 1) := dk_27 (dk_at dksX7_size_0 22 rfl rfl)
theorem dX7_size_23 : decode cX7_size 23 = .ok (.iaload, 1) := dk_46 (dk_at dksX7_size_0 23 rfl rfl)
theorem dX7_size_24 : decode cX7_size 24 = .ok (.ireturn, 1) := dk_172 (dk_at dksX7_size_1 0 rfl rfl)
abbrev cX7_relabel : ByteArray := prog_17_method_37_code
def yX7_relabel : MethodName := ⟨RX7, "relabel", "(II)I"⟩
def dkwX7_relabel_6 : List UInt8 := [167, 255, 206, 42, 16, 8, 27, 182, 0, 151, 42, 27, 21, 4, 6, 182, 0, 104, 172]
abbrev dktX7_relabel_6 : List UInt8 := dkwX7_relabel_6 ++ []
def dkwX7_relabel_5 : List UInt8 := [6, 182, 0, 122, 153, 0, 10, 42, 16, 252, 182, 0, 126, 172, 42, 27, 21, 6, 182, 0, 119, 54, 6]
abbrev dktX7_relabel_5 : List UInt8 := dkwX7_relabel_5 ++ dktX7_relabel_6
def dkwX7_relabel_4 : List UInt8 := [27, 21, 5, 182, 0, 119, 162, 0, 44, 21, 6, 21, 4, 159, 0, 25, 42, 16, 8, 21, 4, 27, 21, 6]
abbrev dktX7_relabel_4 : List UInt8 := dkwX7_relabel_4 ++ dktX7_relabel_5
def dkwX7_relabel_3 : List UInt8 := [155, 0, 74, 42, 27, 21, 5, 4, 182, 0, 104, 5, 160, 0, 62, 21, 5, 4, 96, 54, 6, 21, 6, 42]
abbrev dktX7_relabel_3 : List UInt8 := dkwX7_relabel_3 ++ dktX7_relabel_4
def dkwX7_relabel_2 : List UInt8 := [182, 0, 184, 154, 0, 10, 42, 16, 253, 182, 0, 126, 172, 42, 27, 21, 4, 182, 0, 172, 54, 5, 21, 5]
abbrev dktX7_relabel_2 : List UInt8 := dkwX7_relabel_2 ++ dktX7_relabel_3
def dkwX7_relabel_1 : List UInt8 := [21, 4, 156, 0, 10, 42, 16, 250, 182, 0, 126, 172, 42, 27, 16, 8, 182, 0, 151, 42, 21, 4, 6]
abbrev dktX7_relabel_1 : List UInt8 := dkwX7_relabel_1 ++ dktX7_relabel_2
def dkwX7_relabel_0 : List UInt8 := [42, 27, 182, 0, 161, 62, 29, 156, 0, 9, 42, 29, 182, 0, 126, 172, 42, 27, 28, 182, 0, 181, 54, 4]
abbrev dktX7_relabel_0 : List UInt8 := dkwX7_relabel_0 ++ dktX7_relabel_1
theorem dksX7_relabel_0 : cX7_relabel.data.toList.drop 0 = dktX7_relabel_0 := by decide +kernel
theorem dksX7_relabel_1 : cX7_relabel.data.toList.drop 24 = dktX7_relabel_1 := dk_seg dksX7_relabel_0 24 rfl rfl
theorem dksX7_relabel_2 : cX7_relabel.data.toList.drop 47 = dktX7_relabel_2 := dk_seg dksX7_relabel_1 23 rfl rfl
theorem dksX7_relabel_3 : cX7_relabel.data.toList.drop 71 = dktX7_relabel_3 := dk_seg dksX7_relabel_2 24 rfl rfl
theorem dksX7_relabel_4 : cX7_relabel.data.toList.drop 95 = dktX7_relabel_4 := dk_seg dksX7_relabel_3 24 rfl rfl
theorem dksX7_relabel_5 : cX7_relabel.data.toList.drop 119 = dktX7_relabel_5 := dk_seg dksX7_relabel_4 24 rfl rfl
theorem dksX7_relabel_6 : cX7_relabel.data.toList.drop 142 = dktX7_relabel_6 := dk_seg dksX7_relabel_5 23 rfl rfl
theorem dX7_relabel_0 : decode cX7_relabel 0 = .ok (.aload_n 0, 1) := dk_42 (dk_at dksX7_relabel_0 0 rfl rfl)
theorem dX7_relabel_1 : decode cX7_relabel 1 = .ok (.iload_n 1, 1) := dk_27 (dk_at dksX7_relabel_0 1 rfl rfl)
theorem dX7_relabel_2 : decode cX7_relabel 2 = .ok (.invokevirtual 161, 3) := dk_182 0 161 (dk_at dksX7_relabel_0 2 rfl rfl)
theorem dX7_relabel_5 : decode cX7_relabel 5 = .ok (.istore_n 3, 1) := dk_62 (dk_at dksX7_relabel_0 5 rfl rfl)
theorem dX7_relabel_6 : decode cX7_relabel 6 = .ok (.iload_n 3, 1) := dk_29 (dk_at dksX7_relabel_0 6 rfl rfl)
theorem dX7_relabel_7 : decode cX7_relabel 7 = .ok (.ifCond .ge 9, 3) := dk_156 0 9 (dk_at dksX7_relabel_0 7 rfl rfl)
theorem dX7_relabel_10 : decode cX7_relabel 10 = .ok (.aload_n 0, 1) := dk_42 (dk_at dksX7_relabel_0 10 rfl rfl)
theorem dX7_relabel_11 : decode cX7_relabel 11 = .ok (.iload_n 3, 1) := dk_29 (dk_at dksX7_relabel_0 11 rfl rfl)
theorem dX7_relabel_12 : decode cX7_relabel 12 = .ok (.invokevirtual 126, 3) := dk_182 0 126 (dk_at dksX7_relabel_0 12 rfl rfl)
theorem dX7_relabel_15 : decode cX7_relabel 15 = .ok (.ireturn, 1) := dk_172 (dk_at dksX7_relabel_0 15 rfl rfl)
theorem dX7_relabel_16 : decode cX7_relabel 16 = .ok (.aload_n 0, 1) := dk_42 (dk_at dksX7_relabel_0 16 rfl rfl)
theorem dX7_relabel_17 : decode cX7_relabel 17 = .ok (.iload_n 1, 1) := dk_27 (dk_at dksX7_relabel_0 17 rfl rfl)
theorem dX7_relabel_18 : decode cX7_relabel 18 = .ok (.iload_n 2, 1) := dk_28 (dk_at dksX7_relabel_0 18 rfl rfl)
theorem dX7_relabel_19 : decode cX7_relabel 19 = .ok (.invokevirtual 181, 3) := dk_182 0 181 (dk_at dksX7_relabel_0 19 rfl rfl)
theorem dX7_relabel_22 : decode cX7_relabel 22 = .ok (.istore 4, 2) := dk_54 4 (dk_at dksX7_relabel_0 22 rfl rfl)
theorem dX7_relabel_24 : decode cX7_relabel 24 = .ok (.iload 4, 2) := dk_21 4 (dk_at dksX7_relabel_1 0 rfl rfl)
theorem dX7_relabel_26 : decode cX7_relabel 26 = .ok (.ifCond .ge 10, 3) := dk_156 0 10 (dk_at dksX7_relabel_1 2 rfl rfl)
theorem dX7_relabel_29 : decode cX7_relabel 29 = .ok (.aload_n 0, 1) := dk_42 (dk_at dksX7_relabel_1 5 rfl rfl)
theorem dX7_relabel_30 : decode cX7_relabel 30 = .ok (.bipush (-6), 2) := dk_16 250 (dk_at dksX7_relabel_1 6 rfl rfl)
theorem dX7_relabel_32 : decode cX7_relabel 32 = .ok (.invokevirtual 126, 3) := dk_182 0 126 (dk_at dksX7_relabel_1 8 rfl rfl)
theorem dX7_relabel_35 : decode cX7_relabel 35 = .ok (.ireturn, 1) := dk_172 (dk_at dksX7_relabel_1 11 rfl rfl)
theorem dX7_relabel_36 : decode cX7_relabel 36 = .ok (.aload_n 0, 1) := dk_42 (dk_at dksX7_relabel_1 12 rfl rfl)
theorem dX7_relabel_37 : decode cX7_relabel 37 = .ok (.iload_n 1, 1) := dk_27 (dk_at dksX7_relabel_1 13 rfl rfl)
theorem dX7_relabel_38 : decode cX7_relabel 38 = .ok (.bipush 8, 2) := dk_16 8 (dk_at dksX7_relabel_1 14 rfl rfl)
theorem dX7_relabel_40 : decode cX7_relabel 40 = .ok (.invokevirtual 151, 3) := dk_182 0 151 (dk_at dksX7_relabel_1 16 rfl rfl)
theorem dX7_relabel_43 : decode cX7_relabel 43 = .ok (.aload_n 0, 1) := dk_42 (dk_at dksX7_relabel_1 19 rfl rfl)
theorem dX7_relabel_44 : decode cX7_relabel 44 = .ok (.iload 4, 2) := dk_21 4 (dk_at dksX7_relabel_1 20 rfl rfl)
theorem dX7_relabel_46 : decode cX7_relabel 46 = .ok (.iconst 3, 1) := dk_6 (dk_at dksX7_relabel_1 22 rfl rfl)
theorem dX7_relabel_47 : decode cX7_relabel 47 = .ok (.invokevirtual 184, 3) := dk_182 0 184 (dk_at dksX7_relabel_2 0 rfl rfl)
theorem dX7_relabel_50 : decode cX7_relabel 50 = .ok (.ifCond .ne 10, 3) := dk_154 0 10 (dk_at dksX7_relabel_2 3 rfl rfl)
theorem dX7_relabel_53 : decode cX7_relabel 53 = .ok (.aload_n 0, 1) := dk_42 (dk_at dksX7_relabel_2 6 rfl rfl)
theorem dX7_relabel_54 : decode cX7_relabel 54 = .ok (.bipush (-3), 2) := dk_16 253 (dk_at dksX7_relabel_2 7 rfl rfl)
theorem dX7_relabel_56 : decode cX7_relabel 56 = .ok (.invokevirtual 126, 3) := dk_182 0 126 (dk_at dksX7_relabel_2 9 rfl rfl)
theorem dX7_relabel_59 : decode cX7_relabel 59 = .ok (.ireturn, 1) := dk_172 (dk_at dksX7_relabel_2 12 rfl rfl)
theorem dX7_relabel_60 : decode cX7_relabel 60 = .ok (.aload_n 0, 1) := dk_42 (dk_at dksX7_relabel_2 13 rfl rfl)
theorem dX7_relabel_61 : decode cX7_relabel 61 = .ok (.iload_n 1, 1) := dk_27 (dk_at dksX7_relabel_2 14 rfl rfl)
theorem dX7_relabel_62 : decode cX7_relabel 62 = .ok (.iload 4, 2) := dk_21 4 (dk_at dksX7_relabel_2 15 rfl rfl)
theorem dX7_relabel_64 : decode cX7_relabel 64 = .ok (.invokevirtual 172, 3) := dk_182 0 172 (dk_at dksX7_relabel_2 17 rfl rfl)
theorem dX7_relabel_67 : decode cX7_relabel 67 = .ok (.istore 5, 2) := dk_54 5 (dk_at dksX7_relabel_2 20 rfl rfl)
theorem dX7_relabel_69 : decode cX7_relabel 69 = .ok (.iload 5, 2) := dk_21 5 (dk_at dksX7_relabel_2 22 rfl rfl)
theorem dX7_relabel_71 : decode cX7_relabel 71 = .ok (.ifCond .lt 74, 3) := dk_155 0 74 (dk_at dksX7_relabel_3 0 rfl rfl)
theorem dX7_relabel_74 : decode cX7_relabel 74 = .ok (.aload_n 0, 1) := dk_42 (dk_at dksX7_relabel_3 3 rfl rfl)
theorem dX7_relabel_75 : decode cX7_relabel 75 = .ok (.iload_n 1, 1) := dk_27 (dk_at dksX7_relabel_3 4 rfl rfl)
theorem dX7_relabel_76 : decode cX7_relabel 76 = .ok (.iload 5, 2) := dk_21 5 (dk_at dksX7_relabel_3 5 rfl rfl)
theorem dX7_relabel_78 : decode cX7_relabel 78 = .ok (.iconst 1, 1) := dk_4 (dk_at dksX7_relabel_3 7 rfl rfl)
theorem dX7_relabel_79 : decode cX7_relabel 79 = .ok (.invokevirtual 104, 3) := dk_182 0 104 (dk_at dksX7_relabel_3 8 rfl rfl)
theorem dX7_relabel_82 : decode cX7_relabel 82 = .ok (.iconst 2, 1) := dk_5 (dk_at dksX7_relabel_3 11 rfl rfl)
theorem dX7_relabel_83 : decode cX7_relabel 83 = .ok (.if_icmp .ne 62, 3) := dk_160 0 62 (dk_at dksX7_relabel_3 12 rfl rfl)
theorem dX7_relabel_86 : decode cX7_relabel 86 = .ok (.iload 5, 2) := dk_21 5 (dk_at dksX7_relabel_3 15 rfl rfl)
theorem dX7_relabel_88 : decode cX7_relabel 88 = .ok (.iconst 1, 1) := dk_4 (dk_at dksX7_relabel_3 17 rfl rfl)
theorem dX7_relabel_89 : decode cX7_relabel 89 = .ok (.iadd, 1) := dk_96 (dk_at dksX7_relabel_3 18 rfl rfl)
theorem dX7_relabel_90 : decode cX7_relabel 90 = .ok (.istore 6, 2) := dk_54 6 (dk_at dksX7_relabel_3 19 rfl rfl)
theorem dX7_relabel_92 : decode cX7_relabel 92 = .ok (.iload 6, 2) := dk_21 6 (dk_at dksX7_relabel_3 21 rfl rfl)
theorem dX7_relabel_94 : decode cX7_relabel 94 = .ok (.aload_n 0, 1) := dk_42 (dk_at dksX7_relabel_3 23 rfl rfl)
theorem dX7_relabel_95 : decode cX7_relabel 95 = .ok (.iload_n 1, 1) := dk_27 (dk_at dksX7_relabel_4 0 rfl rfl)
theorem dX7_relabel_96 : decode cX7_relabel 96 = .ok (.iload 5, 2) := dk_21 5 (dk_at dksX7_relabel_4 1 rfl rfl)
theorem dX7_relabel_98 : decode cX7_relabel 98 = .ok (.invokevirtual 119, 3) := dk_182 0 119 (dk_at dksX7_relabel_4 3 rfl rfl)
theorem dX7_relabel_101 : decode cX7_relabel 101 = .ok (.if_icmp .ge 44, 3) := dk_162 0 44 (dk_at dksX7_relabel_4 6 rfl rfl)
theorem dX7_relabel_104 : decode cX7_relabel 104 = .ok (.iload 6, 2) := dk_21 6 (dk_at dksX7_relabel_4 9 rfl rfl)
theorem dX7_relabel_106 : decode cX7_relabel 106 = .ok (.iload 4, 2) := dk_21 4 (dk_at dksX7_relabel_4 11 rfl rfl)
theorem dX7_relabel_108 : decode cX7_relabel 108 = .ok (.if_icmp .eq 25, 3) := dk_159 0 25 (dk_at dksX7_relabel_4 13 rfl rfl)
theorem dX7_relabel_111 : decode cX7_relabel 111 = .ok (.aload_n 0, 1) := dk_42 (dk_at dksX7_relabel_4 16 rfl rfl)
theorem dX7_relabel_112 : decode cX7_relabel 112 = .ok (.bipush 8, 2) := dk_16 8 (dk_at dksX7_relabel_4 17 rfl rfl)
theorem dX7_relabel_114 : decode cX7_relabel 114 = .ok (.iload 4, 2) := dk_21 4 (dk_at dksX7_relabel_4 19 rfl rfl)
theorem dX7_relabel_116 : decode cX7_relabel 116 = .ok (.iload_n 1, 1) := dk_27 (dk_at dksX7_relabel_4 21 rfl rfl)
theorem dX7_relabel_117 : decode cX7_relabel 117 = .ok (.iload 6, 2) := dk_21 6 (dk_at dksX7_relabel_4 22 rfl rfl)
theorem dX7_relabel_119 : decode cX7_relabel 119 = .ok (.iconst 3, 1) := dk_6 (dk_at dksX7_relabel_5 0 rfl rfl)
theorem dX7_relabel_120 : decode cX7_relabel 120 = .ok (.invokevirtual 122, 3) := dk_182 0 122 (dk_at dksX7_relabel_5 1 rfl rfl)
theorem dX7_relabel_123 : decode cX7_relabel 123 = .ok (.ifCond .eq 10, 3) := dk_153 0 10 (dk_at dksX7_relabel_5 4 rfl rfl)
theorem dX7_relabel_126 : decode cX7_relabel 126 = .ok (.aload_n 0, 1) := dk_42 (dk_at dksX7_relabel_5 7 rfl rfl)
theorem dX7_relabel_127 : decode cX7_relabel 127 = .ok (.bipush (-4), 2) := dk_16 252 (dk_at dksX7_relabel_5 8 rfl rfl)
theorem dX7_relabel_129 : decode cX7_relabel 129 = .ok (.invokevirtual 126, 3) := dk_182 0 126 (dk_at dksX7_relabel_5 10 rfl rfl)
theorem dX7_relabel_132 : decode cX7_relabel 132 = .ok (.ireturn, 1) := dk_172 (dk_at dksX7_relabel_5 13 rfl rfl)
theorem dX7_relabel_133 : decode cX7_relabel 133 = .ok (.aload_n 0, 1) := dk_42 (dk_at dksX7_relabel_5 14 rfl rfl)
theorem dX7_relabel_134 : decode cX7_relabel 134 = .ok (.iload_n 1, 1) := dk_27 (dk_at dksX7_relabel_5 15 rfl rfl)
theorem dX7_relabel_135 : decode cX7_relabel 135 = .ok (.iload 6, 2) := dk_21 6 (dk_at dksX7_relabel_5 16 rfl rfl)
theorem dX7_relabel_137 : decode cX7_relabel 137 = .ok (.invokevirtual 119, 3) := dk_182 0 119 (dk_at dksX7_relabel_5 18 rfl rfl)
theorem dX7_relabel_140 : decode cX7_relabel 140 = .ok (.istore 6, 2) := dk_54 6 (dk_at dksX7_relabel_5 21 rfl rfl)
theorem dX7_relabel_142 : decode cX7_relabel 142 = .ok (.goto (-50), 3) := dk_167 255 206 (dk_at dksX7_relabel_6 0 rfl rfl)
theorem dX7_relabel_145 : decode cX7_relabel 145 = .ok (.aload_n 0, 1) := dk_42 (dk_at dksX7_relabel_6 3 rfl rfl)
theorem dX7_relabel_146 : decode cX7_relabel 146 = .ok (.bipush 8, 2) := dk_16 8 (dk_at dksX7_relabel_6 4 rfl rfl)
theorem dX7_relabel_148 : decode cX7_relabel 148 = .ok (.iload_n 1, 1) := dk_27 (dk_at dksX7_relabel_6 6 rfl rfl)
theorem dX7_relabel_149 : decode cX7_relabel 149 = .ok (.invokevirtual 151, 3) := dk_182 0 151 (dk_at dksX7_relabel_6 7 rfl rfl)
theorem dX7_relabel_152 : decode cX7_relabel 152 = .ok (.aload_n 0, 1) := dk_42 (dk_at dksX7_relabel_6 10 rfl rfl)
theorem dX7_relabel_153 : decode cX7_relabel 153 = .ok (.iload_n 1, 1) := dk_27 (dk_at dksX7_relabel_6 11 rfl rfl)
theorem dX7_relabel_154 : decode cX7_relabel 154 = .ok (.iload 4, 2) := dk_21 4 (dk_at dksX7_relabel_6 12 rfl rfl)
theorem dX7_relabel_156 : decode cX7_relabel 156 = .ok (.iconst 3, 1) := dk_6 (dk_at dksX7_relabel_6 14 rfl rfl)
theorem dX7_relabel_157 : decode cX7_relabel 157 = .ok (.invokevirtual 104, 3) := dk_182 0 104 (dk_at dksX7_relabel_6 15 rfl rfl)
theorem dX7_relabel_160 : decode cX7_relabel 160 = .ok (.ireturn, 1) := dk_172 (dk_at dksX7_relabel_6 18 rfl rfl)
abbrev cX7_named : ByteArray := prog_17_method_16_code
def yX7_named : MethodName := ⟨RX7, "named", "(II)I"⟩
def dkwX7_named_1 : List UInt8 := [172, 132, 3, 1, 167, 255, 230, 2, 172]
abbrev dktX7_named_1 : List UInt8 := dkwX7_named_1 ++ []
def dkwX7_named_0 : List UInt8 := [3, 62, 29, 42, 180, 0, 13, 27, 46, 162, 0, 22, 42, 27, 29, 3, 182, 0, 104, 28, 160, 0, 5, 29]
abbrev dktX7_named_0 : List UInt8 := dkwX7_named_0 ++ dktX7_named_1
theorem dksX7_named_0 : cX7_named.data.toList.drop 0 = dktX7_named_0 := by decide +kernel
theorem dksX7_named_1 : cX7_named.data.toList.drop 24 = dktX7_named_1 := dk_seg dksX7_named_0 24 rfl rfl
theorem dX7_named_0 : decode cX7_named 0 = .ok (.iconst 0, 1) := dk_3 (dk_at dksX7_named_0 0 rfl rfl)
theorem dX7_named_1 : decode cX7_named 1 = .ok (.istore_n 3, 1) := dk_62 (dk_at dksX7_named_0 1 rfl rfl)
theorem dX7_named_2 : decode cX7_named 2 = .ok (.iload_n 3, 1) := dk_29 (dk_at dksX7_named_0 2 rfl rfl)
theorem dX7_named_3 : decode cX7_named 3 = .ok (.aload_n 0, 1) := dk_42 (dk_at dksX7_named_0 3 rfl rfl)
theorem dX7_named_4 : decode cX7_named 4 = .ok (.getfield 13, 3) := dk_180 0 13 (dk_at dksX7_named_0 4 rfl rfl)
theorem dX7_named_7 : decode cX7_named 7 = .ok (.iload_n 1, 1) := dk_27 (dk_at dksX7_named_0 7 rfl rfl)
theorem dX7_named_8 : decode cX7_named 8 = .ok (.iaload, 1) := dk_46 (dk_at dksX7_named_0 8 rfl rfl)
theorem dX7_named_9 : decode cX7_named 9 = .ok (.if_icmp .ge 22, 3) := dk_162 0 22 (dk_at dksX7_named_0 9 rfl rfl)
theorem dX7_named_12 : decode cX7_named 12 = .ok (.aload_n 0, 1) := dk_42 (dk_at dksX7_named_0 12 rfl rfl)
theorem dX7_named_13 : decode cX7_named 13 = .ok (.iload_n 1, 1) := dk_27 (dk_at dksX7_named_0 13 rfl rfl)
theorem dX7_named_14 : decode cX7_named 14 = .ok (.iload_n 3, 1) := dk_29 (dk_at dksX7_named_0 14 rfl rfl)
theorem dX7_named_15 : decode cX7_named 15 = .ok (.iconst 0, 1) := dk_3 (dk_at dksX7_named_0 15 rfl rfl)
theorem dX7_named_16 : decode cX7_named 16 = .ok (.invokevirtual 104, 3) := dk_182 0 104 (dk_at dksX7_named_0 16 rfl rfl)
theorem dX7_named_19 : decode cX7_named 19 = .ok (.iload_n 2, 1) := dk_28 (dk_at dksX7_named_0 19 rfl rfl)
theorem dX7_named_20 : decode cX7_named 20 = .ok (.if_icmp .ne 5, 3) := dk_160 0 5 (dk_at dksX7_named_0 20 rfl rfl)
theorem dX7_named_23 : decode cX7_named 23 = .ok (.iload_n 3, 1) := dk_29 (dk_at dksX7_named_0 23 rfl rfl)
theorem dX7_named_24 : decode cX7_named 24 = .ok (.ireturn, 1) := dk_172 (dk_at dksX7_named_1 0 rfl rfl)
theorem dX7_named_25 : decode cX7_named 25 = .ok (.iinc 3 1, 3) := dk_132 3 1 (dk_at dksX7_named_1 1 rfl rfl)
theorem dX7_named_28 : decode cX7_named 28 = .ok (.goto (-26), 3) := dk_167 255 230 (dk_at dksX7_named_1 4 rfl rfl)
theorem dX7_named_31 : decode cX7_named 31 = .ok (.iconst (-1), 1) := dk_2 (dk_at dksX7_named_1 7 rfl rfl)
theorem dX7_named_32 : decode cX7_named 32 = .ok (.ireturn, 1) := dk_172 (dk_at dksX7_named_1 8 rfl rfl)
abbrev cX7_takes : ByteArray := prog_17_method_36_code
def yX7_takes : MethodName := ⟨RX7, "takes", "(II)Z"⟩
def dkwX7_takes_5 : List UInt8 := [4, 172]
abbrev dktX7_takes_5 : List UInt8 := dkwX7_takes_5 ++ []
def dkwX7_takes_4 : List UInt8 := [180, 0, 16, 21, 4, 46, 182, 0, 108, 132, 4, 1, 167, 255, 191, 42, 16, 8, 27, 28, 29, 182, 0, 108]
abbrev dktX7_takes_4 : List UInt8 := dkwX7_takes_4 ++ dktX7_takes_5
def dkwX7_takes_3 : List UInt8 := [21, 4, 46, 184, 0, 141, 154, 0, 5, 3, 172, 42, 16, 8, 27, 28, 4, 96, 21, 4, 96, 42]
abbrev dktX7_takes_3 : List UInt8 := dkwX7_takes_3 ++ dktX7_takes_4
def dkwX7_takes_2 : List UInt8 := [6, 160, 0, 19, 42, 180, 0, 16, 21, 4, 46, 184, 0, 135, 154, 0, 21, 167, 0, 16, 42, 180, 0, 16]
abbrev dktX7_takes_2 : List UInt8 := dkwX7_takes_2 ++ dktX7_takes_3
def dkwX7_takes_1 : List UInt8 := [163, 0, 12, 28, 6, 160, 0, 9, 29, 154, 0, 5, 3, 172, 3, 54, 4, 21, 4, 29, 162, 0, 65, 28]
abbrev dktX7_takes_1 : List UInt8 := dkwX7_takes_1 ++ dktX7_takes_2
def dkwX7_takes_0 : List UInt8 := [42, 180, 0, 130, 62, 42, 3, 181, 0, 130, 29, 28, 6, 160, 0, 8, 16, 6, 167, 0, 5, 16, 8]
abbrev dktX7_takes_0 : List UInt8 := dkwX7_takes_0 ++ dktX7_takes_1
theorem dksX7_takes_0 : cX7_takes.data.toList.drop 0 = dktX7_takes_0 := by decide +kernel
theorem dksX7_takes_1 : cX7_takes.data.toList.drop 23 = dktX7_takes_1 := dk_seg dksX7_takes_0 23 rfl rfl
theorem dksX7_takes_2 : cX7_takes.data.toList.drop 47 = dktX7_takes_2 := dk_seg dksX7_takes_1 24 rfl rfl
theorem dksX7_takes_3 : cX7_takes.data.toList.drop 71 = dktX7_takes_3 := dk_seg dksX7_takes_2 24 rfl rfl
theorem dksX7_takes_4 : cX7_takes.data.toList.drop 93 = dktX7_takes_4 := dk_seg dksX7_takes_3 22 rfl rfl
theorem dksX7_takes_5 : cX7_takes.data.toList.drop 117 = dktX7_takes_5 := dk_seg dksX7_takes_4 24 rfl rfl
theorem dX7_takes_0 : decode cX7_takes 0 = .ok (.aload_n 0, 1) := dk_42 (dk_at dksX7_takes_0 0 rfl rfl)
theorem dX7_takes_1 : decode cX7_takes 1 = .ok (.getfield 130, 3) := dk_180 0 130 (dk_at dksX7_takes_0 1 rfl rfl)
theorem dX7_takes_4 : decode cX7_takes 4 = .ok (.istore_n 3, 1) := dk_62 (dk_at dksX7_takes_0 4 rfl rfl)
theorem dX7_takes_5 : decode cX7_takes 5 = .ok (.aload_n 0, 1) := dk_42 (dk_at dksX7_takes_0 5 rfl rfl)
theorem dX7_takes_6 : decode cX7_takes 6 = .ok (.iconst 0, 1) := dk_3 (dk_at dksX7_takes_0 6 rfl rfl)
theorem dX7_takes_7 : decode cX7_takes 7 = .ok (.putfield 130, 3) := dk_181 0 130 (dk_at dksX7_takes_0 7 rfl rfl)
theorem dX7_takes_10 : decode cX7_takes 10 = .ok (.iload_n 3, 1) := dk_29 (dk_at dksX7_takes_0 10 rfl rfl)
theorem dX7_takes_11 : decode cX7_takes 11 = .ok (.iload_n 2, 1) := dk_28 (dk_at dksX7_takes_0 11 rfl rfl)
theorem dX7_takes_12 : decode cX7_takes 12 = .ok (.iconst 3, 1) := dk_6 (dk_at dksX7_takes_0 12 rfl rfl)
theorem dX7_takes_13 : decode cX7_takes 13 = .ok (.if_icmp .ne 8, 3) := dk_160 0 8 (dk_at dksX7_takes_0 13 rfl rfl)
theorem dX7_takes_16 : decode cX7_takes 16 = .ok (.bipush 6, 2) := dk_16 6 (dk_at dksX7_takes_0 16 rfl rfl)
theorem dX7_takes_18 : decode cX7_takes 18 = .ok (.goto 5, 3) := dk_167 0 5 (dk_at dksX7_takes_0 18 rfl rfl)
theorem dX7_takes_21 : decode cX7_takes 21 = .ok (.bipush 8, 2) := dk_16 8 (dk_at dksX7_takes_0 21 rfl rfl)
theorem dX7_takes_23 : decode cX7_takes 23 = .ok (.if_icmp .gt 12, 3) := dk_163 0 12 (dk_at dksX7_takes_1 0 rfl rfl)
theorem dX7_takes_26 : decode cX7_takes 26 = .ok (.iload_n 2, 1) := dk_28 (dk_at dksX7_takes_1 3 rfl rfl)
theorem dX7_takes_27 : decode cX7_takes 27 = .ok (.iconst 3, 1) := dk_6 (dk_at dksX7_takes_1 4 rfl rfl)
theorem dX7_takes_28 : decode cX7_takes 28 = .ok (.if_icmp .ne 9, 3) := dk_160 0 9 (dk_at dksX7_takes_1 5 rfl rfl)
theorem dX7_takes_31 : decode cX7_takes 31 = .ok (.iload_n 3, 1) := dk_29 (dk_at dksX7_takes_1 8 rfl rfl)
theorem dX7_takes_32 : decode cX7_takes 32 = .ok (.ifCond .ne 5, 3) := dk_154 0 5 (dk_at dksX7_takes_1 9 rfl rfl)
theorem dX7_takes_35 : decode cX7_takes 35 = .ok (.iconst 0, 1) := dk_3 (dk_at dksX7_takes_1 12 rfl rfl)
theorem dX7_takes_36 : decode cX7_takes 36 = .ok (.ireturn, 1) := dk_172 (dk_at dksX7_takes_1 13 rfl rfl)
theorem dX7_takes_37 : decode cX7_takes 37 = .ok (.iconst 0, 1) := dk_3 (dk_at dksX7_takes_1 14 rfl rfl)
theorem dX7_takes_38 : decode cX7_takes 38 = .ok (.istore 4, 2) := dk_54 4 (dk_at dksX7_takes_1 15 rfl rfl)
theorem dX7_takes_40 : decode cX7_takes 40 = .ok (.iload 4, 2) := dk_21 4 (dk_at dksX7_takes_1 17 rfl rfl)
theorem dX7_takes_42 : decode cX7_takes 42 = .ok (.iload_n 3, 1) := dk_29 (dk_at dksX7_takes_1 19 rfl rfl)
theorem dX7_takes_43 : decode cX7_takes 43 = .ok (.if_icmp .ge 65, 3) := dk_162 0 65 (dk_at dksX7_takes_1 20 rfl rfl)
theorem dX7_takes_46 : decode cX7_takes 46 = .ok (.iload_n 2, 1) := dk_28 (dk_at dksX7_takes_1 23 rfl rfl)
theorem dX7_takes_47 : decode cX7_takes 47 = .ok (.iconst 3, 1) := dk_6 (dk_at dksX7_takes_2 0 rfl rfl)
theorem dX7_takes_48 : decode cX7_takes 48 = .ok (.if_icmp .ne 19, 3) := dk_160 0 19 (dk_at dksX7_takes_2 1 rfl rfl)
theorem dX7_takes_51 : decode cX7_takes 51 = .ok (.aload_n 0, 1) := dk_42 (dk_at dksX7_takes_2 4 rfl rfl)
theorem dX7_takes_52 : decode cX7_takes 52 = .ok (.getfield 16, 3) := dk_180 0 16 (dk_at dksX7_takes_2 5 rfl rfl)
theorem dX7_takes_55 : decode cX7_takes 55 = .ok (.iload 4, 2) := dk_21 4 (dk_at dksX7_takes_2 8 rfl rfl)
theorem dX7_takes_57 : decode cX7_takes 57 = .ok (.iaload, 1) := dk_46 (dk_at dksX7_takes_2 10 rfl rfl)
theorem dX7_takes_58 : decode cX7_takes 58 = .ok (.invokestatic 135, 3) := dk_184 0 135 (dk_at dksX7_takes_2 11 rfl rfl)
theorem dX7_takes_61 : decode cX7_takes 61 = .ok (.ifCond .ne 21, 3) := dk_154 0 21 (dk_at dksX7_takes_2 14 rfl rfl)
theorem dX7_takes_64 : decode cX7_takes 64 = .ok (.goto 16, 3) := dk_167 0 16 (dk_at dksX7_takes_2 17 rfl rfl)
theorem dX7_takes_67 : decode cX7_takes 67 = .ok (.aload_n 0, 1) := dk_42 (dk_at dksX7_takes_2 20 rfl rfl)
theorem dX7_takes_68 : decode cX7_takes 68 = .ok (.getfield 16, 3) := dk_180 0 16 (dk_at dksX7_takes_2 21 rfl rfl)
theorem dX7_takes_71 : decode cX7_takes 71 = .ok (.iload 4, 2) := dk_21 4 (dk_at dksX7_takes_3 0 rfl rfl)
theorem dX7_takes_73 : decode cX7_takes 73 = .ok (.iaload, 1) := dk_46 (dk_at dksX7_takes_3 2 rfl rfl)
theorem dX7_takes_74 : decode cX7_takes 74 = .ok (.invokestatic 141, 3) := dk_184 0 141 (dk_at dksX7_takes_3 3 rfl rfl)
theorem dX7_takes_77 : decode cX7_takes 77 = .ok (.ifCond .ne 5, 3) := dk_154 0 5 (dk_at dksX7_takes_3 6 rfl rfl)
theorem dX7_takes_80 : decode cX7_takes 80 = .ok (.iconst 0, 1) := dk_3 (dk_at dksX7_takes_3 9 rfl rfl)
theorem dX7_takes_81 : decode cX7_takes 81 = .ok (.ireturn, 1) := dk_172 (dk_at dksX7_takes_3 10 rfl rfl)
theorem dX7_takes_82 : decode cX7_takes 82 = .ok (.aload_n 0, 1) := dk_42 (dk_at dksX7_takes_3 11 rfl rfl)
theorem dX7_takes_83 : decode cX7_takes 83 = .ok (.bipush 8, 2) := dk_16 8 (dk_at dksX7_takes_3 12 rfl rfl)
theorem dX7_takes_85 : decode cX7_takes 85 = .ok (.iload_n 1, 1) := dk_27 (dk_at dksX7_takes_3 14 rfl rfl)
theorem dX7_takes_86 : decode cX7_takes 86 = .ok (.iload_n 2, 1) := dk_28 (dk_at dksX7_takes_3 15 rfl rfl)
theorem dX7_takes_87 : decode cX7_takes 87 = .ok (.iconst 1, 1) := dk_4 (dk_at dksX7_takes_3 16 rfl rfl)
theorem dX7_takes_88 : decode cX7_takes 88 = .ok (.iadd, 1) := dk_96 (dk_at dksX7_takes_3 17 rfl rfl)
theorem dX7_takes_89 : decode cX7_takes 89 = .ok (.iload 4, 2) := dk_21 4 (dk_at dksX7_takes_3 18 rfl rfl)
theorem dX7_takes_91 : decode cX7_takes 91 = .ok (.iadd, 1) := dk_96 (dk_at dksX7_takes_3 20 rfl rfl)
theorem dX7_takes_92 : decode cX7_takes 92 = .ok (.aload_n 0, 1) := dk_42 (dk_at dksX7_takes_3 21 rfl rfl)
theorem dX7_takes_93 : decode cX7_takes 93 = .ok (.getfield 16, 3) := dk_180 0 16 (dk_at dksX7_takes_4 0 rfl rfl)
theorem dX7_takes_96 : decode cX7_takes 96 = .ok (.iload 4, 2) := dk_21 4 (dk_at dksX7_takes_4 3 rfl rfl)
theorem dX7_takes_98 : decode cX7_takes 98 = .ok (.iaload, 1) := dk_46 (dk_at dksX7_takes_4 5 rfl rfl)
theorem dX7_takes_99 : decode cX7_takes 99 = .ok (.invokevirtual 108, 3) := dk_182 0 108 (dk_at dksX7_takes_4 6 rfl rfl)
theorem dX7_takes_102 : decode cX7_takes 102 = .ok (.iinc 4 1, 3) := dk_132 4 1 (dk_at dksX7_takes_4 9 rfl rfl)
theorem dX7_takes_105 : decode cX7_takes 105 = .ok (.goto (-65), 3) := dk_167 255 191 (dk_at dksX7_takes_4 12 rfl rfl)
theorem dX7_takes_108 : decode cX7_takes 108 = .ok (.aload_n 0, 1) := dk_42 (dk_at dksX7_takes_4 15 rfl rfl)
theorem dX7_takes_109 : decode cX7_takes 109 = .ok (.bipush 8, 2) := dk_16 8 (dk_at dksX7_takes_4 16 rfl rfl)
theorem dX7_takes_111 : decode cX7_takes 111 = .ok (.iload_n 1, 1) := dk_27 (dk_at dksX7_takes_4 18 rfl rfl)
theorem dX7_takes_112 : decode cX7_takes 112 = .ok (.iload_n 2, 1) := dk_28 (dk_at dksX7_takes_4 19 rfl rfl)
theorem dX7_takes_113 : decode cX7_takes 113 = .ok (.iload_n 3, 1) := dk_29 (dk_at dksX7_takes_4 20 rfl rfl)
theorem dX7_takes_114 : decode cX7_takes 114 = .ok (.invokevirtual 108, 3) := dk_182 0 108 (dk_at dksX7_takes_4 21 rfl rfl)
theorem dX7_takes_117 : decode cX7_takes 117 = .ok (.iconst 1, 1) := dk_4 (dk_at dksX7_takes_5 0 rfl rfl)
theorem dX7_takes_118 : decode cX7_takes 118 = .ok (.ireturn, 1) := dk_172 (dk_at dksX7_takes_5 1 rfl rfl)
abbrev cX7_retext : ByteArray := prog_17_method_38_code
def yX7_retext : MethodName := ⟨RX7, "retext", "(II)I"⟩
def dkwX7_retext_3 : List UInt8 := [16, 10, 182, 0, 104, 172]
abbrev dktX7_retext_3 : List UInt8 := dkwX7_retext_3 ++ []
def dkwX7_retext_2 : List UInt8 := [182, 0, 184, 154, 0, 10, 42, 16, 253, 182, 0, 126, 172, 42, 16, 8, 27, 182, 0, 151, 42, 27, 21, 4]
abbrev dktX7_retext_2 : List UInt8 := dkwX7_retext_2 ++ dktX7_retext_3
def dkwX7_retext_1 : List UInt8 := [21, 4, 156, 0, 10, 42, 16, 250, 182, 0, 126, 172, 42, 27, 16, 8, 182, 0, 151, 42, 21, 4, 16, 10]
abbrev dktX7_retext_1 : List UInt8 := dkwX7_retext_1 ++ dktX7_retext_2
def dkwX7_retext_0 : List UInt8 := [42, 27, 182, 0, 161, 62, 29, 156, 0, 9, 42, 29, 182, 0, 126, 172, 42, 27, 28, 182, 0, 181, 54, 4]
abbrev dktX7_retext_0 : List UInt8 := dkwX7_retext_0 ++ dktX7_retext_1
theorem dksX7_retext_0 : cX7_retext.data.toList.drop 0 = dktX7_retext_0 := by decide +kernel
theorem dksX7_retext_1 : cX7_retext.data.toList.drop 24 = dktX7_retext_1 := dk_seg dksX7_retext_0 24 rfl rfl
theorem dksX7_retext_2 : cX7_retext.data.toList.drop 48 = dktX7_retext_2 := dk_seg dksX7_retext_1 24 rfl rfl
theorem dksX7_retext_3 : cX7_retext.data.toList.drop 72 = dktX7_retext_3 := dk_seg dksX7_retext_2 24 rfl rfl
theorem dX7_retext_0 : decode cX7_retext 0 = .ok (.aload_n 0, 1) := dk_42 (dk_at dksX7_retext_0 0 rfl rfl)
theorem dX7_retext_1 : decode cX7_retext 1 = .ok (.iload_n 1, 1) := dk_27 (dk_at dksX7_retext_0 1 rfl rfl)
theorem dX7_retext_2 : decode cX7_retext 2 = .ok (.invokevirtual 161, 3) := dk_182 0 161 (dk_at dksX7_retext_0 2 rfl rfl)
theorem dX7_retext_5 : decode cX7_retext 5 = .ok (.istore_n 3, 1) := dk_62 (dk_at dksX7_retext_0 5 rfl rfl)
theorem dX7_retext_6 : decode cX7_retext 6 = .ok (.iload_n 3, 1) := dk_29 (dk_at dksX7_retext_0 6 rfl rfl)
theorem dX7_retext_7 : decode cX7_retext 7 = .ok (.ifCond .ge 9, 3) := dk_156 0 9 (dk_at dksX7_retext_0 7 rfl rfl)
theorem dX7_retext_10 : decode cX7_retext 10 = .ok (.aload_n 0, 1) := dk_42 (dk_at dksX7_retext_0 10 rfl rfl)
theorem dX7_retext_11 : decode cX7_retext 11 = .ok (.iload_n 3, 1) := dk_29 (dk_at dksX7_retext_0 11 rfl rfl)
theorem dX7_retext_12 : decode cX7_retext 12 = .ok (.invokevirtual 126, 3) := dk_182 0 126 (dk_at dksX7_retext_0 12 rfl rfl)
theorem dX7_retext_15 : decode cX7_retext 15 = .ok (.ireturn, 1) := dk_172 (dk_at dksX7_retext_0 15 rfl rfl)
theorem dX7_retext_16 : decode cX7_retext 16 = .ok (.aload_n 0, 1) := dk_42 (dk_at dksX7_retext_0 16 rfl rfl)
theorem dX7_retext_17 : decode cX7_retext 17 = .ok (.iload_n 1, 1) := dk_27 (dk_at dksX7_retext_0 17 rfl rfl)
theorem dX7_retext_18 : decode cX7_retext 18 = .ok (.iload_n 2, 1) := dk_28 (dk_at dksX7_retext_0 18 rfl rfl)
theorem dX7_retext_19 : decode cX7_retext 19 = .ok (.invokevirtual 181, 3) := dk_182 0 181 (dk_at dksX7_retext_0 19 rfl rfl)
theorem dX7_retext_22 : decode cX7_retext 22 = .ok (.istore 4, 2) := dk_54 4 (dk_at dksX7_retext_0 22 rfl rfl)
theorem dX7_retext_24 : decode cX7_retext 24 = .ok (.iload 4, 2) := dk_21 4 (dk_at dksX7_retext_1 0 rfl rfl)
theorem dX7_retext_26 : decode cX7_retext 26 = .ok (.ifCond .ge 10, 3) := dk_156 0 10 (dk_at dksX7_retext_1 2 rfl rfl)
theorem dX7_retext_29 : decode cX7_retext 29 = .ok (.aload_n 0, 1) := dk_42 (dk_at dksX7_retext_1 5 rfl rfl)
theorem dX7_retext_30 : decode cX7_retext 30 = .ok (.bipush (-6), 2) := dk_16 250 (dk_at dksX7_retext_1 6 rfl rfl)
theorem dX7_retext_32 : decode cX7_retext 32 = .ok (.invokevirtual 126, 3) := dk_182 0 126 (dk_at dksX7_retext_1 8 rfl rfl)
theorem dX7_retext_35 : decode cX7_retext 35 = .ok (.ireturn, 1) := dk_172 (dk_at dksX7_retext_1 11 rfl rfl)
theorem dX7_retext_36 : decode cX7_retext 36 = .ok (.aload_n 0, 1) := dk_42 (dk_at dksX7_retext_1 12 rfl rfl)
theorem dX7_retext_37 : decode cX7_retext 37 = .ok (.iload_n 1, 1) := dk_27 (dk_at dksX7_retext_1 13 rfl rfl)
theorem dX7_retext_38 : decode cX7_retext 38 = .ok (.bipush 8, 2) := dk_16 8 (dk_at dksX7_retext_1 14 rfl rfl)
theorem dX7_retext_40 : decode cX7_retext 40 = .ok (.invokevirtual 151, 3) := dk_182 0 151 (dk_at dksX7_retext_1 16 rfl rfl)
theorem dX7_retext_43 : decode cX7_retext 43 = .ok (.aload_n 0, 1) := dk_42 (dk_at dksX7_retext_1 19 rfl rfl)
theorem dX7_retext_44 : decode cX7_retext 44 = .ok (.iload 4, 2) := dk_21 4 (dk_at dksX7_retext_1 20 rfl rfl)
theorem dX7_retext_46 : decode cX7_retext 46 = .ok (.bipush 10, 2) := dk_16 10 (dk_at dksX7_retext_1 22 rfl rfl)
theorem dX7_retext_48 : decode cX7_retext 48 = .ok (.invokevirtual 184, 3) := dk_182 0 184 (dk_at dksX7_retext_2 0 rfl rfl)
theorem dX7_retext_51 : decode cX7_retext 51 = .ok (.ifCond .ne 10, 3) := dk_154 0 10 (dk_at dksX7_retext_2 3 rfl rfl)
theorem dX7_retext_54 : decode cX7_retext 54 = .ok (.aload_n 0, 1) := dk_42 (dk_at dksX7_retext_2 6 rfl rfl)
theorem dX7_retext_55 : decode cX7_retext 55 = .ok (.bipush (-3), 2) := dk_16 253 (dk_at dksX7_retext_2 7 rfl rfl)
theorem dX7_retext_57 : decode cX7_retext 57 = .ok (.invokevirtual 126, 3) := dk_182 0 126 (dk_at dksX7_retext_2 9 rfl rfl)
theorem dX7_retext_60 : decode cX7_retext 60 = .ok (.ireturn, 1) := dk_172 (dk_at dksX7_retext_2 12 rfl rfl)
theorem dX7_retext_61 : decode cX7_retext 61 = .ok (.aload_n 0, 1) := dk_42 (dk_at dksX7_retext_2 13 rfl rfl)
theorem dX7_retext_62 : decode cX7_retext 62 = .ok (.bipush 8, 2) := dk_16 8 (dk_at dksX7_retext_2 14 rfl rfl)
theorem dX7_retext_64 : decode cX7_retext 64 = .ok (.iload_n 1, 1) := dk_27 (dk_at dksX7_retext_2 16 rfl rfl)
theorem dX7_retext_65 : decode cX7_retext 65 = .ok (.invokevirtual 151, 3) := dk_182 0 151 (dk_at dksX7_retext_2 17 rfl rfl)
theorem dX7_retext_68 : decode cX7_retext 68 = .ok (.aload_n 0, 1) := dk_42 (dk_at dksX7_retext_2 20 rfl rfl)
theorem dX7_retext_69 : decode cX7_retext 69 = .ok (.iload_n 1, 1) := dk_27 (dk_at dksX7_retext_2 21 rfl rfl)
theorem dX7_retext_70 : decode cX7_retext 70 = .ok (.iload 4, 2) := dk_21 4 (dk_at dksX7_retext_2 22 rfl rfl)
theorem dX7_retext_72 : decode cX7_retext 72 = .ok (.bipush 10, 2) := dk_16 10 (dk_at dksX7_retext_3 0 rfl rfl)
theorem dX7_retext_74 : decode cX7_retext 74 = .ok (.invokevirtual 104, 3) := dk_182 0 104 (dk_at dksX7_retext_3 2 rfl rfl)
theorem dX7_retext_77 : decode cX7_retext 77 = .ok (.ireturn, 1) := dk_172 (dk_at dksX7_retext_3 5 rfl rfl)
abbrev cX7_put : ByteArray := prog_17_method_39_code
def yX7_put : MethodName := ⟨RX7, "put", "(IIIII)I"⟩
def dkwX7_put_17 : List UInt8 := [182, 0, 151, 42, 89, 180, 0, 155, 4, 96, 181, 0, 155, 42, 180, 0, 155, 4, 100, 172]
abbrev dktX7_put_17 : List UInt8 := dkwX7_put_17 ++ []
def dkwX7_put_16 : List UInt8 := [182, 0, 126, 172, 42, 16, 9, 182, 0, 194, 153, 0, 10, 42, 16, 252, 182, 0, 126, 172, 42, 16, 9, 27]
abbrev dktX7_put_16 : List UInt8 := dkwX7_put_16 ++ dktX7_put_17
def dkwX7_put_15 : List UInt8 := [16, 9, 42, 180, 0, 13, 27, 46, 4, 96, 79, 42, 16, 9, 182, 0, 191, 153, 0, 10, 42, 16, 251]
abbrev dktX7_put_15 : List UInt8 := dkwX7_put_15 ++ dktX7_put_16
def dkwX7_put_14 : List UInt8 := [5, 42, 27, 21, 11, 182, 0, 115, 4, 96, 182, 0, 108, 132, 11, 1, 167, 255, 181, 42, 180, 0, 13]
abbrev dktX7_put_14 : List UInt8 := dkwX7_put_14 ++ dktX7_put_15
def dkwX7_put_13 : List UInt8 := [21, 12, 182, 0, 112, 21, 11, 21, 9, 161, 0, 28, 21, 11, 21, 10, 162, 0, 21, 42, 16, 9, 21, 12]
abbrev dktX7_put_13 : List UInt8 := dkwX7_put_13 ++ dktX7_put_14
def dkwX7_put_12 : List UInt8 := [21, 11, 21, 9, 162, 0, 8, 21, 11, 167, 0, 7, 21, 11, 4, 96, 54, 12, 42, 27, 21, 11, 16, 9]
abbrev dktX7_put_12 : List UInt8 := dkwX7_put_12 ++ dktX7_put_13
def dkwX7_put_11 : List UInt8 := [16, 9, 21, 9, 16, 10, 3, 182, 0, 108, 3, 54, 11, 21, 11, 42, 180, 0, 13, 27, 46, 162, 0, 70]
abbrev dktX7_put_11 : List UInt8 := dkwX7_put_11 ++ dktX7_put_12
def dkwX7_put_10 : List UInt8 := [4, 29, 182, 0, 108, 42, 16, 9, 21, 9, 5, 42, 27, 21, 7, 182, 0, 115, 4, 96, 182, 0, 108, 42]
abbrev dktX7_put_10 : List UInt8 := dkwX7_put_10 ++ dktX7_put_11
def dkwX7_put_9 : List UInt8 := [132, 11, 1, 167, 255, 227, 42, 16, 9, 21, 9, 3, 42, 180, 0, 155, 182, 0, 108, 42, 16, 9, 21, 9]
abbrev dktX7_put_9 : List UInt8 := dkwX7_put_9 ++ dktX7_put_10
def dkwX7_put_8 : List UInt8 := [16, 10, 162, 0, 28, 42, 16, 9, 21, 9, 21, 11, 42, 16, 8, 3, 21, 11, 182, 0, 104, 182, 0, 108]
abbrev dktX7_put_8 : List UInt8 := dkwX7_put_8 ++ dktX7_put_9
def dkwX7_put_7 : List UInt8 := [162, 0, 18, 42, 27, 21, 10, 182, 0, 119, 54, 10, 132, 11, 1, 167, 255, 237, 6, 54, 11, 21, 11]
abbrev dktX7_put_7 : List UInt8 := dkwX7_put_7 ++ dktX7_put_8
def dkwX7_put_6 : List UInt8 := [42, 27, 21, 7, 21, 4, 182, 0, 188, 54, 9, 21, 9, 54, 10, 3, 54, 11, 21, 11, 21, 5]
abbrev dktX7_put_6 : List UInt8 := dkwX7_put_6 ++ dktX7_put_7
def dkwX7_put_5 : List UInt8 := [42, 2, 182, 0, 126, 172, 42, 180, 0, 13, 27, 46, 16, 30, 160, 0, 10, 42, 16, 251, 182, 0, 126, 172]
abbrev dktX7_put_5 : List UInt8 := dkwX7_put_5 ++ dktX7_put_6
def dkwX7_put_4 : List UInt8 := [21, 5, 155, 0, 22, 21, 4, 133, 21, 5, 133, 97, 42, 27, 21, 7, 182, 0, 175, 133, 148, 158, 0, 9]
abbrev dktX7_put_4 : List UInt8 := dkwX7_put_4 ++ dktX7_put_5
def dkwX7_put_3 : List UInt8 := [182, 0, 104, 6, 159, 0, 8, 21, 8, 154, 0, 10, 42, 16, 253, 182, 0, 126, 172, 21, 4, 155, 0, 27]
abbrev dktX7_put_3 : List UInt8 := dkwX7_put_3 ++ dktX7_put_4
def dkwX7_put_2 : List UInt8 := [79, 42, 3, 6, 182, 0, 184, 54, 8, 29, 3, 5, 184, 0, 96, 153, 0, 20, 42, 27, 21, 7, 4]
abbrev dktX7_put_2 : List UInt8 := dkwX7_put_2 ++ dktX7_put_3
def dkwX7_put_1 : List UInt8 := [182, 0, 181, 54, 7, 21, 7, 156, 0, 10, 42, 16, 250, 182, 0, 126, 172, 42, 180, 0, 13, 16, 8, 3]
abbrev dktX7_put_1 : List UInt8 := dkwX7_put_1 ++ dktX7_put_2
def dkwX7_put_0 : List UInt8 := [42, 27, 182, 0, 161, 54, 6, 21, 6, 156, 0, 10, 42, 21, 6, 182, 0, 126, 172, 42, 27, 28]
abbrev dktX7_put_0 : List UInt8 := dkwX7_put_0 ++ dktX7_put_1
theorem dksX7_put_0 : cX7_put.data.toList.drop 0 = dktX7_put_0 := by decide +kernel
theorem dksX7_put_1 : cX7_put.data.toList.drop 22 = dktX7_put_1 := dk_seg dksX7_put_0 22 rfl rfl
theorem dksX7_put_2 : cX7_put.data.toList.drop 46 = dktX7_put_2 := dk_seg dksX7_put_1 24 rfl rfl
theorem dksX7_put_3 : cX7_put.data.toList.drop 69 = dktX7_put_3 := dk_seg dksX7_put_2 23 rfl rfl
theorem dksX7_put_4 : cX7_put.data.toList.drop 93 = dktX7_put_4 := dk_seg dksX7_put_3 24 rfl rfl
theorem dksX7_put_5 : cX7_put.data.toList.drop 117 = dktX7_put_5 := dk_seg dksX7_put_4 24 rfl rfl
theorem dksX7_put_6 : cX7_put.data.toList.drop 141 = dktX7_put_6 := dk_seg dksX7_put_5 24 rfl rfl
theorem dksX7_put_7 : cX7_put.data.toList.drop 163 = dktX7_put_7 := dk_seg dksX7_put_6 22 rfl rfl
theorem dksX7_put_8 : cX7_put.data.toList.drop 186 = dktX7_put_8 := dk_seg dksX7_put_7 23 rfl rfl
theorem dksX7_put_9 : cX7_put.data.toList.drop 210 = dktX7_put_9 := dk_seg dksX7_put_8 24 rfl rfl
theorem dksX7_put_10 : cX7_put.data.toList.drop 234 = dktX7_put_10 := dk_seg dksX7_put_9 24 rfl rfl
theorem dksX7_put_11 : cX7_put.data.toList.drop 258 = dktX7_put_11 := dk_seg dksX7_put_10 24 rfl rfl
theorem dksX7_put_12 : cX7_put.data.toList.drop 282 = dktX7_put_12 := dk_seg dksX7_put_11 24 rfl rfl
theorem dksX7_put_13 : cX7_put.data.toList.drop 306 = dktX7_put_13 := dk_seg dksX7_put_12 24 rfl rfl
theorem dksX7_put_14 : cX7_put.data.toList.drop 330 = dktX7_put_14 := dk_seg dksX7_put_13 24 rfl rfl
theorem dksX7_put_15 : cX7_put.data.toList.drop 353 = dktX7_put_15 := dk_seg dksX7_put_14 23 rfl rfl
theorem dksX7_put_16 : cX7_put.data.toList.drop 376 = dktX7_put_16 := dk_seg dksX7_put_15 23 rfl rfl
theorem dksX7_put_17 : cX7_put.data.toList.drop 400 = dktX7_put_17 := dk_seg dksX7_put_16 24 rfl rfl
theorem dX7_put_0 : decode cX7_put 0 = .ok (.aload_n 0, 1) := dk_42 (dk_at dksX7_put_0 0 rfl rfl)
theorem dX7_put_1 : decode cX7_put 1 = .ok (.iload_n 1, 1) := dk_27 (dk_at dksX7_put_0 1 rfl rfl)
theorem dX7_put_2 : decode cX7_put 2 = .ok (.invokevirtual 161, 3) := dk_182 0 161 (dk_at dksX7_put_0 2 rfl rfl)
theorem dX7_put_5 : decode cX7_put 5 = .ok (.istore 6, 2) := dk_54 6 (dk_at dksX7_put_0 5 rfl rfl)
theorem dX7_put_7 : decode cX7_put 7 = .ok (.iload 6, 2) := dk_21 6 (dk_at dksX7_put_0 7 rfl rfl)
theorem dX7_put_9 : decode cX7_put 9 = .ok (.ifCond .ge 10, 3) := dk_156 0 10 (dk_at dksX7_put_0 9 rfl rfl)
theorem dX7_put_12 : decode cX7_put 12 = .ok (.aload_n 0, 1) := dk_42 (dk_at dksX7_put_0 12 rfl rfl)
theorem dX7_put_13 : decode cX7_put 13 = .ok (.iload 6, 2) := dk_21 6 (dk_at dksX7_put_0 13 rfl rfl)
theorem dX7_put_15 : decode cX7_put 15 = .ok (.invokevirtual 126, 3) := dk_182 0 126 (dk_at dksX7_put_0 15 rfl rfl)
theorem dX7_put_18 : decode cX7_put 18 = .ok (.ireturn, 1) := dk_172 (dk_at dksX7_put_0 18 rfl rfl)
theorem dX7_put_19 : decode cX7_put 19 = .ok (.aload_n 0, 1) := dk_42 (dk_at dksX7_put_0 19 rfl rfl)
theorem dX7_put_20 : decode cX7_put 20 = .ok (.iload_n 1, 1) := dk_27 (dk_at dksX7_put_0 20 rfl rfl)
theorem dX7_put_21 : decode cX7_put 21 = .ok (.iload_n 2, 1) := dk_28 (dk_at dksX7_put_0 21 rfl rfl)
theorem dX7_put_22 : decode cX7_put 22 = .ok (.invokevirtual 181, 3) := dk_182 0 181 (dk_at dksX7_put_1 0 rfl rfl)
theorem dX7_put_25 : decode cX7_put 25 = .ok (.istore 7, 2) := dk_54 7 (dk_at dksX7_put_1 3 rfl rfl)
theorem dX7_put_27 : decode cX7_put 27 = .ok (.iload 7, 2) := dk_21 7 (dk_at dksX7_put_1 5 rfl rfl)
theorem dX7_put_29 : decode cX7_put 29 = .ok (.ifCond .ge 10, 3) := dk_156 0 10 (dk_at dksX7_put_1 7 rfl rfl)
theorem dX7_put_32 : decode cX7_put 32 = .ok (.aload_n 0, 1) := dk_42 (dk_at dksX7_put_1 10 rfl rfl)
theorem dX7_put_33 : decode cX7_put 33 = .ok (.bipush (-6), 2) := dk_16 250 (dk_at dksX7_put_1 11 rfl rfl)
theorem dX7_put_35 : decode cX7_put 35 = .ok (.invokevirtual 126, 3) := dk_182 0 126 (dk_at dksX7_put_1 13 rfl rfl)
theorem dX7_put_38 : decode cX7_put 38 = .ok (.ireturn, 1) := dk_172 (dk_at dksX7_put_1 16 rfl rfl)
theorem dX7_put_39 : decode cX7_put 39 = .ok (.aload_n 0, 1) := dk_42 (dk_at dksX7_put_1 17 rfl rfl)
theorem dX7_put_40 : decode cX7_put 40 = .ok (.getfield 13, 3) := dk_180 0 13 (dk_at dksX7_put_1 18 rfl rfl)
theorem dX7_put_43 : decode cX7_put 43 = .ok (.bipush 8, 2) := dk_16 8 (dk_at dksX7_put_1 21 rfl rfl)
theorem dX7_put_45 : decode cX7_put 45 = .ok (.iconst 0, 1) := dk_3 (dk_at dksX7_put_1 23 rfl rfl)
theorem dX7_put_46 : decode cX7_put 46 = .ok (.iastore, 1) := dk_79 (dk_at dksX7_put_2 0 rfl rfl)
theorem dX7_put_47 : decode cX7_put 47 = .ok (.aload_n 0, 1) := dk_42 (dk_at dksX7_put_2 1 rfl rfl)
theorem dX7_put_48 : decode cX7_put 48 = .ok (.iconst 0, 1) := dk_3 (dk_at dksX7_put_2 2 rfl rfl)
theorem dX7_put_49 : decode cX7_put 49 = .ok (.iconst 3, 1) := dk_6 (dk_at dksX7_put_2 3 rfl rfl)
theorem dX7_put_50 : decode cX7_put 50 = .ok (.invokevirtual 184, 3) := dk_182 0 184 (dk_at dksX7_put_2 4 rfl rfl)
theorem dX7_put_53 : decode cX7_put 53 = .ok (.istore 8, 2) := dk_54 8 (dk_at dksX7_put_2 7 rfl rfl)
theorem dX7_put_55 : decode cX7_put 55 = .ok (.iload_n 3, 1) := dk_29 (dk_at dksX7_put_2 9 rfl rfl)
theorem dX7_put_56 : decode cX7_put 56 = .ok (.iconst 0, 1) := dk_3 (dk_at dksX7_put_2 10 rfl rfl)
theorem dX7_put_57 : decode cX7_put 57 = .ok (.iconst 2, 1) := dk_5 (dk_at dksX7_put_2 11 rfl rfl)
theorem dX7_put_58 : decode cX7_put 58 = .ok (.invokestatic 96, 3) := dk_184 0 96 (dk_at dksX7_put_2 12 rfl rfl)
theorem dX7_put_61 : decode cX7_put 61 = .ok (.ifCond .eq 20, 3) := dk_153 0 20 (dk_at dksX7_put_2 15 rfl rfl)
theorem dX7_put_64 : decode cX7_put 64 = .ok (.aload_n 0, 1) := dk_42 (dk_at dksX7_put_2 18 rfl rfl)
theorem dX7_put_65 : decode cX7_put 65 = .ok (.iload_n 1, 1) := dk_27 (dk_at dksX7_put_2 19 rfl rfl)
theorem dX7_put_66 : decode cX7_put 66 = .ok (.iload 7, 2) := dk_21 7 (dk_at dksX7_put_2 20 rfl rfl)
theorem dX7_put_68 : decode cX7_put 68 = .ok (.iconst 1, 1) := dk_4 (dk_at dksX7_put_2 22 rfl rfl)
theorem dX7_put_69 : decode cX7_put 69 = .ok (.invokevirtual 104, 3) := dk_182 0 104 (dk_at dksX7_put_3 0 rfl rfl)
theorem dX7_put_72 : decode cX7_put 72 = .ok (.iconst 3, 1) := dk_6 (dk_at dksX7_put_3 3 rfl rfl)
theorem dX7_put_73 : decode cX7_put 73 = .ok (.if_icmp .eq 8, 3) := dk_159 0 8 (dk_at dksX7_put_3 4 rfl rfl)
theorem dX7_put_76 : decode cX7_put 76 = .ok (.iload 8, 2) := dk_21 8 (dk_at dksX7_put_3 7 rfl rfl)
theorem dX7_put_78 : decode cX7_put 78 = .ok (.ifCond .ne 10, 3) := dk_154 0 10 (dk_at dksX7_put_3 9 rfl rfl)
theorem dX7_put_81 : decode cX7_put 81 = .ok (.aload_n 0, 1) := dk_42 (dk_at dksX7_put_3 12 rfl rfl)
theorem dX7_put_82 : decode cX7_put 82 = .ok (.bipush (-3), 2) := dk_16 253 (dk_at dksX7_put_3 13 rfl rfl)
theorem dX7_put_84 : decode cX7_put 84 = .ok (.invokevirtual 126, 3) := dk_182 0 126 (dk_at dksX7_put_3 15 rfl rfl)
theorem dX7_put_87 : decode cX7_put 87 = .ok (.ireturn, 1) := dk_172 (dk_at dksX7_put_3 18 rfl rfl)
theorem dX7_put_88 : decode cX7_put 88 = .ok (.iload 4, 2) := dk_21 4 (dk_at dksX7_put_3 19 rfl rfl)
theorem dX7_put_90 : decode cX7_put 90 = .ok (.ifCond .lt 27, 3) := dk_155 0 27 (dk_at dksX7_put_3 21 rfl rfl)
theorem dX7_put_93 : decode cX7_put 93 = .ok (.iload 5, 2) := dk_21 5 (dk_at dksX7_put_4 0 rfl rfl)
theorem dX7_put_95 : decode cX7_put 95 = .ok (.ifCond .lt 22, 3) := dk_155 0 22 (dk_at dksX7_put_4 2 rfl rfl)
theorem dX7_put_98 : decode cX7_put 98 = .ok (.iload 4, 2) := dk_21 4 (dk_at dksX7_put_4 5 rfl rfl)
theorem dX7_put_100 : decode cX7_put 100 = .ok (.i2l, 1) := dk_133 (dk_at dksX7_put_4 7 rfl rfl)
theorem dX7_put_101 : decode cX7_put 101 = .ok (.iload 5, 2) := dk_21 5 (dk_at dksX7_put_4 8 rfl rfl)
theorem dX7_put_103 : decode cX7_put 103 = .ok (.i2l, 1) := dk_133 (dk_at dksX7_put_4 10 rfl rfl)
theorem dX7_put_104 : decode cX7_put 104 = .ok (.ladd, 1) := dk_97 (dk_at dksX7_put_4 11 rfl rfl)
theorem dX7_put_105 : decode cX7_put 105 = .ok (.aload_n 0, 1) := dk_42 (dk_at dksX7_put_4 12 rfl rfl)
theorem dX7_put_106 : decode cX7_put 106 = .ok (.iload_n 1, 1) := dk_27 (dk_at dksX7_put_4 13 rfl rfl)
theorem dX7_put_107 : decode cX7_put 107 = .ok (.iload 7, 2) := dk_21 7 (dk_at dksX7_put_4 14 rfl rfl)
theorem dX7_put_109 : decode cX7_put 109 = .ok (.invokevirtual 175, 3) := dk_182 0 175 (dk_at dksX7_put_4 16 rfl rfl)
theorem dX7_put_112 : decode cX7_put 112 = .ok (.i2l, 1) := dk_133 (dk_at dksX7_put_4 19 rfl rfl)
theorem dX7_put_113 : decode cX7_put 113 = .ok (.lcmp, 1) := dk_148 (dk_at dksX7_put_4 20 rfl rfl)
theorem dX7_put_114 : decode cX7_put 114 = .ok (.ifCond .le 9, 3) := dk_158 0 9 (dk_at dksX7_put_4 21 rfl rfl)
theorem dX7_put_117 : decode cX7_put 117 = .ok (.aload_n 0, 1) := dk_42 (dk_at dksX7_put_5 0 rfl rfl)
theorem dX7_put_118 : decode cX7_put 118 = .ok (.iconst (-1), 1) := dk_2 (dk_at dksX7_put_5 1 rfl rfl)
theorem dX7_put_119 : decode cX7_put 119 = .ok (.invokevirtual 126, 3) := dk_182 0 126 (dk_at dksX7_put_5 2 rfl rfl)
theorem dX7_put_122 : decode cX7_put 122 = .ok (.ireturn, 1) := dk_172 (dk_at dksX7_put_5 5 rfl rfl)
theorem dX7_put_123 : decode cX7_put 123 = .ok (.aload_n 0, 1) := dk_42 (dk_at dksX7_put_5 6 rfl rfl)
theorem dX7_put_124 : decode cX7_put 124 = .ok (.getfield 13, 3) := dk_180 0 13 (dk_at dksX7_put_5 7 rfl rfl)
theorem dX7_put_127 : decode cX7_put 127 = .ok (.iload_n 1, 1) := dk_27 (dk_at dksX7_put_5 10 rfl rfl)
theorem dX7_put_128 : decode cX7_put 128 = .ok (.iaload, 1) := dk_46 (dk_at dksX7_put_5 11 rfl rfl)
theorem dX7_put_129 : decode cX7_put 129 = .ok (.bipush 30, 2) := dk_16 30 (dk_at dksX7_put_5 12 rfl rfl)
theorem dX7_put_131 : decode cX7_put 131 = .ok (.if_icmp .ne 10, 3) := dk_160 0 10 (dk_at dksX7_put_5 14 rfl rfl)
theorem dX7_put_134 : decode cX7_put 134 = .ok (.aload_n 0, 1) := dk_42 (dk_at dksX7_put_5 17 rfl rfl)
theorem dX7_put_135 : decode cX7_put 135 = .ok (.bipush (-5), 2) := dk_16 251 (dk_at dksX7_put_5 18 rfl rfl)
theorem dX7_put_137 : decode cX7_put 137 = .ok (.invokevirtual 126, 3) := dk_182 0 126 (dk_at dksX7_put_5 20 rfl rfl)
theorem dX7_put_140 : decode cX7_put 140 = .ok (.ireturn, 1) := dk_172 (dk_at dksX7_put_5 23 rfl rfl)
theorem dX7_put_141 : decode cX7_put 141 = .ok (.aload_n 0, 1) := dk_42 (dk_at dksX7_put_6 0 rfl rfl)
theorem dX7_put_142 : decode cX7_put 142 = .ok (.iload_n 1, 1) := dk_27 (dk_at dksX7_put_6 1 rfl rfl)
theorem dX7_put_143 : decode cX7_put 143 = .ok (.iload 7, 2) := dk_21 7 (dk_at dksX7_put_6 2 rfl rfl)
theorem dX7_put_145 : decode cX7_put 145 = .ok (.iload 4, 2) := dk_21 4 (dk_at dksX7_put_6 4 rfl rfl)
theorem dX7_put_147 : decode cX7_put 147 = .ok (.invokevirtual 188, 3) := dk_182 0 188 (dk_at dksX7_put_6 6 rfl rfl)
theorem dX7_put_150 : decode cX7_put 150 = .ok (.istore 9, 2) := dk_54 9 (dk_at dksX7_put_6 9 rfl rfl)
theorem dX7_put_152 : decode cX7_put 152 = .ok (.iload 9, 2) := dk_21 9 (dk_at dksX7_put_6 11 rfl rfl)
theorem dX7_put_154 : decode cX7_put 154 = .ok (.istore 10, 2) := dk_54 10 (dk_at dksX7_put_6 13 rfl rfl)
theorem dX7_put_156 : decode cX7_put 156 = .ok (.iconst 0, 1) := dk_3 (dk_at dksX7_put_6 15 rfl rfl)
theorem dX7_put_157 : decode cX7_put 157 = .ok (.istore 11, 2) := dk_54 11 (dk_at dksX7_put_6 16 rfl rfl)
theorem dX7_put_159 : decode cX7_put 159 = .ok (.iload 11, 2) := dk_21 11 (dk_at dksX7_put_6 18 rfl rfl)
theorem dX7_put_161 : decode cX7_put 161 = .ok (.iload 5, 2) := dk_21 5 (dk_at dksX7_put_6 20 rfl rfl)
theorem dX7_put_163 : decode cX7_put 163 = .ok (.if_icmp .ge 18, 3) := dk_162 0 18 (dk_at dksX7_put_7 0 rfl rfl)
theorem dX7_put_166 : decode cX7_put 166 = .ok (.aload_n 0, 1) := dk_42 (dk_at dksX7_put_7 3 rfl rfl)
theorem dX7_put_167 : decode cX7_put 167 = .ok (.iload_n 1, 1) := dk_27 (dk_at dksX7_put_7 4 rfl rfl)
theorem dX7_put_168 : decode cX7_put 168 = .ok (.iload 10, 2) := dk_21 10 (dk_at dksX7_put_7 5 rfl rfl)
theorem dX7_put_170 : decode cX7_put 170 = .ok (.invokevirtual 119, 3) := dk_182 0 119 (dk_at dksX7_put_7 7 rfl rfl)
theorem dX7_put_173 : decode cX7_put 173 = .ok (.istore 10, 2) := dk_54 10 (dk_at dksX7_put_7 10 rfl rfl)
theorem dX7_put_175 : decode cX7_put 175 = .ok (.iinc 11 1, 3) := dk_132 11 1 (dk_at dksX7_put_7 12 rfl rfl)
theorem dX7_put_178 : decode cX7_put 178 = .ok (.goto (-19), 3) := dk_167 255 237 (dk_at dksX7_put_7 15 rfl rfl)
theorem dX7_put_181 : decode cX7_put 181 = .ok (.iconst 3, 1) := dk_6 (dk_at dksX7_put_7 18 rfl rfl)
theorem dX7_put_182 : decode cX7_put 182 = .ok (.istore 11, 2) := dk_54 11 (dk_at dksX7_put_7 19 rfl rfl)
theorem dX7_put_184 : decode cX7_put 184 = .ok (.iload 11, 2) := dk_21 11 (dk_at dksX7_put_7 21 rfl rfl)
theorem dX7_put_186 : decode cX7_put 186 = .ok (.bipush 10, 2) := dk_16 10 (dk_at dksX7_put_8 0 rfl rfl)
theorem dX7_put_188 : decode cX7_put 188 = .ok (.if_icmp .ge 28, 3) := dk_162 0 28 (dk_at dksX7_put_8 2 rfl rfl)
theorem dX7_put_191 : decode cX7_put 191 = .ok (.aload_n 0, 1) := dk_42 (dk_at dksX7_put_8 5 rfl rfl)
theorem dX7_put_192 : decode cX7_put 192 = .ok (.bipush 9, 2) := dk_16 9 (dk_at dksX7_put_8 6 rfl rfl)
theorem dX7_put_194 : decode cX7_put 194 = .ok (.iload 9, 2) := dk_21 9 (dk_at dksX7_put_8 8 rfl rfl)
theorem dX7_put_196 : decode cX7_put 196 = .ok (.iload 11, 2) := dk_21 11 (dk_at dksX7_put_8 10 rfl rfl)
theorem dX7_put_198 : decode cX7_put 198 = .ok (.aload_n 0, 1) := dk_42 (dk_at dksX7_put_8 12 rfl rfl)
theorem dX7_put_199 : decode cX7_put 199 = .ok (.bipush 8, 2) := dk_16 8 (dk_at dksX7_put_8 13 rfl rfl)
theorem dX7_put_201 : decode cX7_put 201 = .ok (.iconst 0, 1) := dk_3 (dk_at dksX7_put_8 15 rfl rfl)
theorem dX7_put_202 : decode cX7_put 202 = .ok (.iload 11, 2) := dk_21 11 (dk_at dksX7_put_8 16 rfl rfl)
theorem dX7_put_204 : decode cX7_put 204 = .ok (.invokevirtual 104, 3) := dk_182 0 104 (dk_at dksX7_put_8 18 rfl rfl)
theorem dX7_put_207 : decode cX7_put 207 = .ok (.invokevirtual 108, 3) := dk_182 0 108 (dk_at dksX7_put_8 21 rfl rfl)
theorem dX7_put_210 : decode cX7_put 210 = .ok (.iinc 11 1, 3) := dk_132 11 1 (dk_at dksX7_put_9 0 rfl rfl)
theorem dX7_put_213 : decode cX7_put 213 = .ok (.goto (-29), 3) := dk_167 255 227 (dk_at dksX7_put_9 3 rfl rfl)
theorem dX7_put_216 : decode cX7_put 216 = .ok (.aload_n 0, 1) := dk_42 (dk_at dksX7_put_9 6 rfl rfl)
theorem dX7_put_217 : decode cX7_put 217 = .ok (.bipush 9, 2) := dk_16 9 (dk_at dksX7_put_9 7 rfl rfl)
theorem dX7_put_219 : decode cX7_put 219 = .ok (.iload 9, 2) := dk_21 9 (dk_at dksX7_put_9 9 rfl rfl)
theorem dX7_put_221 : decode cX7_put 221 = .ok (.iconst 0, 1) := dk_3 (dk_at dksX7_put_9 11 rfl rfl)
theorem dX7_put_222 : decode cX7_put 222 = .ok (.aload_n 0, 1) := dk_42 (dk_at dksX7_put_9 12 rfl rfl)
theorem dX7_put_223 : decode cX7_put 223 = .ok (.getfield 155, 3) := dk_180 0 155 (dk_at dksX7_put_9 13 rfl rfl)
theorem dX7_put_226 : decode cX7_put 226 = .ok (.invokevirtual 108, 3) := dk_182 0 108 (dk_at dksX7_put_9 16 rfl rfl)
theorem dX7_put_229 : decode cX7_put 229 = .ok (.aload_n 0, 1) := dk_42 (dk_at dksX7_put_9 19 rfl rfl)
theorem dX7_put_230 : decode cX7_put 230 = .ok (.bipush 9, 2) := dk_16 9 (dk_at dksX7_put_9 20 rfl rfl)
theorem dX7_put_232 : decode cX7_put 232 = .ok (.iload 9, 2) := dk_21 9 (dk_at dksX7_put_9 22 rfl rfl)
theorem dX7_put_234 : decode cX7_put 234 = .ok (.iconst 1, 1) := dk_4 (dk_at dksX7_put_10 0 rfl rfl)
theorem dX7_put_235 : decode cX7_put 235 = .ok (.iload_n 3, 1) := dk_29 (dk_at dksX7_put_10 1 rfl rfl)
theorem dX7_put_236 : decode cX7_put 236 = .ok (.invokevirtual 108, 3) := dk_182 0 108 (dk_at dksX7_put_10 2 rfl rfl)
theorem dX7_put_239 : decode cX7_put 239 = .ok (.aload_n 0, 1) := dk_42 (dk_at dksX7_put_10 5 rfl rfl)
theorem dX7_put_240 : decode cX7_put 240 = .ok (.bipush 9, 2) := dk_16 9 (dk_at dksX7_put_10 6 rfl rfl)
theorem dX7_put_242 : decode cX7_put 242 = .ok (.iload 9, 2) := dk_21 9 (dk_at dksX7_put_10 8 rfl rfl)
theorem dX7_put_244 : decode cX7_put 244 = .ok (.iconst 2, 1) := dk_5 (dk_at dksX7_put_10 10 rfl rfl)
theorem dX7_put_245 : decode cX7_put 245 = .ok (.aload_n 0, 1) := dk_42 (dk_at dksX7_put_10 11 rfl rfl)
theorem dX7_put_246 : decode cX7_put 246 = .ok (.iload_n 1, 1) := dk_27 (dk_at dksX7_put_10 12 rfl rfl)
theorem dX7_put_247 : decode cX7_put 247 = .ok (.iload 7, 2) := dk_21 7 (dk_at dksX7_put_10 13 rfl rfl)
theorem dX7_put_249 : decode cX7_put 249 = .ok (.invokevirtual 115, 3) := dk_182 0 115 (dk_at dksX7_put_10 15 rfl rfl)
theorem dX7_put_252 : decode cX7_put 252 = .ok (.iconst 1, 1) := dk_4 (dk_at dksX7_put_10 18 rfl rfl)
theorem dX7_put_253 : decode cX7_put 253 = .ok (.iadd, 1) := dk_96 (dk_at dksX7_put_10 19 rfl rfl)
theorem dX7_put_254 : decode cX7_put 254 = .ok (.invokevirtual 108, 3) := dk_182 0 108 (dk_at dksX7_put_10 20 rfl rfl)
theorem dX7_put_257 : decode cX7_put 257 = .ok (.aload_n 0, 1) := dk_42 (dk_at dksX7_put_10 23 rfl rfl)
theorem dX7_put_258 : decode cX7_put 258 = .ok (.bipush 9, 2) := dk_16 9 (dk_at dksX7_put_11 0 rfl rfl)
theorem dX7_put_260 : decode cX7_put 260 = .ok (.iload 9, 2) := dk_21 9 (dk_at dksX7_put_11 2 rfl rfl)
theorem dX7_put_262 : decode cX7_put 262 = .ok (.bipush 10, 2) := dk_16 10 (dk_at dksX7_put_11 4 rfl rfl)
theorem dX7_put_264 : decode cX7_put 264 = .ok (.iconst 0, 1) := dk_3 (dk_at dksX7_put_11 6 rfl rfl)
theorem dX7_put_265 : decode cX7_put 265 = .ok (.invokevirtual 108, 3) := dk_182 0 108 (dk_at dksX7_put_11 7 rfl rfl)
theorem dX7_put_268 : decode cX7_put 268 = .ok (.iconst 0, 1) := dk_3 (dk_at dksX7_put_11 10 rfl rfl)
theorem dX7_put_269 : decode cX7_put 269 = .ok (.istore 11, 2) := dk_54 11 (dk_at dksX7_put_11 11 rfl rfl)
theorem dX7_put_271 : decode cX7_put 271 = .ok (.iload 11, 2) := dk_21 11 (dk_at dksX7_put_11 13 rfl rfl)
theorem dX7_put_273 : decode cX7_put 273 = .ok (.aload_n 0, 1) := dk_42 (dk_at dksX7_put_11 15 rfl rfl)
theorem dX7_put_274 : decode cX7_put 274 = .ok (.getfield 13, 3) := dk_180 0 13 (dk_at dksX7_put_11 16 rfl rfl)
theorem dX7_put_277 : decode cX7_put 277 = .ok (.iload_n 1, 1) := dk_27 (dk_at dksX7_put_11 19 rfl rfl)
theorem dX7_put_278 : decode cX7_put 278 = .ok (.iaload, 1) := dk_46 (dk_at dksX7_put_11 20 rfl rfl)
theorem dX7_put_279 : decode cX7_put 279 = .ok (.if_icmp .ge 70, 3) := dk_162 0 70 (dk_at dksX7_put_11 21 rfl rfl)
theorem dX7_put_282 : decode cX7_put 282 = .ok (.iload 11, 2) := dk_21 11 (dk_at dksX7_put_12 0 rfl rfl)
theorem dX7_put_284 : decode cX7_put 284 = .ok (.iload 9, 2) := dk_21 9 (dk_at dksX7_put_12 2 rfl rfl)
theorem dX7_put_286 : decode cX7_put 286 = .ok (.if_icmp .ge 8, 3) := dk_162 0 8 (dk_at dksX7_put_12 4 rfl rfl)
theorem dX7_put_289 : decode cX7_put 289 = .ok (.iload 11, 2) := dk_21 11 (dk_at dksX7_put_12 7 rfl rfl)
theorem dX7_put_291 : decode cX7_put 291 = .ok (.goto 7, 3) := dk_167 0 7 (dk_at dksX7_put_12 9 rfl rfl)
theorem dX7_put_294 : decode cX7_put 294 = .ok (.iload 11, 2) := dk_21 11 (dk_at dksX7_put_12 12 rfl rfl)
theorem dX7_put_296 : decode cX7_put 296 = .ok (.iconst 1, 1) := dk_4 (dk_at dksX7_put_12 14 rfl rfl)
theorem dX7_put_297 : decode cX7_put 297 = .ok (.iadd, 1) := dk_96 (dk_at dksX7_put_12 15 rfl rfl)
theorem dX7_put_298 : decode cX7_put 298 = .ok (.istore 12, 2) := dk_54 12 (dk_at dksX7_put_12 16 rfl rfl)
theorem dX7_put_300 : decode cX7_put 300 = .ok (.aload_n 0, 1) := dk_42 (dk_at dksX7_put_12 18 rfl rfl)
theorem dX7_put_301 : decode cX7_put 301 = .ok (.iload_n 1, 1) := dk_27 (dk_at dksX7_put_12 19 rfl rfl)
theorem dX7_put_302 : decode cX7_put 302 = .ok (.iload 11, 2) := dk_21 11 (dk_at dksX7_put_12 20 rfl rfl)
theorem dX7_put_304 : decode cX7_put 304 = .ok (.bipush 9, 2) := dk_16 9 (dk_at dksX7_put_12 22 rfl rfl)
theorem dX7_put_306 : decode cX7_put 306 = .ok (.iload 12, 2) := dk_21 12 (dk_at dksX7_put_13 0 rfl rfl)
theorem dX7_put_308 : decode cX7_put 308 = .ok (.invokevirtual 112, 3) := dk_182 0 112 (dk_at dksX7_put_13 2 rfl rfl)
theorem dX7_put_311 : decode cX7_put 311 = .ok (.iload 11, 2) := dk_21 11 (dk_at dksX7_put_13 5 rfl rfl)
theorem dX7_put_313 : decode cX7_put 313 = .ok (.iload 9, 2) := dk_21 9 (dk_at dksX7_put_13 7 rfl rfl)
theorem dX7_put_315 : decode cX7_put 315 = .ok (.if_icmp .lt 28, 3) := dk_161 0 28 (dk_at dksX7_put_13 9 rfl rfl)
theorem dX7_put_318 : decode cX7_put 318 = .ok (.iload 11, 2) := dk_21 11 (dk_at dksX7_put_13 12 rfl rfl)
theorem dX7_put_320 : decode cX7_put 320 = .ok (.iload 10, 2) := dk_21 10 (dk_at dksX7_put_13 14 rfl rfl)
theorem dX7_put_322 : decode cX7_put 322 = .ok (.if_icmp .ge 21, 3) := dk_162 0 21 (dk_at dksX7_put_13 16 rfl rfl)
theorem dX7_put_325 : decode cX7_put 325 = .ok (.aload_n 0, 1) := dk_42 (dk_at dksX7_put_13 19 rfl rfl)
theorem dX7_put_326 : decode cX7_put 326 = .ok (.bipush 9, 2) := dk_16 9 (dk_at dksX7_put_13 20 rfl rfl)
theorem dX7_put_328 : decode cX7_put 328 = .ok (.iload 12, 2) := dk_21 12 (dk_at dksX7_put_13 22 rfl rfl)
theorem dX7_put_330 : decode cX7_put 330 = .ok (.iconst 2, 1) := dk_5 (dk_at dksX7_put_14 0 rfl rfl)
theorem dX7_put_331 : decode cX7_put 331 = .ok (.aload_n 0, 1) := dk_42 (dk_at dksX7_put_14 1 rfl rfl)
theorem dX7_put_332 : decode cX7_put 332 = .ok (.iload_n 1, 1) := dk_27 (dk_at dksX7_put_14 2 rfl rfl)
theorem dX7_put_333 : decode cX7_put 333 = .ok (.iload 11, 2) := dk_21 11 (dk_at dksX7_put_14 3 rfl rfl)
theorem dX7_put_335 : decode cX7_put 335 = .ok (.invokevirtual 115, 3) := dk_182 0 115 (dk_at dksX7_put_14 5 rfl rfl)
theorem dX7_put_338 : decode cX7_put 338 = .ok (.iconst 1, 1) := dk_4 (dk_at dksX7_put_14 8 rfl rfl)
theorem dX7_put_339 : decode cX7_put 339 = .ok (.iadd, 1) := dk_96 (dk_at dksX7_put_14 9 rfl rfl)
theorem dX7_put_340 : decode cX7_put 340 = .ok (.invokevirtual 108, 3) := dk_182 0 108 (dk_at dksX7_put_14 10 rfl rfl)
theorem dX7_put_343 : decode cX7_put 343 = .ok (.iinc 11 1, 3) := dk_132 11 1 (dk_at dksX7_put_14 13 rfl rfl)
theorem dX7_put_346 : decode cX7_put 346 = .ok (.goto (-75), 3) := dk_167 255 181 (dk_at dksX7_put_14 16 rfl rfl)
theorem dX7_put_349 : decode cX7_put 349 = .ok (.aload_n 0, 1) := dk_42 (dk_at dksX7_put_14 19 rfl rfl)
theorem dX7_put_350 : decode cX7_put 350 = .ok (.getfield 13, 3) := dk_180 0 13 (dk_at dksX7_put_14 20 rfl rfl)
theorem dX7_put_353 : decode cX7_put 353 = .ok (.bipush 9, 2) := dk_16 9 (dk_at dksX7_put_15 0 rfl rfl)
theorem dX7_put_355 : decode cX7_put 355 = .ok (.aload_n 0, 1) := dk_42 (dk_at dksX7_put_15 2 rfl rfl)
theorem dX7_put_356 : decode cX7_put 356 = .ok (.getfield 13, 3) := dk_180 0 13 (dk_at dksX7_put_15 3 rfl rfl)
theorem dX7_put_359 : decode cX7_put 359 = .ok (.iload_n 1, 1) := dk_27 (dk_at dksX7_put_15 6 rfl rfl)
theorem dX7_put_360 : decode cX7_put 360 = .ok (.iaload, 1) := dk_46 (dk_at dksX7_put_15 7 rfl rfl)
theorem dX7_put_361 : decode cX7_put 361 = .ok (.iconst 1, 1) := dk_4 (dk_at dksX7_put_15 8 rfl rfl)
theorem dX7_put_362 : decode cX7_put 362 = .ok (.iadd, 1) := dk_96 (dk_at dksX7_put_15 9 rfl rfl)
theorem dX7_put_363 : decode cX7_put 363 = .ok (.iastore, 1) := dk_79 (dk_at dksX7_put_15 10 rfl rfl)
theorem dX7_put_364 : decode cX7_put 364 = .ok (.aload_n 0, 1) := dk_42 (dk_at dksX7_put_15 11 rfl rfl)
theorem dX7_put_365 : decode cX7_put 365 = .ok (.bipush 9, 2) := dk_16 9 (dk_at dksX7_put_15 12 rfl rfl)
theorem dX7_put_367 : decode cX7_put 367 = .ok (.invokevirtual 191, 3) := dk_182 0 191 (dk_at dksX7_put_15 14 rfl rfl)
theorem dX7_put_370 : decode cX7_put 370 = .ok (.ifCond .eq 10, 3) := dk_153 0 10 (dk_at dksX7_put_15 17 rfl rfl)
theorem dX7_put_373 : decode cX7_put 373 = .ok (.aload_n 0, 1) := dk_42 (dk_at dksX7_put_15 20 rfl rfl)
theorem dX7_put_374 : decode cX7_put 374 = .ok (.bipush (-5), 2) := dk_16 251 (dk_at dksX7_put_15 21 rfl rfl)
theorem dX7_put_376 : decode cX7_put 376 = .ok (.invokevirtual 126, 3) := dk_182 0 126 (dk_at dksX7_put_16 0 rfl rfl)
theorem dX7_put_379 : decode cX7_put 379 = .ok (.ireturn, 1) := dk_172 (dk_at dksX7_put_16 3 rfl rfl)
theorem dX7_put_380 : decode cX7_put 380 = .ok (.aload_n 0, 1) := dk_42 (dk_at dksX7_put_16 4 rfl rfl)
theorem dX7_put_381 : decode cX7_put 381 = .ok (.bipush 9, 2) := dk_16 9 (dk_at dksX7_put_16 5 rfl rfl)
theorem dX7_put_383 : decode cX7_put 383 = .ok (.invokevirtual 194, 3) := dk_182 0 194 (dk_at dksX7_put_16 7 rfl rfl)
theorem dX7_put_386 : decode cX7_put 386 = .ok (.ifCond .eq 10, 3) := dk_153 0 10 (dk_at dksX7_put_16 10 rfl rfl)
theorem dX7_put_389 : decode cX7_put 389 = .ok (.aload_n 0, 1) := dk_42 (dk_at dksX7_put_16 13 rfl rfl)
theorem dX7_put_390 : decode cX7_put 390 = .ok (.bipush (-4), 2) := dk_16 252 (dk_at dksX7_put_16 14 rfl rfl)
theorem dX7_put_392 : decode cX7_put 392 = .ok (.invokevirtual 126, 3) := dk_182 0 126 (dk_at dksX7_put_16 16 rfl rfl)
theorem dX7_put_395 : decode cX7_put 395 = .ok (.ireturn, 1) := dk_172 (dk_at dksX7_put_16 19 rfl rfl)
theorem dX7_put_396 : decode cX7_put 396 = .ok (.aload_n 0, 1) := dk_42 (dk_at dksX7_put_16 20 rfl rfl)
theorem dX7_put_397 : decode cX7_put 397 = .ok (.bipush 9, 2) := dk_16 9 (dk_at dksX7_put_16 21 rfl rfl)
theorem dX7_put_399 : decode cX7_put 399 = .ok (.iload_n 1, 1) := dk_27 (dk_at dksX7_put_16 23 rfl rfl)
theorem dX7_put_400 : decode cX7_put 400 = .ok (.invokevirtual 151, 3) := dk_182 0 151 (dk_at dksX7_put_17 0 rfl rfl)
theorem dX7_put_403 : decode cX7_put 403 = .ok (.aload_n 0, 1) := dk_42 (dk_at dksX7_put_17 3 rfl rfl)
theorem dX7_put_404 : decode cX7_put 404 = .ok (.dup, 1) := dk_89 (dk_at dksX7_put_17 4 rfl rfl)
theorem dX7_put_405 : decode cX7_put 405 = .ok (.getfield 155, 3) := dk_180 0 155 (dk_at dksX7_put_17 5 rfl rfl)
theorem dX7_put_408 : decode cX7_put 408 = .ok (.iconst 1, 1) := dk_4 (dk_at dksX7_put_17 8 rfl rfl)
theorem dX7_put_409 : decode cX7_put 409 = .ok (.iadd, 1) := dk_96 (dk_at dksX7_put_17 9 rfl rfl)
theorem dX7_put_410 : decode cX7_put 410 = .ok (.putfield 155, 3) := dk_181 0 155 (dk_at dksX7_put_17 10 rfl rfl)
theorem dX7_put_413 : decode cX7_put 413 = .ok (.aload_n 0, 1) := dk_42 (dk_at dksX7_put_17 13 rfl rfl)
theorem dX7_put_414 : decode cX7_put 414 = .ok (.getfield 155, 3) := dk_180 0 155 (dk_at dksX7_put_17 14 rfl rfl)
theorem dX7_put_417 : decode cX7_put 417 = .ok (.iconst 1, 1) := dk_4 (dk_at dksX7_put_17 17 rfl rfl)
theorem dX7_put_418 : decode cX7_put 418 = .ok (.isub, 1) := dk_100 (dk_at dksX7_put_17 18 rfl rfl)
theorem dX7_put_419 : decode cX7_put 419 = .ok (.ireturn, 1) := dk_172 (dk_at dksX7_put_17 19 rfl rfl)
abbrev cX7_child : ByteArray := prog_17_method_14_code
def yX7_child : MethodName := ⟨RX7, "child", "(III)I"⟩
def dkwX7_child_1 : List UInt8 := [162, 0, 18, 42, 27, 21, 4, 182, 0, 119, 54, 4, 132, 5, 1, 167, 255, 227, 21, 4, 172]
abbrev dktX7_child_1 : List UInt8 := dkwX7_child_1 ++ []
def dkwX7_child_0 : List UInt8 := [28, 4, 96, 54, 4, 3, 54, 5, 21, 5, 29, 162, 0, 29, 21, 4, 42, 27, 28, 182, 0, 119]
abbrev dktX7_child_0 : List UInt8 := dkwX7_child_0 ++ dktX7_child_1
theorem dksX7_child_0 : cX7_child.data.toList.drop 0 = dktX7_child_0 := by decide +kernel
theorem dksX7_child_1 : cX7_child.data.toList.drop 22 = dktX7_child_1 := dk_seg dksX7_child_0 22 rfl rfl
theorem dX7_child_0 : decode cX7_child 0 = .ok (.iload_n 2, 1) := dk_28 (dk_at dksX7_child_0 0 rfl rfl)
theorem dX7_child_1 : decode cX7_child 1 = .ok (.iconst 1, 1) := dk_4 (dk_at dksX7_child_0 1 rfl rfl)
theorem dX7_child_2 : decode cX7_child 2 = .ok (.iadd, 1) := dk_96 (dk_at dksX7_child_0 2 rfl rfl)
theorem dX7_child_3 : decode cX7_child 3 = .ok (.istore 4, 2) := dk_54 4 (dk_at dksX7_child_0 3 rfl rfl)
theorem dX7_child_5 : decode cX7_child 5 = .ok (.iconst 0, 1) := dk_3 (dk_at dksX7_child_0 5 rfl rfl)
theorem dX7_child_6 : decode cX7_child 6 = .ok (.istore 5, 2) := dk_54 5 (dk_at dksX7_child_0 6 rfl rfl)
theorem dX7_child_8 : decode cX7_child 8 = .ok (.iload 5, 2) := dk_21 5 (dk_at dksX7_child_0 8 rfl rfl)
theorem dX7_child_10 : decode cX7_child 10 = .ok (.iload_n 3, 1) := dk_29 (dk_at dksX7_child_0 10 rfl rfl)
theorem dX7_child_11 : decode cX7_child 11 = .ok (.if_icmp .ge 29, 3) := dk_162 0 29 (dk_at dksX7_child_0 11 rfl rfl)
theorem dX7_child_14 : decode cX7_child 14 = .ok (.iload 4, 2) := dk_21 4 (dk_at dksX7_child_0 14 rfl rfl)
theorem dX7_child_16 : decode cX7_child 16 = .ok (.aload_n 0, 1) := dk_42 (dk_at dksX7_child_0 16 rfl rfl)
theorem dX7_child_17 : decode cX7_child 17 = .ok (.iload_n 1, 1) := dk_27 (dk_at dksX7_child_0 17 rfl rfl)
theorem dX7_child_18 : decode cX7_child 18 = .ok (.iload_n 2, 1) := dk_28 (dk_at dksX7_child_0 18 rfl rfl)
theorem dX7_child_19 : decode cX7_child 19 = .ok (.invokevirtual 119, 3) := dk_182 0 119 (dk_at dksX7_child_0 19 rfl rfl)
theorem dX7_child_22 : decode cX7_child 22 = .ok (.if_icmp .ge 18, 3) := dk_162 0 18 (dk_at dksX7_child_1 0 rfl rfl)
theorem dX7_child_25 : decode cX7_child 25 = .ok (.aload_n 0, 1) := dk_42 (dk_at dksX7_child_1 3 rfl rfl)
theorem dX7_child_26 : decode cX7_child 26 = .ok (.iload_n 1, 1) := dk_27 (dk_at dksX7_child_1 4 rfl rfl)
theorem dX7_child_27 : decode cX7_child 27 = .ok (.iload 4, 2) := dk_21 4 (dk_at dksX7_child_1 5 rfl rfl)
theorem dX7_child_29 : decode cX7_child 29 = .ok (.invokevirtual 119, 3) := dk_182 0 119 (dk_at dksX7_child_1 7 rfl rfl)
theorem dX7_child_32 : decode cX7_child 32 = .ok (.istore 4, 2) := dk_54 4 (dk_at dksX7_child_1 10 rfl rfl)
theorem dX7_child_34 : decode cX7_child 34 = .ok (.iinc 5 1, 3) := dk_132 5 1 (dk_at dksX7_child_1 12 rfl rfl)
theorem dX7_child_37 : decode cX7_child 37 = .ok (.goto (-29), 3) := dk_167 255 227 (dk_at dksX7_child_1 15 rfl rfl)
theorem dX7_child_40 : decode cX7_child 40 = .ok (.iload 4, 2) := dk_21 4 (dk_at dksX7_child_1 18 rfl rfl)
theorem dX7_child_42 : decode cX7_child 42 = .ok (.ireturn, 1) := dk_172 (dk_at dksX7_child_1 20 rfl rfl)
abbrev cX7_isTooDeep : ByteArray := prog_17_method_19_code
def yX7_isTooDeep : MethodName := ⟨RX7, "isTooDeep", "(I)Z"⟩
def dkwX7_isTooDeep_1 : List UInt8 := [172, 132, 2, 1, 167, 255, 230, 3, 172]
abbrev dktX7_isTooDeep_1 : List UInt8 := dkwX7_isTooDeep_1 ++ []
def dkwX7_isTooDeep_0 : List UInt8 := [3, 61, 28, 42, 180, 0, 13, 27, 46, 162, 0, 22, 42, 27, 28, 182, 0, 115, 16, 12, 161, 0, 5, 4]
abbrev dktX7_isTooDeep_0 : List UInt8 := dkwX7_isTooDeep_0 ++ dktX7_isTooDeep_1
theorem dksX7_isTooDeep_0 : cX7_isTooDeep.data.toList.drop 0 = dktX7_isTooDeep_0 := by decide +kernel
theorem dksX7_isTooDeep_1 : cX7_isTooDeep.data.toList.drop 24 = dktX7_isTooDeep_1 := dk_seg dksX7_isTooDeep_0 24 rfl rfl
theorem dX7_isTooDeep_0 : decode cX7_isTooDeep 0 = .ok (.iconst 0, 1) := dk_3 (dk_at dksX7_isTooDeep_0 0 rfl rfl)
theorem dX7_isTooDeep_1 : decode cX7_isTooDeep 1 = .ok (.istore_n 2, 1) := dk_61 (dk_at dksX7_isTooDeep_0 1 rfl rfl)
theorem dX7_isTooDeep_2 : decode cX7_isTooDeep 2 = .ok (.iload_n 2, 1) := dk_28 (dk_at dksX7_isTooDeep_0 2 rfl rfl)
theorem dX7_isTooDeep_3 : decode cX7_isTooDeep 3 = .ok (.aload_n 0, 1) := dk_42 (dk_at dksX7_isTooDeep_0 3 rfl rfl)
theorem dX7_isTooDeep_4 : decode cX7_isTooDeep 4 = .ok (.getfield 13, 3) := dk_180 0 13 (dk_at dksX7_isTooDeep_0 4 rfl rfl)
theorem dX7_isTooDeep_7 : decode cX7_isTooDeep 7 = .ok (.iload_n 1, 1) := dk_27 (dk_at dksX7_isTooDeep_0 7 rfl rfl)
theorem dX7_isTooDeep_8 : decode cX7_isTooDeep 8 = .ok (.iaload, 1) := dk_46 (dk_at dksX7_isTooDeep_0 8 rfl rfl)
theorem dX7_isTooDeep_9 : decode cX7_isTooDeep 9 = .ok (.if_icmp .ge 22, 3) := dk_162 0 22 (dk_at dksX7_isTooDeep_0 9 rfl rfl)
theorem dX7_isTooDeep_12 : decode cX7_isTooDeep 12 = .ok (.aload_n 0, 1) := dk_42 (dk_at dksX7_isTooDeep_0 12 rfl rfl)
theorem dX7_isTooDeep_13 : decode cX7_isTooDeep 13 = .ok (.iload_n 1, 1) := dk_27 (dk_at dksX7_isTooDeep_0 13 rfl rfl)
theorem dX7_isTooDeep_14 : decode cX7_isTooDeep 14 = .ok (.iload_n 2, 1) := dk_28 (dk_at dksX7_isTooDeep_0 14 rfl rfl)
theorem dX7_isTooDeep_15 : decode cX7_isTooDeep 15 = .ok (.invokevirtual 115, 3) := dk_182 0 115 (dk_at dksX7_isTooDeep_0 15 rfl rfl)
theorem dX7_isTooDeep_18 : decode cX7_isTooDeep 18 = .ok (.bipush 12, 2) := dk_16 12 (dk_at dksX7_isTooDeep_0 18 rfl rfl)
theorem dX7_isTooDeep_20 : decode cX7_isTooDeep 20 = .ok (.if_icmp .lt 5, 3) := dk_161 0 5 (dk_at dksX7_isTooDeep_0 20 rfl rfl)
theorem dX7_isTooDeep_23 : decode cX7_isTooDeep 23 = .ok (.iconst 1, 1) := dk_4 (dk_at dksX7_isTooDeep_0 23 rfl rfl)
theorem dX7_isTooDeep_24 : decode cX7_isTooDeep 24 = .ok (.ireturn, 1) := dk_172 (dk_at dksX7_isTooDeep_1 0 rfl rfl)
theorem dX7_isTooDeep_25 : decode cX7_isTooDeep 25 = .ok (.iinc 2 1, 3) := dk_132 2 1 (dk_at dksX7_isTooDeep_1 1 rfl rfl)
theorem dX7_isTooDeep_28 : decode cX7_isTooDeep 28 = .ok (.goto (-26), 3) := dk_167 255 230 (dk_at dksX7_isTooDeep_1 4 rfl rfl)
theorem dX7_isTooDeep_31 : decode cX7_isTooDeep 31 = .ok (.iconst 0, 1) := dk_3 (dk_at dksX7_isTooDeep_1 7 rfl rfl)
theorem dX7_isTooDeep_32 : decode cX7_isTooDeep 32 = .ok (.ireturn, 1) := dk_172 (dk_at dksX7_isTooDeep_1 8 rfl rfl)
abbrev cX7_hasTwice : ByteArray := prog_17_method_18_code
def yX7_hasTwice : MethodName := ⟨RX7, "hasTwice", "(I)Z"⟩
def dkwX7_hasTwice_4 : List UInt8 := [3, 172]
abbrev dktX7_hasTwice_4 : List UInt8 := dkwX7_hasTwice_4 ++ []
def dkwX7_hasTwice_3 : List UInt8 := [182, 0, 119, 54, 4, 167, 255, 226, 42, 27, 29, 182, 0, 119, 62, 167, 255, 201, 132, 2, 1, 167, 255, 167]
abbrev dktX7_hasTwice_3 : List UInt8 := dkwX7_hasTwice_3 ++ dktX7_hasTwice_4
def dkwX7_hasTwice_2 : List UInt8 := [29, 162, 0, 30, 42, 27, 29, 27, 21, 4, 6, 182, 0, 122, 153, 0, 5, 4, 172, 42, 27, 21, 4]
abbrev dktX7_hasTwice_2 : List UInt8 := dkwX7_hasTwice_2 ++ dktX7_hasTwice_3
def dkwX7_hasTwice_1 : List UInt8 := [167, 0, 65, 28, 4, 96, 62, 29, 42, 27, 28, 182, 0, 119, 162, 0, 51, 28, 4, 96, 54, 4, 21, 4]
abbrev dktX7_hasTwice_1 : List UInt8 := dkwX7_hasTwice_1 ++ dktX7_hasTwice_2
def dkwX7_hasTwice_0 : List UInt8 := [3, 61, 28, 42, 180, 0, 13, 27, 46, 162, 0, 85, 42, 27, 28, 4, 182, 0, 104, 5, 159, 0, 6]
abbrev dktX7_hasTwice_0 : List UInt8 := dkwX7_hasTwice_0 ++ dktX7_hasTwice_1
theorem dksX7_hasTwice_0 : cX7_hasTwice.data.toList.drop 0 = dktX7_hasTwice_0 := by decide +kernel
theorem dksX7_hasTwice_1 : cX7_hasTwice.data.toList.drop 23 = dktX7_hasTwice_1 := dk_seg dksX7_hasTwice_0 23 rfl rfl
theorem dksX7_hasTwice_2 : cX7_hasTwice.data.toList.drop 47 = dktX7_hasTwice_2 := dk_seg dksX7_hasTwice_1 24 rfl rfl
theorem dksX7_hasTwice_3 : cX7_hasTwice.data.toList.drop 70 = dktX7_hasTwice_3 := dk_seg dksX7_hasTwice_2 23 rfl rfl
theorem dksX7_hasTwice_4 : cX7_hasTwice.data.toList.drop 94 = dktX7_hasTwice_4 := dk_seg dksX7_hasTwice_3 24 rfl rfl
theorem dX7_hasTwice_0 : decode cX7_hasTwice 0 = .ok (.iconst 0, 1) := dk_3 (dk_at dksX7_hasTwice_0 0 rfl rfl)
theorem dX7_hasTwice_1 : decode cX7_hasTwice 1 = .ok (.istore_n 2, 1) := dk_61 (dk_at dksX7_hasTwice_0 1 rfl rfl)
theorem dX7_hasTwice_2 : decode cX7_hasTwice 2 = .ok (.iload_n 2, 1) := dk_28 (dk_at dksX7_hasTwice_0 2 rfl rfl)
theorem dX7_hasTwice_3 : decode cX7_hasTwice 3 = .ok (.aload_n 0, 1) := dk_42 (dk_at dksX7_hasTwice_0 3 rfl rfl)
theorem dX7_hasTwice_4 : decode cX7_hasTwice 4 = .ok (.getfield 13, 3) := dk_180 0 13 (dk_at dksX7_hasTwice_0 4 rfl rfl)
theorem dX7_hasTwice_7 : decode cX7_hasTwice 7 = .ok (.iload_n 1, 1) := dk_27 (dk_at dksX7_hasTwice_0 7 rfl rfl)
theorem dX7_hasTwice_8 : decode cX7_hasTwice 8 = .ok (.iaload, 1) := dk_46 (dk_at dksX7_hasTwice_0 8 rfl rfl)
theorem dX7_hasTwice_9 : decode cX7_hasTwice 9 = .ok (.if_icmp .ge 85, 3) := dk_162 0 85 (dk_at dksX7_hasTwice_0 9 rfl rfl)
theorem dX7_hasTwice_12 : decode cX7_hasTwice 12 = .ok (.aload_n 0, 1) := dk_42 (dk_at dksX7_hasTwice_0 12 rfl rfl)
theorem dX7_hasTwice_13 : decode cX7_hasTwice 13 = .ok (.iload_n 1, 1) := dk_27 (dk_at dksX7_hasTwice_0 13 rfl rfl)
theorem dX7_hasTwice_14 : decode cX7_hasTwice 14 = .ok (.iload_n 2, 1) := dk_28 (dk_at dksX7_hasTwice_0 14 rfl rfl)
theorem dX7_hasTwice_15 : decode cX7_hasTwice 15 = .ok (.iconst 1, 1) := dk_4 (dk_at dksX7_hasTwice_0 15 rfl rfl)
theorem dX7_hasTwice_16 : decode cX7_hasTwice 16 = .ok (.invokevirtual 104, 3) := dk_182 0 104 (dk_at dksX7_hasTwice_0 16 rfl rfl)
theorem dX7_hasTwice_19 : decode cX7_hasTwice 19 = .ok (.iconst 2, 1) := dk_5 (dk_at dksX7_hasTwice_0 19 rfl rfl)
theorem dX7_hasTwice_20 : decode cX7_hasTwice 20 = .ok (.if_icmp .eq 6, 3) := dk_159 0 6 (dk_at dksX7_hasTwice_0 20 rfl rfl)
theorem dX7_hasTwice_23 : decode cX7_hasTwice 23 = .ok (.goto 65, 3) := dk_167 0 65 (dk_at dksX7_hasTwice_1 0 rfl rfl)
theorem dX7_hasTwice_26 : decode cX7_hasTwice 26 = .ok (.iload_n 2, 1) := dk_28 (dk_at dksX7_hasTwice_1 3 rfl rfl)
theorem dX7_hasTwice_27 : decode cX7_hasTwice 27 = .ok (.iconst 1, 1) := dk_4 (dk_at dksX7_hasTwice_1 4 rfl rfl)
theorem dX7_hasTwice_28 : decode cX7_hasTwice 28 = .ok (.iadd, 1) := dk_96 (dk_at dksX7_hasTwice_1 5 rfl rfl)
theorem dX7_hasTwice_29 : decode cX7_hasTwice 29 = .ok (.istore_n 3, 1) := dk_62 (dk_at dksX7_hasTwice_1 6 rfl rfl)
theorem dX7_hasTwice_30 : decode cX7_hasTwice 30 = .ok (.iload_n 3, 1) := dk_29 (dk_at dksX7_hasTwice_1 7 rfl rfl)
theorem dX7_hasTwice_31 : decode cX7_hasTwice 31 = .ok (.aload_n 0, 1) := dk_42 (dk_at dksX7_hasTwice_1 8 rfl rfl)
theorem dX7_hasTwice_32 : decode cX7_hasTwice 32 = .ok (.iload_n 1, 1) := dk_27 (dk_at dksX7_hasTwice_1 9 rfl rfl)
theorem dX7_hasTwice_33 : decode cX7_hasTwice 33 = .ok (.iload_n 2, 1) := dk_28 (dk_at dksX7_hasTwice_1 10 rfl rfl)
theorem dX7_hasTwice_34 : decode cX7_hasTwice 34 = .ok (.invokevirtual 119, 3) := dk_182 0 119 (dk_at dksX7_hasTwice_1 11 rfl rfl)
theorem dX7_hasTwice_37 : decode cX7_hasTwice 37 = .ok (.if_icmp .ge 51, 3) := dk_162 0 51 (dk_at dksX7_hasTwice_1 14 rfl rfl)
theorem dX7_hasTwice_40 : decode cX7_hasTwice 40 = .ok (.iload_n 2, 1) := dk_28 (dk_at dksX7_hasTwice_1 17 rfl rfl)
theorem dX7_hasTwice_41 : decode cX7_hasTwice 41 = .ok (.iconst 1, 1) := dk_4 (dk_at dksX7_hasTwice_1 18 rfl rfl)
theorem dX7_hasTwice_42 : decode cX7_hasTwice 42 = .ok (.iadd, 1) := dk_96 (dk_at dksX7_hasTwice_1 19 rfl rfl)
theorem dX7_hasTwice_43 : decode cX7_hasTwice 43 = .ok (.istore 4, 2) := dk_54 4 (dk_at dksX7_hasTwice_1 20 rfl rfl)
theorem dX7_hasTwice_45 : decode cX7_hasTwice 45 = .ok (.iload 4, 2) := dk_21 4 (dk_at dksX7_hasTwice_1 22 rfl rfl)
theorem dX7_hasTwice_47 : decode cX7_hasTwice 47 = .ok (.iload_n 3, 1) := dk_29 (dk_at dksX7_hasTwice_2 0 rfl rfl)
theorem dX7_hasTwice_48 : decode cX7_hasTwice 48 = .ok (.if_icmp .ge 30, 3) := dk_162 0 30 (dk_at dksX7_hasTwice_2 1 rfl rfl)
theorem dX7_hasTwice_51 : decode cX7_hasTwice 51 = .ok (.aload_n 0, 1) := dk_42 (dk_at dksX7_hasTwice_2 4 rfl rfl)
theorem dX7_hasTwice_52 : decode cX7_hasTwice 52 = .ok (.iload_n 1, 1) := dk_27 (dk_at dksX7_hasTwice_2 5 rfl rfl)
theorem dX7_hasTwice_53 : decode cX7_hasTwice 53 = .ok (.iload_n 3, 1) := dk_29 (dk_at dksX7_hasTwice_2 6 rfl rfl)
theorem dX7_hasTwice_54 : decode cX7_hasTwice 54 = .ok (.iload_n 1, 1) := dk_27 (dk_at dksX7_hasTwice_2 7 rfl rfl)
theorem dX7_hasTwice_55 : decode cX7_hasTwice 55 = .ok (.iload 4, 2) := dk_21 4 (dk_at dksX7_hasTwice_2 8 rfl rfl)
theorem dX7_hasTwice_57 : decode cX7_hasTwice 57 = .ok (.iconst 3, 1) := dk_6 (dk_at dksX7_hasTwice_2 10 rfl rfl)
theorem dX7_hasTwice_58 : decode cX7_hasTwice 58 = .ok (.invokevirtual 122, 3) := dk_182 0 122 (dk_at dksX7_hasTwice_2 11 rfl rfl)
theorem dX7_hasTwice_61 : decode cX7_hasTwice 61 = .ok (.ifCond .eq 5, 3) := dk_153 0 5 (dk_at dksX7_hasTwice_2 14 rfl rfl)
theorem dX7_hasTwice_64 : decode cX7_hasTwice 64 = .ok (.iconst 1, 1) := dk_4 (dk_at dksX7_hasTwice_2 17 rfl rfl)
theorem dX7_hasTwice_65 : decode cX7_hasTwice 65 = .ok (.ireturn, 1) := dk_172 (dk_at dksX7_hasTwice_2 18 rfl rfl)
theorem dX7_hasTwice_66 : decode cX7_hasTwice 66 = .ok (.aload_n 0, 1) := dk_42 (dk_at dksX7_hasTwice_2 19 rfl rfl)
theorem dX7_hasTwice_67 : decode cX7_hasTwice 67 = .ok (.iload_n 1, 1) := dk_27 (dk_at dksX7_hasTwice_2 20 rfl rfl)
theorem dX7_hasTwice_68 : decode cX7_hasTwice 68 = .ok (.iload 4, 2) := dk_21 4 (dk_at dksX7_hasTwice_2 21 rfl rfl)
theorem dX7_hasTwice_70 : decode cX7_hasTwice 70 = .ok (.invokevirtual 119, 3) := dk_182 0 119 (dk_at dksX7_hasTwice_3 0 rfl rfl)
theorem dX7_hasTwice_73 : decode cX7_hasTwice 73 = .ok (.istore 4, 2) := dk_54 4 (dk_at dksX7_hasTwice_3 3 rfl rfl)
theorem dX7_hasTwice_75 : decode cX7_hasTwice 75 = .ok (.goto (-30), 3) := dk_167 255 226 (dk_at dksX7_hasTwice_3 5 rfl rfl)
theorem dX7_hasTwice_78 : decode cX7_hasTwice 78 = .ok (.aload_n 0, 1) := dk_42 (dk_at dksX7_hasTwice_3 8 rfl rfl)
theorem dX7_hasTwice_79 : decode cX7_hasTwice 79 = .ok (.iload_n 1, 1) := dk_27 (dk_at dksX7_hasTwice_3 9 rfl rfl)
theorem dX7_hasTwice_80 : decode cX7_hasTwice 80 = .ok (.iload_n 3, 1) := dk_29 (dk_at dksX7_hasTwice_3 10 rfl rfl)
theorem dX7_hasTwice_81 : decode cX7_hasTwice 81 = .ok (.invokevirtual 119, 3) := dk_182 0 119 (dk_at dksX7_hasTwice_3 11 rfl rfl)
theorem dX7_hasTwice_84 : decode cX7_hasTwice 84 = .ok (.istore_n 3, 1) := dk_62 (dk_at dksX7_hasTwice_3 14 rfl rfl)
theorem dX7_hasTwice_85 : decode cX7_hasTwice 85 = .ok (.goto (-55), 3) := dk_167 255 201 (dk_at dksX7_hasTwice_3 15 rfl rfl)
theorem dX7_hasTwice_88 : decode cX7_hasTwice 88 = .ok (.iinc 2 1, 3) := dk_132 2 1 (dk_at dksX7_hasTwice_3 18 rfl rfl)
theorem dX7_hasTwice_91 : decode cX7_hasTwice 91 = .ok (.goto (-89), 3) := dk_167 255 167 (dk_at dksX7_hasTwice_3 21 rfl rfl)
theorem dX7_hasTwice_94 : decode cX7_hasTwice 94 = .ok (.iconst 0, 1) := dk_3 (dk_at dksX7_hasTwice_4 0 rfl rfl)
theorem dX7_hasTwice_95 : decode cX7_hasTwice 95 = .ok (.ireturn, 1) := dk_172 (dk_at dksX7_hasTwice_4 1 rfl rfl)
abbrev cX7_take : ByteArray := prog_17_method_40_code
def yX7_take : MethodName := ⟨RX7, "take", "(II)I"⟩
def dkwX7_take_8 : List UInt8 := [182, 0, 151, 21, 5, 172]
abbrev dktX7_take_8 : List UInt8 := dkwX7_take_8 ++ []
def dkwX7_take_7 : List UInt8 := [167, 255, 168, 42, 16, 9, 182, 0, 194, 153, 0, 10, 42, 16, 252, 182, 0, 126, 172, 42, 16, 9, 27]
abbrev dktX7_take_7 : List UInt8 := dkwX7_take_7 ++ dktX7_take_8
def dkwX7_take_6 : List UInt8 := [21, 7, 182, 0, 115, 4, 100, 182, 0, 108, 42, 180, 0, 13, 16, 9, 92, 46, 4, 96, 79, 132, 7, 1]
abbrev dktX7_take_6 : List UInt8 := dkwX7_take_6 ++ dktX7_take_7
def dkwX7_take_5 : List UInt8 := [164, 0, 33, 21, 7, 21, 6, 162, 0, 26, 42, 16, 9, 42, 180, 0, 13, 16, 9, 46, 5, 42, 27]
abbrev dktX7_take_5 : List UInt8 := dkwX7_take_5 ++ dktX7_take_6
def dkwX7_take_4 : List UInt8 := [167, 0, 67, 42, 27, 21, 7, 16, 9, 42, 180, 0, 13, 16, 9, 46, 182, 0, 112, 21, 7, 21, 4]
abbrev dktX7_take_4 : List UInt8 := dkwX7_take_4 ++ dktX7_take_5
def dkwX7_take_3 : List UInt8 := [3, 79, 3, 54, 7, 21, 7, 42, 180, 0, 13, 27, 46, 162, 0, 83, 21, 7, 21, 4, 160, 0, 6]
abbrev dktX7_take_3 : List UInt8 := dkwX7_take_3 ++ dktX7_take_4
def dkwX7_take_2 : List UInt8 := [42, 27, 21, 4, 182, 0, 175, 54, 5, 42, 27, 21, 4, 182, 0, 119, 54, 6, 42, 180, 0, 13, 16, 9]
abbrev dktX7_take_2 : List UInt8 := dkwX7_take_2 ++ dktX7_take_3
def dkwX7_take_1 : List UInt8 := [21, 4, 156, 0, 10, 42, 16, 250, 182, 0, 126, 172, 21, 4, 154, 0, 10, 42, 16, 249, 182, 0, 126, 172]
abbrev dktX7_take_1 : List UInt8 := dkwX7_take_1 ++ dktX7_take_2
def dkwX7_take_0 : List UInt8 := [42, 27, 182, 0, 161, 62, 29, 156, 0, 9, 42, 29, 182, 0, 126, 172, 42, 27, 28, 182, 0, 181, 54, 4]
abbrev dktX7_take_0 : List UInt8 := dkwX7_take_0 ++ dktX7_take_1
theorem dksX7_take_0 : cX7_take.data.toList.drop 0 = dktX7_take_0 := by decide +kernel
theorem dksX7_take_1 : cX7_take.data.toList.drop 24 = dktX7_take_1 := dk_seg dksX7_take_0 24 rfl rfl
theorem dksX7_take_2 : cX7_take.data.toList.drop 48 = dktX7_take_2 := dk_seg dksX7_take_1 24 rfl rfl
theorem dksX7_take_3 : cX7_take.data.toList.drop 72 = dktX7_take_3 := dk_seg dksX7_take_2 24 rfl rfl
theorem dksX7_take_4 : cX7_take.data.toList.drop 95 = dktX7_take_4 := dk_seg dksX7_take_3 23 rfl rfl
theorem dksX7_take_5 : cX7_take.data.toList.drop 118 = dktX7_take_5 := dk_seg dksX7_take_4 23 rfl rfl
theorem dksX7_take_6 : cX7_take.data.toList.drop 141 = dktX7_take_6 := dk_seg dksX7_take_5 23 rfl rfl
theorem dksX7_take_7 : cX7_take.data.toList.drop 165 = dktX7_take_7 := dk_seg dksX7_take_6 24 rfl rfl
theorem dksX7_take_8 : cX7_take.data.toList.drop 188 = dktX7_take_8 := dk_seg dksX7_take_7 23 rfl rfl
theorem dX7_take_0 : decode cX7_take 0 = .ok (.aload_n 0, 1) := dk_42 (dk_at dksX7_take_0 0 rfl rfl)
theorem dX7_take_1 : decode cX7_take 1 = .ok (.iload_n 1, 1) := dk_27 (dk_at dksX7_take_0 1 rfl rfl)
theorem dX7_take_2 : decode cX7_take 2 = .ok (.invokevirtual 161, 3) := dk_182 0 161 (dk_at dksX7_take_0 2 rfl rfl)
theorem dX7_take_5 : decode cX7_take 5 = .ok (.istore_n 3, 1) := dk_62 (dk_at dksX7_take_0 5 rfl rfl)
theorem dX7_take_6 : decode cX7_take 6 = .ok (.iload_n 3, 1) := dk_29 (dk_at dksX7_take_0 6 rfl rfl)
theorem dX7_take_7 : decode cX7_take 7 = .ok (.ifCond .ge 9, 3) := dk_156 0 9 (dk_at dksX7_take_0 7 rfl rfl)
theorem dX7_take_10 : decode cX7_take 10 = .ok (.aload_n 0, 1) := dk_42 (dk_at dksX7_take_0 10 rfl rfl)
theorem dX7_take_11 : decode cX7_take 11 = .ok (.iload_n 3, 1) := dk_29 (dk_at dksX7_take_0 11 rfl rfl)
theorem dX7_take_12 : decode cX7_take 12 = .ok (.invokevirtual 126, 3) := dk_182 0 126 (dk_at dksX7_take_0 12 rfl rfl)
theorem dX7_take_15 : decode cX7_take 15 = .ok (.ireturn, 1) := dk_172 (dk_at dksX7_take_0 15 rfl rfl)
theorem dX7_take_16 : decode cX7_take 16 = .ok (.aload_n 0, 1) := dk_42 (dk_at dksX7_take_0 16 rfl rfl)
theorem dX7_take_17 : decode cX7_take 17 = .ok (.iload_n 1, 1) := dk_27 (dk_at dksX7_take_0 17 rfl rfl)
theorem dX7_take_18 : decode cX7_take 18 = .ok (.iload_n 2, 1) := dk_28 (dk_at dksX7_take_0 18 rfl rfl)
theorem dX7_take_19 : decode cX7_take 19 = .ok (.invokevirtual 181, 3) := dk_182 0 181 (dk_at dksX7_take_0 19 rfl rfl)
theorem dX7_take_22 : decode cX7_take 22 = .ok (.istore 4, 2) := dk_54 4 (dk_at dksX7_take_0 22 rfl rfl)
theorem dX7_take_24 : decode cX7_take 24 = .ok (.iload 4, 2) := dk_21 4 (dk_at dksX7_take_1 0 rfl rfl)
theorem dX7_take_26 : decode cX7_take 26 = .ok (.ifCond .ge 10, 3) := dk_156 0 10 (dk_at dksX7_take_1 2 rfl rfl)
theorem dX7_take_29 : decode cX7_take 29 = .ok (.aload_n 0, 1) := dk_42 (dk_at dksX7_take_1 5 rfl rfl)
theorem dX7_take_30 : decode cX7_take 30 = .ok (.bipush (-6), 2) := dk_16 250 (dk_at dksX7_take_1 6 rfl rfl)
theorem dX7_take_32 : decode cX7_take 32 = .ok (.invokevirtual 126, 3) := dk_182 0 126 (dk_at dksX7_take_1 8 rfl rfl)
theorem dX7_take_35 : decode cX7_take 35 = .ok (.ireturn, 1) := dk_172 (dk_at dksX7_take_1 11 rfl rfl)
theorem dX7_take_36 : decode cX7_take 36 = .ok (.iload 4, 2) := dk_21 4 (dk_at dksX7_take_1 12 rfl rfl)
theorem dX7_take_38 : decode cX7_take 38 = .ok (.ifCond .ne 10, 3) := dk_154 0 10 (dk_at dksX7_take_1 14 rfl rfl)
theorem dX7_take_41 : decode cX7_take 41 = .ok (.aload_n 0, 1) := dk_42 (dk_at dksX7_take_1 17 rfl rfl)
theorem dX7_take_42 : decode cX7_take 42 = .ok (.bipush (-7), 2) := dk_16 249 (dk_at dksX7_take_1 18 rfl rfl)
theorem dX7_take_44 : decode cX7_take 44 = .ok (.invokevirtual 126, 3) := dk_182 0 126 (dk_at dksX7_take_1 20 rfl rfl)
theorem dX7_take_47 : decode cX7_take 47 = .ok (.ireturn, 1) := dk_172 (dk_at dksX7_take_1 23 rfl rfl)
theorem dX7_take_48 : decode cX7_take 48 = .ok (.aload_n 0, 1) := dk_42 (dk_at dksX7_take_2 0 rfl rfl)
theorem dX7_take_49 : decode cX7_take 49 = .ok (.iload_n 1, 1) := dk_27 (dk_at dksX7_take_2 1 rfl rfl)
theorem dX7_take_50 : decode cX7_take 50 = .ok (.iload 4, 2) := dk_21 4 (dk_at dksX7_take_2 2 rfl rfl)
theorem dX7_take_52 : decode cX7_take 52 = .ok (.invokevirtual 175, 3) := dk_182 0 175 (dk_at dksX7_take_2 4 rfl rfl)
theorem dX7_take_55 : decode cX7_take 55 = .ok (.istore 5, 2) := dk_54 5 (dk_at dksX7_take_2 7 rfl rfl)
theorem dX7_take_57 : decode cX7_take 57 = .ok (.aload_n 0, 1) := dk_42 (dk_at dksX7_take_2 9 rfl rfl)
theorem dX7_take_58 : decode cX7_take 58 = .ok (.iload_n 1, 1) := dk_27 (dk_at dksX7_take_2 10 rfl rfl)
theorem dX7_take_59 : decode cX7_take 59 = .ok (.iload 4, 2) := dk_21 4 (dk_at dksX7_take_2 11 rfl rfl)
theorem dX7_take_61 : decode cX7_take 61 = .ok (.invokevirtual 119, 3) := dk_182 0 119 (dk_at dksX7_take_2 13 rfl rfl)
theorem dX7_take_64 : decode cX7_take 64 = .ok (.istore 6, 2) := dk_54 6 (dk_at dksX7_take_2 16 rfl rfl)
theorem dX7_take_66 : decode cX7_take 66 = .ok (.aload_n 0, 1) := dk_42 (dk_at dksX7_take_2 18 rfl rfl)
theorem dX7_take_67 : decode cX7_take 67 = .ok (.getfield 13, 3) := dk_180 0 13 (dk_at dksX7_take_2 19 rfl rfl)
theorem dX7_take_70 : decode cX7_take 70 = .ok (.bipush 9, 2) := dk_16 9 (dk_at dksX7_take_2 22 rfl rfl)
theorem dX7_take_72 : decode cX7_take 72 = .ok (.iconst 0, 1) := dk_3 (dk_at dksX7_take_3 0 rfl rfl)
theorem dX7_take_73 : decode cX7_take 73 = .ok (.iastore, 1) := dk_79 (dk_at dksX7_take_3 1 rfl rfl)
theorem dX7_take_74 : decode cX7_take 74 = .ok (.iconst 0, 1) := dk_3 (dk_at dksX7_take_3 2 rfl rfl)
theorem dX7_take_75 : decode cX7_take 75 = .ok (.istore 7, 2) := dk_54 7 (dk_at dksX7_take_3 3 rfl rfl)
theorem dX7_take_77 : decode cX7_take 77 = .ok (.iload 7, 2) := dk_21 7 (dk_at dksX7_take_3 5 rfl rfl)
theorem dX7_take_79 : decode cX7_take 79 = .ok (.aload_n 0, 1) := dk_42 (dk_at dksX7_take_3 7 rfl rfl)
theorem dX7_take_80 : decode cX7_take 80 = .ok (.getfield 13, 3) := dk_180 0 13 (dk_at dksX7_take_3 8 rfl rfl)
theorem dX7_take_83 : decode cX7_take 83 = .ok (.iload_n 1, 1) := dk_27 (dk_at dksX7_take_3 11 rfl rfl)
theorem dX7_take_84 : decode cX7_take 84 = .ok (.iaload, 1) := dk_46 (dk_at dksX7_take_3 12 rfl rfl)
theorem dX7_take_85 : decode cX7_take 85 = .ok (.if_icmp .ge 83, 3) := dk_162 0 83 (dk_at dksX7_take_3 13 rfl rfl)
theorem dX7_take_88 : decode cX7_take 88 = .ok (.iload 7, 2) := dk_21 7 (dk_at dksX7_take_3 16 rfl rfl)
theorem dX7_take_90 : decode cX7_take 90 = .ok (.iload 4, 2) := dk_21 4 (dk_at dksX7_take_3 18 rfl rfl)
theorem dX7_take_92 : decode cX7_take 92 = .ok (.if_icmp .ne 6, 3) := dk_160 0 6 (dk_at dksX7_take_3 20 rfl rfl)
theorem dX7_take_95 : decode cX7_take 95 = .ok (.goto 67, 3) := dk_167 0 67 (dk_at dksX7_take_4 0 rfl rfl)
theorem dX7_take_98 : decode cX7_take 98 = .ok (.aload_n 0, 1) := dk_42 (dk_at dksX7_take_4 3 rfl rfl)
theorem dX7_take_99 : decode cX7_take 99 = .ok (.iload_n 1, 1) := dk_27 (dk_at dksX7_take_4 4 rfl rfl)
theorem dX7_take_100 : decode cX7_take 100 = .ok (.iload 7, 2) := dk_21 7 (dk_at dksX7_take_4 5 rfl rfl)
theorem dX7_take_102 : decode cX7_take 102 = .ok (.bipush 9, 2) := dk_16 9 (dk_at dksX7_take_4 7 rfl rfl)
theorem dX7_take_104 : decode cX7_take 104 = .ok (.aload_n 0, 1) := dk_42 (dk_at dksX7_take_4 9 rfl rfl)
theorem dX7_take_105 : decode cX7_take 105 = .ok (.getfield 13, 3) := dk_180 0 13 (dk_at dksX7_take_4 10 rfl rfl)
theorem dX7_take_108 : decode cX7_take 108 = .ok (.bipush 9, 2) := dk_16 9 (dk_at dksX7_take_4 13 rfl rfl)
theorem dX7_take_110 : decode cX7_take 110 = .ok (.iaload, 1) := dk_46 (dk_at dksX7_take_4 15 rfl rfl)
theorem dX7_take_111 : decode cX7_take 111 = .ok (.invokevirtual 112, 3) := dk_182 0 112 (dk_at dksX7_take_4 16 rfl rfl)
theorem dX7_take_114 : decode cX7_take 114 = .ok (.iload 7, 2) := dk_21 7 (dk_at dksX7_take_4 19 rfl rfl)
theorem dX7_take_116 : decode cX7_take 116 = .ok (.iload 4, 2) := dk_21 4 (dk_at dksX7_take_4 21 rfl rfl)
theorem dX7_take_118 : decode cX7_take 118 = .ok (.if_icmp .le 33, 3) := dk_164 0 33 (dk_at dksX7_take_5 0 rfl rfl)
theorem dX7_take_121 : decode cX7_take 121 = .ok (.iload 7, 2) := dk_21 7 (dk_at dksX7_take_5 3 rfl rfl)
theorem dX7_take_123 : decode cX7_take 123 = .ok (.iload 6, 2) := dk_21 6 (dk_at dksX7_take_5 5 rfl rfl)
theorem dX7_take_125 : decode cX7_take 125 = .ok (.if_icmp .ge 26, 3) := dk_162 0 26 (dk_at dksX7_take_5 7 rfl rfl)
theorem dX7_take_128 : decode cX7_take 128 = .ok (.aload_n 0, 1) := dk_42 (dk_at dksX7_take_5 10 rfl rfl)
theorem dX7_take_129 : decode cX7_take 129 = .ok (.bipush 9, 2) := dk_16 9 (dk_at dksX7_take_5 11 rfl rfl)
theorem dX7_take_131 : decode cX7_take 131 = .ok (.aload_n 0, 1) := dk_42 (dk_at dksX7_take_5 13 rfl rfl)
theorem dX7_take_132 : decode cX7_take 132 = .ok (.getfield 13, 3) := dk_180 0 13 (dk_at dksX7_take_5 14 rfl rfl)
theorem dX7_take_135 : decode cX7_take 135 = .ok (.bipush 9, 2) := dk_16 9 (dk_at dksX7_take_5 17 rfl rfl)
theorem dX7_take_137 : decode cX7_take 137 = .ok (.iaload, 1) := dk_46 (dk_at dksX7_take_5 19 rfl rfl)
theorem dX7_take_138 : decode cX7_take 138 = .ok (.iconst 2, 1) := dk_5 (dk_at dksX7_take_5 20 rfl rfl)
theorem dX7_take_139 : decode cX7_take 139 = .ok (.aload_n 0, 1) := dk_42 (dk_at dksX7_take_5 21 rfl rfl)
theorem dX7_take_140 : decode cX7_take 140 = .ok (.iload_n 1, 1) := dk_27 (dk_at dksX7_take_5 22 rfl rfl)
theorem dX7_take_141 : decode cX7_take 141 = .ok (.iload 7, 2) := dk_21 7 (dk_at dksX7_take_6 0 rfl rfl)
theorem dX7_take_143 : decode cX7_take 143 = .ok (.invokevirtual 115, 3) := dk_182 0 115 (dk_at dksX7_take_6 2 rfl rfl)
theorem dX7_take_146 : decode cX7_take 146 = .ok (.iconst 1, 1) := dk_4 (dk_at dksX7_take_6 5 rfl rfl)
theorem dX7_take_147 : decode cX7_take 147 = .ok (.isub, 1) := dk_100 (dk_at dksX7_take_6 6 rfl rfl)
theorem dX7_take_148 : decode cX7_take 148 = .ok (.invokevirtual 108, 3) := dk_182 0 108 (dk_at dksX7_take_6 7 rfl rfl)
theorem dX7_take_151 : decode cX7_take 151 = .ok (.aload_n 0, 1) := dk_42 (dk_at dksX7_take_6 10 rfl rfl)
theorem dX7_take_152 : decode cX7_take 152 = .ok (.getfield 13, 3) := dk_180 0 13 (dk_at dksX7_take_6 11 rfl rfl)
theorem dX7_take_155 : decode cX7_take 155 = .ok (.bipush 9, 2) := dk_16 9 (dk_at dksX7_take_6 14 rfl rfl)
theorem dX7_take_157 : decode cX7_take 157 = .ok (.dup2, 1) := dk_92 (dk_at dksX7_take_6 16 rfl rfl)
theorem dX7_take_158 : decode cX7_take 158 = .ok (.iaload, 1) := dk_46 (dk_at dksX7_take_6 17 rfl rfl)
theorem dX7_take_159 : decode cX7_take 159 = .ok (.iconst 1, 1) := dk_4 (dk_at dksX7_take_6 18 rfl rfl)
theorem dX7_take_160 : decode cX7_take 160 = .ok (.iadd, 1) := dk_96 (dk_at dksX7_take_6 19 rfl rfl)
theorem dX7_take_161 : decode cX7_take 161 = .ok (.iastore, 1) := dk_79 (dk_at dksX7_take_6 20 rfl rfl)
theorem dX7_take_162 : decode cX7_take 162 = .ok (.iinc 7 1, 3) := dk_132 7 1 (dk_at dksX7_take_6 21 rfl rfl)
theorem dX7_take_165 : decode cX7_take 165 = .ok (.goto (-88), 3) := dk_167 255 168 (dk_at dksX7_take_7 0 rfl rfl)
theorem dX7_take_168 : decode cX7_take 168 = .ok (.aload_n 0, 1) := dk_42 (dk_at dksX7_take_7 3 rfl rfl)
theorem dX7_take_169 : decode cX7_take 169 = .ok (.bipush 9, 2) := dk_16 9 (dk_at dksX7_take_7 4 rfl rfl)
theorem dX7_take_171 : decode cX7_take 171 = .ok (.invokevirtual 194, 3) := dk_182 0 194 (dk_at dksX7_take_7 6 rfl rfl)
theorem dX7_take_174 : decode cX7_take 174 = .ok (.ifCond .eq 10, 3) := dk_153 0 10 (dk_at dksX7_take_7 9 rfl rfl)
theorem dX7_take_177 : decode cX7_take 177 = .ok (.aload_n 0, 1) := dk_42 (dk_at dksX7_take_7 12 rfl rfl)
theorem dX7_take_178 : decode cX7_take 178 = .ok (.bipush (-4), 2) := dk_16 252 (dk_at dksX7_take_7 13 rfl rfl)
theorem dX7_take_180 : decode cX7_take 180 = .ok (.invokevirtual 126, 3) := dk_182 0 126 (dk_at dksX7_take_7 15 rfl rfl)
theorem dX7_take_183 : decode cX7_take 183 = .ok (.ireturn, 1) := dk_172 (dk_at dksX7_take_7 18 rfl rfl)
theorem dX7_take_184 : decode cX7_take 184 = .ok (.aload_n 0, 1) := dk_42 (dk_at dksX7_take_7 19 rfl rfl)
theorem dX7_take_185 : decode cX7_take 185 = .ok (.bipush 9, 2) := dk_16 9 (dk_at dksX7_take_7 20 rfl rfl)
theorem dX7_take_187 : decode cX7_take 187 = .ok (.iload_n 1, 1) := dk_27 (dk_at dksX7_take_7 22 rfl rfl)
theorem dX7_take_188 : decode cX7_take 188 = .ok (.invokevirtual 151, 3) := dk_182 0 151 (dk_at dksX7_take_8 0 rfl rfl)
theorem dX7_take_191 : decode cX7_take 191 = .ok (.iload 5, 2) := dk_21 5 (dk_at dksX7_take_8 3 rfl rfl)
theorem dX7_take_193 : decode cX7_take 193 = .ok (.ireturn, 1) := dk_172 (dk_at dksX7_take_8 5 rfl rfl)
abbrev cX7_move : ByteArray := prog_17_method_41_code
def yX7_move : MethodName := ⟨RX7, "move", "(IIII)I"⟩
def dkwX7_move_19 : List UInt8 := [21, 8, 21, 6, 100, 172]
abbrev dktX7_move_19 : List UInt8 := dkwX7_move_19 ++ []
def dkwX7_move_18 : List UInt8 := [172, 42, 16, 10, 182, 0, 194, 153, 0, 10, 42, 16, 252, 182, 0, 126, 172, 42, 16, 10, 27, 182, 0, 151]
abbrev dktX7_move_18 : List UInt8 := dkwX7_move_18 ++ dktX7_move_19
def dkwX7_move_17 : List UInt8 := [4, 96, 79, 132, 12, 1, 167, 255, 123, 42, 16, 10, 182, 0, 191, 153, 0, 10, 42, 16, 251, 182, 0, 126]
abbrev dktX7_move_17 : List UInt8 := dkwX7_move_17 ++ dktX7_move_18
def dkwX7_move_16 : List UInt8 := [16, 9, 21, 12, 16, 10, 42, 180, 0, 13, 16, 10, 46, 182, 0, 112, 42, 180, 0, 13, 16, 10, 92, 46]
abbrev dktX7_move_16 : List UInt8 := dkwX7_move_16 ++ dktX7_move_17
def dkwX7_move_15 : List UInt8 := [79, 132, 13, 1, 167, 255, 188, 21, 12, 42, 180, 0, 13, 16, 9, 46, 160, 0, 6, 167, 0, 31, 42]
abbrev dktX7_move_15 : List UInt8 := dkwX7_move_15 ++ dktX7_move_16
def dkwX7_move_14 : List UInt8 := [5, 42, 27, 21, 13, 182, 0, 115, 21, 11, 96, 182, 0, 108, 42, 180, 0, 13, 16, 10, 92, 46, 4, 96]
abbrev dktX7_move_14 : List UInt8 := dkwX7_move_14 ++ dktX7_move_15
def dkwX7_move_13 : List UInt8 := [21, 13, 16, 10, 42, 180, 0, 13, 16, 10, 46, 182, 0, 112, 42, 16, 10, 42, 180, 0, 13, 16, 10, 46]
abbrev dktX7_move_13 : List UInt8 := dkwX7_move_13 ++ dktX7_move_14
def dkwX7_move_12 : List UInt8 := [163, 0, 127, 21, 6, 54, 13, 21, 13, 21, 8, 162, 0, 67, 21, 12, 21, 10, 160, 0, 60, 42, 27]
abbrev dktX7_move_12 : List UInt8 := dkwX7_move_12 ++ dktX7_move_13
def dkwX7_move_11 : List UInt8 := [54, 11, 42, 180, 0, 13, 16, 10, 3, 79, 3, 54, 12, 21, 12, 42, 180, 0, 13, 16, 9, 46]
abbrev dktX7_move_11 : List UInt8 := dkwX7_move_11 ++ dktX7_move_12
def dkwX7_move_10 : List UInt8 := [182, 0, 188, 54, 10, 42, 16, 9, 21, 9, 182, 0, 115, 4, 96, 42, 27, 21, 6, 182, 0, 115, 100]
abbrev dktX7_move_10 : List UInt8 := dkwX7_move_10 ++ dktX7_move_11
def dkwX7_move_9 : List UInt8 := [16, 9, 21, 9, 182, 0, 175, 164, 0, 9, 42, 2, 182, 0, 126, 172, 42, 16, 9, 21, 9, 21, 4]
abbrev dktX7_move_9 : List UInt8 := dkwX7_move_9 ++ dktX7_move_10
def dkwX7_move_8 : List UInt8 := [79, 132, 9, 1, 167, 255, 198, 42, 16, 9, 29, 182, 0, 181, 54, 9, 21, 4, 155, 0, 16, 21, 4, 42]
abbrev dktX7_move_8 : List UInt8 := dkwX7_move_8 ++ dktX7_move_9
def dkwX7_move_7 : List UInt8 := [21, 9, 16, 9, 42, 180, 0, 13, 16, 9, 46, 182, 0, 112, 42, 180, 0, 13, 16, 9, 92, 46, 4, 96]
abbrev dktX7_move_7 : List UInt8 := dkwX7_move_7 ++ dktX7_move_8
def dkwX7_move_6 : List UInt8 := [46, 162, 0, 53, 21, 9, 21, 6, 161, 0, 13, 21, 9, 21, 8, 162, 0, 6, 167, 0, 30, 42, 27]
abbrev dktX7_move_6 : List UInt8 := dkwX7_move_6 ++ dktX7_move_7
def dkwX7_move_5 : List UInt8 := [16, 249, 182, 0, 126, 172, 42, 180, 0, 13, 16, 9, 3, 79, 3, 54, 9, 21, 9, 42, 180, 0, 13, 27]
abbrev dktX7_move_5 : List UInt8 := dkwX7_move_5 ++ dktX7_move_6
def dkwX7_move_4 : List UInt8 := [27, 21, 6, 182, 0, 119, 54, 8, 21, 7, 21, 6, 161, 0, 17, 21, 7, 21, 8, 162, 0, 10, 42]
abbrev dktX7_move_4 : List UInt8 := dkwX7_move_4 ++ dktX7_move_5
def dkwX7_move_3 : List UInt8 := [182, 0, 126, 172, 42, 27, 21, 7, 4, 182, 0, 104, 6, 160, 0, 10, 42, 16, 253, 182, 0, 126, 172, 42]
abbrev dktX7_move_3 : List UInt8 := dkwX7_move_3 ++ dktX7_move_4
def dkwX7_move_2 : List UInt8 := [16, 249, 182, 0, 126, 172, 42, 27, 29, 182, 0, 181, 54, 7, 21, 7, 156, 0, 10, 42, 16, 250]
abbrev dktX7_move_2 : List UInt8 := dkwX7_move_2 ++ dktX7_move_3
def dkwX7_move_1 : List UInt8 := [182, 0, 181, 54, 6, 21, 6, 156, 0, 10, 42, 16, 250, 182, 0, 126, 172, 21, 6, 154, 0, 10, 42]
abbrev dktX7_move_1 : List UInt8 := dkwX7_move_1 ++ dktX7_move_2
def dkwX7_move_0 : List UInt8 := [42, 27, 182, 0, 161, 54, 5, 21, 5, 156, 0, 10, 42, 21, 5, 182, 0, 126, 172, 42, 27, 28]
abbrev dktX7_move_0 : List UInt8 := dkwX7_move_0 ++ dktX7_move_1
theorem dksX7_move_0 : cX7_move.data.toList.drop 0 = dktX7_move_0 := by decide +kernel
theorem dksX7_move_1 : cX7_move.data.toList.drop 22 = dktX7_move_1 := dk_seg dksX7_move_0 22 rfl rfl
theorem dksX7_move_2 : cX7_move.data.toList.drop 45 = dktX7_move_2 := dk_seg dksX7_move_1 23 rfl rfl
theorem dksX7_move_3 : cX7_move.data.toList.drop 67 = dktX7_move_3 := dk_seg dksX7_move_2 22 rfl rfl
theorem dksX7_move_4 : cX7_move.data.toList.drop 91 = dktX7_move_4 := dk_seg dksX7_move_3 24 rfl rfl
theorem dksX7_move_5 : cX7_move.data.toList.drop 114 = dktX7_move_5 := dk_seg dksX7_move_4 23 rfl rfl
theorem dksX7_move_6 : cX7_move.data.toList.drop 138 = dktX7_move_6 := dk_seg dksX7_move_5 24 rfl rfl
theorem dksX7_move_7 : cX7_move.data.toList.drop 161 = dktX7_move_7 := dk_seg dksX7_move_6 23 rfl rfl
theorem dksX7_move_8 : cX7_move.data.toList.drop 185 = dktX7_move_8 := dk_seg dksX7_move_7 24 rfl rfl
theorem dksX7_move_9 : cX7_move.data.toList.drop 209 = dktX7_move_9 := dk_seg dksX7_move_8 24 rfl rfl
theorem dksX7_move_10 : cX7_move.data.toList.drop 232 = dktX7_move_10 := dk_seg dksX7_move_9 23 rfl rfl
theorem dksX7_move_11 : cX7_move.data.toList.drop 255 = dktX7_move_11 := dk_seg dksX7_move_10 23 rfl rfl
theorem dksX7_move_12 : cX7_move.data.toList.drop 277 = dktX7_move_12 := dk_seg dksX7_move_11 22 rfl rfl
theorem dksX7_move_13 : cX7_move.data.toList.drop 300 = dktX7_move_13 := dk_seg dksX7_move_12 23 rfl rfl
theorem dksX7_move_14 : cX7_move.data.toList.drop 324 = dktX7_move_14 := dk_seg dksX7_move_13 24 rfl rfl
theorem dksX7_move_15 : cX7_move.data.toList.drop 348 = dktX7_move_15 := dk_seg dksX7_move_14 24 rfl rfl
theorem dksX7_move_16 : cX7_move.data.toList.drop 371 = dktX7_move_16 := dk_seg dksX7_move_15 23 rfl rfl
theorem dksX7_move_17 : cX7_move.data.toList.drop 395 = dktX7_move_17 := dk_seg dksX7_move_16 24 rfl rfl
theorem dksX7_move_18 : cX7_move.data.toList.drop 419 = dktX7_move_18 := dk_seg dksX7_move_17 24 rfl rfl
theorem dksX7_move_19 : cX7_move.data.toList.drop 443 = dktX7_move_19 := dk_seg dksX7_move_18 24 rfl rfl
theorem dX7_move_0 : decode cX7_move 0 = .ok (.aload_n 0, 1) := dk_42 (dk_at dksX7_move_0 0 rfl rfl)
theorem dX7_move_1 : decode cX7_move 1 = .ok (.iload_n 1, 1) := dk_27 (dk_at dksX7_move_0 1 rfl rfl)
theorem dX7_move_2 : decode cX7_move 2 = .ok (.invokevirtual 161, 3) := dk_182 0 161 (dk_at dksX7_move_0 2 rfl rfl)
theorem dX7_move_5 : decode cX7_move 5 = .ok (.istore 5, 2) := dk_54 5 (dk_at dksX7_move_0 5 rfl rfl)
theorem dX7_move_7 : decode cX7_move 7 = .ok (.iload 5, 2) := dk_21 5 (dk_at dksX7_move_0 7 rfl rfl)
theorem dX7_move_9 : decode cX7_move 9 = .ok (.ifCond .ge 10, 3) := dk_156 0 10 (dk_at dksX7_move_0 9 rfl rfl)
theorem dX7_move_12 : decode cX7_move 12 = .ok (.aload_n 0, 1) := dk_42 (dk_at dksX7_move_0 12 rfl rfl)
theorem dX7_move_13 : decode cX7_move 13 = .ok (.iload 5, 2) := dk_21 5 (dk_at dksX7_move_0 13 rfl rfl)
theorem dX7_move_15 : decode cX7_move 15 = .ok (.invokevirtual 126, 3) := dk_182 0 126 (dk_at dksX7_move_0 15 rfl rfl)
theorem dX7_move_18 : decode cX7_move 18 = .ok (.ireturn, 1) := dk_172 (dk_at dksX7_move_0 18 rfl rfl)
theorem dX7_move_19 : decode cX7_move 19 = .ok (.aload_n 0, 1) := dk_42 (dk_at dksX7_move_0 19 rfl rfl)
theorem dX7_move_20 : decode cX7_move 20 = .ok (.iload_n 1, 1) := dk_27 (dk_at dksX7_move_0 20 rfl rfl)
theorem dX7_move_21 : decode cX7_move 21 = .ok (.iload_n 2, 1) := dk_28 (dk_at dksX7_move_0 21 rfl rfl)
theorem dX7_move_22 : decode cX7_move 22 = .ok (.invokevirtual 181, 3) := dk_182 0 181 (dk_at dksX7_move_1 0 rfl rfl)
theorem dX7_move_25 : decode cX7_move 25 = .ok (.istore 6, 2) := dk_54 6 (dk_at dksX7_move_1 3 rfl rfl)
theorem dX7_move_27 : decode cX7_move 27 = .ok (.iload 6, 2) := dk_21 6 (dk_at dksX7_move_1 5 rfl rfl)
theorem dX7_move_29 : decode cX7_move 29 = .ok (.ifCond .ge 10, 3) := dk_156 0 10 (dk_at dksX7_move_1 7 rfl rfl)
theorem dX7_move_32 : decode cX7_move 32 = .ok (.aload_n 0, 1) := dk_42 (dk_at dksX7_move_1 10 rfl rfl)
theorem dX7_move_33 : decode cX7_move 33 = .ok (.bipush (-6), 2) := dk_16 250 (dk_at dksX7_move_1 11 rfl rfl)
theorem dX7_move_35 : decode cX7_move 35 = .ok (.invokevirtual 126, 3) := dk_182 0 126 (dk_at dksX7_move_1 13 rfl rfl)
theorem dX7_move_38 : decode cX7_move 38 = .ok (.ireturn, 1) := dk_172 (dk_at dksX7_move_1 16 rfl rfl)
theorem dX7_move_39 : decode cX7_move 39 = .ok (.iload 6, 2) := dk_21 6 (dk_at dksX7_move_1 17 rfl rfl)
theorem dX7_move_41 : decode cX7_move 41 = .ok (.ifCond .ne 10, 3) := dk_154 0 10 (dk_at dksX7_move_1 19 rfl rfl)
theorem dX7_move_44 : decode cX7_move 44 = .ok (.aload_n 0, 1) := dk_42 (dk_at dksX7_move_1 22 rfl rfl)
theorem dX7_move_45 : decode cX7_move 45 = .ok (.bipush (-7), 2) := dk_16 249 (dk_at dksX7_move_2 0 rfl rfl)
theorem dX7_move_47 : decode cX7_move 47 = .ok (.invokevirtual 126, 3) := dk_182 0 126 (dk_at dksX7_move_2 2 rfl rfl)
theorem dX7_move_50 : decode cX7_move 50 = .ok (.ireturn, 1) := dk_172 (dk_at dksX7_move_2 5 rfl rfl)
theorem dX7_move_51 : decode cX7_move 51 = .ok (.aload_n 0, 1) := dk_42 (dk_at dksX7_move_2 6 rfl rfl)
theorem dX7_move_52 : decode cX7_move 52 = .ok (.iload_n 1, 1) := dk_27 (dk_at dksX7_move_2 7 rfl rfl)
theorem dX7_move_53 : decode cX7_move 53 = .ok (.iload_n 3, 1) := dk_29 (dk_at dksX7_move_2 8 rfl rfl)
theorem dX7_move_54 : decode cX7_move 54 = .ok (.invokevirtual 181, 3) := dk_182 0 181 (dk_at dksX7_move_2 9 rfl rfl)
theorem dX7_move_57 : decode cX7_move 57 = .ok (.istore 7, 2) := dk_54 7 (dk_at dksX7_move_2 12 rfl rfl)
theorem dX7_move_59 : decode cX7_move 59 = .ok (.iload 7, 2) := dk_21 7 (dk_at dksX7_move_2 14 rfl rfl)
theorem dX7_move_61 : decode cX7_move 61 = .ok (.ifCond .ge 10, 3) := dk_156 0 10 (dk_at dksX7_move_2 16 rfl rfl)
theorem dX7_move_64 : decode cX7_move 64 = .ok (.aload_n 0, 1) := dk_42 (dk_at dksX7_move_2 19 rfl rfl)
theorem dX7_move_65 : decode cX7_move 65 = .ok (.bipush (-6), 2) := dk_16 250 (dk_at dksX7_move_2 20 rfl rfl)
theorem dX7_move_67 : decode cX7_move 67 = .ok (.invokevirtual 126, 3) := dk_182 0 126 (dk_at dksX7_move_3 0 rfl rfl)
theorem dX7_move_70 : decode cX7_move 70 = .ok (.ireturn, 1) := dk_172 (dk_at dksX7_move_3 3 rfl rfl)
theorem dX7_move_71 : decode cX7_move 71 = .ok (.aload_n 0, 1) := dk_42 (dk_at dksX7_move_3 4 rfl rfl)
theorem dX7_move_72 : decode cX7_move 72 = .ok (.iload_n 1, 1) := dk_27 (dk_at dksX7_move_3 5 rfl rfl)
theorem dX7_move_73 : decode cX7_move 73 = .ok (.iload 7, 2) := dk_21 7 (dk_at dksX7_move_3 6 rfl rfl)
theorem dX7_move_75 : decode cX7_move 75 = .ok (.iconst 1, 1) := dk_4 (dk_at dksX7_move_3 8 rfl rfl)
theorem dX7_move_76 : decode cX7_move 76 = .ok (.invokevirtual 104, 3) := dk_182 0 104 (dk_at dksX7_move_3 9 rfl rfl)
theorem dX7_move_79 : decode cX7_move 79 = .ok (.iconst 3, 1) := dk_6 (dk_at dksX7_move_3 12 rfl rfl)
theorem dX7_move_80 : decode cX7_move 80 = .ok (.if_icmp .ne 10, 3) := dk_160 0 10 (dk_at dksX7_move_3 13 rfl rfl)
theorem dX7_move_83 : decode cX7_move 83 = .ok (.aload_n 0, 1) := dk_42 (dk_at dksX7_move_3 16 rfl rfl)
theorem dX7_move_84 : decode cX7_move 84 = .ok (.bipush (-3), 2) := dk_16 253 (dk_at dksX7_move_3 17 rfl rfl)
theorem dX7_move_86 : decode cX7_move 86 = .ok (.invokevirtual 126, 3) := dk_182 0 126 (dk_at dksX7_move_3 19 rfl rfl)
theorem dX7_move_89 : decode cX7_move 89 = .ok (.ireturn, 1) := dk_172 (dk_at dksX7_move_3 22 rfl rfl)
theorem dX7_move_90 : decode cX7_move 90 = .ok (.aload_n 0, 1) := dk_42 (dk_at dksX7_move_3 23 rfl rfl)
theorem dX7_move_91 : decode cX7_move 91 = .ok (.iload_n 1, 1) := dk_27 (dk_at dksX7_move_4 0 rfl rfl)
theorem dX7_move_92 : decode cX7_move 92 = .ok (.iload 6, 2) := dk_21 6 (dk_at dksX7_move_4 1 rfl rfl)
theorem dX7_move_94 : decode cX7_move 94 = .ok (.invokevirtual 119, 3) := dk_182 0 119 (dk_at dksX7_move_4 3 rfl rfl)
theorem dX7_move_97 : decode cX7_move 97 = .ok (.istore 8, 2) := dk_54 8 (dk_at dksX7_move_4 6 rfl rfl)
theorem dX7_move_99 : decode cX7_move 99 = .ok (.iload 7, 2) := dk_21 7 (dk_at dksX7_move_4 8 rfl rfl)
theorem dX7_move_101 : decode cX7_move 101 = .ok (.iload 6, 2) := dk_21 6 (dk_at dksX7_move_4 10 rfl rfl)
theorem dX7_move_103 : decode cX7_move 103 = .ok (.if_icmp .lt 17, 3) := dk_161 0 17 (dk_at dksX7_move_4 12 rfl rfl)
theorem dX7_move_106 : decode cX7_move 106 = .ok (.iload 7, 2) := dk_21 7 (dk_at dksX7_move_4 15 rfl rfl)
theorem dX7_move_108 : decode cX7_move 108 = .ok (.iload 8, 2) := dk_21 8 (dk_at dksX7_move_4 17 rfl rfl)
theorem dX7_move_110 : decode cX7_move 110 = .ok (.if_icmp .ge 10, 3) := dk_162 0 10 (dk_at dksX7_move_4 19 rfl rfl)
theorem dX7_move_113 : decode cX7_move 113 = .ok (.aload_n 0, 1) := dk_42 (dk_at dksX7_move_4 22 rfl rfl)
theorem dX7_move_114 : decode cX7_move 114 = .ok (.bipush (-7), 2) := dk_16 249 (dk_at dksX7_move_5 0 rfl rfl)
theorem dX7_move_116 : decode cX7_move 116 = .ok (.invokevirtual 126, 3) := dk_182 0 126 (dk_at dksX7_move_5 2 rfl rfl)
theorem dX7_move_119 : decode cX7_move 119 = .ok (.ireturn, 1) := dk_172 (dk_at dksX7_move_5 5 rfl rfl)
theorem dX7_move_120 : decode cX7_move 120 = .ok (.aload_n 0, 1) := dk_42 (dk_at dksX7_move_5 6 rfl rfl)
theorem dX7_move_121 : decode cX7_move 121 = .ok (.getfield 13, 3) := dk_180 0 13 (dk_at dksX7_move_5 7 rfl rfl)
theorem dX7_move_124 : decode cX7_move 124 = .ok (.bipush 9, 2) := dk_16 9 (dk_at dksX7_move_5 10 rfl rfl)
theorem dX7_move_126 : decode cX7_move 126 = .ok (.iconst 0, 1) := dk_3 (dk_at dksX7_move_5 12 rfl rfl)
theorem dX7_move_127 : decode cX7_move 127 = .ok (.iastore, 1) := dk_79 (dk_at dksX7_move_5 13 rfl rfl)
theorem dX7_move_128 : decode cX7_move 128 = .ok (.iconst 0, 1) := dk_3 (dk_at dksX7_move_5 14 rfl rfl)
theorem dX7_move_129 : decode cX7_move 129 = .ok (.istore 9, 2) := dk_54 9 (dk_at dksX7_move_5 15 rfl rfl)
theorem dX7_move_131 : decode cX7_move 131 = .ok (.iload 9, 2) := dk_21 9 (dk_at dksX7_move_5 17 rfl rfl)
theorem dX7_move_133 : decode cX7_move 133 = .ok (.aload_n 0, 1) := dk_42 (dk_at dksX7_move_5 19 rfl rfl)
theorem dX7_move_134 : decode cX7_move 134 = .ok (.getfield 13, 3) := dk_180 0 13 (dk_at dksX7_move_5 20 rfl rfl)
theorem dX7_move_137 : decode cX7_move 137 = .ok (.iload_n 1, 1) := dk_27 (dk_at dksX7_move_5 23 rfl rfl)
theorem dX7_move_138 : decode cX7_move 138 = .ok (.iaload, 1) := dk_46 (dk_at dksX7_move_6 0 rfl rfl)
theorem dX7_move_139 : decode cX7_move 139 = .ok (.if_icmp .ge 53, 3) := dk_162 0 53 (dk_at dksX7_move_6 1 rfl rfl)
theorem dX7_move_142 : decode cX7_move 142 = .ok (.iload 9, 2) := dk_21 9 (dk_at dksX7_move_6 4 rfl rfl)
theorem dX7_move_144 : decode cX7_move 144 = .ok (.iload 6, 2) := dk_21 6 (dk_at dksX7_move_6 6 rfl rfl)
theorem dX7_move_146 : decode cX7_move 146 = .ok (.if_icmp .lt 13, 3) := dk_161 0 13 (dk_at dksX7_move_6 8 rfl rfl)
theorem dX7_move_149 : decode cX7_move 149 = .ok (.iload 9, 2) := dk_21 9 (dk_at dksX7_move_6 11 rfl rfl)
theorem dX7_move_151 : decode cX7_move 151 = .ok (.iload 8, 2) := dk_21 8 (dk_at dksX7_move_6 13 rfl rfl)
theorem dX7_move_153 : decode cX7_move 153 = .ok (.if_icmp .ge 6, 3) := dk_162 0 6 (dk_at dksX7_move_6 15 rfl rfl)
theorem dX7_move_156 : decode cX7_move 156 = .ok (.goto 30, 3) := dk_167 0 30 (dk_at dksX7_move_6 18 rfl rfl)
theorem dX7_move_159 : decode cX7_move 159 = .ok (.aload_n 0, 1) := dk_42 (dk_at dksX7_move_6 21 rfl rfl)
theorem dX7_move_160 : decode cX7_move 160 = .ok (.iload_n 1, 1) := dk_27 (dk_at dksX7_move_6 22 rfl rfl)
theorem dX7_move_161 : decode cX7_move 161 = .ok (.iload 9, 2) := dk_21 9 (dk_at dksX7_move_7 0 rfl rfl)
theorem dX7_move_163 : decode cX7_move 163 = .ok (.bipush 9, 2) := dk_16 9 (dk_at dksX7_move_7 2 rfl rfl)
theorem dX7_move_165 : decode cX7_move 165 = .ok (.aload_n 0, 1) := dk_42 (dk_at dksX7_move_7 4 rfl rfl)
theorem dX7_move_166 : decode cX7_move 166 = .ok (.getfield 13, 3) := dk_180 0 13 (dk_at dksX7_move_7 5 rfl rfl)
theorem dX7_move_169 : decode cX7_move 169 = .ok (.bipush 9, 2) := dk_16 9 (dk_at dksX7_move_7 8 rfl rfl)
theorem dX7_move_171 : decode cX7_move 171 = .ok (.iaload, 1) := dk_46 (dk_at dksX7_move_7 10 rfl rfl)
theorem dX7_move_172 : decode cX7_move 172 = .ok (.invokevirtual 112, 3) := dk_182 0 112 (dk_at dksX7_move_7 11 rfl rfl)
theorem dX7_move_175 : decode cX7_move 175 = .ok (.aload_n 0, 1) := dk_42 (dk_at dksX7_move_7 14 rfl rfl)
theorem dX7_move_176 : decode cX7_move 176 = .ok (.getfield 13, 3) := dk_180 0 13 (dk_at dksX7_move_7 15 rfl rfl)
theorem dX7_move_179 : decode cX7_move 179 = .ok (.bipush 9, 2) := dk_16 9 (dk_at dksX7_move_7 18 rfl rfl)
theorem dX7_move_181 : decode cX7_move 181 = .ok (.dup2, 1) := dk_92 (dk_at dksX7_move_7 20 rfl rfl)
theorem dX7_move_182 : decode cX7_move 182 = .ok (.iaload, 1) := dk_46 (dk_at dksX7_move_7 21 rfl rfl)
theorem dX7_move_183 : decode cX7_move 183 = .ok (.iconst 1, 1) := dk_4 (dk_at dksX7_move_7 22 rfl rfl)
theorem dX7_move_184 : decode cX7_move 184 = .ok (.iadd, 1) := dk_96 (dk_at dksX7_move_7 23 rfl rfl)
theorem dX7_move_185 : decode cX7_move 185 = .ok (.iastore, 1) := dk_79 (dk_at dksX7_move_8 0 rfl rfl)
theorem dX7_move_186 : decode cX7_move 186 = .ok (.iinc 9 1, 3) := dk_132 9 1 (dk_at dksX7_move_8 1 rfl rfl)
theorem dX7_move_189 : decode cX7_move 189 = .ok (.goto (-58), 3) := dk_167 255 198 (dk_at dksX7_move_8 4 rfl rfl)
theorem dX7_move_192 : decode cX7_move 192 = .ok (.aload_n 0, 1) := dk_42 (dk_at dksX7_move_8 7 rfl rfl)
theorem dX7_move_193 : decode cX7_move 193 = .ok (.bipush 9, 2) := dk_16 9 (dk_at dksX7_move_8 8 rfl rfl)
theorem dX7_move_195 : decode cX7_move 195 = .ok (.iload_n 3, 1) := dk_29 (dk_at dksX7_move_8 10 rfl rfl)
theorem dX7_move_196 : decode cX7_move 196 = .ok (.invokevirtual 181, 3) := dk_182 0 181 (dk_at dksX7_move_8 11 rfl rfl)
theorem dX7_move_199 : decode cX7_move 199 = .ok (.istore 9, 2) := dk_54 9 (dk_at dksX7_move_8 14 rfl rfl)
theorem dX7_move_201 : decode cX7_move 201 = .ok (.iload 4, 2) := dk_21 4 (dk_at dksX7_move_8 16 rfl rfl)
theorem dX7_move_203 : decode cX7_move 203 = .ok (.ifCond .lt 16, 3) := dk_155 0 16 (dk_at dksX7_move_8 18 rfl rfl)
theorem dX7_move_206 : decode cX7_move 206 = .ok (.iload 4, 2) := dk_21 4 (dk_at dksX7_move_8 21 rfl rfl)
theorem dX7_move_208 : decode cX7_move 208 = .ok (.aload_n 0, 1) := dk_42 (dk_at dksX7_move_8 23 rfl rfl)
theorem dX7_move_209 : decode cX7_move 209 = .ok (.bipush 9, 2) := dk_16 9 (dk_at dksX7_move_9 0 rfl rfl)
theorem dX7_move_211 : decode cX7_move 211 = .ok (.iload 9, 2) := dk_21 9 (dk_at dksX7_move_9 2 rfl rfl)
theorem dX7_move_213 : decode cX7_move 213 = .ok (.invokevirtual 175, 3) := dk_182 0 175 (dk_at dksX7_move_9 4 rfl rfl)
theorem dX7_move_216 : decode cX7_move 216 = .ok (.if_icmp .le 9, 3) := dk_164 0 9 (dk_at dksX7_move_9 7 rfl rfl)
theorem dX7_move_219 : decode cX7_move 219 = .ok (.aload_n 0, 1) := dk_42 (dk_at dksX7_move_9 10 rfl rfl)
theorem dX7_move_220 : decode cX7_move 220 = .ok (.iconst (-1), 1) := dk_2 (dk_at dksX7_move_9 11 rfl rfl)
theorem dX7_move_221 : decode cX7_move 221 = .ok (.invokevirtual 126, 3) := dk_182 0 126 (dk_at dksX7_move_9 12 rfl rfl)
theorem dX7_move_224 : decode cX7_move 224 = .ok (.ireturn, 1) := dk_172 (dk_at dksX7_move_9 15 rfl rfl)
theorem dX7_move_225 : decode cX7_move 225 = .ok (.aload_n 0, 1) := dk_42 (dk_at dksX7_move_9 16 rfl rfl)
theorem dX7_move_226 : decode cX7_move 226 = .ok (.bipush 9, 2) := dk_16 9 (dk_at dksX7_move_9 17 rfl rfl)
theorem dX7_move_228 : decode cX7_move 228 = .ok (.iload 9, 2) := dk_21 9 (dk_at dksX7_move_9 19 rfl rfl)
theorem dX7_move_230 : decode cX7_move 230 = .ok (.iload 4, 2) := dk_21 4 (dk_at dksX7_move_9 21 rfl rfl)
theorem dX7_move_232 : decode cX7_move 232 = .ok (.invokevirtual 188, 3) := dk_182 0 188 (dk_at dksX7_move_10 0 rfl rfl)
theorem dX7_move_235 : decode cX7_move 235 = .ok (.istore 10, 2) := dk_54 10 (dk_at dksX7_move_10 3 rfl rfl)
theorem dX7_move_237 : decode cX7_move 237 = .ok (.aload_n 0, 1) := dk_42 (dk_at dksX7_move_10 5 rfl rfl)
theorem dX7_move_238 : decode cX7_move 238 = .ok (.bipush 9, 2) := dk_16 9 (dk_at dksX7_move_10 6 rfl rfl)
theorem dX7_move_240 : decode cX7_move 240 = .ok (.iload 9, 2) := dk_21 9 (dk_at dksX7_move_10 8 rfl rfl)
theorem dX7_move_242 : decode cX7_move 242 = .ok (.invokevirtual 115, 3) := dk_182 0 115 (dk_at dksX7_move_10 10 rfl rfl)
theorem dX7_move_245 : decode cX7_move 245 = .ok (.iconst 1, 1) := dk_4 (dk_at dksX7_move_10 13 rfl rfl)
theorem dX7_move_246 : decode cX7_move 246 = .ok (.iadd, 1) := dk_96 (dk_at dksX7_move_10 14 rfl rfl)
theorem dX7_move_247 : decode cX7_move 247 = .ok (.aload_n 0, 1) := dk_42 (dk_at dksX7_move_10 15 rfl rfl)
theorem dX7_move_248 : decode cX7_move 248 = .ok (.iload_n 1, 1) := dk_27 (dk_at dksX7_move_10 16 rfl rfl)
theorem dX7_move_249 : decode cX7_move 249 = .ok (.iload 6, 2) := dk_21 6 (dk_at dksX7_move_10 17 rfl rfl)
theorem dX7_move_251 : decode cX7_move 251 = .ok (.invokevirtual 115, 3) := dk_182 0 115 (dk_at dksX7_move_10 19 rfl rfl)
theorem dX7_move_254 : decode cX7_move 254 = .ok (.isub, 1) := dk_100 (dk_at dksX7_move_10 22 rfl rfl)
theorem dX7_move_255 : decode cX7_move 255 = .ok (.istore 11, 2) := dk_54 11 (dk_at dksX7_move_11 0 rfl rfl)
theorem dX7_move_257 : decode cX7_move 257 = .ok (.aload_n 0, 1) := dk_42 (dk_at dksX7_move_11 2 rfl rfl)
theorem dX7_move_258 : decode cX7_move 258 = .ok (.getfield 13, 3) := dk_180 0 13 (dk_at dksX7_move_11 3 rfl rfl)
theorem dX7_move_261 : decode cX7_move 261 = .ok (.bipush 10, 2) := dk_16 10 (dk_at dksX7_move_11 6 rfl rfl)
theorem dX7_move_263 : decode cX7_move 263 = .ok (.iconst 0, 1) := dk_3 (dk_at dksX7_move_11 8 rfl rfl)
theorem dX7_move_264 : decode cX7_move 264 = .ok (.iastore, 1) := dk_79 (dk_at dksX7_move_11 9 rfl rfl)
theorem dX7_move_265 : decode cX7_move 265 = .ok (.iconst 0, 1) := dk_3 (dk_at dksX7_move_11 10 rfl rfl)
theorem dX7_move_266 : decode cX7_move 266 = .ok (.istore 12, 2) := dk_54 12 (dk_at dksX7_move_11 11 rfl rfl)
theorem dX7_move_268 : decode cX7_move 268 = .ok (.iload 12, 2) := dk_21 12 (dk_at dksX7_move_11 13 rfl rfl)
theorem dX7_move_270 : decode cX7_move 270 = .ok (.aload_n 0, 1) := dk_42 (dk_at dksX7_move_11 15 rfl rfl)
theorem dX7_move_271 : decode cX7_move 271 = .ok (.getfield 13, 3) := dk_180 0 13 (dk_at dksX7_move_11 16 rfl rfl)
theorem dX7_move_274 : decode cX7_move 274 = .ok (.bipush 9, 2) := dk_16 9 (dk_at dksX7_move_11 19 rfl rfl)
theorem dX7_move_276 : decode cX7_move 276 = .ok (.iaload, 1) := dk_46 (dk_at dksX7_move_11 21 rfl rfl)
theorem dX7_move_277 : decode cX7_move 277 = .ok (.if_icmp .gt 127, 3) := dk_163 0 127 (dk_at dksX7_move_12 0 rfl rfl)
theorem dX7_move_280 : decode cX7_move 280 = .ok (.iload 6, 2) := dk_21 6 (dk_at dksX7_move_12 3 rfl rfl)
theorem dX7_move_282 : decode cX7_move 282 = .ok (.istore 13, 2) := dk_54 13 (dk_at dksX7_move_12 5 rfl rfl)
theorem dX7_move_284 : decode cX7_move 284 = .ok (.iload 13, 2) := dk_21 13 (dk_at dksX7_move_12 7 rfl rfl)
theorem dX7_move_286 : decode cX7_move 286 = .ok (.iload 8, 2) := dk_21 8 (dk_at dksX7_move_12 9 rfl rfl)
theorem dX7_move_288 : decode cX7_move 288 = .ok (.if_icmp .ge 67, 3) := dk_162 0 67 (dk_at dksX7_move_12 11 rfl rfl)
theorem dX7_move_291 : decode cX7_move 291 = .ok (.iload 12, 2) := dk_21 12 (dk_at dksX7_move_12 14 rfl rfl)
theorem dX7_move_293 : decode cX7_move 293 = .ok (.iload 10, 2) := dk_21 10 (dk_at dksX7_move_12 16 rfl rfl)
theorem dX7_move_295 : decode cX7_move 295 = .ok (.if_icmp .ne 60, 3) := dk_160 0 60 (dk_at dksX7_move_12 18 rfl rfl)
theorem dX7_move_298 : decode cX7_move 298 = .ok (.aload_n 0, 1) := dk_42 (dk_at dksX7_move_12 21 rfl rfl)
theorem dX7_move_299 : decode cX7_move 299 = .ok (.iload_n 1, 1) := dk_27 (dk_at dksX7_move_12 22 rfl rfl)
theorem dX7_move_300 : decode cX7_move 300 = .ok (.iload 13, 2) := dk_21 13 (dk_at dksX7_move_13 0 rfl rfl)
theorem dX7_move_302 : decode cX7_move 302 = .ok (.bipush 10, 2) := dk_16 10 (dk_at dksX7_move_13 2 rfl rfl)
theorem dX7_move_304 : decode cX7_move 304 = .ok (.aload_n 0, 1) := dk_42 (dk_at dksX7_move_13 4 rfl rfl)
theorem dX7_move_305 : decode cX7_move 305 = .ok (.getfield 13, 3) := dk_180 0 13 (dk_at dksX7_move_13 5 rfl rfl)
theorem dX7_move_308 : decode cX7_move 308 = .ok (.bipush 10, 2) := dk_16 10 (dk_at dksX7_move_13 8 rfl rfl)
theorem dX7_move_310 : decode cX7_move 310 = .ok (.iaload, 1) := dk_46 (dk_at dksX7_move_13 10 rfl rfl)
theorem dX7_move_311 : decode cX7_move 311 = .ok (.invokevirtual 112, 3) := dk_182 0 112 (dk_at dksX7_move_13 11 rfl rfl)
theorem dX7_move_314 : decode cX7_move 314 = .ok (.aload_n 0, 1) := dk_42 (dk_at dksX7_move_13 14 rfl rfl)
theorem dX7_move_315 : decode cX7_move 315 = .ok (.bipush 10, 2) := dk_16 10 (dk_at dksX7_move_13 15 rfl rfl)
theorem dX7_move_317 : decode cX7_move 317 = .ok (.aload_n 0, 1) := dk_42 (dk_at dksX7_move_13 17 rfl rfl)
theorem dX7_move_318 : decode cX7_move 318 = .ok (.getfield 13, 3) := dk_180 0 13 (dk_at dksX7_move_13 18 rfl rfl)
theorem dX7_move_321 : decode cX7_move 321 = .ok (.bipush 10, 2) := dk_16 10 (dk_at dksX7_move_13 21 rfl rfl)
theorem dX7_move_323 : decode cX7_move 323 = .ok (.iaload, 1) := dk_46 (dk_at dksX7_move_13 23 rfl rfl)
theorem dX7_move_324 : decode cX7_move 324 = .ok (.iconst 2, 1) := dk_5 (dk_at dksX7_move_14 0 rfl rfl)
theorem dX7_move_325 : decode cX7_move 325 = .ok (.aload_n 0, 1) := dk_42 (dk_at dksX7_move_14 1 rfl rfl)
theorem dX7_move_326 : decode cX7_move 326 = .ok (.iload_n 1, 1) := dk_27 (dk_at dksX7_move_14 2 rfl rfl)
theorem dX7_move_327 : decode cX7_move 327 = .ok (.iload 13, 2) := dk_21 13 (dk_at dksX7_move_14 3 rfl rfl)
theorem dX7_move_329 : decode cX7_move 329 = .ok (.invokevirtual 115, 3) := dk_182 0 115 (dk_at dksX7_move_14 5 rfl rfl)
theorem dX7_move_332 : decode cX7_move 332 = .ok (.iload 11, 2) := dk_21 11 (dk_at dksX7_move_14 8 rfl rfl)
theorem dX7_move_334 : decode cX7_move 334 = .ok (.iadd, 1) := dk_96 (dk_at dksX7_move_14 10 rfl rfl)
theorem dX7_move_335 : decode cX7_move 335 = .ok (.invokevirtual 108, 3) := dk_182 0 108 (dk_at dksX7_move_14 11 rfl rfl)
theorem dX7_move_338 : decode cX7_move 338 = .ok (.aload_n 0, 1) := dk_42 (dk_at dksX7_move_14 14 rfl rfl)
theorem dX7_move_339 : decode cX7_move 339 = .ok (.getfield 13, 3) := dk_180 0 13 (dk_at dksX7_move_14 15 rfl rfl)
theorem dX7_move_342 : decode cX7_move 342 = .ok (.bipush 10, 2) := dk_16 10 (dk_at dksX7_move_14 18 rfl rfl)
theorem dX7_move_344 : decode cX7_move 344 = .ok (.dup2, 1) := dk_92 (dk_at dksX7_move_14 20 rfl rfl)
theorem dX7_move_345 : decode cX7_move 345 = .ok (.iaload, 1) := dk_46 (dk_at dksX7_move_14 21 rfl rfl)
theorem dX7_move_346 : decode cX7_move 346 = .ok (.iconst 1, 1) := dk_4 (dk_at dksX7_move_14 22 rfl rfl)
theorem dX7_move_347 : decode cX7_move 347 = .ok (.iadd, 1) := dk_96 (dk_at dksX7_move_14 23 rfl rfl)
theorem dX7_move_348 : decode cX7_move 348 = .ok (.iastore, 1) := dk_79 (dk_at dksX7_move_15 0 rfl rfl)
theorem dX7_move_349 : decode cX7_move 349 = .ok (.iinc 13 1, 3) := dk_132 13 1 (dk_at dksX7_move_15 1 rfl rfl)
theorem dX7_move_352 : decode cX7_move 352 = .ok (.goto (-68), 3) := dk_167 255 188 (dk_at dksX7_move_15 4 rfl rfl)
theorem dX7_move_355 : decode cX7_move 355 = .ok (.iload 12, 2) := dk_21 12 (dk_at dksX7_move_15 7 rfl rfl)
theorem dX7_move_357 : decode cX7_move 357 = .ok (.aload_n 0, 1) := dk_42 (dk_at dksX7_move_15 9 rfl rfl)
theorem dX7_move_358 : decode cX7_move 358 = .ok (.getfield 13, 3) := dk_180 0 13 (dk_at dksX7_move_15 10 rfl rfl)
theorem dX7_move_361 : decode cX7_move 361 = .ok (.bipush 9, 2) := dk_16 9 (dk_at dksX7_move_15 13 rfl rfl)
theorem dX7_move_363 : decode cX7_move 363 = .ok (.iaload, 1) := dk_46 (dk_at dksX7_move_15 15 rfl rfl)
theorem dX7_move_364 : decode cX7_move 364 = .ok (.if_icmp .ne 6, 3) := dk_160 0 6 (dk_at dksX7_move_15 16 rfl rfl)
theorem dX7_move_367 : decode cX7_move 367 = .ok (.goto 31, 3) := dk_167 0 31 (dk_at dksX7_move_15 19 rfl rfl)
theorem dX7_move_370 : decode cX7_move 370 = .ok (.aload_n 0, 1) := dk_42 (dk_at dksX7_move_15 22 rfl rfl)
theorem dX7_move_371 : decode cX7_move 371 = .ok (.bipush 9, 2) := dk_16 9 (dk_at dksX7_move_16 0 rfl rfl)
theorem dX7_move_373 : decode cX7_move 373 = .ok (.iload 12, 2) := dk_21 12 (dk_at dksX7_move_16 2 rfl rfl)
theorem dX7_move_375 : decode cX7_move 375 = .ok (.bipush 10, 2) := dk_16 10 (dk_at dksX7_move_16 4 rfl rfl)
theorem dX7_move_377 : decode cX7_move 377 = .ok (.aload_n 0, 1) := dk_42 (dk_at dksX7_move_16 6 rfl rfl)
theorem dX7_move_378 : decode cX7_move 378 = .ok (.getfield 13, 3) := dk_180 0 13 (dk_at dksX7_move_16 7 rfl rfl)
theorem dX7_move_381 : decode cX7_move 381 = .ok (.bipush 10, 2) := dk_16 10 (dk_at dksX7_move_16 10 rfl rfl)
theorem dX7_move_383 : decode cX7_move 383 = .ok (.iaload, 1) := dk_46 (dk_at dksX7_move_16 12 rfl rfl)
theorem dX7_move_384 : decode cX7_move 384 = .ok (.invokevirtual 112, 3) := dk_182 0 112 (dk_at dksX7_move_16 13 rfl rfl)
theorem dX7_move_387 : decode cX7_move 387 = .ok (.aload_n 0, 1) := dk_42 (dk_at dksX7_move_16 16 rfl rfl)
theorem dX7_move_388 : decode cX7_move 388 = .ok (.getfield 13, 3) := dk_180 0 13 (dk_at dksX7_move_16 17 rfl rfl)
theorem dX7_move_391 : decode cX7_move 391 = .ok (.bipush 10, 2) := dk_16 10 (dk_at dksX7_move_16 20 rfl rfl)
theorem dX7_move_393 : decode cX7_move 393 = .ok (.dup2, 1) := dk_92 (dk_at dksX7_move_16 22 rfl rfl)
theorem dX7_move_394 : decode cX7_move 394 = .ok (.iaload, 1) := dk_46 (dk_at dksX7_move_16 23 rfl rfl)
theorem dX7_move_395 : decode cX7_move 395 = .ok (.iconst 1, 1) := dk_4 (dk_at dksX7_move_17 0 rfl rfl)
theorem dX7_move_396 : decode cX7_move 396 = .ok (.iadd, 1) := dk_96 (dk_at dksX7_move_17 1 rfl rfl)
theorem dX7_move_397 : decode cX7_move 397 = .ok (.iastore, 1) := dk_79 (dk_at dksX7_move_17 2 rfl rfl)
theorem dX7_move_398 : decode cX7_move 398 = .ok (.iinc 12 1, 3) := dk_132 12 1 (dk_at dksX7_move_17 3 rfl rfl)
theorem dX7_move_401 : decode cX7_move 401 = .ok (.goto (-133), 3) := dk_167 255 123 (dk_at dksX7_move_17 6 rfl rfl)
theorem dX7_move_404 : decode cX7_move 404 = .ok (.aload_n 0, 1) := dk_42 (dk_at dksX7_move_17 9 rfl rfl)
theorem dX7_move_405 : decode cX7_move 405 = .ok (.bipush 10, 2) := dk_16 10 (dk_at dksX7_move_17 10 rfl rfl)
theorem dX7_move_407 : decode cX7_move 407 = .ok (.invokevirtual 191, 3) := dk_182 0 191 (dk_at dksX7_move_17 12 rfl rfl)
theorem dX7_move_410 : decode cX7_move 410 = .ok (.ifCond .eq 10, 3) := dk_153 0 10 (dk_at dksX7_move_17 15 rfl rfl)
theorem dX7_move_413 : decode cX7_move 413 = .ok (.aload_n 0, 1) := dk_42 (dk_at dksX7_move_17 18 rfl rfl)
theorem dX7_move_414 : decode cX7_move 414 = .ok (.bipush (-5), 2) := dk_16 251 (dk_at dksX7_move_17 19 rfl rfl)
theorem dX7_move_416 : decode cX7_move 416 = .ok (.invokevirtual 126, 3) := dk_182 0 126 (dk_at dksX7_move_17 21 rfl rfl)
theorem dX7_move_419 : decode cX7_move 419 = .ok (.ireturn, 1) := dk_172 (dk_at dksX7_move_18 0 rfl rfl)
theorem dX7_move_420 : decode cX7_move 420 = .ok (.aload_n 0, 1) := dk_42 (dk_at dksX7_move_18 1 rfl rfl)
theorem dX7_move_421 : decode cX7_move 421 = .ok (.bipush 10, 2) := dk_16 10 (dk_at dksX7_move_18 2 rfl rfl)
theorem dX7_move_423 : decode cX7_move 423 = .ok (.invokevirtual 194, 3) := dk_182 0 194 (dk_at dksX7_move_18 4 rfl rfl)
theorem dX7_move_426 : decode cX7_move 426 = .ok (.ifCond .eq 10, 3) := dk_153 0 10 (dk_at dksX7_move_18 7 rfl rfl)
theorem dX7_move_429 : decode cX7_move 429 = .ok (.aload_n 0, 1) := dk_42 (dk_at dksX7_move_18 10 rfl rfl)
theorem dX7_move_430 : decode cX7_move 430 = .ok (.bipush (-4), 2) := dk_16 252 (dk_at dksX7_move_18 11 rfl rfl)
theorem dX7_move_432 : decode cX7_move 432 = .ok (.invokevirtual 126, 3) := dk_182 0 126 (dk_at dksX7_move_18 13 rfl rfl)
theorem dX7_move_435 : decode cX7_move 435 = .ok (.ireturn, 1) := dk_172 (dk_at dksX7_move_18 16 rfl rfl)
theorem dX7_move_436 : decode cX7_move 436 = .ok (.aload_n 0, 1) := dk_42 (dk_at dksX7_move_18 17 rfl rfl)
theorem dX7_move_437 : decode cX7_move 437 = .ok (.bipush 10, 2) := dk_16 10 (dk_at dksX7_move_18 18 rfl rfl)
theorem dX7_move_439 : decode cX7_move 439 = .ok (.iload_n 1, 1) := dk_27 (dk_at dksX7_move_18 20 rfl rfl)
theorem dX7_move_440 : decode cX7_move 440 = .ok (.invokevirtual 151, 3) := dk_182 0 151 (dk_at dksX7_move_18 21 rfl rfl)
theorem dX7_move_443 : decode cX7_move 443 = .ok (.iload 8, 2) := dk_21 8 (dk_at dksX7_move_19 0 rfl rfl)
theorem dX7_move_445 : decode cX7_move 445 = .ok (.iload 6, 2) := dk_21 6 (dk_at dksX7_move_19 2 rfl rfl)
theorem dX7_move_447 : decode cX7_move 447 = .ok (.isub, 1) := dk_100 (dk_at dksX7_move_19 4 rfl rfl)
theorem dX7_move_448 : decode cX7_move 448 = .ok (.ireturn, 1) := dk_172 (dk_at dksX7_move_19 5 rfl rfl)
abbrev cX7_price : ByteArray := prog_17_method_42_code
def yX7_price : MethodName := ⟨RX7, "price", "(II)I"⟩
def dkwX7_price_1 : List UInt8 := [182, 0, 126, 172, 42, 180, 0, 22, 27, 46, 62, 42, 180, 0, 22, 27, 28, 79, 29, 172]
abbrev dktX7_price_1 : List UInt8 := dkwX7_price_1 ++ []
def dkwX7_price_0 : List UInt8 := [27, 3, 6, 184, 0, 96, 153, 0, 14, 28, 3, 17, 3, 232, 184, 0, 96, 154, 0, 9, 42, 2]
abbrev dktX7_price_0 : List UInt8 := dkwX7_price_0 ++ dktX7_price_1
theorem dksX7_price_0 : cX7_price.data.toList.drop 0 = dktX7_price_0 := by decide +kernel
theorem dksX7_price_1 : cX7_price.data.toList.drop 22 = dktX7_price_1 := dk_seg dksX7_price_0 22 rfl rfl
theorem dX7_price_0 : decode cX7_price 0 = .ok (.iload_n 1, 1) := dk_27 (dk_at dksX7_price_0 0 rfl rfl)
theorem dX7_price_1 : decode cX7_price 1 = .ok (.iconst 0, 1) := dk_3 (dk_at dksX7_price_0 1 rfl rfl)
theorem dX7_price_2 : decode cX7_price 2 = .ok (.iconst 3, 1) := dk_6 (dk_at dksX7_price_0 2 rfl rfl)
theorem dX7_price_3 : decode cX7_price 3 = .ok (.invokestatic 96, 3) := dk_184 0 96 (dk_at dksX7_price_0 3 rfl rfl)
theorem dX7_price_6 : decode cX7_price 6 = .ok (.ifCond .eq 14, 3) := dk_153 0 14 (dk_at dksX7_price_0 6 rfl rfl)
theorem dX7_price_9 : decode cX7_price 9 = .ok (.iload_n 2, 1) := dk_28 (dk_at dksX7_price_0 9 rfl rfl)
theorem dX7_price_10 : decode cX7_price 10 = .ok (.iconst 0, 1) := dk_3 (dk_at dksX7_price_0 10 rfl rfl)
theorem dX7_price_11 : decode cX7_price 11 = .ok (.sipush 1000, 3) := dk_17 3 232 (dk_at dksX7_price_0 11 rfl rfl)
theorem dX7_price_14 : decode cX7_price 14 = .ok (.invokestatic 96, 3) := dk_184 0 96 (dk_at dksX7_price_0 14 rfl rfl)
theorem dX7_price_17 : decode cX7_price 17 = .ok (.ifCond .ne 9, 3) := dk_154 0 9 (dk_at dksX7_price_0 17 rfl rfl)
theorem dX7_price_20 : decode cX7_price 20 = .ok (.aload_n 0, 1) := dk_42 (dk_at dksX7_price_0 20 rfl rfl)
theorem dX7_price_21 : decode cX7_price 21 = .ok (.iconst (-1), 1) := dk_2 (dk_at dksX7_price_0 21 rfl rfl)
theorem dX7_price_22 : decode cX7_price 22 = .ok (.invokevirtual 126, 3) := dk_182 0 126 (dk_at dksX7_price_1 0 rfl rfl)
theorem dX7_price_25 : decode cX7_price 25 = .ok (.ireturn, 1) := dk_172 (dk_at dksX7_price_1 3 rfl rfl)
theorem dX7_price_26 : decode cX7_price 26 = .ok (.aload_n 0, 1) := dk_42 (dk_at dksX7_price_1 4 rfl rfl)
theorem dX7_price_27 : decode cX7_price 27 = .ok (.getfield 22, 3) := dk_180 0 22 (dk_at dksX7_price_1 5 rfl rfl)
theorem dX7_price_30 : decode cX7_price 30 = .ok (.iload_n 1, 1) := dk_27 (dk_at dksX7_price_1 8 rfl rfl)
theorem dX7_price_31 : decode cX7_price 31 = .ok (.iaload, 1) := dk_46 (dk_at dksX7_price_1 9 rfl rfl)
theorem dX7_price_32 : decode cX7_price 32 = .ok (.istore_n 3, 1) := dk_62 (dk_at dksX7_price_1 10 rfl rfl)
theorem dX7_price_33 : decode cX7_price 33 = .ok (.aload_n 0, 1) := dk_42 (dk_at dksX7_price_1 11 rfl rfl)
theorem dX7_price_34 : decode cX7_price 34 = .ok (.getfield 22, 3) := dk_180 0 22 (dk_at dksX7_price_1 12 rfl rfl)
theorem dX7_price_37 : decode cX7_price 37 = .ok (.iload_n 1, 1) := dk_27 (dk_at dksX7_price_1 15 rfl rfl)
theorem dX7_price_38 : decode cX7_price 38 = .ok (.iload_n 2, 1) := dk_28 (dk_at dksX7_price_1 16 rfl rfl)
theorem dX7_price_39 : decode cX7_price 39 = .ok (.iastore, 1) := dk_79 (dk_at dksX7_price_1 17 rfl rfl)
theorem dX7_price_40 : decode cX7_price 40 = .ok (.iload_n 3, 1) := dk_29 (dk_at dksX7_price_1 18 rfl rfl)
theorem dX7_price_41 : decode cX7_price 41 = .ok (.ireturn, 1) := dk_172 (dk_at dksX7_price_1 19 rfl rfl)
abbrev cX7_distance : ByteArray := prog_17_method_49_code
def yX7_distance : MethodName := ⟨RX7, "distance", "(II)I"⟩
def dkwX7_distance_2 : List UInt8 := [27, 46, 3, 42, 180, 0, 13, 28, 46, 184, 0, 201, 46, 172]
abbrev dktX7_distance_2 : List UInt8 := dkwX7_distance_2 ++ []
def dkwX7_distance_1 : List UInt8 := [156, 0, 9, 42, 29, 182, 0, 126, 172, 42, 27, 28, 182, 0, 215, 42, 180, 0, 41, 3, 42, 180, 0, 13]
abbrev dktX7_distance_1 : List UInt8 := dkwX7_distance_1 ++ dktX7_distance_2
def dkwX7_distance_0 : List UInt8 := [42, 27, 182, 0, 161, 62, 29, 156, 0, 9, 42, 29, 182, 0, 126, 172, 42, 28, 182, 0, 161, 62, 29]
abbrev dktX7_distance_0 : List UInt8 := dkwX7_distance_0 ++ dktX7_distance_1
theorem dksX7_distance_0 : cX7_distance.data.toList.drop 0 = dktX7_distance_0 := by decide +kernel
theorem dksX7_distance_1 : cX7_distance.data.toList.drop 23 = dktX7_distance_1 := dk_seg dksX7_distance_0 23 rfl rfl
theorem dksX7_distance_2 : cX7_distance.data.toList.drop 47 = dktX7_distance_2 := dk_seg dksX7_distance_1 24 rfl rfl
theorem dX7_distance_0 : decode cX7_distance 0 = .ok (.aload_n 0, 1) := dk_42 (dk_at dksX7_distance_0 0 rfl rfl)
theorem dX7_distance_1 : decode cX7_distance 1 = .ok (.iload_n 1, 1) := dk_27 (dk_at dksX7_distance_0 1 rfl rfl)
theorem dX7_distance_2 : decode cX7_distance 2 = .ok (.invokevirtual 161, 3) := dk_182 0 161 (dk_at dksX7_distance_0 2 rfl rfl)
theorem dX7_distance_5 : decode cX7_distance 5 = .ok (.istore_n 3, 1) := dk_62 (dk_at dksX7_distance_0 5 rfl rfl)
theorem dX7_distance_6 : decode cX7_distance 6 = .ok (.iload_n 3, 1) := dk_29 (dk_at dksX7_distance_0 6 rfl rfl)
theorem dX7_distance_7 : decode cX7_distance 7 = .ok (.ifCond .ge 9, 3) := dk_156 0 9 (dk_at dksX7_distance_0 7 rfl rfl)
theorem dX7_distance_10 : decode cX7_distance 10 = .ok (.aload_n 0, 1) := dk_42 (dk_at dksX7_distance_0 10 rfl rfl)
theorem dX7_distance_11 : decode cX7_distance 11 = .ok (.iload_n 3, 1) := dk_29 (dk_at dksX7_distance_0 11 rfl rfl)
theorem dX7_distance_12 : decode cX7_distance 12 = .ok (.invokevirtual 126, 3) := dk_182 0 126 (dk_at dksX7_distance_0 12 rfl rfl)
theorem dX7_distance_15 : decode cX7_distance 15 = .ok (.ireturn, 1) := dk_172 (dk_at dksX7_distance_0 15 rfl rfl)
theorem dX7_distance_16 : decode cX7_distance 16 = .ok (.aload_n 0, 1) := dk_42 (dk_at dksX7_distance_0 16 rfl rfl)
theorem dX7_distance_17 : decode cX7_distance 17 = .ok (.iload_n 2, 1) := dk_28 (dk_at dksX7_distance_0 17 rfl rfl)
theorem dX7_distance_18 : decode cX7_distance 18 = .ok (.invokevirtual 161, 3) := dk_182 0 161 (dk_at dksX7_distance_0 18 rfl rfl)
theorem dX7_distance_21 : decode cX7_distance 21 = .ok (.istore_n 3, 1) := dk_62 (dk_at dksX7_distance_0 21 rfl rfl)
theorem dX7_distance_22 : decode cX7_distance 22 = .ok (.iload_n 3, 1) := dk_29 (dk_at dksX7_distance_0 22 rfl rfl)
theorem dX7_distance_23 : decode cX7_distance 23 = .ok (.ifCond .ge 9, 3) := dk_156 0 9 (dk_at dksX7_distance_1 0 rfl rfl)
theorem dX7_distance_26 : decode cX7_distance 26 = .ok (.aload_n 0, 1) := dk_42 (dk_at dksX7_distance_1 3 rfl rfl)
theorem dX7_distance_27 : decode cX7_distance 27 = .ok (.iload_n 3, 1) := dk_29 (dk_at dksX7_distance_1 4 rfl rfl)
theorem dX7_distance_28 : decode cX7_distance 28 = .ok (.invokevirtual 126, 3) := dk_182 0 126 (dk_at dksX7_distance_1 5 rfl rfl)
theorem dX7_distance_31 : decode cX7_distance 31 = .ok (.ireturn, 1) := dk_172 (dk_at dksX7_distance_1 8 rfl rfl)
theorem dX7_distance_32 : decode cX7_distance 32 = .ok (.aload_n 0, 1) := dk_42 (dk_at dksX7_distance_1 9 rfl rfl)
theorem dX7_distance_33 : decode cX7_distance 33 = .ok (.iload_n 1, 1) := dk_27 (dk_at dksX7_distance_1 10 rfl rfl)
theorem dX7_distance_34 : decode cX7_distance 34 = .ok (.iload_n 2, 1) := dk_28 (dk_at dksX7_distance_1 11 rfl rfl)
theorem dX7_distance_35 : decode cX7_distance 35 = .ok (.invokevirtual 215, 3) := dk_182 0 215 (dk_at dksX7_distance_1 12 rfl rfl)
theorem dX7_distance_38 : decode cX7_distance 38 = .ok (.aload_n 0, 1) := dk_42 (dk_at dksX7_distance_1 15 rfl rfl)
theorem dX7_distance_39 : decode cX7_distance 39 = .ok (.getfield 41, 3) := dk_180 0 41 (dk_at dksX7_distance_1 16 rfl rfl)
theorem dX7_distance_42 : decode cX7_distance 42 = .ok (.iconst 0, 1) := dk_3 (dk_at dksX7_distance_1 19 rfl rfl)
theorem dX7_distance_43 : decode cX7_distance 43 = .ok (.aload_n 0, 1) := dk_42 (dk_at dksX7_distance_1 20 rfl rfl)
theorem dX7_distance_44 : decode cX7_distance 44 = .ok (.getfield 13, 3) := dk_180 0 13 (dk_at dksX7_distance_1 21 rfl rfl)
theorem dX7_distance_47 : decode cX7_distance 47 = .ok (.iload_n 1, 1) := dk_27 (dk_at dksX7_distance_2 0 rfl rfl)
theorem dX7_distance_48 : decode cX7_distance 48 = .ok (.iaload, 1) := dk_46 (dk_at dksX7_distance_2 1 rfl rfl)
theorem dX7_distance_49 : decode cX7_distance 49 = .ok (.iconst 0, 1) := dk_3 (dk_at dksX7_distance_2 2 rfl rfl)
theorem dX7_distance_50 : decode cX7_distance 50 = .ok (.aload_n 0, 1) := dk_42 (dk_at dksX7_distance_2 3 rfl rfl)
theorem dX7_distance_51 : decode cX7_distance 51 = .ok (.getfield 13, 3) := dk_180 0 13 (dk_at dksX7_distance_2 4 rfl rfl)
theorem dX7_distance_54 : decode cX7_distance 54 = .ok (.iload_n 2, 1) := dk_28 (dk_at dksX7_distance_2 7 rfl rfl)
theorem dX7_distance_55 : decode cX7_distance 55 = .ok (.iaload, 1) := dk_46 (dk_at dksX7_distance_2 8 rfl rfl)
theorem dX7_distance_56 : decode cX7_distance 56 = .ok (.invokestatic 201, 3) := dk_184 0 201 (dk_at dksX7_distance_2 9 rfl rfl)
theorem dX7_distance_59 : decode cX7_distance 59 = .ok (.iaload, 1) := dk_46 (dk_at dksX7_distance_2 12 rfl rfl)
theorem dX7_distance_60 : decode cX7_distance 60 = .ok (.ireturn, 1) := dk_172 (dk_at dksX7_distance_2 13 rfl rfl)
abbrev cX7_reckon : ByteArray := prog_17_method_46_code
def yX7_reckon : MethodName := ⟨RX7, "reckon", "(II)V"⟩
def dkwX7_reckon_10 : List UInt8 := [132, 4, 255, 167, 255, 49, 132, 3, 255, 167, 255, 31, 177]
abbrev dktX7_reckon_10 : List UInt8 := dkwX7_reckon_10 ++ []
def dkwX7_reckon_9 : List UInt8 := [21, 4, 21, 6, 184, 0, 201, 21, 9, 79, 132, 6, 1, 167, 255, 85, 132, 5, 1, 167, 255, 63]
abbrev dktX7_reckon_9 : List UInt8 := dkwX7_reckon_9 ++ dktX7_reckon_10
def dkwX7_reckon_8 : List UInt8 := [27, 28, 29, 21, 7, 21, 4, 21, 8, 182, 0, 208, 184, 0, 205, 54, 9, 42, 180, 0, 41, 29, 21, 5]
abbrev dktX7_reckon_8 : List UInt8 := dkwX7_reckon_8 ++ dktX7_reckon_9
def dkwX7_reckon_7 : List UInt8 := [180, 0, 22, 5, 46, 96, 184, 0, 205, 54, 9, 21, 5, 158, 0, 28, 21, 6, 158, 0, 23, 21, 9, 42]
abbrev dktX7_reckon_7 : List UInt8 := dkwX7_reckon_7 ++ dktX7_reckon_8
def dkwX7_reckon_6 : List UInt8 := [158, 0, 34, 21, 9, 42, 180, 0, 41, 29, 21, 5, 21, 4, 21, 6, 4, 100, 184, 0, 201, 46, 42]
abbrev dktX7_reckon_6 : List UInt8 := dkwX7_reckon_6 ++ dktX7_reckon_7
def dkwX7_reckon_5 : List UInt8 := [21, 4, 21, 6, 184, 0, 201, 46, 42, 180, 0, 22, 6, 46, 96, 184, 0, 205, 54, 9, 21, 6]
abbrev dktX7_reckon_5 : List UInt8 := dkwX7_reckon_5 ++ dktX7_reckon_6
def dkwX7_reckon_4 : List UInt8 := [3, 167, 0, 5, 18, 197, 54, 9, 21, 5, 158, 0, 34, 21, 9, 42, 180, 0, 41, 29, 21, 5, 4, 100]
abbrev dktX7_reckon_4 : List UInt8 := dkwX7_reckon_4 ++ dktX7_reckon_5
def dkwX7_reckon_3 : List UInt8 := [96, 4, 100, 54, 7, 21, 4, 21, 6, 96, 4, 100, 54, 8, 21, 5, 154, 0, 12, 21, 6, 154, 0, 7]
abbrev dktX7_reckon_3 : List UInt8 := dkwX7_reckon_3 ++ dktX7_reckon_4
def dkwX7_reckon_2 : List UInt8 := [46, 163, 0, 186, 3, 54, 6, 21, 4, 21, 6, 96, 42, 180, 0, 13, 28, 46, 163, 0, 163, 29, 21, 5]
abbrev dktX7_reckon_2 : List UInt8 := dkwX7_reckon_2 ++ dktX7_reckon_3
def dkwX7_reckon_1 : List UInt8 := [180, 0, 13, 28, 46, 54, 4, 21, 4, 155, 0, 208, 3, 54, 5, 29, 21, 5, 96, 42, 180, 0, 13, 27]
abbrev dktX7_reckon_1 : List UInt8 := dkwX7_reckon_1 ++ dktX7_reckon_2
def dkwX7_reckon_0 : List UInt8 := [42, 27, 3, 182, 0, 198, 42, 28, 4, 182, 0, 198, 42, 180, 0, 13, 27, 46, 62, 29, 155, 0, 227, 42]
abbrev dktX7_reckon_0 : List UInt8 := dkwX7_reckon_0 ++ dktX7_reckon_1
theorem dksX7_reckon_0 : cX7_reckon.data.toList.drop 0 = dktX7_reckon_0 := by decide +kernel
theorem dksX7_reckon_1 : cX7_reckon.data.toList.drop 24 = dktX7_reckon_1 := dk_seg dksX7_reckon_0 24 rfl rfl
theorem dksX7_reckon_2 : cX7_reckon.data.toList.drop 48 = dktX7_reckon_2 := dk_seg dksX7_reckon_1 24 rfl rfl
theorem dksX7_reckon_3 : cX7_reckon.data.toList.drop 72 = dktX7_reckon_3 := dk_seg dksX7_reckon_2 24 rfl rfl
theorem dksX7_reckon_4 : cX7_reckon.data.toList.drop 96 = dktX7_reckon_4 := dk_seg dksX7_reckon_3 24 rfl rfl
theorem dksX7_reckon_5 : cX7_reckon.data.toList.drop 120 = dktX7_reckon_5 := dk_seg dksX7_reckon_4 24 rfl rfl
theorem dksX7_reckon_6 : cX7_reckon.data.toList.drop 142 = dktX7_reckon_6 := dk_seg dksX7_reckon_5 22 rfl rfl
theorem dksX7_reckon_7 : cX7_reckon.data.toList.drop 165 = dktX7_reckon_7 := dk_seg dksX7_reckon_6 23 rfl rfl
theorem dksX7_reckon_8 : cX7_reckon.data.toList.drop 189 = dktX7_reckon_8 := dk_seg dksX7_reckon_7 24 rfl rfl
theorem dksX7_reckon_9 : cX7_reckon.data.toList.drop 213 = dktX7_reckon_9 := dk_seg dksX7_reckon_8 24 rfl rfl
theorem dksX7_reckon_10 : cX7_reckon.data.toList.drop 235 = dktX7_reckon_10 := dk_seg dksX7_reckon_9 22 rfl rfl
theorem dX7_reckon_0 : decode cX7_reckon 0 = .ok (.aload_n 0, 1) := dk_42 (dk_at dksX7_reckon_0 0 rfl rfl)
theorem dX7_reckon_1 : decode cX7_reckon 1 = .ok (.iload_n 1, 1) := dk_27 (dk_at dksX7_reckon_0 1 rfl rfl)
theorem dX7_reckon_2 : decode cX7_reckon 2 = .ok (.iconst 0, 1) := dk_3 (dk_at dksX7_reckon_0 2 rfl rfl)
theorem dX7_reckon_3 : decode cX7_reckon 3 = .ok (.invokevirtual 198, 3) := dk_182 0 198 (dk_at dksX7_reckon_0 3 rfl rfl)
theorem dX7_reckon_6 : decode cX7_reckon 6 = .ok (.aload_n 0, 1) := dk_42 (dk_at dksX7_reckon_0 6 rfl rfl)
theorem dX7_reckon_7 : decode cX7_reckon 7 = .ok (.iload_n 2, 1) := dk_28 (dk_at dksX7_reckon_0 7 rfl rfl)
theorem dX7_reckon_8 : decode cX7_reckon 8 = .ok (.iconst 1, 1) := dk_4 (dk_at dksX7_reckon_0 8 rfl rfl)
theorem dX7_reckon_9 : decode cX7_reckon 9 = .ok (.invokevirtual 198, 3) := dk_182 0 198 (dk_at dksX7_reckon_0 9 rfl rfl)
theorem dX7_reckon_12 : decode cX7_reckon 12 = .ok (.aload_n 0, 1) := dk_42 (dk_at dksX7_reckon_0 12 rfl rfl)
theorem dX7_reckon_13 : decode cX7_reckon 13 = .ok (.getfield 13, 3) := dk_180 0 13 (dk_at dksX7_reckon_0 13 rfl rfl)
theorem dX7_reckon_16 : decode cX7_reckon 16 = .ok (.iload_n 1, 1) := dk_27 (dk_at dksX7_reckon_0 16 rfl rfl)
theorem dX7_reckon_17 : decode cX7_reckon 17 = .ok (.iaload, 1) := dk_46 (dk_at dksX7_reckon_0 17 rfl rfl)
theorem dX7_reckon_18 : decode cX7_reckon 18 = .ok (.istore_n 3, 1) := dk_62 (dk_at dksX7_reckon_0 18 rfl rfl)
theorem dX7_reckon_19 : decode cX7_reckon 19 = .ok (.iload_n 3, 1) := dk_29 (dk_at dksX7_reckon_0 19 rfl rfl)
theorem dX7_reckon_20 : decode cX7_reckon 20 = .ok (.ifCond .lt 227, 3) := dk_155 0 227 (dk_at dksX7_reckon_0 20 rfl rfl)
theorem dX7_reckon_23 : decode cX7_reckon 23 = .ok (.aload_n 0, 1) := dk_42 (dk_at dksX7_reckon_0 23 rfl rfl)
theorem dX7_reckon_24 : decode cX7_reckon 24 = .ok (.getfield 13, 3) := dk_180 0 13 (dk_at dksX7_reckon_1 0 rfl rfl)
theorem dX7_reckon_27 : decode cX7_reckon 27 = .ok (.iload_n 2, 1) := dk_28 (dk_at dksX7_reckon_1 3 rfl rfl)
theorem dX7_reckon_28 : decode cX7_reckon 28 = .ok (.iaload, 1) := dk_46 (dk_at dksX7_reckon_1 4 rfl rfl)
theorem dX7_reckon_29 : decode cX7_reckon 29 = .ok (.istore 4, 2) := dk_54 4 (dk_at dksX7_reckon_1 5 rfl rfl)
theorem dX7_reckon_31 : decode cX7_reckon 31 = .ok (.iload 4, 2) := dk_21 4 (dk_at dksX7_reckon_1 7 rfl rfl)
theorem dX7_reckon_33 : decode cX7_reckon 33 = .ok (.ifCond .lt 208, 3) := dk_155 0 208 (dk_at dksX7_reckon_1 9 rfl rfl)
theorem dX7_reckon_36 : decode cX7_reckon 36 = .ok (.iconst 0, 1) := dk_3 (dk_at dksX7_reckon_1 12 rfl rfl)
theorem dX7_reckon_37 : decode cX7_reckon 37 = .ok (.istore 5, 2) := dk_54 5 (dk_at dksX7_reckon_1 13 rfl rfl)
theorem dX7_reckon_39 : decode cX7_reckon 39 = .ok (.iload_n 3, 1) := dk_29 (dk_at dksX7_reckon_1 15 rfl rfl)
theorem dX7_reckon_40 : decode cX7_reckon 40 = .ok (.iload 5, 2) := dk_21 5 (dk_at dksX7_reckon_1 16 rfl rfl)
theorem dX7_reckon_42 : decode cX7_reckon 42 = .ok (.iadd, 1) := dk_96 (dk_at dksX7_reckon_1 18 rfl rfl)
theorem dX7_reckon_43 : decode cX7_reckon 43 = .ok (.aload_n 0, 1) := dk_42 (dk_at dksX7_reckon_1 19 rfl rfl)
theorem dX7_reckon_44 : decode cX7_reckon 44 = .ok (.getfield 13, 3) := dk_180 0 13 (dk_at dksX7_reckon_1 20 rfl rfl)
theorem dX7_reckon_47 : decode cX7_reckon 47 = .ok (.iload_n 1, 1) := dk_27 (dk_at dksX7_reckon_1 23 rfl rfl)
theorem dX7_reckon_48 : decode cX7_reckon 48 = .ok (.iaload, 1) := dk_46 (dk_at dksX7_reckon_2 0 rfl rfl)
theorem dX7_reckon_49 : decode cX7_reckon 49 = .ok (.if_icmp .gt 186, 3) := dk_163 0 186 (dk_at dksX7_reckon_2 1 rfl rfl)
theorem dX7_reckon_52 : decode cX7_reckon 52 = .ok (.iconst 0, 1) := dk_3 (dk_at dksX7_reckon_2 4 rfl rfl)
theorem dX7_reckon_53 : decode cX7_reckon 53 = .ok (.istore 6, 2) := dk_54 6 (dk_at dksX7_reckon_2 5 rfl rfl)
theorem dX7_reckon_55 : decode cX7_reckon 55 = .ok (.iload 4, 2) := dk_21 4 (dk_at dksX7_reckon_2 7 rfl rfl)
theorem dX7_reckon_57 : decode cX7_reckon 57 = .ok (.iload 6, 2) := dk_21 6 (dk_at dksX7_reckon_2 9 rfl rfl)
theorem dX7_reckon_59 : decode cX7_reckon 59 = .ok (.iadd, 1) := dk_96 (dk_at dksX7_reckon_2 11 rfl rfl)
theorem dX7_reckon_60 : decode cX7_reckon 60 = .ok (.aload_n 0, 1) := dk_42 (dk_at dksX7_reckon_2 12 rfl rfl)
theorem dX7_reckon_61 : decode cX7_reckon 61 = .ok (.getfield 13, 3) := dk_180 0 13 (dk_at dksX7_reckon_2 13 rfl rfl)
theorem dX7_reckon_64 : decode cX7_reckon 64 = .ok (.iload_n 2, 1) := dk_28 (dk_at dksX7_reckon_2 16 rfl rfl)
theorem dX7_reckon_65 : decode cX7_reckon 65 = .ok (.iaload, 1) := dk_46 (dk_at dksX7_reckon_2 17 rfl rfl)
theorem dX7_reckon_66 : decode cX7_reckon 66 = .ok (.if_icmp .gt 163, 3) := dk_163 0 163 (dk_at dksX7_reckon_2 18 rfl rfl)
theorem dX7_reckon_69 : decode cX7_reckon 69 = .ok (.iload_n 3, 1) := dk_29 (dk_at dksX7_reckon_2 21 rfl rfl)
theorem dX7_reckon_70 : decode cX7_reckon 70 = .ok (.iload 5, 2) := dk_21 5 (dk_at dksX7_reckon_2 22 rfl rfl)
theorem dX7_reckon_72 : decode cX7_reckon 72 = .ok (.iadd, 1) := dk_96 (dk_at dksX7_reckon_3 0 rfl rfl)
theorem dX7_reckon_73 : decode cX7_reckon 73 = .ok (.iconst 1, 1) := dk_4 (dk_at dksX7_reckon_3 1 rfl rfl)
theorem dX7_reckon_74 : decode cX7_reckon 74 = .ok (.isub, 1) := dk_100 (dk_at dksX7_reckon_3 2 rfl rfl)
theorem dX7_reckon_75 : decode cX7_reckon 75 = .ok (.istore 7, 2) := dk_54 7 (dk_at dksX7_reckon_3 3 rfl rfl)
theorem dX7_reckon_77 : decode cX7_reckon 77 = .ok (.iload 4, 2) := dk_21 4 (dk_at dksX7_reckon_3 5 rfl rfl)
theorem dX7_reckon_79 : decode cX7_reckon 79 = .ok (.iload 6, 2) := dk_21 6 (dk_at dksX7_reckon_3 7 rfl rfl)
theorem dX7_reckon_81 : decode cX7_reckon 81 = .ok (.iadd, 1) := dk_96 (dk_at dksX7_reckon_3 9 rfl rfl)
theorem dX7_reckon_82 : decode cX7_reckon 82 = .ok (.iconst 1, 1) := dk_4 (dk_at dksX7_reckon_3 10 rfl rfl)
theorem dX7_reckon_83 : decode cX7_reckon 83 = .ok (.isub, 1) := dk_100 (dk_at dksX7_reckon_3 11 rfl rfl)
theorem dX7_reckon_84 : decode cX7_reckon 84 = .ok (.istore 8, 2) := dk_54 8 (dk_at dksX7_reckon_3 12 rfl rfl)
theorem dX7_reckon_86 : decode cX7_reckon 86 = .ok (.iload 5, 2) := dk_21 5 (dk_at dksX7_reckon_3 14 rfl rfl)
theorem dX7_reckon_88 : decode cX7_reckon 88 = .ok (.ifCond .ne 12, 3) := dk_154 0 12 (dk_at dksX7_reckon_3 16 rfl rfl)
theorem dX7_reckon_91 : decode cX7_reckon 91 = .ok (.iload 6, 2) := dk_21 6 (dk_at dksX7_reckon_3 19 rfl rfl)
theorem dX7_reckon_93 : decode cX7_reckon 93 = .ok (.ifCond .ne 7, 3) := dk_154 0 7 (dk_at dksX7_reckon_3 21 rfl rfl)
theorem dX7_reckon_96 : decode cX7_reckon 96 = .ok (.iconst 0, 1) := dk_3 (dk_at dksX7_reckon_4 0 rfl rfl)
theorem dX7_reckon_97 : decode cX7_reckon 97 = .ok (.goto 5, 3) := dk_167 0 5 (dk_at dksX7_reckon_4 1 rfl rfl)
theorem dX7_reckon_100 : decode cX7_reckon 100 = .ok (.ldc 197, 2) := dk_18 197 (dk_at dksX7_reckon_4 4 rfl rfl)
theorem dX7_reckon_102 : decode cX7_reckon 102 = .ok (.istore 9, 2) := dk_54 9 (dk_at dksX7_reckon_4 6 rfl rfl)
theorem dX7_reckon_104 : decode cX7_reckon 104 = .ok (.iload 5, 2) := dk_21 5 (dk_at dksX7_reckon_4 8 rfl rfl)
theorem dX7_reckon_106 : decode cX7_reckon 106 = .ok (.ifCond .le 34, 3) := dk_158 0 34 (dk_at dksX7_reckon_4 10 rfl rfl)
theorem dX7_reckon_109 : decode cX7_reckon 109 = .ok (.iload 9, 2) := dk_21 9 (dk_at dksX7_reckon_4 13 rfl rfl)
theorem dX7_reckon_111 : decode cX7_reckon 111 = .ok (.aload_n 0, 1) := dk_42 (dk_at dksX7_reckon_4 15 rfl rfl)
theorem dX7_reckon_112 : decode cX7_reckon 112 = .ok (.getfield 41, 3) := dk_180 0 41 (dk_at dksX7_reckon_4 16 rfl rfl)
theorem dX7_reckon_115 : decode cX7_reckon 115 = .ok (.iload_n 3, 1) := dk_29 (dk_at dksX7_reckon_4 19 rfl rfl)
theorem dX7_reckon_116 : decode cX7_reckon 116 = .ok (.iload 5, 2) := dk_21 5 (dk_at dksX7_reckon_4 20 rfl rfl)
theorem dX7_reckon_118 : decode cX7_reckon 118 = .ok (.iconst 1, 1) := dk_4 (dk_at dksX7_reckon_4 22 rfl rfl)
theorem dX7_reckon_119 : decode cX7_reckon 119 = .ok (.isub, 1) := dk_100 (dk_at dksX7_reckon_4 23 rfl rfl)
theorem dX7_reckon_120 : decode cX7_reckon 120 = .ok (.iload 4, 2) := dk_21 4 (dk_at dksX7_reckon_5 0 rfl rfl)
theorem dX7_reckon_122 : decode cX7_reckon 122 = .ok (.iload 6, 2) := dk_21 6 (dk_at dksX7_reckon_5 2 rfl rfl)
theorem dX7_reckon_124 : decode cX7_reckon 124 = .ok (.invokestatic 201, 3) := dk_184 0 201 (dk_at dksX7_reckon_5 4 rfl rfl)
theorem dX7_reckon_127 : decode cX7_reckon 127 = .ok (.iaload, 1) := dk_46 (dk_at dksX7_reckon_5 7 rfl rfl)
theorem dX7_reckon_128 : decode cX7_reckon 128 = .ok (.aload_n 0, 1) := dk_42 (dk_at dksX7_reckon_5 8 rfl rfl)
theorem dX7_reckon_129 : decode cX7_reckon 129 = .ok (.getfield 22, 3) := dk_180 0 22 (dk_at dksX7_reckon_5 9 rfl rfl)
theorem dX7_reckon_132 : decode cX7_reckon 132 = .ok (.iconst 3, 1) := dk_6 (dk_at dksX7_reckon_5 12 rfl rfl)
theorem dX7_reckon_133 : decode cX7_reckon 133 = .ok (.iaload, 1) := dk_46 (dk_at dksX7_reckon_5 13 rfl rfl)
theorem dX7_reckon_134 : decode cX7_reckon 134 = .ok (.iadd, 1) := dk_96 (dk_at dksX7_reckon_5 14 rfl rfl)
theorem dX7_reckon_135 : decode cX7_reckon 135 = .ok (.invokestatic 205, 3) := dk_184 0 205 (dk_at dksX7_reckon_5 15 rfl rfl)
theorem dX7_reckon_138 : decode cX7_reckon 138 = .ok (.istore 9, 2) := dk_54 9 (dk_at dksX7_reckon_5 18 rfl rfl)
theorem dX7_reckon_140 : decode cX7_reckon 140 = .ok (.iload 6, 2) := dk_21 6 (dk_at dksX7_reckon_5 20 rfl rfl)
theorem dX7_reckon_142 : decode cX7_reckon 142 = .ok (.ifCond .le 34, 3) := dk_158 0 34 (dk_at dksX7_reckon_6 0 rfl rfl)
theorem dX7_reckon_145 : decode cX7_reckon 145 = .ok (.iload 9, 2) := dk_21 9 (dk_at dksX7_reckon_6 3 rfl rfl)
theorem dX7_reckon_147 : decode cX7_reckon 147 = .ok (.aload_n 0, 1) := dk_42 (dk_at dksX7_reckon_6 5 rfl rfl)
theorem dX7_reckon_148 : decode cX7_reckon 148 = .ok (.getfield 41, 3) := dk_180 0 41 (dk_at dksX7_reckon_6 6 rfl rfl)
theorem dX7_reckon_151 : decode cX7_reckon 151 = .ok (.iload_n 3, 1) := dk_29 (dk_at dksX7_reckon_6 9 rfl rfl)
theorem dX7_reckon_152 : decode cX7_reckon 152 = .ok (.iload 5, 2) := dk_21 5 (dk_at dksX7_reckon_6 10 rfl rfl)
theorem dX7_reckon_154 : decode cX7_reckon 154 = .ok (.iload 4, 2) := dk_21 4 (dk_at dksX7_reckon_6 12 rfl rfl)
theorem dX7_reckon_156 : decode cX7_reckon 156 = .ok (.iload 6, 2) := dk_21 6 (dk_at dksX7_reckon_6 14 rfl rfl)
theorem dX7_reckon_158 : decode cX7_reckon 158 = .ok (.iconst 1, 1) := dk_4 (dk_at dksX7_reckon_6 16 rfl rfl)
theorem dX7_reckon_159 : decode cX7_reckon 159 = .ok (.isub, 1) := dk_100 (dk_at dksX7_reckon_6 17 rfl rfl)
theorem dX7_reckon_160 : decode cX7_reckon 160 = .ok (.invokestatic 201, 3) := dk_184 0 201 (dk_at dksX7_reckon_6 18 rfl rfl)
theorem dX7_reckon_163 : decode cX7_reckon 163 = .ok (.iaload, 1) := dk_46 (dk_at dksX7_reckon_6 21 rfl rfl)
theorem dX7_reckon_164 : decode cX7_reckon 164 = .ok (.aload_n 0, 1) := dk_42 (dk_at dksX7_reckon_6 22 rfl rfl)
theorem dX7_reckon_165 : decode cX7_reckon 165 = .ok (.getfield 22, 3) := dk_180 0 22 (dk_at dksX7_reckon_7 0 rfl rfl)
theorem dX7_reckon_168 : decode cX7_reckon 168 = .ok (.iconst 2, 1) := dk_5 (dk_at dksX7_reckon_7 3 rfl rfl)
theorem dX7_reckon_169 : decode cX7_reckon 169 = .ok (.iaload, 1) := dk_46 (dk_at dksX7_reckon_7 4 rfl rfl)
theorem dX7_reckon_170 : decode cX7_reckon 170 = .ok (.iadd, 1) := dk_96 (dk_at dksX7_reckon_7 5 rfl rfl)
theorem dX7_reckon_171 : decode cX7_reckon 171 = .ok (.invokestatic 205, 3) := dk_184 0 205 (dk_at dksX7_reckon_7 6 rfl rfl)
theorem dX7_reckon_174 : decode cX7_reckon 174 = .ok (.istore 9, 2) := dk_54 9 (dk_at dksX7_reckon_7 9 rfl rfl)
theorem dX7_reckon_176 : decode cX7_reckon 176 = .ok (.iload 5, 2) := dk_21 5 (dk_at dksX7_reckon_7 11 rfl rfl)
theorem dX7_reckon_178 : decode cX7_reckon 178 = .ok (.ifCond .le 28, 3) := dk_158 0 28 (dk_at dksX7_reckon_7 13 rfl rfl)
theorem dX7_reckon_181 : decode cX7_reckon 181 = .ok (.iload 6, 2) := dk_21 6 (dk_at dksX7_reckon_7 16 rfl rfl)
theorem dX7_reckon_183 : decode cX7_reckon 183 = .ok (.ifCond .le 23, 3) := dk_158 0 23 (dk_at dksX7_reckon_7 18 rfl rfl)
theorem dX7_reckon_186 : decode cX7_reckon 186 = .ok (.iload 9, 2) := dk_21 9 (dk_at dksX7_reckon_7 21 rfl rfl)
theorem dX7_reckon_188 : decode cX7_reckon 188 = .ok (.aload_n 0, 1) := dk_42 (dk_at dksX7_reckon_7 23 rfl rfl)
theorem dX7_reckon_189 : decode cX7_reckon 189 = .ok (.iload_n 1, 1) := dk_27 (dk_at dksX7_reckon_8 0 rfl rfl)
theorem dX7_reckon_190 : decode cX7_reckon 190 = .ok (.iload_n 2, 1) := dk_28 (dk_at dksX7_reckon_8 1 rfl rfl)
theorem dX7_reckon_191 : decode cX7_reckon 191 = .ok (.iload_n 3, 1) := dk_29 (dk_at dksX7_reckon_8 2 rfl rfl)
theorem dX7_reckon_192 : decode cX7_reckon 192 = .ok (.iload 7, 2) := dk_21 7 (dk_at dksX7_reckon_8 3 rfl rfl)
theorem dX7_reckon_194 : decode cX7_reckon 194 = .ok (.iload 4, 2) := dk_21 4 (dk_at dksX7_reckon_8 5 rfl rfl)
theorem dX7_reckon_196 : decode cX7_reckon 196 = .ok (.iload 8, 2) := dk_21 8 (dk_at dksX7_reckon_8 7 rfl rfl)
theorem dX7_reckon_198 : decode cX7_reckon 198 = .ok (.invokevirtual 208, 3) := dk_182 0 208 (dk_at dksX7_reckon_8 9 rfl rfl)
theorem dX7_reckon_201 : decode cX7_reckon 201 = .ok (.invokestatic 205, 3) := dk_184 0 205 (dk_at dksX7_reckon_8 12 rfl rfl)
theorem dX7_reckon_204 : decode cX7_reckon 204 = .ok (.istore 9, 2) := dk_54 9 (dk_at dksX7_reckon_8 15 rfl rfl)
theorem dX7_reckon_206 : decode cX7_reckon 206 = .ok (.aload_n 0, 1) := dk_42 (dk_at dksX7_reckon_8 17 rfl rfl)
theorem dX7_reckon_207 : decode cX7_reckon 207 = .ok (.getfield 41, 3) := dk_180 0 41 (dk_at dksX7_reckon_8 18 rfl rfl)
theorem dX7_reckon_210 : decode cX7_reckon 210 = .ok (.iload_n 3, 1) := dk_29 (dk_at dksX7_reckon_8 21 rfl rfl)
theorem dX7_reckon_211 : decode cX7_reckon 211 = .ok (.iload 5, 2) := dk_21 5 (dk_at dksX7_reckon_8 22 rfl rfl)
theorem dX7_reckon_213 : decode cX7_reckon 213 = .ok (.iload 4, 2) := dk_21 4 (dk_at dksX7_reckon_9 0 rfl rfl)
theorem dX7_reckon_215 : decode cX7_reckon 215 = .ok (.iload 6, 2) := dk_21 6 (dk_at dksX7_reckon_9 2 rfl rfl)
theorem dX7_reckon_217 : decode cX7_reckon 217 = .ok (.invokestatic 201, 3) := dk_184 0 201 (dk_at dksX7_reckon_9 4 rfl rfl)
theorem dX7_reckon_220 : decode cX7_reckon 220 = .ok (.iload 9, 2) := dk_21 9 (dk_at dksX7_reckon_9 7 rfl rfl)
theorem dX7_reckon_222 : decode cX7_reckon 222 = .ok (.iastore, 1) := dk_79 (dk_at dksX7_reckon_9 9 rfl rfl)
theorem dX7_reckon_223 : decode cX7_reckon 223 = .ok (.iinc 6 1, 3) := dk_132 6 1 (dk_at dksX7_reckon_9 10 rfl rfl)
theorem dX7_reckon_226 : decode cX7_reckon 226 = .ok (.goto (-171), 3) := dk_167 255 85 (dk_at dksX7_reckon_9 13 rfl rfl)
theorem dX7_reckon_229 : decode cX7_reckon 229 = .ok (.iinc 5 1, 3) := dk_132 5 1 (dk_at dksX7_reckon_9 16 rfl rfl)
theorem dX7_reckon_232 : decode cX7_reckon 232 = .ok (.goto (-193), 3) := dk_167 255 63 (dk_at dksX7_reckon_9 19 rfl rfl)
theorem dX7_reckon_235 : decode cX7_reckon 235 = .ok (.iinc 4 (-1), 3) := dk_132 4 255 (dk_at dksX7_reckon_10 0 rfl rfl)
theorem dX7_reckon_238 : decode cX7_reckon 238 = .ok (.goto (-207), 3) := dk_167 255 49 (dk_at dksX7_reckon_10 3 rfl rfl)
theorem dX7_reckon_241 : decode cX7_reckon 241 = .ok (.iinc 3 (-1), 3) := dk_132 3 255 (dk_at dksX7_reckon_10 6 rfl rfl)
theorem dX7_reckon_244 : decode cX7_reckon 244 = .ok (.goto (-225), 3) := dk_167 255 31 (dk_at dksX7_reckon_10 9 rfl rfl)
theorem dX7_reckon_247 : decode cX7_reckon 247 = .ok (.return_, 1) := dk_177 (dk_at dksX7_reckon_10 12 rfl rfl)
abbrev cX7_lay : ByteArray := prog_17_method_43_code
def yX7_lay : MethodName := ⟨RX7, "lay", "(II)V"⟩
def dkwX7_lay_2 : List UInt8 := [29, 182, 0, 119, 29, 100, 4, 100, 100, 79, 132, 3, 1, 167, 255, 197, 177]
abbrev dktX7_lay_2 : List UInt8 := dkwX7_lay_2 ++ []
def dkwX7_lay_1 : List UInt8 := [16, 30, 28, 104, 21, 4, 96, 29, 79, 42, 180, 0, 37, 16, 30, 28, 104, 21, 4, 96, 21, 4, 42, 27]
abbrev dktX7_lay_1 : List UInt8 := dkwX7_lay_1 ++ dktX7_lay_2
def dkwX7_lay_0 : List UInt8 := [3, 62, 29, 42, 180, 0, 13, 27, 46, 162, 0, 55, 42, 27, 29, 182, 0, 178, 54, 4, 42, 180, 0, 34]
abbrev dktX7_lay_0 : List UInt8 := dkwX7_lay_0 ++ dktX7_lay_1
theorem dksX7_lay_0 : cX7_lay.data.toList.drop 0 = dktX7_lay_0 := by decide +kernel
theorem dksX7_lay_1 : cX7_lay.data.toList.drop 24 = dktX7_lay_1 := dk_seg dksX7_lay_0 24 rfl rfl
theorem dksX7_lay_2 : cX7_lay.data.toList.drop 48 = dktX7_lay_2 := dk_seg dksX7_lay_1 24 rfl rfl
theorem dX7_lay_0 : decode cX7_lay 0 = .ok (.iconst 0, 1) := dk_3 (dk_at dksX7_lay_0 0 rfl rfl)
theorem dX7_lay_1 : decode cX7_lay 1 = .ok (.istore_n 3, 1) := dk_62 (dk_at dksX7_lay_0 1 rfl rfl)
theorem dX7_lay_2 : decode cX7_lay 2 = .ok (.iload_n 3, 1) := dk_29 (dk_at dksX7_lay_0 2 rfl rfl)
theorem dX7_lay_3 : decode cX7_lay 3 = .ok (.aload_n 0, 1) := dk_42 (dk_at dksX7_lay_0 3 rfl rfl)
theorem dX7_lay_4 : decode cX7_lay 4 = .ok (.getfield 13, 3) := dk_180 0 13 (dk_at dksX7_lay_0 4 rfl rfl)
theorem dX7_lay_7 : decode cX7_lay 7 = .ok (.iload_n 1, 1) := dk_27 (dk_at dksX7_lay_0 7 rfl rfl)
theorem dX7_lay_8 : decode cX7_lay 8 = .ok (.iaload, 1) := dk_46 (dk_at dksX7_lay_0 8 rfl rfl)
theorem dX7_lay_9 : decode cX7_lay 9 = .ok (.if_icmp .ge 55, 3) := dk_162 0 55 (dk_at dksX7_lay_0 9 rfl rfl)
theorem dX7_lay_12 : decode cX7_lay 12 = .ok (.aload_n 0, 1) := dk_42 (dk_at dksX7_lay_0 12 rfl rfl)
theorem dX7_lay_13 : decode cX7_lay 13 = .ok (.iload_n 1, 1) := dk_27 (dk_at dksX7_lay_0 13 rfl rfl)
theorem dX7_lay_14 : decode cX7_lay 14 = .ok (.iload_n 3, 1) := dk_29 (dk_at dksX7_lay_0 14 rfl rfl)
theorem dX7_lay_15 : decode cX7_lay 15 = .ok (.invokevirtual 178, 3) := dk_182 0 178 (dk_at dksX7_lay_0 15 rfl rfl)
theorem dX7_lay_18 : decode cX7_lay 18 = .ok (.istore 4, 2) := dk_54 4 (dk_at dksX7_lay_0 18 rfl rfl)
theorem dX7_lay_20 : decode cX7_lay 20 = .ok (.aload_n 0, 1) := dk_42 (dk_at dksX7_lay_0 20 rfl rfl)
theorem dX7_lay_21 : decode cX7_lay 21 = .ok (.getfield 34, 3) := dk_180 0 34 (dk_at dksX7_lay_0 21 rfl rfl)
theorem dX7_lay_24 : decode cX7_lay 24 = .ok (.bipush 30, 2) := dk_16 30 (dk_at dksX7_lay_1 0 rfl rfl)
theorem dX7_lay_26 : decode cX7_lay 26 = .ok (.iload_n 2, 1) := dk_28 (dk_at dksX7_lay_1 2 rfl rfl)
theorem dX7_lay_27 : decode cX7_lay 27 = .ok (.imul, 1) := dk_104 (dk_at dksX7_lay_1 3 rfl rfl)
theorem dX7_lay_28 : decode cX7_lay 28 = .ok (.iload 4, 2) := dk_21 4 (dk_at dksX7_lay_1 4 rfl rfl)
theorem dX7_lay_30 : decode cX7_lay 30 = .ok (.iadd, 1) := dk_96 (dk_at dksX7_lay_1 6 rfl rfl)
theorem dX7_lay_31 : decode cX7_lay 31 = .ok (.iload_n 3, 1) := dk_29 (dk_at dksX7_lay_1 7 rfl rfl)
theorem dX7_lay_32 : decode cX7_lay 32 = .ok (.iastore, 1) := dk_79 (dk_at dksX7_lay_1 8 rfl rfl)
theorem dX7_lay_33 : decode cX7_lay 33 = .ok (.aload_n 0, 1) := dk_42 (dk_at dksX7_lay_1 9 rfl rfl)
theorem dX7_lay_34 : decode cX7_lay 34 = .ok (.getfield 37, 3) := dk_180 0 37 (dk_at dksX7_lay_1 10 rfl rfl)
theorem dX7_lay_37 : decode cX7_lay 37 = .ok (.bipush 30, 2) := dk_16 30 (dk_at dksX7_lay_1 13 rfl rfl)
theorem dX7_lay_39 : decode cX7_lay 39 = .ok (.iload_n 2, 1) := dk_28 (dk_at dksX7_lay_1 15 rfl rfl)
theorem dX7_lay_40 : decode cX7_lay 40 = .ok (.imul, 1) := dk_104 (dk_at dksX7_lay_1 16 rfl rfl)
theorem dX7_lay_41 : decode cX7_lay 41 = .ok (.iload 4, 2) := dk_21 4 (dk_at dksX7_lay_1 17 rfl rfl)
theorem dX7_lay_43 : decode cX7_lay 43 = .ok (.iadd, 1) := dk_96 (dk_at dksX7_lay_1 19 rfl rfl)
theorem dX7_lay_44 : decode cX7_lay 44 = .ok (.iload 4, 2) := dk_21 4 (dk_at dksX7_lay_1 20 rfl rfl)
theorem dX7_lay_46 : decode cX7_lay 46 = .ok (.aload_n 0, 1) := dk_42 (dk_at dksX7_lay_1 22 rfl rfl)
theorem dX7_lay_47 : decode cX7_lay 47 = .ok (.iload_n 1, 1) := dk_27 (dk_at dksX7_lay_1 23 rfl rfl)
theorem dX7_lay_48 : decode cX7_lay 48 = .ok (.iload_n 3, 1) := dk_29 (dk_at dksX7_lay_2 0 rfl rfl)
theorem dX7_lay_49 : decode cX7_lay 49 = .ok (.invokevirtual 119, 3) := dk_182 0 119 (dk_at dksX7_lay_2 1 rfl rfl)
theorem dX7_lay_52 : decode cX7_lay 52 = .ok (.iload_n 3, 1) := dk_29 (dk_at dksX7_lay_2 4 rfl rfl)
theorem dX7_lay_53 : decode cX7_lay 53 = .ok (.isub, 1) := dk_100 (dk_at dksX7_lay_2 5 rfl rfl)
theorem dX7_lay_54 : decode cX7_lay 54 = .ok (.iconst 1, 1) := dk_4 (dk_at dksX7_lay_2 6 rfl rfl)
theorem dX7_lay_55 : decode cX7_lay 55 = .ok (.isub, 1) := dk_100 (dk_at dksX7_lay_2 7 rfl rfl)
theorem dX7_lay_56 : decode cX7_lay 56 = .ok (.isub, 1) := dk_100 (dk_at dksX7_lay_2 8 rfl rfl)
theorem dX7_lay_57 : decode cX7_lay 57 = .ok (.iastore, 1) := dk_79 (dk_at dksX7_lay_2 9 rfl rfl)
theorem dX7_lay_58 : decode cX7_lay 58 = .ok (.iinc 3 1, 3) := dk_132 3 1 (dk_at dksX7_lay_2 10 rfl rfl)
theorem dX7_lay_61 : decode cX7_lay 61 = .ok (.goto (-59), 3) := dk_167 255 197 (dk_at dksX7_lay_2 13 rfl rfl)
theorem dX7_lay_64 : decode cX7_lay 64 = .ok (.return_, 1) := dk_177 (dk_at dksX7_lay_2 16 rfl rfl)
abbrev cX7_cell : ByteArray := prog_17_method_45_code
def yX7_cell : MethodName := ⟨RX7, "cell", "(IIII)I"⟩
def dkwX7_cell_0 : List UInt8 := [26, 16, 31, 104, 27, 96, 16, 31, 104, 28, 96, 16, 31, 104, 29, 96, 172]
abbrev dktX7_cell_0 : List UInt8 := dkwX7_cell_0 ++ []
theorem dksX7_cell_0 : cX7_cell.data.toList.drop 0 = dktX7_cell_0 := by decide +kernel
theorem dX7_cell_0 : decode cX7_cell 0 = .ok (.iload_n 0, 1) := dk_26 (dk_at dksX7_cell_0 0 rfl rfl)
theorem dX7_cell_1 : decode cX7_cell 1 = .ok (.bipush 31, 2) := dk_16 31 (dk_at dksX7_cell_0 1 rfl rfl)
theorem dX7_cell_3 : decode cX7_cell 3 = .ok (.imul, 1) := dk_104 (dk_at dksX7_cell_0 3 rfl rfl)
theorem dX7_cell_4 : decode cX7_cell 4 = .ok (.iload_n 1, 1) := dk_27 (dk_at dksX7_cell_0 4 rfl rfl)
theorem dX7_cell_5 : decode cX7_cell 5 = .ok (.iadd, 1) := dk_96 (dk_at dksX7_cell_0 5 rfl rfl)
theorem dX7_cell_6 : decode cX7_cell 6 = .ok (.bipush 31, 2) := dk_16 31 (dk_at dksX7_cell_0 6 rfl rfl)
theorem dX7_cell_8 : decode cX7_cell 8 = .ok (.imul, 1) := dk_104 (dk_at dksX7_cell_0 8 rfl rfl)
theorem dX7_cell_9 : decode cX7_cell 9 = .ok (.iload_n 2, 1) := dk_28 (dk_at dksX7_cell_0 9 rfl rfl)
theorem dX7_cell_10 : decode cX7_cell 10 = .ok (.iadd, 1) := dk_96 (dk_at dksX7_cell_0 10 rfl rfl)
theorem dX7_cell_11 : decode cX7_cell 11 = .ok (.bipush 31, 2) := dk_16 31 (dk_at dksX7_cell_0 11 rfl rfl)
theorem dX7_cell_13 : decode cX7_cell 13 = .ok (.imul, 1) := dk_104 (dk_at dksX7_cell_0 13 rfl rfl)
theorem dX7_cell_14 : decode cX7_cell 14 = .ok (.iload_n 3, 1) := dk_29 (dk_at dksX7_cell_0 14 rfl rfl)
theorem dX7_cell_15 : decode cX7_cell 15 = .ok (.iadd, 1) := dk_96 (dk_at dksX7_cell_0 15 rfl rfl)
theorem dX7_cell_16 : decode cX7_cell 16 = .ok (.ireturn, 1) := dk_172 (dk_at dksX7_cell_0 16 rfl rfl)
abbrev cX7_lesser : ByteArray := prog_17_method_48_code
def yX7_lesser : MethodName := ⟨RX7, "lesser", "(II)I"⟩
def dkwX7_lesser_0 : List UInt8 := [26, 27, 162, 0, 7, 26, 167, 0, 4, 27, 172]
abbrev dktX7_lesser_0 : List UInt8 := dkwX7_lesser_0 ++ []
theorem dksX7_lesser_0 : cX7_lesser.data.toList.drop 0 = dktX7_lesser_0 := by decide +kernel
theorem dX7_lesser_0 : decode cX7_lesser 0 = .ok (.iload_n 0, 1) := dk_26 (dk_at dksX7_lesser_0 0 rfl rfl)
theorem dX7_lesser_1 : decode cX7_lesser 1 = .ok (.iload_n 1, 1) := dk_27 (dk_at dksX7_lesser_0 1 rfl rfl)
theorem dX7_lesser_2 : decode cX7_lesser 2 = .ok (.if_icmp .ge 7, 3) := dk_162 0 7 (dk_at dksX7_lesser_0 2 rfl rfl)
theorem dX7_lesser_5 : decode cX7_lesser 5 = .ok (.iload_n 0, 1) := dk_26 (dk_at dksX7_lesser_0 5 rfl rfl)
theorem dX7_lesser_6 : decode cX7_lesser 6 = .ok (.goto 4, 3) := dk_167 0 4 (dk_at dksX7_lesser_0 6 rfl rfl)
theorem dX7_lesser_9 : decode cX7_lesser 9 = .ok (.iload_n 1, 1) := dk_27 (dk_at dksX7_lesser_0 9 rfl rfl)
theorem dX7_lesser_10 : decode cX7_lesser 10 = .ok (.ireturn, 1) := dk_172 (dk_at dksX7_lesser_0 10 rfl rfl)
abbrev cX7_byPair : ByteArray := prog_17_method_47_code
def yX7_byPair : MethodName := ⟨RX7, "byPair", "(IIIIII)I"⟩
def dkwX7_byPair_4 : List UInt8 := [180, 0, 41, 29, 21, 7, 29, 100, 21, 5, 21, 8, 21, 5, 100, 184, 0, 201, 46, 96, 21, 9, 96, 172]
abbrev dktX7_byPair_4 : List UInt8 := dkwX7_byPair_4 ++ []
def dkwX7_byPair_3 : List UInt8 := [42, 180, 0, 41, 21, 7, 21, 4, 21, 7, 100, 21, 8, 21, 6, 21, 8, 100, 184, 0, 201, 46, 42]
abbrev dktX7_byPair_3 : List UInt8 := dkwX7_byPair_3 ++ dktX7_byPair_4
def dkwX7_byPair_2 : List UInt8 := [180, 0, 34, 16, 30, 21, 6, 96, 46, 182, 0, 212, 54, 9, 21, 9, 18, 197, 160, 0, 6, 18, 197, 172]
abbrev dktX7_byPair_2 : List UInt8 := dkwX7_byPair_2 ++ dktX7_byPair_3
def dkwX7_byPair_1 : List UInt8 := [161, 0, 10, 21, 8, 21, 5, 162, 0, 6, 18, 197, 172, 42, 27, 42, 180, 0, 34, 21, 4, 46, 28, 42]
abbrev dktX7_byPair_1 : List UInt8 := dkwX7_byPair_1 ++ dktX7_byPair_2
def dkwX7_byPair_0 : List UInt8 := [42, 180, 0, 37, 21, 4, 46, 54, 7, 42, 180, 0, 37, 16, 30, 21, 6, 96, 46, 54, 8, 21, 7, 29]
abbrev dktX7_byPair_0 : List UInt8 := dkwX7_byPair_0 ++ dktX7_byPair_1
theorem dksX7_byPair_0 : cX7_byPair.data.toList.drop 0 = dktX7_byPair_0 := by decide +kernel
theorem dksX7_byPair_1 : cX7_byPair.data.toList.drop 24 = dktX7_byPair_1 := dk_seg dksX7_byPair_0 24 rfl rfl
theorem dksX7_byPair_2 : cX7_byPair.data.toList.drop 48 = dktX7_byPair_2 := dk_seg dksX7_byPair_1 24 rfl rfl
theorem dksX7_byPair_3 : cX7_byPair.data.toList.drop 72 = dktX7_byPair_3 := dk_seg dksX7_byPair_2 24 rfl rfl
theorem dksX7_byPair_4 : cX7_byPair.data.toList.drop 95 = dktX7_byPair_4 := dk_seg dksX7_byPair_3 23 rfl rfl
theorem dX7_byPair_0 : decode cX7_byPair 0 = .ok (.aload_n 0, 1) := dk_42 (dk_at dksX7_byPair_0 0 rfl rfl)
theorem dX7_byPair_1 : decode cX7_byPair 1 = .ok (.getfield 37, 3) := dk_180 0 37 (dk_at dksX7_byPair_0 1 rfl rfl)
theorem dX7_byPair_4 : decode cX7_byPair 4 = .ok (.iload 4, 2) := dk_21 4 (dk_at dksX7_byPair_0 4 rfl rfl)
theorem dX7_byPair_6 : decode cX7_byPair 6 = .ok (.iaload, 1) := dk_46 (dk_at dksX7_byPair_0 6 rfl rfl)
theorem dX7_byPair_7 : decode cX7_byPair 7 = .ok (.istore 7, 2) := dk_54 7 (dk_at dksX7_byPair_0 7 rfl rfl)
theorem dX7_byPair_9 : decode cX7_byPair 9 = .ok (.aload_n 0, 1) := dk_42 (dk_at dksX7_byPair_0 9 rfl rfl)
theorem dX7_byPair_10 : decode cX7_byPair 10 = .ok (.getfield 37, 3) := dk_180 0 37 (dk_at dksX7_byPair_0 10 rfl rfl)
theorem dX7_byPair_13 : decode cX7_byPair 13 = .ok (.bipush 30, 2) := dk_16 30 (dk_at dksX7_byPair_0 13 rfl rfl)
theorem dX7_byPair_15 : decode cX7_byPair 15 = .ok (.iload 6, 2) := dk_21 6 (dk_at dksX7_byPair_0 15 rfl rfl)
theorem dX7_byPair_17 : decode cX7_byPair 17 = .ok (.iadd, 1) := dk_96 (dk_at dksX7_byPair_0 17 rfl rfl)
theorem dX7_byPair_18 : decode cX7_byPair 18 = .ok (.iaload, 1) := dk_46 (dk_at dksX7_byPair_0 18 rfl rfl)
theorem dX7_byPair_19 : decode cX7_byPair 19 = .ok (.istore 8, 2) := dk_54 8 (dk_at dksX7_byPair_0 19 rfl rfl)
theorem dX7_byPair_21 : decode cX7_byPair 21 = .ok (.iload 7, 2) := dk_21 7 (dk_at dksX7_byPair_0 21 rfl rfl)
theorem dX7_byPair_23 : decode cX7_byPair 23 = .ok (.iload_n 3, 1) := dk_29 (dk_at dksX7_byPair_0 23 rfl rfl)
theorem dX7_byPair_24 : decode cX7_byPair 24 = .ok (.if_icmp .lt 10, 3) := dk_161 0 10 (dk_at dksX7_byPair_1 0 rfl rfl)
theorem dX7_byPair_27 : decode cX7_byPair 27 = .ok (.iload 8, 2) := dk_21 8 (dk_at dksX7_byPair_1 3 rfl rfl)
theorem dX7_byPair_29 : decode cX7_byPair 29 = .ok (.iload 5, 2) := dk_21 5 (dk_at dksX7_byPair_1 5 rfl rfl)
theorem dX7_byPair_31 : decode cX7_byPair 31 = .ok (.if_icmp .ge 6, 3) := dk_162 0 6 (dk_at dksX7_byPair_1 7 rfl rfl)
theorem dX7_byPair_34 : decode cX7_byPair 34 = .ok (.ldc 197, 2) := dk_18 197 (dk_at dksX7_byPair_1 10 rfl rfl)
theorem dX7_byPair_36 : decode cX7_byPair 36 = .ok (.ireturn, 1) := dk_172 (dk_at dksX7_byPair_1 12 rfl rfl)
theorem dX7_byPair_37 : decode cX7_byPair 37 = .ok (.aload_n 0, 1) := dk_42 (dk_at dksX7_byPair_1 13 rfl rfl)
theorem dX7_byPair_38 : decode cX7_byPair 38 = .ok (.iload_n 1, 1) := dk_27 (dk_at dksX7_byPair_1 14 rfl rfl)
theorem dX7_byPair_39 : decode cX7_byPair 39 = .ok (.aload_n 0, 1) := dk_42 (dk_at dksX7_byPair_1 15 rfl rfl)
theorem dX7_byPair_40 : decode cX7_byPair 40 = .ok (.getfield 34, 3) := dk_180 0 34 (dk_at dksX7_byPair_1 16 rfl rfl)
theorem dX7_byPair_43 : decode cX7_byPair 43 = .ok (.iload 4, 2) := dk_21 4 (dk_at dksX7_byPair_1 19 rfl rfl)
theorem dX7_byPair_45 : decode cX7_byPair 45 = .ok (.iaload, 1) := dk_46 (dk_at dksX7_byPair_1 21 rfl rfl)
theorem dX7_byPair_46 : decode cX7_byPair 46 = .ok (.iload_n 2, 1) := dk_28 (dk_at dksX7_byPair_1 22 rfl rfl)
theorem dX7_byPair_47 : decode cX7_byPair 47 = .ok (.aload_n 0, 1) := dk_42 (dk_at dksX7_byPair_1 23 rfl rfl)
theorem dX7_byPair_48 : decode cX7_byPair 48 = .ok (.getfield 34, 3) := dk_180 0 34 (dk_at dksX7_byPair_2 0 rfl rfl)
theorem dX7_byPair_51 : decode cX7_byPair 51 = .ok (.bipush 30, 2) := dk_16 30 (dk_at dksX7_byPair_2 3 rfl rfl)
theorem dX7_byPair_53 : decode cX7_byPair 53 = .ok (.iload 6, 2) := dk_21 6 (dk_at dksX7_byPair_2 5 rfl rfl)
theorem dX7_byPair_55 : decode cX7_byPair 55 = .ok (.iadd, 1) := dk_96 (dk_at dksX7_byPair_2 7 rfl rfl)
theorem dX7_byPair_56 : decode cX7_byPair 56 = .ok (.iaload, 1) := dk_46 (dk_at dksX7_byPair_2 8 rfl rfl)
theorem dX7_byPair_57 : decode cX7_byPair 57 = .ok (.invokevirtual 212, 3) := dk_182 0 212 (dk_at dksX7_byPair_2 9 rfl rfl)
theorem dX7_byPair_60 : decode cX7_byPair 60 = .ok (.istore 9, 2) := dk_54 9 (dk_at dksX7_byPair_2 12 rfl rfl)
theorem dX7_byPair_62 : decode cX7_byPair 62 = .ok (.iload 9, 2) := dk_21 9 (dk_at dksX7_byPair_2 14 rfl rfl)
theorem dX7_byPair_64 : decode cX7_byPair 64 = .ok (.ldc 197, 2) := dk_18 197 (dk_at dksX7_byPair_2 16 rfl rfl)
theorem dX7_byPair_66 : decode cX7_byPair 66 = .ok (.if_icmp .ne 6, 3) := dk_160 0 6 (dk_at dksX7_byPair_2 18 rfl rfl)
theorem dX7_byPair_69 : decode cX7_byPair 69 = .ok (.ldc 197, 2) := dk_18 197 (dk_at dksX7_byPair_2 21 rfl rfl)
theorem dX7_byPair_71 : decode cX7_byPair 71 = .ok (.ireturn, 1) := dk_172 (dk_at dksX7_byPair_2 23 rfl rfl)
theorem dX7_byPair_72 : decode cX7_byPair 72 = .ok (.aload_n 0, 1) := dk_42 (dk_at dksX7_byPair_3 0 rfl rfl)
theorem dX7_byPair_73 : decode cX7_byPair 73 = .ok (.getfield 41, 3) := dk_180 0 41 (dk_at dksX7_byPair_3 1 rfl rfl)
theorem dX7_byPair_76 : decode cX7_byPair 76 = .ok (.iload 7, 2) := dk_21 7 (dk_at dksX7_byPair_3 4 rfl rfl)
theorem dX7_byPair_78 : decode cX7_byPair 78 = .ok (.iload 4, 2) := dk_21 4 (dk_at dksX7_byPair_3 6 rfl rfl)
theorem dX7_byPair_80 : decode cX7_byPair 80 = .ok (.iload 7, 2) := dk_21 7 (dk_at dksX7_byPair_3 8 rfl rfl)
theorem dX7_byPair_82 : decode cX7_byPair 82 = .ok (.isub, 1) := dk_100 (dk_at dksX7_byPair_3 10 rfl rfl)
theorem dX7_byPair_83 : decode cX7_byPair 83 = .ok (.iload 8, 2) := dk_21 8 (dk_at dksX7_byPair_3 11 rfl rfl)
theorem dX7_byPair_85 : decode cX7_byPair 85 = .ok (.iload 6, 2) := dk_21 6 (dk_at dksX7_byPair_3 13 rfl rfl)
theorem dX7_byPair_87 : decode cX7_byPair 87 = .ok (.iload 8, 2) := dk_21 8 (dk_at dksX7_byPair_3 15 rfl rfl)
theorem dX7_byPair_89 : decode cX7_byPair 89 = .ok (.isub, 1) := dk_100 (dk_at dksX7_byPair_3 17 rfl rfl)
theorem dX7_byPair_90 : decode cX7_byPair 90 = .ok (.invokestatic 201, 3) := dk_184 0 201 (dk_at dksX7_byPair_3 18 rfl rfl)
theorem dX7_byPair_93 : decode cX7_byPair 93 = .ok (.iaload, 1) := dk_46 (dk_at dksX7_byPair_3 21 rfl rfl)
theorem dX7_byPair_94 : decode cX7_byPair 94 = .ok (.aload_n 0, 1) := dk_42 (dk_at dksX7_byPair_3 22 rfl rfl)
theorem dX7_byPair_95 : decode cX7_byPair 95 = .ok (.getfield 41, 3) := dk_180 0 41 (dk_at dksX7_byPair_4 0 rfl rfl)
theorem dX7_byPair_98 : decode cX7_byPair 98 = .ok (.iload_n 3, 1) := dk_29 (dk_at dksX7_byPair_4 3 rfl rfl)
theorem dX7_byPair_99 : decode cX7_byPair 99 = .ok (.iload 7, 2) := dk_21 7 (dk_at dksX7_byPair_4 4 rfl rfl)
theorem dX7_byPair_101 : decode cX7_byPair 101 = .ok (.iload_n 3, 1) := dk_29 (dk_at dksX7_byPair_4 6 rfl rfl)
theorem dX7_byPair_102 : decode cX7_byPair 102 = .ok (.isub, 1) := dk_100 (dk_at dksX7_byPair_4 7 rfl rfl)
theorem dX7_byPair_103 : decode cX7_byPair 103 = .ok (.iload 5, 2) := dk_21 5 (dk_at dksX7_byPair_4 8 rfl rfl)
theorem dX7_byPair_105 : decode cX7_byPair 105 = .ok (.iload 8, 2) := dk_21 8 (dk_at dksX7_byPair_4 10 rfl rfl)
theorem dX7_byPair_107 : decode cX7_byPair 107 = .ok (.iload 5, 2) := dk_21 5 (dk_at dksX7_byPair_4 12 rfl rfl)
theorem dX7_byPair_109 : decode cX7_byPair 109 = .ok (.isub, 1) := dk_100 (dk_at dksX7_byPair_4 14 rfl rfl)
theorem dX7_byPair_110 : decode cX7_byPair 110 = .ok (.invokestatic 201, 3) := dk_184 0 201 (dk_at dksX7_byPair_4 15 rfl rfl)
theorem dX7_byPair_113 : decode cX7_byPair 113 = .ok (.iaload, 1) := dk_46 (dk_at dksX7_byPair_4 18 rfl rfl)
theorem dX7_byPair_114 : decode cX7_byPair 114 = .ok (.iadd, 1) := dk_96 (dk_at dksX7_byPair_4 19 rfl rfl)
theorem dX7_byPair_115 : decode cX7_byPair 115 = .ok (.iload 9, 2) := dk_21 9 (dk_at dksX7_byPair_4 20 rfl rfl)
theorem dX7_byPair_117 : decode cX7_byPair 117 = .ok (.iadd, 1) := dk_96 (dk_at dksX7_byPair_4 22 rfl rfl)
theorem dX7_byPair_118 : decode cX7_byPair 118 = .ok (.ireturn, 1) := dk_172 (dk_at dksX7_byPair_4 23 rfl rfl)
abbrev cX7_pairs : ByteArray := prog_17_method_44_code
def yX7_pairs : MethodName := ⟨RX7, "pairs", "(IIII)I"⟩
def dkwX7_pairs_4 : List UInt8 := [180, 0, 22, 4, 46, 96, 172]
abbrev dktX7_pairs_4 : List UInt8 := dkwX7_pairs_4 ++ []
def dkwX7_pairs_3 : List UInt8 := [153, 0, 7, 3, 167, 0, 9, 42, 180, 0, 22, 3, 46, 21, 6, 153, 0, 7, 3, 167, 0, 9, 42]
abbrev dktX7_pairs_3 : List UInt8 := dkwX7_pairs_3 ++ dktX7_pairs_4
def dkwX7_pairs_2 : List UInt8 := [182, 0, 104, 6, 160, 0, 16, 21, 5, 153, 0, 8, 21, 6, 154, 0, 6, 18, 197, 172, 21, 5]
abbrev dktX7_pairs_2 : List UInt8 := dkwX7_pairs_2 ++ dktX7_pairs_3
def dkwX7_pairs_1 : List UInt8 := [54, 6, 42, 27, 28, 4, 182, 0, 104, 42, 29, 21, 4, 4, 182, 0, 104, 160, 0, 24, 42, 27, 28, 4]
abbrev dktX7_pairs_1 : List UInt8 := dkwX7_pairs_1 ++ dktX7_pairs_2
def dkwX7_pairs_0 : List UInt8 := [42, 27, 28, 29, 21, 4, 6, 182, 0, 122, 54, 5, 42, 27, 28, 29, 21, 4, 16, 10, 182, 0, 122]
abbrev dktX7_pairs_0 : List UInt8 := dkwX7_pairs_0 ++ dktX7_pairs_1
theorem dksX7_pairs_0 : cX7_pairs.data.toList.drop 0 = dktX7_pairs_0 := by decide +kernel
theorem dksX7_pairs_1 : cX7_pairs.data.toList.drop 23 = dktX7_pairs_1 := dk_seg dksX7_pairs_0 23 rfl rfl
theorem dksX7_pairs_2 : cX7_pairs.data.toList.drop 47 = dktX7_pairs_2 := dk_seg dksX7_pairs_1 24 rfl rfl
theorem dksX7_pairs_3 : cX7_pairs.data.toList.drop 69 = dktX7_pairs_3 := dk_seg dksX7_pairs_2 22 rfl rfl
theorem dksX7_pairs_4 : cX7_pairs.data.toList.drop 92 = dktX7_pairs_4 := dk_seg dksX7_pairs_3 23 rfl rfl
theorem dX7_pairs_0 : decode cX7_pairs 0 = .ok (.aload_n 0, 1) := dk_42 (dk_at dksX7_pairs_0 0 rfl rfl)
theorem dX7_pairs_1 : decode cX7_pairs 1 = .ok (.iload_n 1, 1) := dk_27 (dk_at dksX7_pairs_0 1 rfl rfl)
theorem dX7_pairs_2 : decode cX7_pairs 2 = .ok (.iload_n 2, 1) := dk_28 (dk_at dksX7_pairs_0 2 rfl rfl)
theorem dX7_pairs_3 : decode cX7_pairs 3 = .ok (.iload_n 3, 1) := dk_29 (dk_at dksX7_pairs_0 3 rfl rfl)
theorem dX7_pairs_4 : decode cX7_pairs 4 = .ok (.iload 4, 2) := dk_21 4 (dk_at dksX7_pairs_0 4 rfl rfl)
theorem dX7_pairs_6 : decode cX7_pairs 6 = .ok (.iconst 3, 1) := dk_6 (dk_at dksX7_pairs_0 6 rfl rfl)
theorem dX7_pairs_7 : decode cX7_pairs 7 = .ok (.invokevirtual 122, 3) := dk_182 0 122 (dk_at dksX7_pairs_0 7 rfl rfl)
theorem dX7_pairs_10 : decode cX7_pairs 10 = .ok (.istore 5, 2) := dk_54 5 (dk_at dksX7_pairs_0 10 rfl rfl)
theorem dX7_pairs_12 : decode cX7_pairs 12 = .ok (.aload_n 0, 1) := dk_42 (dk_at dksX7_pairs_0 12 rfl rfl)
theorem dX7_pairs_13 : decode cX7_pairs 13 = .ok (.iload_n 1, 1) := dk_27 (dk_at dksX7_pairs_0 13 rfl rfl)
theorem dX7_pairs_14 : decode cX7_pairs 14 = .ok (.iload_n 2, 1) := dk_28 (dk_at dksX7_pairs_0 14 rfl rfl)
theorem dX7_pairs_15 : decode cX7_pairs 15 = .ok (.iload_n 3, 1) := dk_29 (dk_at dksX7_pairs_0 15 rfl rfl)
theorem dX7_pairs_16 : decode cX7_pairs 16 = .ok (.iload 4, 2) := dk_21 4 (dk_at dksX7_pairs_0 16 rfl rfl)
theorem dX7_pairs_18 : decode cX7_pairs 18 = .ok (.bipush 10, 2) := dk_16 10 (dk_at dksX7_pairs_0 18 rfl rfl)
theorem dX7_pairs_20 : decode cX7_pairs 20 = .ok (.invokevirtual 122, 3) := dk_182 0 122 (dk_at dksX7_pairs_0 20 rfl rfl)
theorem dX7_pairs_23 : decode cX7_pairs 23 = .ok (.istore 6, 2) := dk_54 6 (dk_at dksX7_pairs_1 0 rfl rfl)
theorem dX7_pairs_25 : decode cX7_pairs 25 = .ok (.aload_n 0, 1) := dk_42 (dk_at dksX7_pairs_1 2 rfl rfl)
theorem dX7_pairs_26 : decode cX7_pairs 26 = .ok (.iload_n 1, 1) := dk_27 (dk_at dksX7_pairs_1 3 rfl rfl)
theorem dX7_pairs_27 : decode cX7_pairs 27 = .ok (.iload_n 2, 1) := dk_28 (dk_at dksX7_pairs_1 4 rfl rfl)
theorem dX7_pairs_28 : decode cX7_pairs 28 = .ok (.iconst 1, 1) := dk_4 (dk_at dksX7_pairs_1 5 rfl rfl)
theorem dX7_pairs_29 : decode cX7_pairs 29 = .ok (.invokevirtual 104, 3) := dk_182 0 104 (dk_at dksX7_pairs_1 6 rfl rfl)
theorem dX7_pairs_32 : decode cX7_pairs 32 = .ok (.aload_n 0, 1) := dk_42 (dk_at dksX7_pairs_1 9 rfl rfl)
theorem dX7_pairs_33 : decode cX7_pairs 33 = .ok (.iload_n 3, 1) := dk_29 (dk_at dksX7_pairs_1 10 rfl rfl)
theorem dX7_pairs_34 : decode cX7_pairs 34 = .ok (.iload 4, 2) := dk_21 4 (dk_at dksX7_pairs_1 11 rfl rfl)
theorem dX7_pairs_36 : decode cX7_pairs 36 = .ok (.iconst 1, 1) := dk_4 (dk_at dksX7_pairs_1 13 rfl rfl)
theorem dX7_pairs_37 : decode cX7_pairs 37 = .ok (.invokevirtual 104, 3) := dk_182 0 104 (dk_at dksX7_pairs_1 14 rfl rfl)
theorem dX7_pairs_40 : decode cX7_pairs 40 = .ok (.if_icmp .ne 24, 3) := dk_160 0 24 (dk_at dksX7_pairs_1 17 rfl rfl)
theorem dX7_pairs_43 : decode cX7_pairs 43 = .ok (.aload_n 0, 1) := dk_42 (dk_at dksX7_pairs_1 20 rfl rfl)
theorem dX7_pairs_44 : decode cX7_pairs 44 = .ok (.iload_n 1, 1) := dk_27 (dk_at dksX7_pairs_1 21 rfl rfl)
theorem dX7_pairs_45 : decode cX7_pairs 45 = .ok (.iload_n 2, 1) := dk_28 (dk_at dksX7_pairs_1 22 rfl rfl)
theorem dX7_pairs_46 : decode cX7_pairs 46 = .ok (.iconst 1, 1) := dk_4 (dk_at dksX7_pairs_1 23 rfl rfl)
theorem dX7_pairs_47 : decode cX7_pairs 47 = .ok (.invokevirtual 104, 3) := dk_182 0 104 (dk_at dksX7_pairs_2 0 rfl rfl)
theorem dX7_pairs_50 : decode cX7_pairs 50 = .ok (.iconst 3, 1) := dk_6 (dk_at dksX7_pairs_2 3 rfl rfl)
theorem dX7_pairs_51 : decode cX7_pairs 51 = .ok (.if_icmp .ne 16, 3) := dk_160 0 16 (dk_at dksX7_pairs_2 4 rfl rfl)
theorem dX7_pairs_54 : decode cX7_pairs 54 = .ok (.iload 5, 2) := dk_21 5 (dk_at dksX7_pairs_2 7 rfl rfl)
theorem dX7_pairs_56 : decode cX7_pairs 56 = .ok (.ifCond .eq 8, 3) := dk_153 0 8 (dk_at dksX7_pairs_2 9 rfl rfl)
theorem dX7_pairs_59 : decode cX7_pairs 59 = .ok (.iload 6, 2) := dk_21 6 (dk_at dksX7_pairs_2 12 rfl rfl)
theorem dX7_pairs_61 : decode cX7_pairs 61 = .ok (.ifCond .ne 6, 3) := dk_154 0 6 (dk_at dksX7_pairs_2 14 rfl rfl)
theorem dX7_pairs_64 : decode cX7_pairs 64 = .ok (.ldc 197, 2) := dk_18 197 (dk_at dksX7_pairs_2 17 rfl rfl)
theorem dX7_pairs_66 : decode cX7_pairs 66 = .ok (.ireturn, 1) := dk_172 (dk_at dksX7_pairs_2 19 rfl rfl)
theorem dX7_pairs_67 : decode cX7_pairs 67 = .ok (.iload 5, 2) := dk_21 5 (dk_at dksX7_pairs_2 20 rfl rfl)
theorem dX7_pairs_69 : decode cX7_pairs 69 = .ok (.ifCond .eq 7, 3) := dk_153 0 7 (dk_at dksX7_pairs_3 0 rfl rfl)
theorem dX7_pairs_72 : decode cX7_pairs 72 = .ok (.iconst 0, 1) := dk_3 (dk_at dksX7_pairs_3 3 rfl rfl)
theorem dX7_pairs_73 : decode cX7_pairs 73 = .ok (.goto 9, 3) := dk_167 0 9 (dk_at dksX7_pairs_3 4 rfl rfl)
theorem dX7_pairs_76 : decode cX7_pairs 76 = .ok (.aload_n 0, 1) := dk_42 (dk_at dksX7_pairs_3 7 rfl rfl)
theorem dX7_pairs_77 : decode cX7_pairs 77 = .ok (.getfield 22, 3) := dk_180 0 22 (dk_at dksX7_pairs_3 8 rfl rfl)
theorem dX7_pairs_80 : decode cX7_pairs 80 = .ok (.iconst 0, 1) := dk_3 (dk_at dksX7_pairs_3 11 rfl rfl)
theorem dX7_pairs_81 : decode cX7_pairs 81 = .ok (.iaload, 1) := dk_46 (dk_at dksX7_pairs_3 12 rfl rfl)
theorem dX7_pairs_82 : decode cX7_pairs 82 = .ok (.iload 6, 2) := dk_21 6 (dk_at dksX7_pairs_3 13 rfl rfl)
theorem dX7_pairs_84 : decode cX7_pairs 84 = .ok (.ifCond .eq 7, 3) := dk_153 0 7 (dk_at dksX7_pairs_3 15 rfl rfl)
theorem dX7_pairs_87 : decode cX7_pairs 87 = .ok (.iconst 0, 1) := dk_3 (dk_at dksX7_pairs_3 18 rfl rfl)
theorem dX7_pairs_88 : decode cX7_pairs 88 = .ok (.goto 9, 3) := dk_167 0 9 (dk_at dksX7_pairs_3 19 rfl rfl)
theorem dX7_pairs_91 : decode cX7_pairs 91 = .ok (.aload_n 0, 1) := dk_42 (dk_at dksX7_pairs_3 22 rfl rfl)
theorem dX7_pairs_92 : decode cX7_pairs 92 = .ok (.getfield 22, 3) := dk_180 0 22 (dk_at dksX7_pairs_4 0 rfl rfl)
theorem dX7_pairs_95 : decode cX7_pairs 95 = .ok (.iconst 1, 1) := dk_4 (dk_at dksX7_pairs_4 3 rfl rfl)
theorem dX7_pairs_96 : decode cX7_pairs 96 = .ok (.iaload, 1) := dk_46 (dk_at dksX7_pairs_4 4 rfl rfl)
theorem dX7_pairs_97 : decode cX7_pairs 97 = .ok (.iadd, 1) := dk_96 (dk_at dksX7_pairs_4 5 rfl rfl)
theorem dX7_pairs_98 : decode cX7_pairs 98 = .ok (.ireturn, 1) := dk_172 (dk_at dksX7_pairs_4 6 rfl rfl)
abbrev cX7_map : ByteArray := prog_17_method_51_code
def yX7_map : MethodName := ⟨RX7, "map", "(II)I"⟩
def dkwX7_map_21 : List UInt8 := [180, 0, 224, 172]
abbrev dktX7_map_21 : List UInt8 := dkwX7_map_21 ++ []
def dkwX7_map_20 : List UInt8 := [167, 0, 14, 42, 180, 0, 59, 21, 5, 92, 46, 4, 100, 79, 167, 254, 162, 42, 27, 28, 182, 0, 221, 42]
abbrev dktX7_map_20 : List UInt8 := dkwX7_map_20 ++ dktX7_map_21
def dkwX7_map_19 : List UInt8 := [180, 0, 22, 6, 46, 96, 21, 10, 160, 0, 17, 42, 180, 0, 53, 21, 5, 92, 46, 4, 100, 79]
abbrev dktX7_map_19 : List UInt8 := dkwX7_map_19 ++ dktX7_map_20
def dkwX7_map_18 : List UInt8 := [42, 180, 0, 53, 21, 5, 46, 4, 100, 21, 7, 42, 180, 0, 59, 21, 5, 46, 184, 0, 201, 46, 42]
abbrev dktX7_map_18 : List UInt8 := dkwX7_map_18 ++ dktX7_map_19
def dkwX7_map_17 : List UInt8 := [42, 180, 0, 37, 16, 30, 21, 9, 96, 46, 100, 79, 132, 4, 1, 167, 0, 68, 42, 180, 0, 41, 21, 6]
abbrev dktX7_map_17 : List UInt8 := dkwX7_map_17 ++ dktX7_map_18
def dkwX7_map_16 : List UInt8 := [180, 0, 56, 21, 4, 42, 180, 0, 37, 16, 30, 21, 9, 96, 46, 79, 42, 180, 0, 59, 21, 4, 21, 9]
abbrev dktX7_map_16 : List UInt8 := dkwX7_map_16 ++ dktX7_map_17
def dkwX7_map_15 : List UInt8 := [21, 8, 46, 79, 42, 180, 0, 53, 21, 4, 21, 8, 42, 180, 0, 37, 21, 8, 46, 100, 79, 42]
abbrev dktX7_map_15 : List UInt8 := dkwX7_map_15 ++ dktX7_map_16
def dkwX7_map_14 : List UInt8 := [180, 0, 37, 16, 30, 21, 9, 96, 46, 21, 7, 100, 79, 42, 180, 0, 50, 21, 4, 42, 180, 0, 37]
abbrev dktX7_map_14 : List UInt8 := dkwX7_map_14 ++ dktX7_map_15
def dkwX7_map_13 : List UInt8 := [180, 0, 53, 21, 5, 42, 180, 0, 37, 21, 8, 46, 21, 6, 100, 79, 42, 180, 0, 59, 21, 5, 42]
abbrev dktX7_map_13 : List UInt8 := dkwX7_map_13 ++ dktX7_map_14
def dkwX7_map_12 : List UInt8 := [79, 42, 180, 0, 47, 42, 180, 0, 34, 16, 30, 21, 9, 96, 46, 42, 180, 0, 34, 21, 8, 46, 79, 42]
abbrev dktX7_map_12 : List UInt8 := dkwX7_map_12 ++ dktX7_map_13
def dkwX7_map_11 : List UInt8 := [160, 0, 158, 42, 180, 0, 44, 42, 180, 0, 34, 21, 8, 46, 42, 180, 0, 34, 16, 30, 21, 9, 96, 46]
abbrev dktX7_map_11 : List UInt8 := dkwX7_map_11 ++ dktX7_map_12
def dkwX7_map_10 : List UInt8 := [46, 184, 0, 201, 46, 54, 10, 42, 27, 28, 21, 6, 21, 8, 21, 7, 21, 9, 182, 0, 208, 21, 10]
abbrev dktX7_map_10 : List UInt8 := dkwX7_map_10 ++ dktX7_map_11
def dkwX7_map_9 : List UInt8 := [167, 255, 176, 42, 180, 0, 41, 21, 6, 42, 180, 0, 53, 21, 5, 46, 21, 7, 42, 180, 0, 59, 21, 5]
abbrev dktX7_map_9 : List UInt8 := dkwX7_map_9 ++ dktX7_map_10
def dkwX7_map_8 : List UInt8 := [180, 0, 53, 21, 5, 46, 153, 0, 13, 42, 180, 0, 59, 21, 5, 46, 154, 0, 9, 132, 4, 255]
abbrev dktX7_map_8 : List UInt8 := dkwX7_map_8 ++ dktX7_map_9
def dkwX7_map_7 : List UInt8 := [21, 5, 46, 96, 4, 100, 54, 8, 21, 7, 42, 180, 0, 59, 21, 5, 46, 96, 4, 100, 54, 9, 42]
abbrev dktX7_map_7 : List UInt8 := dkwX7_map_7 ++ dktX7_map_8
def dkwX7_map_6 : List UInt8 := [180, 0, 50, 21, 5, 46, 54, 6, 42, 180, 0, 56, 21, 5, 46, 54, 7, 21, 6, 42, 180, 0, 53]
abbrev dktX7_map_6 : List UInt8 := dkwX7_map_6 ++ dktX7_map_7
def dkwX7_map_5 : List UInt8 := [180, 0, 59, 3, 42, 180, 0, 13, 28, 46, 79, 21, 4, 158, 1, 95, 21, 4, 4, 100, 54, 5, 42]
abbrev dktX7_map_5 : List UInt8 := dkwX7_map_5 ++ dktX7_map_6
def dkwX7_map_4 : List UInt8 := [3, 3, 79, 42, 180, 0, 53, 3, 42, 180, 0, 13, 27, 46, 79, 42, 180, 0, 56, 3, 3, 79, 42]
abbrev dktX7_map_4 : List UInt8 := dkwX7_map_4 ++ dktX7_map_5
def dkwX7_map_3 : List UInt8 := [162, 0, 17, 42, 180, 0, 47, 21, 4, 2, 79, 132, 4, 1, 167, 255, 238, 4, 54, 4, 42, 180, 0, 50]
abbrev dktX7_map_3 : List UInt8 := dkwX7_map_3 ++ dktX7_map_4
def dkwX7_map_2 : List UInt8 := [162, 0, 17, 42, 180, 0, 44, 21, 4, 2, 79, 132, 4, 1, 167, 255, 238, 3, 54, 4, 21, 4, 16, 30]
abbrev dktX7_map_2 : List UInt8 := dkwX7_map_2 ++ dktX7_map_3
def dkwX7_map_1 : List UInt8 := [156, 0, 9, 42, 29, 182, 0, 126, 172, 42, 27, 28, 182, 0, 215, 3, 54, 4, 21, 4, 16, 30]
abbrev dktX7_map_1 : List UInt8 := dkwX7_map_1 ++ dktX7_map_2
def dkwX7_map_0 : List UInt8 := [42, 27, 182, 0, 161, 62, 29, 156, 0, 9, 42, 29, 182, 0, 126, 172, 42, 28, 182, 0, 161, 62, 29]
abbrev dktX7_map_0 : List UInt8 := dkwX7_map_0 ++ dktX7_map_1
theorem dksX7_map_0 : cX7_map.data.toList.drop 0 = dktX7_map_0 := by decide +kernel
theorem dksX7_map_1 : cX7_map.data.toList.drop 23 = dktX7_map_1 := dk_seg dksX7_map_0 23 rfl rfl
theorem dksX7_map_2 : cX7_map.data.toList.drop 45 = dktX7_map_2 := dk_seg dksX7_map_1 22 rfl rfl
theorem dksX7_map_3 : cX7_map.data.toList.drop 69 = dktX7_map_3 := dk_seg dksX7_map_2 24 rfl rfl
theorem dksX7_map_4 : cX7_map.data.toList.drop 93 = dktX7_map_4 := dk_seg dksX7_map_3 24 rfl rfl
theorem dksX7_map_5 : cX7_map.data.toList.drop 116 = dktX7_map_5 := dk_seg dksX7_map_4 23 rfl rfl
theorem dksX7_map_6 : cX7_map.data.toList.drop 139 = dktX7_map_6 := dk_seg dksX7_map_5 23 rfl rfl
theorem dksX7_map_7 : cX7_map.data.toList.drop 162 = dktX7_map_7 := dk_seg dksX7_map_6 23 rfl rfl
theorem dksX7_map_8 : cX7_map.data.toList.drop 185 = dktX7_map_8 := dk_seg dksX7_map_7 23 rfl rfl
theorem dksX7_map_9 : cX7_map.data.toList.drop 207 = dktX7_map_9 := dk_seg dksX7_map_8 22 rfl rfl
theorem dksX7_map_10 : cX7_map.data.toList.drop 231 = dktX7_map_10 := dk_seg dksX7_map_9 24 rfl rfl
theorem dksX7_map_11 : cX7_map.data.toList.drop 254 = dktX7_map_11 := dk_seg dksX7_map_10 23 rfl rfl
theorem dksX7_map_12 : cX7_map.data.toList.drop 278 = dktX7_map_12 := dk_seg dksX7_map_11 24 rfl rfl
theorem dksX7_map_13 : cX7_map.data.toList.drop 302 = dktX7_map_13 := dk_seg dksX7_map_12 24 rfl rfl
theorem dksX7_map_14 : cX7_map.data.toList.drop 325 = dktX7_map_14 := dk_seg dksX7_map_13 23 rfl rfl
theorem dksX7_map_15 : cX7_map.data.toList.drop 348 = dktX7_map_15 := dk_seg dksX7_map_14 23 rfl rfl
theorem dksX7_map_16 : cX7_map.data.toList.drop 370 = dktX7_map_16 := dk_seg dksX7_map_15 22 rfl rfl
theorem dksX7_map_17 : cX7_map.data.toList.drop 394 = dktX7_map_17 := dk_seg dksX7_map_16 24 rfl rfl
theorem dksX7_map_18 : cX7_map.data.toList.drop 418 = dktX7_map_18 := dk_seg dksX7_map_17 24 rfl rfl
theorem dksX7_map_19 : cX7_map.data.toList.drop 441 = dktX7_map_19 := dk_seg dksX7_map_18 23 rfl rfl
theorem dksX7_map_20 : cX7_map.data.toList.drop 463 = dktX7_map_20 := dk_seg dksX7_map_19 22 rfl rfl
theorem dksX7_map_21 : cX7_map.data.toList.drop 487 = dktX7_map_21 := dk_seg dksX7_map_20 24 rfl rfl
theorem dX7_map_0 : decode cX7_map 0 = .ok (.aload_n 0, 1) := dk_42 (dk_at dksX7_map_0 0 rfl rfl)
theorem dX7_map_1 : decode cX7_map 1 = .ok (.iload_n 1, 1) := dk_27 (dk_at dksX7_map_0 1 rfl rfl)
theorem dX7_map_2 : decode cX7_map 2 = .ok (.invokevirtual 161, 3) := dk_182 0 161 (dk_at dksX7_map_0 2 rfl rfl)
theorem dX7_map_5 : decode cX7_map 5 = .ok (.istore_n 3, 1) := dk_62 (dk_at dksX7_map_0 5 rfl rfl)
theorem dX7_map_6 : decode cX7_map 6 = .ok (.iload_n 3, 1) := dk_29 (dk_at dksX7_map_0 6 rfl rfl)
theorem dX7_map_7 : decode cX7_map 7 = .ok (.ifCond .ge 9, 3) := dk_156 0 9 (dk_at dksX7_map_0 7 rfl rfl)
theorem dX7_map_10 : decode cX7_map 10 = .ok (.aload_n 0, 1) := dk_42 (dk_at dksX7_map_0 10 rfl rfl)
theorem dX7_map_11 : decode cX7_map 11 = .ok (.iload_n 3, 1) := dk_29 (dk_at dksX7_map_0 11 rfl rfl)
theorem dX7_map_12 : decode cX7_map 12 = .ok (.invokevirtual 126, 3) := dk_182 0 126 (dk_at dksX7_map_0 12 rfl rfl)
theorem dX7_map_15 : decode cX7_map 15 = .ok (.ireturn, 1) := dk_172 (dk_at dksX7_map_0 15 rfl rfl)
theorem dX7_map_16 : decode cX7_map 16 = .ok (.aload_n 0, 1) := dk_42 (dk_at dksX7_map_0 16 rfl rfl)
theorem dX7_map_17 : decode cX7_map 17 = .ok (.iload_n 2, 1) := dk_28 (dk_at dksX7_map_0 17 rfl rfl)
theorem dX7_map_18 : decode cX7_map 18 = .ok (.invokevirtual 161, 3) := dk_182 0 161 (dk_at dksX7_map_0 18 rfl rfl)
theorem dX7_map_21 : decode cX7_map 21 = .ok (.istore_n 3, 1) := dk_62 (dk_at dksX7_map_0 21 rfl rfl)
theorem dX7_map_22 : decode cX7_map 22 = .ok (.iload_n 3, 1) := dk_29 (dk_at dksX7_map_0 22 rfl rfl)
theorem dX7_map_23 : decode cX7_map 23 = .ok (.ifCond .ge 9, 3) := dk_156 0 9 (dk_at dksX7_map_1 0 rfl rfl)
theorem dX7_map_26 : decode cX7_map 26 = .ok (.aload_n 0, 1) := dk_42 (dk_at dksX7_map_1 3 rfl rfl)
theorem dX7_map_27 : decode cX7_map 27 = .ok (.iload_n 3, 1) := dk_29 (dk_at dksX7_map_1 4 rfl rfl)
theorem dX7_map_28 : decode cX7_map 28 = .ok (.invokevirtual 126, 3) := dk_182 0 126 (dk_at dksX7_map_1 5 rfl rfl)
theorem dX7_map_31 : decode cX7_map 31 = .ok (.ireturn, 1) := dk_172 (dk_at dksX7_map_1 8 rfl rfl)
theorem dX7_map_32 : decode cX7_map 32 = .ok (.aload_n 0, 1) := dk_42 (dk_at dksX7_map_1 9 rfl rfl)
theorem dX7_map_33 : decode cX7_map 33 = .ok (.iload_n 1, 1) := dk_27 (dk_at dksX7_map_1 10 rfl rfl)
theorem dX7_map_34 : decode cX7_map 34 = .ok (.iload_n 2, 1) := dk_28 (dk_at dksX7_map_1 11 rfl rfl)
theorem dX7_map_35 : decode cX7_map 35 = .ok (.invokevirtual 215, 3) := dk_182 0 215 (dk_at dksX7_map_1 12 rfl rfl)
theorem dX7_map_38 : decode cX7_map 38 = .ok (.iconst 0, 1) := dk_3 (dk_at dksX7_map_1 15 rfl rfl)
theorem dX7_map_39 : decode cX7_map 39 = .ok (.istore 4, 2) := dk_54 4 (dk_at dksX7_map_1 16 rfl rfl)
theorem dX7_map_41 : decode cX7_map 41 = .ok (.iload 4, 2) := dk_21 4 (dk_at dksX7_map_1 18 rfl rfl)
theorem dX7_map_43 : decode cX7_map 43 = .ok (.bipush 30, 2) := dk_16 30 (dk_at dksX7_map_1 20 rfl rfl)
theorem dX7_map_45 : decode cX7_map 45 = .ok (.if_icmp .ge 17, 3) := dk_162 0 17 (dk_at dksX7_map_2 0 rfl rfl)
theorem dX7_map_48 : decode cX7_map 48 = .ok (.aload_n 0, 1) := dk_42 (dk_at dksX7_map_2 3 rfl rfl)
theorem dX7_map_49 : decode cX7_map 49 = .ok (.getfield 44, 3) := dk_180 0 44 (dk_at dksX7_map_2 4 rfl rfl)
theorem dX7_map_52 : decode cX7_map 52 = .ok (.iload 4, 2) := dk_21 4 (dk_at dksX7_map_2 7 rfl rfl)
theorem dX7_map_54 : decode cX7_map 54 = .ok (.iconst (-1), 1) := dk_2 (dk_at dksX7_map_2 9 rfl rfl)
theorem dX7_map_55 : decode cX7_map 55 = .ok (.iastore, 1) := dk_79 (dk_at dksX7_map_2 10 rfl rfl)
theorem dX7_map_56 : decode cX7_map 56 = .ok (.iinc 4 1, 3) := dk_132 4 1 (dk_at dksX7_map_2 11 rfl rfl)
theorem dX7_map_59 : decode cX7_map 59 = .ok (.goto (-18), 3) := dk_167 255 238 (dk_at dksX7_map_2 14 rfl rfl)
theorem dX7_map_62 : decode cX7_map 62 = .ok (.iconst 0, 1) := dk_3 (dk_at dksX7_map_2 17 rfl rfl)
theorem dX7_map_63 : decode cX7_map 63 = .ok (.istore 4, 2) := dk_54 4 (dk_at dksX7_map_2 18 rfl rfl)
theorem dX7_map_65 : decode cX7_map 65 = .ok (.iload 4, 2) := dk_21 4 (dk_at dksX7_map_2 20 rfl rfl)
theorem dX7_map_67 : decode cX7_map 67 = .ok (.bipush 30, 2) := dk_16 30 (dk_at dksX7_map_2 22 rfl rfl)
theorem dX7_map_69 : decode cX7_map 69 = .ok (.if_icmp .ge 17, 3) := dk_162 0 17 (dk_at dksX7_map_3 0 rfl rfl)
theorem dX7_map_72 : decode cX7_map 72 = .ok (.aload_n 0, 1) := dk_42 (dk_at dksX7_map_3 3 rfl rfl)
theorem dX7_map_73 : decode cX7_map 73 = .ok (.getfield 47, 3) := dk_180 0 47 (dk_at dksX7_map_3 4 rfl rfl)
theorem dX7_map_76 : decode cX7_map 76 = .ok (.iload 4, 2) := dk_21 4 (dk_at dksX7_map_3 7 rfl rfl)
theorem dX7_map_78 : decode cX7_map 78 = .ok (.iconst (-1), 1) := dk_2 (dk_at dksX7_map_3 9 rfl rfl)
theorem dX7_map_79 : decode cX7_map 79 = .ok (.iastore, 1) := dk_79 (dk_at dksX7_map_3 10 rfl rfl)
theorem dX7_map_80 : decode cX7_map 80 = .ok (.iinc 4 1, 3) := dk_132 4 1 (dk_at dksX7_map_3 11 rfl rfl)
theorem dX7_map_83 : decode cX7_map 83 = .ok (.goto (-18), 3) := dk_167 255 238 (dk_at dksX7_map_3 14 rfl rfl)
theorem dX7_map_86 : decode cX7_map 86 = .ok (.iconst 1, 1) := dk_4 (dk_at dksX7_map_3 17 rfl rfl)
theorem dX7_map_87 : decode cX7_map 87 = .ok (.istore 4, 2) := dk_54 4 (dk_at dksX7_map_3 18 rfl rfl)
theorem dX7_map_89 : decode cX7_map 89 = .ok (.aload_n 0, 1) := dk_42 (dk_at dksX7_map_3 20 rfl rfl)
theorem dX7_map_90 : decode cX7_map 90 = .ok (.getfield 50, 3) := dk_180 0 50 (dk_at dksX7_map_3 21 rfl rfl)
theorem dX7_map_93 : decode cX7_map 93 = .ok (.iconst 0, 1) := dk_3 (dk_at dksX7_map_4 0 rfl rfl)
theorem dX7_map_94 : decode cX7_map 94 = .ok (.iconst 0, 1) := dk_3 (dk_at dksX7_map_4 1 rfl rfl)
theorem dX7_map_95 : decode cX7_map 95 = .ok (.iastore, 1) := dk_79 (dk_at dksX7_map_4 2 rfl rfl)
theorem dX7_map_96 : decode cX7_map 96 = .ok (.aload_n 0, 1) := dk_42 (dk_at dksX7_map_4 3 rfl rfl)
theorem dX7_map_97 : decode cX7_map 97 = .ok (.getfield 53, 3) := dk_180 0 53 (dk_at dksX7_map_4 4 rfl rfl)
theorem dX7_map_100 : decode cX7_map 100 = .ok (.iconst 0, 1) := dk_3 (dk_at dksX7_map_4 7 rfl rfl)
theorem dX7_map_101 : decode cX7_map 101 = .ok (.aload_n 0, 1) := dk_42 (dk_at dksX7_map_4 8 rfl rfl)
theorem dX7_map_102 : decode cX7_map 102 = .ok (.getfield 13, 3) := dk_180 0 13 (dk_at dksX7_map_4 9 rfl rfl)
theorem dX7_map_105 : decode cX7_map 105 = .ok (.iload_n 1, 1) := dk_27 (dk_at dksX7_map_4 12 rfl rfl)
theorem dX7_map_106 : decode cX7_map 106 = .ok (.iaload, 1) := dk_46 (dk_at dksX7_map_4 13 rfl rfl)
theorem dX7_map_107 : decode cX7_map 107 = .ok (.iastore, 1) := dk_79 (dk_at dksX7_map_4 14 rfl rfl)
theorem dX7_map_108 : decode cX7_map 108 = .ok (.aload_n 0, 1) := dk_42 (dk_at dksX7_map_4 15 rfl rfl)
theorem dX7_map_109 : decode cX7_map 109 = .ok (.getfield 56, 3) := dk_180 0 56 (dk_at dksX7_map_4 16 rfl rfl)
theorem dX7_map_112 : decode cX7_map 112 = .ok (.iconst 0, 1) := dk_3 (dk_at dksX7_map_4 19 rfl rfl)
theorem dX7_map_113 : decode cX7_map 113 = .ok (.iconst 0, 1) := dk_3 (dk_at dksX7_map_4 20 rfl rfl)
theorem dX7_map_114 : decode cX7_map 114 = .ok (.iastore, 1) := dk_79 (dk_at dksX7_map_4 21 rfl rfl)
theorem dX7_map_115 : decode cX7_map 115 = .ok (.aload_n 0, 1) := dk_42 (dk_at dksX7_map_4 22 rfl rfl)
theorem dX7_map_116 : decode cX7_map 116 = .ok (.getfield 59, 3) := dk_180 0 59 (dk_at dksX7_map_5 0 rfl rfl)
theorem dX7_map_119 : decode cX7_map 119 = .ok (.iconst 0, 1) := dk_3 (dk_at dksX7_map_5 3 rfl rfl)
theorem dX7_map_120 : decode cX7_map 120 = .ok (.aload_n 0, 1) := dk_42 (dk_at dksX7_map_5 4 rfl rfl)
theorem dX7_map_121 : decode cX7_map 121 = .ok (.getfield 13, 3) := dk_180 0 13 (dk_at dksX7_map_5 5 rfl rfl)
theorem dX7_map_124 : decode cX7_map 124 = .ok (.iload_n 2, 1) := dk_28 (dk_at dksX7_map_5 8 rfl rfl)
theorem dX7_map_125 : decode cX7_map 125 = .ok (.iaload, 1) := dk_46 (dk_at dksX7_map_5 9 rfl rfl)
theorem dX7_map_126 : decode cX7_map 126 = .ok (.iastore, 1) := dk_79 (dk_at dksX7_map_5 10 rfl rfl)
theorem dX7_map_127 : decode cX7_map 127 = .ok (.iload 4, 2) := dk_21 4 (dk_at dksX7_map_5 11 rfl rfl)
theorem dX7_map_129 : decode cX7_map 129 = .ok (.ifCond .le 351, 3) := dk_158 1 95 (dk_at dksX7_map_5 13 rfl rfl)
theorem dX7_map_132 : decode cX7_map 132 = .ok (.iload 4, 2) := dk_21 4 (dk_at dksX7_map_5 16 rfl rfl)
theorem dX7_map_134 : decode cX7_map 134 = .ok (.iconst 1, 1) := dk_4 (dk_at dksX7_map_5 18 rfl rfl)
theorem dX7_map_135 : decode cX7_map 135 = .ok (.isub, 1) := dk_100 (dk_at dksX7_map_5 19 rfl rfl)
theorem dX7_map_136 : decode cX7_map 136 = .ok (.istore 5, 2) := dk_54 5 (dk_at dksX7_map_5 20 rfl rfl)
theorem dX7_map_138 : decode cX7_map 138 = .ok (.aload_n 0, 1) := dk_42 (dk_at dksX7_map_5 22 rfl rfl)
theorem dX7_map_139 : decode cX7_map 139 = .ok (.getfield 50, 3) := dk_180 0 50 (dk_at dksX7_map_6 0 rfl rfl)
theorem dX7_map_142 : decode cX7_map 142 = .ok (.iload 5, 2) := dk_21 5 (dk_at dksX7_map_6 3 rfl rfl)
theorem dX7_map_144 : decode cX7_map 144 = .ok (.iaload, 1) := dk_46 (dk_at dksX7_map_6 5 rfl rfl)
theorem dX7_map_145 : decode cX7_map 145 = .ok (.istore 6, 2) := dk_54 6 (dk_at dksX7_map_6 6 rfl rfl)
theorem dX7_map_147 : decode cX7_map 147 = .ok (.aload_n 0, 1) := dk_42 (dk_at dksX7_map_6 8 rfl rfl)
theorem dX7_map_148 : decode cX7_map 148 = .ok (.getfield 56, 3) := dk_180 0 56 (dk_at dksX7_map_6 9 rfl rfl)
theorem dX7_map_151 : decode cX7_map 151 = .ok (.iload 5, 2) := dk_21 5 (dk_at dksX7_map_6 12 rfl rfl)
theorem dX7_map_153 : decode cX7_map 153 = .ok (.iaload, 1) := dk_46 (dk_at dksX7_map_6 14 rfl rfl)
theorem dX7_map_154 : decode cX7_map 154 = .ok (.istore 7, 2) := dk_54 7 (dk_at dksX7_map_6 15 rfl rfl)
theorem dX7_map_156 : decode cX7_map 156 = .ok (.iload 6, 2) := dk_21 6 (dk_at dksX7_map_6 17 rfl rfl)
theorem dX7_map_158 : decode cX7_map 158 = .ok (.aload_n 0, 1) := dk_42 (dk_at dksX7_map_6 19 rfl rfl)
theorem dX7_map_159 : decode cX7_map 159 = .ok (.getfield 53, 3) := dk_180 0 53 (dk_at dksX7_map_6 20 rfl rfl)
theorem dX7_map_162 : decode cX7_map 162 = .ok (.iload 5, 2) := dk_21 5 (dk_at dksX7_map_7 0 rfl rfl)
theorem dX7_map_164 : decode cX7_map 164 = .ok (.iaload, 1) := dk_46 (dk_at dksX7_map_7 2 rfl rfl)
theorem dX7_map_165 : decode cX7_map 165 = .ok (.iadd, 1) := dk_96 (dk_at dksX7_map_7 3 rfl rfl)
theorem dX7_map_166 : decode cX7_map 166 = .ok (.iconst 1, 1) := dk_4 (dk_at dksX7_map_7 4 rfl rfl)
theorem dX7_map_167 : decode cX7_map 167 = .ok (.isub, 1) := dk_100 (dk_at dksX7_map_7 5 rfl rfl)
theorem dX7_map_168 : decode cX7_map 168 = .ok (.istore 8, 2) := dk_54 8 (dk_at dksX7_map_7 6 rfl rfl)
theorem dX7_map_170 : decode cX7_map 170 = .ok (.iload 7, 2) := dk_21 7 (dk_at dksX7_map_7 8 rfl rfl)
theorem dX7_map_172 : decode cX7_map 172 = .ok (.aload_n 0, 1) := dk_42 (dk_at dksX7_map_7 10 rfl rfl)
theorem dX7_map_173 : decode cX7_map 173 = .ok (.getfield 59, 3) := dk_180 0 59 (dk_at dksX7_map_7 11 rfl rfl)
theorem dX7_map_176 : decode cX7_map 176 = .ok (.iload 5, 2) := dk_21 5 (dk_at dksX7_map_7 14 rfl rfl)
theorem dX7_map_178 : decode cX7_map 178 = .ok (.iaload, 1) := dk_46 (dk_at dksX7_map_7 16 rfl rfl)
theorem dX7_map_179 : decode cX7_map 179 = .ok (.iadd, 1) := dk_96 (dk_at dksX7_map_7 17 rfl rfl)
theorem dX7_map_180 : decode cX7_map 180 = .ok (.iconst 1, 1) := dk_4 (dk_at dksX7_map_7 18 rfl rfl)
theorem dX7_map_181 : decode cX7_map 181 = .ok (.isub, 1) := dk_100 (dk_at dksX7_map_7 19 rfl rfl)
theorem dX7_map_182 : decode cX7_map 182 = .ok (.istore 9, 2) := dk_54 9 (dk_at dksX7_map_7 20 rfl rfl)
theorem dX7_map_184 : decode cX7_map 184 = .ok (.aload_n 0, 1) := dk_42 (dk_at dksX7_map_7 22 rfl rfl)
theorem dX7_map_185 : decode cX7_map 185 = .ok (.getfield 53, 3) := dk_180 0 53 (dk_at dksX7_map_8 0 rfl rfl)
theorem dX7_map_188 : decode cX7_map 188 = .ok (.iload 5, 2) := dk_21 5 (dk_at dksX7_map_8 3 rfl rfl)
theorem dX7_map_190 : decode cX7_map 190 = .ok (.iaload, 1) := dk_46 (dk_at dksX7_map_8 5 rfl rfl)
theorem dX7_map_191 : decode cX7_map 191 = .ok (.ifCond .eq 13, 3) := dk_153 0 13 (dk_at dksX7_map_8 6 rfl rfl)
theorem dX7_map_194 : decode cX7_map 194 = .ok (.aload_n 0, 1) := dk_42 (dk_at dksX7_map_8 9 rfl rfl)
theorem dX7_map_195 : decode cX7_map 195 = .ok (.getfield 59, 3) := dk_180 0 59 (dk_at dksX7_map_8 10 rfl rfl)
theorem dX7_map_198 : decode cX7_map 198 = .ok (.iload 5, 2) := dk_21 5 (dk_at dksX7_map_8 13 rfl rfl)
theorem dX7_map_200 : decode cX7_map 200 = .ok (.iaload, 1) := dk_46 (dk_at dksX7_map_8 15 rfl rfl)
theorem dX7_map_201 : decode cX7_map 201 = .ok (.ifCond .ne 9, 3) := dk_154 0 9 (dk_at dksX7_map_8 16 rfl rfl)
theorem dX7_map_204 : decode cX7_map 204 = .ok (.iinc 4 (-1), 3) := dk_132 4 255 (dk_at dksX7_map_8 19 rfl rfl)
theorem dX7_map_207 : decode cX7_map 207 = .ok (.goto (-80), 3) := dk_167 255 176 (dk_at dksX7_map_9 0 rfl rfl)
theorem dX7_map_210 : decode cX7_map 210 = .ok (.aload_n 0, 1) := dk_42 (dk_at dksX7_map_9 3 rfl rfl)
theorem dX7_map_211 : decode cX7_map 211 = .ok (.getfield 41, 3) := dk_180 0 41 (dk_at dksX7_map_9 4 rfl rfl)
theorem dX7_map_214 : decode cX7_map 214 = .ok (.iload 6, 2) := dk_21 6 (dk_at dksX7_map_9 7 rfl rfl)
theorem dX7_map_216 : decode cX7_map 216 = .ok (.aload_n 0, 1) := dk_42 (dk_at dksX7_map_9 9 rfl rfl)
theorem dX7_map_217 : decode cX7_map 217 = .ok (.getfield 53, 3) := dk_180 0 53 (dk_at dksX7_map_9 10 rfl rfl)
theorem dX7_map_220 : decode cX7_map 220 = .ok (.iload 5, 2) := dk_21 5 (dk_at dksX7_map_9 13 rfl rfl)
theorem dX7_map_222 : decode cX7_map 222 = .ok (.iaload, 1) := dk_46 (dk_at dksX7_map_9 15 rfl rfl)
theorem dX7_map_223 : decode cX7_map 223 = .ok (.iload 7, 2) := dk_21 7 (dk_at dksX7_map_9 16 rfl rfl)
theorem dX7_map_225 : decode cX7_map 225 = .ok (.aload_n 0, 1) := dk_42 (dk_at dksX7_map_9 18 rfl rfl)
theorem dX7_map_226 : decode cX7_map 226 = .ok (.getfield 59, 3) := dk_180 0 59 (dk_at dksX7_map_9 19 rfl rfl)
theorem dX7_map_229 : decode cX7_map 229 = .ok (.iload 5, 2) := dk_21 5 (dk_at dksX7_map_9 22 rfl rfl)
theorem dX7_map_231 : decode cX7_map 231 = .ok (.iaload, 1) := dk_46 (dk_at dksX7_map_10 0 rfl rfl)
theorem dX7_map_232 : decode cX7_map 232 = .ok (.invokestatic 201, 3) := dk_184 0 201 (dk_at dksX7_map_10 1 rfl rfl)
theorem dX7_map_235 : decode cX7_map 235 = .ok (.iaload, 1) := dk_46 (dk_at dksX7_map_10 4 rfl rfl)
theorem dX7_map_236 : decode cX7_map 236 = .ok (.istore 10, 2) := dk_54 10 (dk_at dksX7_map_10 5 rfl rfl)
theorem dX7_map_238 : decode cX7_map 238 = .ok (.aload_n 0, 1) := dk_42 (dk_at dksX7_map_10 7 rfl rfl)
theorem dX7_map_239 : decode cX7_map 239 = .ok (.iload_n 1, 1) := dk_27 (dk_at dksX7_map_10 8 rfl rfl)
theorem dX7_map_240 : decode cX7_map 240 = .ok (.iload_n 2, 1) := dk_28 (dk_at dksX7_map_10 9 rfl rfl)
theorem dX7_map_241 : decode cX7_map 241 = .ok (.iload 6, 2) := dk_21 6 (dk_at dksX7_map_10 10 rfl rfl)
theorem dX7_map_243 : decode cX7_map 243 = .ok (.iload 8, 2) := dk_21 8 (dk_at dksX7_map_10 12 rfl rfl)
theorem dX7_map_245 : decode cX7_map 245 = .ok (.iload 7, 2) := dk_21 7 (dk_at dksX7_map_10 14 rfl rfl)
theorem dX7_map_247 : decode cX7_map 247 = .ok (.iload 9, 2) := dk_21 9 (dk_at dksX7_map_10 16 rfl rfl)
theorem dX7_map_249 : decode cX7_map 249 = .ok (.invokevirtual 208, 3) := dk_182 0 208 (dk_at dksX7_map_10 18 rfl rfl)
theorem dX7_map_252 : decode cX7_map 252 = .ok (.iload 10, 2) := dk_21 10 (dk_at dksX7_map_10 21 rfl rfl)
theorem dX7_map_254 : decode cX7_map 254 = .ok (.if_icmp .ne 158, 3) := dk_160 0 158 (dk_at dksX7_map_11 0 rfl rfl)
theorem dX7_map_257 : decode cX7_map 257 = .ok (.aload_n 0, 1) := dk_42 (dk_at dksX7_map_11 3 rfl rfl)
theorem dX7_map_258 : decode cX7_map 258 = .ok (.getfield 44, 3) := dk_180 0 44 (dk_at dksX7_map_11 4 rfl rfl)
theorem dX7_map_261 : decode cX7_map 261 = .ok (.aload_n 0, 1) := dk_42 (dk_at dksX7_map_11 7 rfl rfl)
theorem dX7_map_262 : decode cX7_map 262 = .ok (.getfield 34, 3) := dk_180 0 34 (dk_at dksX7_map_11 8 rfl rfl)
theorem dX7_map_265 : decode cX7_map 265 = .ok (.iload 8, 2) := dk_21 8 (dk_at dksX7_map_11 11 rfl rfl)
theorem dX7_map_267 : decode cX7_map 267 = .ok (.iaload, 1) := dk_46 (dk_at dksX7_map_11 13 rfl rfl)
theorem dX7_map_268 : decode cX7_map 268 = .ok (.aload_n 0, 1) := dk_42 (dk_at dksX7_map_11 14 rfl rfl)
theorem dX7_map_269 : decode cX7_map 269 = .ok (.getfield 34, 3) := dk_180 0 34 (dk_at dksX7_map_11 15 rfl rfl)
theorem dX7_map_272 : decode cX7_map 272 = .ok (.bipush 30, 2) := dk_16 30 (dk_at dksX7_map_11 18 rfl rfl)
theorem dX7_map_274 : decode cX7_map 274 = .ok (.iload 9, 2) := dk_21 9 (dk_at dksX7_map_11 20 rfl rfl)
theorem dX7_map_276 : decode cX7_map 276 = .ok (.iadd, 1) := dk_96 (dk_at dksX7_map_11 22 rfl rfl)
theorem dX7_map_277 : decode cX7_map 277 = .ok (.iaload, 1) := dk_46 (dk_at dksX7_map_11 23 rfl rfl)
theorem dX7_map_278 : decode cX7_map 278 = .ok (.iastore, 1) := dk_79 (dk_at dksX7_map_12 0 rfl rfl)
theorem dX7_map_279 : decode cX7_map 279 = .ok (.aload_n 0, 1) := dk_42 (dk_at dksX7_map_12 1 rfl rfl)
theorem dX7_map_280 : decode cX7_map 280 = .ok (.getfield 47, 3) := dk_180 0 47 (dk_at dksX7_map_12 2 rfl rfl)
theorem dX7_map_283 : decode cX7_map 283 = .ok (.aload_n 0, 1) := dk_42 (dk_at dksX7_map_12 5 rfl rfl)
theorem dX7_map_284 : decode cX7_map 284 = .ok (.getfield 34, 3) := dk_180 0 34 (dk_at dksX7_map_12 6 rfl rfl)
theorem dX7_map_287 : decode cX7_map 287 = .ok (.bipush 30, 2) := dk_16 30 (dk_at dksX7_map_12 9 rfl rfl)
theorem dX7_map_289 : decode cX7_map 289 = .ok (.iload 9, 2) := dk_21 9 (dk_at dksX7_map_12 11 rfl rfl)
theorem dX7_map_291 : decode cX7_map 291 = .ok (.iadd, 1) := dk_96 (dk_at dksX7_map_12 13 rfl rfl)
theorem dX7_map_292 : decode cX7_map 292 = .ok (.iaload, 1) := dk_46 (dk_at dksX7_map_12 14 rfl rfl)
theorem dX7_map_293 : decode cX7_map 293 = .ok (.aload_n 0, 1) := dk_42 (dk_at dksX7_map_12 15 rfl rfl)
theorem dX7_map_294 : decode cX7_map 294 = .ok (.getfield 34, 3) := dk_180 0 34 (dk_at dksX7_map_12 16 rfl rfl)
theorem dX7_map_297 : decode cX7_map 297 = .ok (.iload 8, 2) := dk_21 8 (dk_at dksX7_map_12 19 rfl rfl)
theorem dX7_map_299 : decode cX7_map 299 = .ok (.iaload, 1) := dk_46 (dk_at dksX7_map_12 21 rfl rfl)
theorem dX7_map_300 : decode cX7_map 300 = .ok (.iastore, 1) := dk_79 (dk_at dksX7_map_12 22 rfl rfl)
theorem dX7_map_301 : decode cX7_map 301 = .ok (.aload_n 0, 1) := dk_42 (dk_at dksX7_map_12 23 rfl rfl)
theorem dX7_map_302 : decode cX7_map 302 = .ok (.getfield 53, 3) := dk_180 0 53 (dk_at dksX7_map_13 0 rfl rfl)
theorem dX7_map_305 : decode cX7_map 305 = .ok (.iload 5, 2) := dk_21 5 (dk_at dksX7_map_13 3 rfl rfl)
theorem dX7_map_307 : decode cX7_map 307 = .ok (.aload_n 0, 1) := dk_42 (dk_at dksX7_map_13 5 rfl rfl)
theorem dX7_map_308 : decode cX7_map 308 = .ok (.getfield 37, 3) := dk_180 0 37 (dk_at dksX7_map_13 6 rfl rfl)
theorem dX7_map_311 : decode cX7_map 311 = .ok (.iload 8, 2) := dk_21 8 (dk_at dksX7_map_13 9 rfl rfl)
theorem dX7_map_313 : decode cX7_map 313 = .ok (.iaload, 1) := dk_46 (dk_at dksX7_map_13 11 rfl rfl)
theorem dX7_map_314 : decode cX7_map 314 = .ok (.iload 6, 2) := dk_21 6 (dk_at dksX7_map_13 12 rfl rfl)
theorem dX7_map_316 : decode cX7_map 316 = .ok (.isub, 1) := dk_100 (dk_at dksX7_map_13 14 rfl rfl)
theorem dX7_map_317 : decode cX7_map 317 = .ok (.iastore, 1) := dk_79 (dk_at dksX7_map_13 15 rfl rfl)
theorem dX7_map_318 : decode cX7_map 318 = .ok (.aload_n 0, 1) := dk_42 (dk_at dksX7_map_13 16 rfl rfl)
theorem dX7_map_319 : decode cX7_map 319 = .ok (.getfield 59, 3) := dk_180 0 59 (dk_at dksX7_map_13 17 rfl rfl)
theorem dX7_map_322 : decode cX7_map 322 = .ok (.iload 5, 2) := dk_21 5 (dk_at dksX7_map_13 20 rfl rfl)
theorem dX7_map_324 : decode cX7_map 324 = .ok (.aload_n 0, 1) := dk_42 (dk_at dksX7_map_13 22 rfl rfl)
theorem dX7_map_325 : decode cX7_map 325 = .ok (.getfield 37, 3) := dk_180 0 37 (dk_at dksX7_map_14 0 rfl rfl)
theorem dX7_map_328 : decode cX7_map 328 = .ok (.bipush 30, 2) := dk_16 30 (dk_at dksX7_map_14 3 rfl rfl)
theorem dX7_map_330 : decode cX7_map 330 = .ok (.iload 9, 2) := dk_21 9 (dk_at dksX7_map_14 5 rfl rfl)
theorem dX7_map_332 : decode cX7_map 332 = .ok (.iadd, 1) := dk_96 (dk_at dksX7_map_14 7 rfl rfl)
theorem dX7_map_333 : decode cX7_map 333 = .ok (.iaload, 1) := dk_46 (dk_at dksX7_map_14 8 rfl rfl)
theorem dX7_map_334 : decode cX7_map 334 = .ok (.iload 7, 2) := dk_21 7 (dk_at dksX7_map_14 9 rfl rfl)
theorem dX7_map_336 : decode cX7_map 336 = .ok (.isub, 1) := dk_100 (dk_at dksX7_map_14 11 rfl rfl)
theorem dX7_map_337 : decode cX7_map 337 = .ok (.iastore, 1) := dk_79 (dk_at dksX7_map_14 12 rfl rfl)
theorem dX7_map_338 : decode cX7_map 338 = .ok (.aload_n 0, 1) := dk_42 (dk_at dksX7_map_14 13 rfl rfl)
theorem dX7_map_339 : decode cX7_map 339 = .ok (.getfield 50, 3) := dk_180 0 50 (dk_at dksX7_map_14 14 rfl rfl)
theorem dX7_map_342 : decode cX7_map 342 = .ok (.iload 4, 2) := dk_21 4 (dk_at dksX7_map_14 17 rfl rfl)
theorem dX7_map_344 : decode cX7_map 344 = .ok (.aload_n 0, 1) := dk_42 (dk_at dksX7_map_14 19 rfl rfl)
theorem dX7_map_345 : decode cX7_map 345 = .ok (.getfield 37, 3) := dk_180 0 37 (dk_at dksX7_map_14 20 rfl rfl)
theorem dX7_map_348 : decode cX7_map 348 = .ok (.iload 8, 2) := dk_21 8 (dk_at dksX7_map_15 0 rfl rfl)
theorem dX7_map_350 : decode cX7_map 350 = .ok (.iaload, 1) := dk_46 (dk_at dksX7_map_15 2 rfl rfl)
theorem dX7_map_351 : decode cX7_map 351 = .ok (.iastore, 1) := dk_79 (dk_at dksX7_map_15 3 rfl rfl)
theorem dX7_map_352 : decode cX7_map 352 = .ok (.aload_n 0, 1) := dk_42 (dk_at dksX7_map_15 4 rfl rfl)
theorem dX7_map_353 : decode cX7_map 353 = .ok (.getfield 53, 3) := dk_180 0 53 (dk_at dksX7_map_15 5 rfl rfl)
theorem dX7_map_356 : decode cX7_map 356 = .ok (.iload 4, 2) := dk_21 4 (dk_at dksX7_map_15 8 rfl rfl)
theorem dX7_map_358 : decode cX7_map 358 = .ok (.iload 8, 2) := dk_21 8 (dk_at dksX7_map_15 10 rfl rfl)
theorem dX7_map_360 : decode cX7_map 360 = .ok (.aload_n 0, 1) := dk_42 (dk_at dksX7_map_15 12 rfl rfl)
theorem dX7_map_361 : decode cX7_map 361 = .ok (.getfield 37, 3) := dk_180 0 37 (dk_at dksX7_map_15 13 rfl rfl)
theorem dX7_map_364 : decode cX7_map 364 = .ok (.iload 8, 2) := dk_21 8 (dk_at dksX7_map_15 16 rfl rfl)
theorem dX7_map_366 : decode cX7_map 366 = .ok (.iaload, 1) := dk_46 (dk_at dksX7_map_15 18 rfl rfl)
theorem dX7_map_367 : decode cX7_map 367 = .ok (.isub, 1) := dk_100 (dk_at dksX7_map_15 19 rfl rfl)
theorem dX7_map_368 : decode cX7_map 368 = .ok (.iastore, 1) := dk_79 (dk_at dksX7_map_15 20 rfl rfl)
theorem dX7_map_369 : decode cX7_map 369 = .ok (.aload_n 0, 1) := dk_42 (dk_at dksX7_map_15 21 rfl rfl)
theorem dX7_map_370 : decode cX7_map 370 = .ok (.getfield 56, 3) := dk_180 0 56 (dk_at dksX7_map_16 0 rfl rfl)
theorem dX7_map_373 : decode cX7_map 373 = .ok (.iload 4, 2) := dk_21 4 (dk_at dksX7_map_16 3 rfl rfl)
theorem dX7_map_375 : decode cX7_map 375 = .ok (.aload_n 0, 1) := dk_42 (dk_at dksX7_map_16 5 rfl rfl)
theorem dX7_map_376 : decode cX7_map 376 = .ok (.getfield 37, 3) := dk_180 0 37 (dk_at dksX7_map_16 6 rfl rfl)
theorem dX7_map_379 : decode cX7_map 379 = .ok (.bipush 30, 2) := dk_16 30 (dk_at dksX7_map_16 9 rfl rfl)
theorem dX7_map_381 : decode cX7_map 381 = .ok (.iload 9, 2) := dk_21 9 (dk_at dksX7_map_16 11 rfl rfl)
theorem dX7_map_383 : decode cX7_map 383 = .ok (.iadd, 1) := dk_96 (dk_at dksX7_map_16 13 rfl rfl)
theorem dX7_map_384 : decode cX7_map 384 = .ok (.iaload, 1) := dk_46 (dk_at dksX7_map_16 14 rfl rfl)
theorem dX7_map_385 : decode cX7_map 385 = .ok (.iastore, 1) := dk_79 (dk_at dksX7_map_16 15 rfl rfl)
theorem dX7_map_386 : decode cX7_map 386 = .ok (.aload_n 0, 1) := dk_42 (dk_at dksX7_map_16 16 rfl rfl)
theorem dX7_map_387 : decode cX7_map 387 = .ok (.getfield 59, 3) := dk_180 0 59 (dk_at dksX7_map_16 17 rfl rfl)
theorem dX7_map_390 : decode cX7_map 390 = .ok (.iload 4, 2) := dk_21 4 (dk_at dksX7_map_16 20 rfl rfl)
theorem dX7_map_392 : decode cX7_map 392 = .ok (.iload 9, 2) := dk_21 9 (dk_at dksX7_map_16 22 rfl rfl)
theorem dX7_map_394 : decode cX7_map 394 = .ok (.aload_n 0, 1) := dk_42 (dk_at dksX7_map_17 0 rfl rfl)
theorem dX7_map_395 : decode cX7_map 395 = .ok (.getfield 37, 3) := dk_180 0 37 (dk_at dksX7_map_17 1 rfl rfl)
theorem dX7_map_398 : decode cX7_map 398 = .ok (.bipush 30, 2) := dk_16 30 (dk_at dksX7_map_17 4 rfl rfl)
theorem dX7_map_400 : decode cX7_map 400 = .ok (.iload 9, 2) := dk_21 9 (dk_at dksX7_map_17 6 rfl rfl)
theorem dX7_map_402 : decode cX7_map 402 = .ok (.iadd, 1) := dk_96 (dk_at dksX7_map_17 8 rfl rfl)
theorem dX7_map_403 : decode cX7_map 403 = .ok (.iaload, 1) := dk_46 (dk_at dksX7_map_17 9 rfl rfl)
theorem dX7_map_404 : decode cX7_map 404 = .ok (.isub, 1) := dk_100 (dk_at dksX7_map_17 10 rfl rfl)
theorem dX7_map_405 : decode cX7_map 405 = .ok (.iastore, 1) := dk_79 (dk_at dksX7_map_17 11 rfl rfl)
theorem dX7_map_406 : decode cX7_map 406 = .ok (.iinc 4 1, 3) := dk_132 4 1 (dk_at dksX7_map_17 12 rfl rfl)
theorem dX7_map_409 : decode cX7_map 409 = .ok (.goto 68, 3) := dk_167 0 68 (dk_at dksX7_map_17 15 rfl rfl)
theorem dX7_map_412 : decode cX7_map 412 = .ok (.aload_n 0, 1) := dk_42 (dk_at dksX7_map_17 18 rfl rfl)
theorem dX7_map_413 : decode cX7_map 413 = .ok (.getfield 41, 3) := dk_180 0 41 (dk_at dksX7_map_17 19 rfl rfl)
theorem dX7_map_416 : decode cX7_map 416 = .ok (.iload 6, 2) := dk_21 6 (dk_at dksX7_map_17 22 rfl rfl)
theorem dX7_map_418 : decode cX7_map 418 = .ok (.aload_n 0, 1) := dk_42 (dk_at dksX7_map_18 0 rfl rfl)
theorem dX7_map_419 : decode cX7_map 419 = .ok (.getfield 53, 3) := dk_180 0 53 (dk_at dksX7_map_18 1 rfl rfl)
theorem dX7_map_422 : decode cX7_map 422 = .ok (.iload 5, 2) := dk_21 5 (dk_at dksX7_map_18 4 rfl rfl)
theorem dX7_map_424 : decode cX7_map 424 = .ok (.iaload, 1) := dk_46 (dk_at dksX7_map_18 6 rfl rfl)
theorem dX7_map_425 : decode cX7_map 425 = .ok (.iconst 1, 1) := dk_4 (dk_at dksX7_map_18 7 rfl rfl)
theorem dX7_map_426 : decode cX7_map 426 = .ok (.isub, 1) := dk_100 (dk_at dksX7_map_18 8 rfl rfl)
theorem dX7_map_427 : decode cX7_map 427 = .ok (.iload 7, 2) := dk_21 7 (dk_at dksX7_map_18 9 rfl rfl)
theorem dX7_map_429 : decode cX7_map 429 = .ok (.aload_n 0, 1) := dk_42 (dk_at dksX7_map_18 11 rfl rfl)
theorem dX7_map_430 : decode cX7_map 430 = .ok (.getfield 59, 3) := dk_180 0 59 (dk_at dksX7_map_18 12 rfl rfl)
theorem dX7_map_433 : decode cX7_map 433 = .ok (.iload 5, 2) := dk_21 5 (dk_at dksX7_map_18 15 rfl rfl)
theorem dX7_map_435 : decode cX7_map 435 = .ok (.iaload, 1) := dk_46 (dk_at dksX7_map_18 17 rfl rfl)
theorem dX7_map_436 : decode cX7_map 436 = .ok (.invokestatic 201, 3) := dk_184 0 201 (dk_at dksX7_map_18 18 rfl rfl)
theorem dX7_map_439 : decode cX7_map 439 = .ok (.iaload, 1) := dk_46 (dk_at dksX7_map_18 21 rfl rfl)
theorem dX7_map_440 : decode cX7_map 440 = .ok (.aload_n 0, 1) := dk_42 (dk_at dksX7_map_18 22 rfl rfl)
theorem dX7_map_441 : decode cX7_map 441 = .ok (.getfield 22, 3) := dk_180 0 22 (dk_at dksX7_map_19 0 rfl rfl)
theorem dX7_map_444 : decode cX7_map 444 = .ok (.iconst 3, 1) := dk_6 (dk_at dksX7_map_19 3 rfl rfl)
theorem dX7_map_445 : decode cX7_map 445 = .ok (.iaload, 1) := dk_46 (dk_at dksX7_map_19 4 rfl rfl)
theorem dX7_map_446 : decode cX7_map 446 = .ok (.iadd, 1) := dk_96 (dk_at dksX7_map_19 5 rfl rfl)
theorem dX7_map_447 : decode cX7_map 447 = .ok (.iload 10, 2) := dk_21 10 (dk_at dksX7_map_19 6 rfl rfl)
theorem dX7_map_449 : decode cX7_map 449 = .ok (.if_icmp .ne 17, 3) := dk_160 0 17 (dk_at dksX7_map_19 8 rfl rfl)
theorem dX7_map_452 : decode cX7_map 452 = .ok (.aload_n 0, 1) := dk_42 (dk_at dksX7_map_19 11 rfl rfl)
theorem dX7_map_453 : decode cX7_map 453 = .ok (.getfield 53, 3) := dk_180 0 53 (dk_at dksX7_map_19 12 rfl rfl)
theorem dX7_map_456 : decode cX7_map 456 = .ok (.iload 5, 2) := dk_21 5 (dk_at dksX7_map_19 15 rfl rfl)
theorem dX7_map_458 : decode cX7_map 458 = .ok (.dup2, 1) := dk_92 (dk_at dksX7_map_19 17 rfl rfl)
theorem dX7_map_459 : decode cX7_map 459 = .ok (.iaload, 1) := dk_46 (dk_at dksX7_map_19 18 rfl rfl)
theorem dX7_map_460 : decode cX7_map 460 = .ok (.iconst 1, 1) := dk_4 (dk_at dksX7_map_19 19 rfl rfl)
theorem dX7_map_461 : decode cX7_map 461 = .ok (.isub, 1) := dk_100 (dk_at dksX7_map_19 20 rfl rfl)
theorem dX7_map_462 : decode cX7_map 462 = .ok (.iastore, 1) := dk_79 (dk_at dksX7_map_19 21 rfl rfl)
theorem dX7_map_463 : decode cX7_map 463 = .ok (.goto 14, 3) := dk_167 0 14 (dk_at dksX7_map_20 0 rfl rfl)
theorem dX7_map_466 : decode cX7_map 466 = .ok (.aload_n 0, 1) := dk_42 (dk_at dksX7_map_20 3 rfl rfl)
theorem dX7_map_467 : decode cX7_map 467 = .ok (.getfield 59, 3) := dk_180 0 59 (dk_at dksX7_map_20 4 rfl rfl)
theorem dX7_map_470 : decode cX7_map 470 = .ok (.iload 5, 2) := dk_21 5 (dk_at dksX7_map_20 7 rfl rfl)
theorem dX7_map_472 : decode cX7_map 472 = .ok (.dup2, 1) := dk_92 (dk_at dksX7_map_20 9 rfl rfl)
theorem dX7_map_473 : decode cX7_map 473 = .ok (.iaload, 1) := dk_46 (dk_at dksX7_map_20 10 rfl rfl)
theorem dX7_map_474 : decode cX7_map 474 = .ok (.iconst 1, 1) := dk_4 (dk_at dksX7_map_20 11 rfl rfl)
theorem dX7_map_475 : decode cX7_map 475 = .ok (.isub, 1) := dk_100 (dk_at dksX7_map_20 12 rfl rfl)
theorem dX7_map_476 : decode cX7_map 476 = .ok (.iastore, 1) := dk_79 (dk_at dksX7_map_20 13 rfl rfl)
theorem dX7_map_477 : decode cX7_map 477 = .ok (.goto (-350), 3) := dk_167 254 162 (dk_at dksX7_map_20 14 rfl rfl)
theorem dX7_map_480 : decode cX7_map 480 = .ok (.aload_n 0, 1) := dk_42 (dk_at dksX7_map_20 17 rfl rfl)
theorem dX7_map_481 : decode cX7_map 481 = .ok (.iload_n 1, 1) := dk_27 (dk_at dksX7_map_20 18 rfl rfl)
theorem dX7_map_482 : decode cX7_map 482 = .ok (.iload_n 2, 1) := dk_28 (dk_at dksX7_map_20 19 rfl rfl)
theorem dX7_map_483 : decode cX7_map 483 = .ok (.invokevirtual 221, 3) := dk_182 0 221 (dk_at dksX7_map_20 20 rfl rfl)
theorem dX7_map_486 : decode cX7_map 486 = .ok (.aload_n 0, 1) := dk_42 (dk_at dksX7_map_20 23 rfl rfl)
theorem dX7_map_487 : decode cX7_map 487 = .ok (.getfield 224, 3) := dk_180 0 224 (dk_at dksX7_map_21 0 rfl rfl)
theorem dX7_map_490 : decode cX7_map 490 = .ok (.ireturn, 1) := dk_172 (dk_at dksX7_map_21 3 rfl rfl)
abbrev cX7_tells : ByteArray := prog_17_method_52_code
def yX7_tells : MethodName := ⟨RX7, "tells", "(II)V"⟩
def dkwX7_tells_10 : List UInt8 := [46, 3, 182, 0, 104, 182, 0, 227, 132, 3, 1, 167, 255, 206, 177]
abbrev dktX7_tells_10 : List UInt8 := dkwX7_tells_10 ++ []
def dkwX7_tells_9 : List UInt8 := [180, 0, 34, 16, 30, 29, 96, 46, 46, 156, 0, 23, 42, 5, 42, 28, 42, 180, 0, 34, 16, 30, 29, 96]
abbrev dktX7_tells_9 : List UInt8 := dkwX7_tells_9 ++ dktX7_tells_10
def dkwX7_tells_8 : List UInt8 := [132, 3, 1, 167, 255, 133, 3, 62, 29, 42, 180, 0, 13, 28, 46, 162, 0, 46, 42, 180, 0, 47, 42]
abbrev dktX7_tells_8 : List UInt8 := dkwX7_tells_8 ++ dktX7_tells_9
def dkwX7_tells_7 : List UInt8 := [28, 21, 4, 16, 10, 182, 0, 122, 154, 0, 15, 42, 4, 42, 27, 29, 3, 182, 0, 104, 182, 0, 227]
abbrev dktX7_tells_7 : List UInt8 := dkwX7_tells_7 ++ dktX7_tells_8
def dkwX7_tells_6 : List UInt8 := [21, 4, 6, 182, 0, 122, 154, 0, 15, 42, 3, 42, 27, 29, 3, 182, 0, 104, 182, 0, 227, 42, 27, 29]
abbrev dktX7_tells_6 : List UInt8 := dkwX7_tells_6 ++ dktX7_tells_7
def dkwX7_tells_5 : List UInt8 := [42, 28, 21, 4, 3, 182, 0, 104, 79, 42, 89, 180, 0, 224, 4, 96, 181, 0, 224, 42, 27, 29, 28]
abbrev dktX7_tells_5 : List UInt8 := dkwX7_tells_5 ++ dktX7_tells_6
def dkwX7_tells_4 : List UInt8 := [42, 180, 0, 66, 42, 180, 0, 224, 42, 27, 29, 3, 182, 0, 104, 79, 42, 180, 0, 69, 42, 180, 0, 224]
abbrev dktX7_tells_4 : List UInt8 := dkwX7_tells_4 ++ dktX7_tells_5
def dkwX7_tells_3 : List UInt8 := [180, 0, 13, 27, 46, 162, 0, 119, 42, 180, 0, 44, 29, 46, 54, 4, 21, 4, 156, 0, 6, 167, 0, 97]
abbrev dktX7_tells_3 : List UInt8 := dkwX7_tells_3 ++ dktX7_tells_4
def dkwX7_tells_2 : List UInt8 := [42, 6, 42, 27, 29, 3, 182, 0, 104, 182, 0, 227, 132, 3, 1, 167, 255, 222, 3, 62, 29, 42]
abbrev dktX7_tells_2 : List UInt8 := dkwX7_tells_2 ++ dktX7_tells_3
def dkwX7_tells_1 : List UInt8 := [181, 0, 62, 3, 62, 29, 42, 180, 0, 13, 27, 46, 162, 0, 30, 42, 180, 0, 44, 29, 46, 156, 0, 15]
abbrev dktX7_tells_1 : List UInt8 := dkwX7_tells_1 ++ dktX7_tells_2
def dkwX7_tells_0 : List UInt8 := [42, 3, 181, 0, 224, 42, 3, 181, 0, 218, 42, 42, 180, 0, 13, 27, 46, 42, 180, 0, 13, 28, 46, 96]
abbrev dktX7_tells_0 : List UInt8 := dkwX7_tells_0 ++ dktX7_tells_1
theorem dksX7_tells_0 : cX7_tells.data.toList.drop 0 = dktX7_tells_0 := by decide +kernel
theorem dksX7_tells_1 : cX7_tells.data.toList.drop 24 = dktX7_tells_1 := dk_seg dksX7_tells_0 24 rfl rfl
theorem dksX7_tells_2 : cX7_tells.data.toList.drop 48 = dktX7_tells_2 := dk_seg dksX7_tells_1 24 rfl rfl
theorem dksX7_tells_3 : cX7_tells.data.toList.drop 70 = dktX7_tells_3 := dk_seg dksX7_tells_2 22 rfl rfl
theorem dksX7_tells_4 : cX7_tells.data.toList.drop 94 = dktX7_tells_4 := dk_seg dksX7_tells_3 24 rfl rfl
theorem dksX7_tells_5 : cX7_tells.data.toList.drop 118 = dktX7_tells_5 := dk_seg dksX7_tells_4 24 rfl rfl
theorem dksX7_tells_6 : cX7_tells.data.toList.drop 141 = dktX7_tells_6 := dk_seg dksX7_tells_5 23 rfl rfl
theorem dksX7_tells_7 : cX7_tells.data.toList.drop 165 = dktX7_tells_7 := dk_seg dksX7_tells_6 24 rfl rfl
theorem dksX7_tells_8 : cX7_tells.data.toList.drop 188 = dktX7_tells_8 := dk_seg dksX7_tells_7 23 rfl rfl
theorem dksX7_tells_9 : cX7_tells.data.toList.drop 211 = dktX7_tells_9 := dk_seg dksX7_tells_8 23 rfl rfl
theorem dksX7_tells_10 : cX7_tells.data.toList.drop 235 = dktX7_tells_10 := dk_seg dksX7_tells_9 24 rfl rfl
theorem dX7_tells_0 : decode cX7_tells 0 = .ok (.aload_n 0, 1) := dk_42 (dk_at dksX7_tells_0 0 rfl rfl)
theorem dX7_tells_1 : decode cX7_tells 1 = .ok (.iconst 0, 1) := dk_3 (dk_at dksX7_tells_0 1 rfl rfl)
theorem dX7_tells_2 : decode cX7_tells 2 = .ok (.putfield 224, 3) := dk_181 0 224 (dk_at dksX7_tells_0 2 rfl rfl)
theorem dX7_tells_5 : decode cX7_tells 5 = .ok (.aload_n 0, 1) := dk_42 (dk_at dksX7_tells_0 5 rfl rfl)
theorem dX7_tells_6 : decode cX7_tells 6 = .ok (.iconst 0, 1) := dk_3 (dk_at dksX7_tells_0 6 rfl rfl)
theorem dX7_tells_7 : decode cX7_tells 7 = .ok (.putfield 218, 3) := dk_181 0 218 (dk_at dksX7_tells_0 7 rfl rfl)
theorem dX7_tells_10 : decode cX7_tells 10 = .ok (.aload_n 0, 1) := dk_42 (dk_at dksX7_tells_0 10 rfl rfl)
theorem dX7_tells_11 : decode cX7_tells 11 = .ok (.aload_n 0, 1) := dk_42 (dk_at dksX7_tells_0 11 rfl rfl)
theorem dX7_tells_12 : decode cX7_tells 12 = .ok (.getfield 13, 3) := dk_180 0 13 (dk_at dksX7_tells_0 12 rfl rfl)
theorem dX7_tells_15 : decode cX7_tells 15 = .ok (.iload_n 1, 1) := dk_27 (dk_at dksX7_tells_0 15 rfl rfl)
theorem dX7_tells_16 : decode cX7_tells 16 = .ok (.iaload, 1) := dk_46 (dk_at dksX7_tells_0 16 rfl rfl)
theorem dX7_tells_17 : decode cX7_tells 17 = .ok (.aload_n 0, 1) := dk_42 (dk_at dksX7_tells_0 17 rfl rfl)
theorem dX7_tells_18 : decode cX7_tells 18 = .ok (.getfield 13, 3) := dk_180 0 13 (dk_at dksX7_tells_0 18 rfl rfl)
theorem dX7_tells_21 : decode cX7_tells 21 = .ok (.iload_n 2, 1) := dk_28 (dk_at dksX7_tells_0 21 rfl rfl)
theorem dX7_tells_22 : decode cX7_tells 22 = .ok (.iaload, 1) := dk_46 (dk_at dksX7_tells_0 22 rfl rfl)
theorem dX7_tells_23 : decode cX7_tells 23 = .ok (.iadd, 1) := dk_96 (dk_at dksX7_tells_0 23 rfl rfl)
theorem dX7_tells_24 : decode cX7_tells 24 = .ok (.putfield 62, 3) := dk_181 0 62 (dk_at dksX7_tells_1 0 rfl rfl)
theorem dX7_tells_27 : decode cX7_tells 27 = .ok (.iconst 0, 1) := dk_3 (dk_at dksX7_tells_1 3 rfl rfl)
theorem dX7_tells_28 : decode cX7_tells 28 = .ok (.istore_n 3, 1) := dk_62 (dk_at dksX7_tells_1 4 rfl rfl)
theorem dX7_tells_29 : decode cX7_tells 29 = .ok (.iload_n 3, 1) := dk_29 (dk_at dksX7_tells_1 5 rfl rfl)
theorem dX7_tells_30 : decode cX7_tells 30 = .ok (.aload_n 0, 1) := dk_42 (dk_at dksX7_tells_1 6 rfl rfl)
theorem dX7_tells_31 : decode cX7_tells 31 = .ok (.getfield 13, 3) := dk_180 0 13 (dk_at dksX7_tells_1 7 rfl rfl)
theorem dX7_tells_34 : decode cX7_tells 34 = .ok (.iload_n 1, 1) := dk_27 (dk_at dksX7_tells_1 10 rfl rfl)
theorem dX7_tells_35 : decode cX7_tells 35 = .ok (.iaload, 1) := dk_46 (dk_at dksX7_tells_1 11 rfl rfl)
theorem dX7_tells_36 : decode cX7_tells 36 = .ok (.if_icmp .ge 30, 3) := dk_162 0 30 (dk_at dksX7_tells_1 12 rfl rfl)
theorem dX7_tells_39 : decode cX7_tells 39 = .ok (.aload_n 0, 1) := dk_42 (dk_at dksX7_tells_1 15 rfl rfl)
theorem dX7_tells_40 : decode cX7_tells 40 = .ok (.getfield 44, 3) := dk_180 0 44 (dk_at dksX7_tells_1 16 rfl rfl)
theorem dX7_tells_43 : decode cX7_tells 43 = .ok (.iload_n 3, 1) := dk_29 (dk_at dksX7_tells_1 19 rfl rfl)
theorem dX7_tells_44 : decode cX7_tells 44 = .ok (.iaload, 1) := dk_46 (dk_at dksX7_tells_1 20 rfl rfl)
theorem dX7_tells_45 : decode cX7_tells 45 = .ok (.ifCond .ge 15, 3) := dk_156 0 15 (dk_at dksX7_tells_1 21 rfl rfl)
theorem dX7_tells_48 : decode cX7_tells 48 = .ok (.aload_n 0, 1) := dk_42 (dk_at dksX7_tells_2 0 rfl rfl)
theorem dX7_tells_49 : decode cX7_tells 49 = .ok (.iconst 3, 1) := dk_6 (dk_at dksX7_tells_2 1 rfl rfl)
theorem dX7_tells_50 : decode cX7_tells 50 = .ok (.aload_n 0, 1) := dk_42 (dk_at dksX7_tells_2 2 rfl rfl)
theorem dX7_tells_51 : decode cX7_tells 51 = .ok (.iload_n 1, 1) := dk_27 (dk_at dksX7_tells_2 3 rfl rfl)
theorem dX7_tells_52 : decode cX7_tells 52 = .ok (.iload_n 3, 1) := dk_29 (dk_at dksX7_tells_2 4 rfl rfl)
theorem dX7_tells_53 : decode cX7_tells 53 = .ok (.iconst 0, 1) := dk_3 (dk_at dksX7_tells_2 5 rfl rfl)
theorem dX7_tells_54 : decode cX7_tells 54 = .ok (.invokevirtual 104, 3) := dk_182 0 104 (dk_at dksX7_tells_2 6 rfl rfl)
theorem dX7_tells_57 : decode cX7_tells 57 = .ok (.invokevirtual 227, 3) := dk_182 0 227 (dk_at dksX7_tells_2 9 rfl rfl)
theorem dX7_tells_60 : decode cX7_tells 60 = .ok (.iinc 3 1, 3) := dk_132 3 1 (dk_at dksX7_tells_2 12 rfl rfl)
theorem dX7_tells_63 : decode cX7_tells 63 = .ok (.goto (-34), 3) := dk_167 255 222 (dk_at dksX7_tells_2 15 rfl rfl)
theorem dX7_tells_66 : decode cX7_tells 66 = .ok (.iconst 0, 1) := dk_3 (dk_at dksX7_tells_2 18 rfl rfl)
theorem dX7_tells_67 : decode cX7_tells 67 = .ok (.istore_n 3, 1) := dk_62 (dk_at dksX7_tells_2 19 rfl rfl)
theorem dX7_tells_68 : decode cX7_tells 68 = .ok (.iload_n 3, 1) := dk_29 (dk_at dksX7_tells_2 20 rfl rfl)
theorem dX7_tells_69 : decode cX7_tells 69 = .ok (.aload_n 0, 1) := dk_42 (dk_at dksX7_tells_2 21 rfl rfl)
theorem dX7_tells_70 : decode cX7_tells 70 = .ok (.getfield 13, 3) := dk_180 0 13 (dk_at dksX7_tells_3 0 rfl rfl)
theorem dX7_tells_73 : decode cX7_tells 73 = .ok (.iload_n 1, 1) := dk_27 (dk_at dksX7_tells_3 3 rfl rfl)
theorem dX7_tells_74 : decode cX7_tells 74 = .ok (.iaload, 1) := dk_46 (dk_at dksX7_tells_3 4 rfl rfl)
theorem dX7_tells_75 : decode cX7_tells 75 = .ok (.if_icmp .ge 119, 3) := dk_162 0 119 (dk_at dksX7_tells_3 5 rfl rfl)
theorem dX7_tells_78 : decode cX7_tells 78 = .ok (.aload_n 0, 1) := dk_42 (dk_at dksX7_tells_3 8 rfl rfl)
theorem dX7_tells_79 : decode cX7_tells 79 = .ok (.getfield 44, 3) := dk_180 0 44 (dk_at dksX7_tells_3 9 rfl rfl)
theorem dX7_tells_82 : decode cX7_tells 82 = .ok (.iload_n 3, 1) := dk_29 (dk_at dksX7_tells_3 12 rfl rfl)
theorem dX7_tells_83 : decode cX7_tells 83 = .ok (.iaload, 1) := dk_46 (dk_at dksX7_tells_3 13 rfl rfl)
theorem dX7_tells_84 : decode cX7_tells 84 = .ok (.istore 4, 2) := dk_54 4 (dk_at dksX7_tells_3 14 rfl rfl)
theorem dX7_tells_86 : decode cX7_tells 86 = .ok (.iload 4, 2) := dk_21 4 (dk_at dksX7_tells_3 16 rfl rfl)
theorem dX7_tells_88 : decode cX7_tells 88 = .ok (.ifCond .ge 6, 3) := dk_156 0 6 (dk_at dksX7_tells_3 18 rfl rfl)
theorem dX7_tells_91 : decode cX7_tells 91 = .ok (.goto 97, 3) := dk_167 0 97 (dk_at dksX7_tells_3 21 rfl rfl)
theorem dX7_tells_94 : decode cX7_tells 94 = .ok (.aload_n 0, 1) := dk_42 (dk_at dksX7_tells_4 0 rfl rfl)
theorem dX7_tells_95 : decode cX7_tells 95 = .ok (.getfield 66, 3) := dk_180 0 66 (dk_at dksX7_tells_4 1 rfl rfl)
theorem dX7_tells_98 : decode cX7_tells 98 = .ok (.aload_n 0, 1) := dk_42 (dk_at dksX7_tells_4 4 rfl rfl)
theorem dX7_tells_99 : decode cX7_tells 99 = .ok (.getfield 224, 3) := dk_180 0 224 (dk_at dksX7_tells_4 5 rfl rfl)
theorem dX7_tells_102 : decode cX7_tells 102 = .ok (.aload_n 0, 1) := dk_42 (dk_at dksX7_tells_4 8 rfl rfl)
theorem dX7_tells_103 : decode cX7_tells 103 = .ok (.iload_n 1, 1) := dk_27 (dk_at dksX7_tells_4 9 rfl rfl)
theorem dX7_tells_104 : decode cX7_tells 104 = .ok (.iload_n 3, 1) := dk_29 (dk_at dksX7_tells_4 10 rfl rfl)
theorem dX7_tells_105 : decode cX7_tells 105 = .ok (.iconst 0, 1) := dk_3 (dk_at dksX7_tells_4 11 rfl rfl)
theorem dX7_tells_106 : decode cX7_tells 106 = .ok (.invokevirtual 104, 3) := dk_182 0 104 (dk_at dksX7_tells_4 12 rfl rfl)
theorem dX7_tells_109 : decode cX7_tells 109 = .ok (.iastore, 1) := dk_79 (dk_at dksX7_tells_4 15 rfl rfl)
theorem dX7_tells_110 : decode cX7_tells 110 = .ok (.aload_n 0, 1) := dk_42 (dk_at dksX7_tells_4 16 rfl rfl)
theorem dX7_tells_111 : decode cX7_tells 111 = .ok (.getfield 69, 3) := dk_180 0 69 (dk_at dksX7_tells_4 17 rfl rfl)
theorem dX7_tells_114 : decode cX7_tells 114 = .ok (.aload_n 0, 1) := dk_42 (dk_at dksX7_tells_4 20 rfl rfl)
theorem dX7_tells_115 : decode cX7_tells 115 = .ok (.getfield 224, 3) := dk_180 0 224 (dk_at dksX7_tells_4 21 rfl rfl)
theorem dX7_tells_118 : decode cX7_tells 118 = .ok (.aload_n 0, 1) := dk_42 (dk_at dksX7_tells_5 0 rfl rfl)
theorem dX7_tells_119 : decode cX7_tells 119 = .ok (.iload_n 2, 1) := dk_28 (dk_at dksX7_tells_5 1 rfl rfl)
theorem dX7_tells_120 : decode cX7_tells 120 = .ok (.iload 4, 2) := dk_21 4 (dk_at dksX7_tells_5 2 rfl rfl)
theorem dX7_tells_122 : decode cX7_tells 122 = .ok (.iconst 0, 1) := dk_3 (dk_at dksX7_tells_5 4 rfl rfl)
theorem dX7_tells_123 : decode cX7_tells 123 = .ok (.invokevirtual 104, 3) := dk_182 0 104 (dk_at dksX7_tells_5 5 rfl rfl)
theorem dX7_tells_126 : decode cX7_tells 126 = .ok (.iastore, 1) := dk_79 (dk_at dksX7_tells_5 8 rfl rfl)
theorem dX7_tells_127 : decode cX7_tells 127 = .ok (.aload_n 0, 1) := dk_42 (dk_at dksX7_tells_5 9 rfl rfl)
theorem dX7_tells_128 : decode cX7_tells 128 = .ok (.dup, 1) := dk_89 (dk_at dksX7_tells_5 10 rfl rfl)
theorem dX7_tells_129 : decode cX7_tells 129 = .ok (.getfield 224, 3) := dk_180 0 224 (dk_at dksX7_tells_5 11 rfl rfl)
theorem dX7_tells_132 : decode cX7_tells 132 = .ok (.iconst 1, 1) := dk_4 (dk_at dksX7_tells_5 14 rfl rfl)
theorem dX7_tells_133 : decode cX7_tells 133 = .ok (.iadd, 1) := dk_96 (dk_at dksX7_tells_5 15 rfl rfl)
theorem dX7_tells_134 : decode cX7_tells 134 = .ok (.putfield 224, 3) := dk_181 0 224 (dk_at dksX7_tells_5 16 rfl rfl)
theorem dX7_tells_137 : decode cX7_tells 137 = .ok (.aload_n 0, 1) := dk_42 (dk_at dksX7_tells_5 19 rfl rfl)
theorem dX7_tells_138 : decode cX7_tells 138 = .ok (.iload_n 1, 1) := dk_27 (dk_at dksX7_tells_5 20 rfl rfl)
theorem dX7_tells_139 : decode cX7_tells 139 = .ok (.iload_n 3, 1) := dk_29 (dk_at dksX7_tells_5 21 rfl rfl)
theorem dX7_tells_140 : decode cX7_tells 140 = .ok (.iload_n 2, 1) := dk_28 (dk_at dksX7_tells_5 22 rfl rfl)
theorem dX7_tells_141 : decode cX7_tells 141 = .ok (.iload 4, 2) := dk_21 4 (dk_at dksX7_tells_6 0 rfl rfl)
theorem dX7_tells_143 : decode cX7_tells 143 = .ok (.iconst 3, 1) := dk_6 (dk_at dksX7_tells_6 2 rfl rfl)
theorem dX7_tells_144 : decode cX7_tells 144 = .ok (.invokevirtual 122, 3) := dk_182 0 122 (dk_at dksX7_tells_6 3 rfl rfl)
theorem dX7_tells_147 : decode cX7_tells 147 = .ok (.ifCond .ne 15, 3) := dk_154 0 15 (dk_at dksX7_tells_6 6 rfl rfl)
theorem dX7_tells_150 : decode cX7_tells 150 = .ok (.aload_n 0, 1) := dk_42 (dk_at dksX7_tells_6 9 rfl rfl)
theorem dX7_tells_151 : decode cX7_tells 151 = .ok (.iconst 0, 1) := dk_3 (dk_at dksX7_tells_6 10 rfl rfl)
theorem dX7_tells_152 : decode cX7_tells 152 = .ok (.aload_n 0, 1) := dk_42 (dk_at dksX7_tells_6 11 rfl rfl)
theorem dX7_tells_153 : decode cX7_tells 153 = .ok (.iload_n 1, 1) := dk_27 (dk_at dksX7_tells_6 12 rfl rfl)
theorem dX7_tells_154 : decode cX7_tells 154 = .ok (.iload_n 3, 1) := dk_29 (dk_at dksX7_tells_6 13 rfl rfl)
theorem dX7_tells_155 : decode cX7_tells 155 = .ok (.iconst 0, 1) := dk_3 (dk_at dksX7_tells_6 14 rfl rfl)
theorem dX7_tells_156 : decode cX7_tells 156 = .ok (.invokevirtual 104, 3) := dk_182 0 104 (dk_at dksX7_tells_6 15 rfl rfl)
theorem dX7_tells_159 : decode cX7_tells 159 = .ok (.invokevirtual 227, 3) := dk_182 0 227 (dk_at dksX7_tells_6 18 rfl rfl)
theorem dX7_tells_162 : decode cX7_tells 162 = .ok (.aload_n 0, 1) := dk_42 (dk_at dksX7_tells_6 21 rfl rfl)
theorem dX7_tells_163 : decode cX7_tells 163 = .ok (.iload_n 1, 1) := dk_27 (dk_at dksX7_tells_6 22 rfl rfl)
theorem dX7_tells_164 : decode cX7_tells 164 = .ok (.iload_n 3, 1) := dk_29 (dk_at dksX7_tells_6 23 rfl rfl)
theorem dX7_tells_165 : decode cX7_tells 165 = .ok (.iload_n 2, 1) := dk_28 (dk_at dksX7_tells_7 0 rfl rfl)
theorem dX7_tells_166 : decode cX7_tells 166 = .ok (.iload 4, 2) := dk_21 4 (dk_at dksX7_tells_7 1 rfl rfl)
theorem dX7_tells_168 : decode cX7_tells 168 = .ok (.bipush 10, 2) := dk_16 10 (dk_at dksX7_tells_7 3 rfl rfl)
theorem dX7_tells_170 : decode cX7_tells 170 = .ok (.invokevirtual 122, 3) := dk_182 0 122 (dk_at dksX7_tells_7 5 rfl rfl)
theorem dX7_tells_173 : decode cX7_tells 173 = .ok (.ifCond .ne 15, 3) := dk_154 0 15 (dk_at dksX7_tells_7 8 rfl rfl)
theorem dX7_tells_176 : decode cX7_tells 176 = .ok (.aload_n 0, 1) := dk_42 (dk_at dksX7_tells_7 11 rfl rfl)
theorem dX7_tells_177 : decode cX7_tells 177 = .ok (.iconst 1, 1) := dk_4 (dk_at dksX7_tells_7 12 rfl rfl)
theorem dX7_tells_178 : decode cX7_tells 178 = .ok (.aload_n 0, 1) := dk_42 (dk_at dksX7_tells_7 13 rfl rfl)
theorem dX7_tells_179 : decode cX7_tells 179 = .ok (.iload_n 1, 1) := dk_27 (dk_at dksX7_tells_7 14 rfl rfl)
theorem dX7_tells_180 : decode cX7_tells 180 = .ok (.iload_n 3, 1) := dk_29 (dk_at dksX7_tells_7 15 rfl rfl)
theorem dX7_tells_181 : decode cX7_tells 181 = .ok (.iconst 0, 1) := dk_3 (dk_at dksX7_tells_7 16 rfl rfl)
theorem dX7_tells_182 : decode cX7_tells 182 = .ok (.invokevirtual 104, 3) := dk_182 0 104 (dk_at dksX7_tells_7 17 rfl rfl)
theorem dX7_tells_185 : decode cX7_tells 185 = .ok (.invokevirtual 227, 3) := dk_182 0 227 (dk_at dksX7_tells_7 20 rfl rfl)
theorem dX7_tells_188 : decode cX7_tells 188 = .ok (.iinc 3 1, 3) := dk_132 3 1 (dk_at dksX7_tells_8 0 rfl rfl)
theorem dX7_tells_191 : decode cX7_tells 191 = .ok (.goto (-123), 3) := dk_167 255 133 (dk_at dksX7_tells_8 3 rfl rfl)
theorem dX7_tells_194 : decode cX7_tells 194 = .ok (.iconst 0, 1) := dk_3 (dk_at dksX7_tells_8 6 rfl rfl)
theorem dX7_tells_195 : decode cX7_tells 195 = .ok (.istore_n 3, 1) := dk_62 (dk_at dksX7_tells_8 7 rfl rfl)
theorem dX7_tells_196 : decode cX7_tells 196 = .ok (.iload_n 3, 1) := dk_29 (dk_at dksX7_tells_8 8 rfl rfl)
theorem dX7_tells_197 : decode cX7_tells 197 = .ok (.aload_n 0, 1) := dk_42 (dk_at dksX7_tells_8 9 rfl rfl)
theorem dX7_tells_198 : decode cX7_tells 198 = .ok (.getfield 13, 3) := dk_180 0 13 (dk_at dksX7_tells_8 10 rfl rfl)
theorem dX7_tells_201 : decode cX7_tells 201 = .ok (.iload_n 2, 1) := dk_28 (dk_at dksX7_tells_8 13 rfl rfl)
theorem dX7_tells_202 : decode cX7_tells 202 = .ok (.iaload, 1) := dk_46 (dk_at dksX7_tells_8 14 rfl rfl)
theorem dX7_tells_203 : decode cX7_tells 203 = .ok (.if_icmp .ge 46, 3) := dk_162 0 46 (dk_at dksX7_tells_8 15 rfl rfl)
theorem dX7_tells_206 : decode cX7_tells 206 = .ok (.aload_n 0, 1) := dk_42 (dk_at dksX7_tells_8 18 rfl rfl)
theorem dX7_tells_207 : decode cX7_tells 207 = .ok (.getfield 47, 3) := dk_180 0 47 (dk_at dksX7_tells_8 19 rfl rfl)
theorem dX7_tells_210 : decode cX7_tells 210 = .ok (.aload_n 0, 1) := dk_42 (dk_at dksX7_tells_8 22 rfl rfl)
theorem dX7_tells_211 : decode cX7_tells 211 = .ok (.getfield 34, 3) := dk_180 0 34 (dk_at dksX7_tells_9 0 rfl rfl)
theorem dX7_tells_214 : decode cX7_tells 214 = .ok (.bipush 30, 2) := dk_16 30 (dk_at dksX7_tells_9 3 rfl rfl)
theorem dX7_tells_216 : decode cX7_tells 216 = .ok (.iload_n 3, 1) := dk_29 (dk_at dksX7_tells_9 5 rfl rfl)
theorem dX7_tells_217 : decode cX7_tells 217 = .ok (.iadd, 1) := dk_96 (dk_at dksX7_tells_9 6 rfl rfl)
theorem dX7_tells_218 : decode cX7_tells 218 = .ok (.iaload, 1) := dk_46 (dk_at dksX7_tells_9 7 rfl rfl)
theorem dX7_tells_219 : decode cX7_tells 219 = .ok (.iaload, 1) := dk_46 (dk_at dksX7_tells_9 8 rfl rfl)
theorem dX7_tells_220 : decode cX7_tells 220 = .ok (.ifCond .ge 23, 3) := dk_156 0 23 (dk_at dksX7_tells_9 9 rfl rfl)
theorem dX7_tells_223 : decode cX7_tells 223 = .ok (.aload_n 0, 1) := dk_42 (dk_at dksX7_tells_9 12 rfl rfl)
theorem dX7_tells_224 : decode cX7_tells 224 = .ok (.iconst 2, 1) := dk_5 (dk_at dksX7_tells_9 13 rfl rfl)
theorem dX7_tells_225 : decode cX7_tells 225 = .ok (.aload_n 0, 1) := dk_42 (dk_at dksX7_tells_9 14 rfl rfl)
theorem dX7_tells_226 : decode cX7_tells 226 = .ok (.iload_n 2, 1) := dk_28 (dk_at dksX7_tells_9 15 rfl rfl)
theorem dX7_tells_227 : decode cX7_tells 227 = .ok (.aload_n 0, 1) := dk_42 (dk_at dksX7_tells_9 16 rfl rfl)
theorem dX7_tells_228 : decode cX7_tells 228 = .ok (.getfield 34, 3) := dk_180 0 34 (dk_at dksX7_tells_9 17 rfl rfl)
theorem dX7_tells_231 : decode cX7_tells 231 = .ok (.bipush 30, 2) := dk_16 30 (dk_at dksX7_tells_9 20 rfl rfl)
theorem dX7_tells_233 : decode cX7_tells 233 = .ok (.iload_n 3, 1) := dk_29 (dk_at dksX7_tells_9 22 rfl rfl)
theorem dX7_tells_234 : decode cX7_tells 234 = .ok (.iadd, 1) := dk_96 (dk_at dksX7_tells_9 23 rfl rfl)
theorem dX7_tells_235 : decode cX7_tells 235 = .ok (.iaload, 1) := dk_46 (dk_at dksX7_tells_10 0 rfl rfl)
theorem dX7_tells_236 : decode cX7_tells 236 = .ok (.iconst 0, 1) := dk_3 (dk_at dksX7_tells_10 1 rfl rfl)
theorem dX7_tells_237 : decode cX7_tells 237 = .ok (.invokevirtual 104, 3) := dk_182 0 104 (dk_at dksX7_tells_10 2 rfl rfl)
theorem dX7_tells_240 : decode cX7_tells 240 = .ok (.invokevirtual 227, 3) := dk_182 0 227 (dk_at dksX7_tells_10 5 rfl rfl)
theorem dX7_tells_243 : decode cX7_tells 243 = .ok (.iinc 3 1, 3) := dk_132 3 1 (dk_at dksX7_tells_10 8 rfl rfl)
theorem dX7_tells_246 : decode cX7_tells 246 = .ok (.goto (-50), 3) := dk_167 255 206 (dk_at dksX7_tells_10 11 rfl rfl)
theorem dX7_tells_249 : decode cX7_tells 249 = .ok (.return_, 1) := dk_177 (dk_at dksX7_tells_10 14 rfl rfl)
abbrev cX7_adds : ByteArray := prog_17_method_50_code
def yX7_adds : MethodName := ⟨RX7, "adds", "(II)V"⟩
def dkwX7_adds_1 : List UInt8 := [42, 180, 0, 218, 42, 180, 0, 22, 27, 46, 79, 42, 89, 180, 0, 218, 4, 96, 181, 0, 218, 177]
abbrev dktX7_adds_1 : List UInt8 := dkwX7_adds_1 ++ []
def dkwX7_adds_0 : List UInt8 := [42, 180, 0, 72, 42, 180, 0, 218, 27, 79, 42, 180, 0, 75, 42, 180, 0, 218, 28, 79, 42, 180, 0, 78]
abbrev dktX7_adds_0 : List UInt8 := dkwX7_adds_0 ++ dktX7_adds_1
theorem dksX7_adds_0 : cX7_adds.data.toList.drop 0 = dktX7_adds_0 := by decide +kernel
theorem dksX7_adds_1 : cX7_adds.data.toList.drop 24 = dktX7_adds_1 := dk_seg dksX7_adds_0 24 rfl rfl
theorem dX7_adds_0 : decode cX7_adds 0 = .ok (.aload_n 0, 1) := dk_42 (dk_at dksX7_adds_0 0 rfl rfl)
theorem dX7_adds_1 : decode cX7_adds 1 = .ok (.getfield 72, 3) := dk_180 0 72 (dk_at dksX7_adds_0 1 rfl rfl)
theorem dX7_adds_4 : decode cX7_adds 4 = .ok (.aload_n 0, 1) := dk_42 (dk_at dksX7_adds_0 4 rfl rfl)
theorem dX7_adds_5 : decode cX7_adds 5 = .ok (.getfield 218, 3) := dk_180 0 218 (dk_at dksX7_adds_0 5 rfl rfl)
theorem dX7_adds_8 : decode cX7_adds 8 = .ok (.iload_n 1, 1) := dk_27 (dk_at dksX7_adds_0 8 rfl rfl)
theorem dX7_adds_9 : decode cX7_adds 9 = .ok (.iastore, 1) := dk_79 (dk_at dksX7_adds_0 9 rfl rfl)
theorem dX7_adds_10 : decode cX7_adds 10 = .ok (.aload_n 0, 1) := dk_42 (dk_at dksX7_adds_0 10 rfl rfl)
theorem dX7_adds_11 : decode cX7_adds 11 = .ok (.getfield 75, 3) := dk_180 0 75 (dk_at dksX7_adds_0 11 rfl rfl)
theorem dX7_adds_14 : decode cX7_adds 14 = .ok (.aload_n 0, 1) := dk_42 (dk_at dksX7_adds_0 14 rfl rfl)
theorem dX7_adds_15 : decode cX7_adds 15 = .ok (.getfield 218, 3) := dk_180 0 218 (dk_at dksX7_adds_0 15 rfl rfl)
theorem dX7_adds_18 : decode cX7_adds 18 = .ok (.iload_n 2, 1) := dk_28 (dk_at dksX7_adds_0 18 rfl rfl)
theorem dX7_adds_19 : decode cX7_adds 19 = .ok (.iastore, 1) := dk_79 (dk_at dksX7_adds_0 19 rfl rfl)
theorem dX7_adds_20 : decode cX7_adds 20 = .ok (.aload_n 0, 1) := dk_42 (dk_at dksX7_adds_0 20 rfl rfl)
theorem dX7_adds_21 : decode cX7_adds 21 = .ok (.getfield 78, 3) := dk_180 0 78 (dk_at dksX7_adds_0 21 rfl rfl)
theorem dX7_adds_24 : decode cX7_adds 24 = .ok (.aload_n 0, 1) := dk_42 (dk_at dksX7_adds_1 0 rfl rfl)
theorem dX7_adds_25 : decode cX7_adds 25 = .ok (.getfield 218, 3) := dk_180 0 218 (dk_at dksX7_adds_1 1 rfl rfl)
theorem dX7_adds_28 : decode cX7_adds 28 = .ok (.aload_n 0, 1) := dk_42 (dk_at dksX7_adds_1 4 rfl rfl)
theorem dX7_adds_29 : decode cX7_adds 29 = .ok (.getfield 22, 3) := dk_180 0 22 (dk_at dksX7_adds_1 5 rfl rfl)
theorem dX7_adds_32 : decode cX7_adds 32 = .ok (.iload_n 1, 1) := dk_27 (dk_at dksX7_adds_1 8 rfl rfl)
theorem dX7_adds_33 : decode cX7_adds 33 = .ok (.iaload, 1) := dk_46 (dk_at dksX7_adds_1 9 rfl rfl)
theorem dX7_adds_34 : decode cX7_adds 34 = .ok (.iastore, 1) := dk_79 (dk_at dksX7_adds_1 10 rfl rfl)
theorem dX7_adds_35 : decode cX7_adds 35 = .ok (.aload_n 0, 1) := dk_42 (dk_at dksX7_adds_1 11 rfl rfl)
theorem dX7_adds_36 : decode cX7_adds 36 = .ok (.dup, 1) := dk_89 (dk_at dksX7_adds_1 12 rfl rfl)
theorem dX7_adds_37 : decode cX7_adds 37 = .ok (.getfield 218, 3) := dk_180 0 218 (dk_at dksX7_adds_1 13 rfl rfl)
theorem dX7_adds_40 : decode cX7_adds 40 = .ok (.iconst 1, 1) := dk_4 (dk_at dksX7_adds_1 16 rfl rfl)
theorem dX7_adds_41 : decode cX7_adds 41 = .ok (.iadd, 1) := dk_96 (dk_at dksX7_adds_1 17 rfl rfl)
theorem dX7_adds_42 : decode cX7_adds 42 = .ok (.putfield 218, 3) := dk_181 0 218 (dk_at dksX7_adds_1 18 rfl rfl)
theorem dX7_adds_45 : decode cX7_adds 45 = .ok (.return_, 1) := dk_177 (dk_at dksX7_adds_1 21 rfl rfl)
abbrev cX7_pair : ByteArray := prog_17_method_53_code
def yX7_pair : MethodName := ⟨RX7, "pair", "(II)I"⟩
def dkwX7_pair_2 : List UInt8 := [167, 0, 8, 42, 2, 182, 0, 126, 172]
abbrev dktX7_pair_2 : List UInt8 := dkwX7_pair_2 ++ []
def dkwX7_pair_1 : List UInt8 := [154, 0, 12, 42, 180, 0, 66, 27, 46, 167, 0, 22, 28, 4, 160, 0, 12, 42, 180, 0, 69, 27, 46]
abbrev dktX7_pair_1 : List UInt8 := dkwX7_pair_1 ++ dktX7_pair_2
def dkwX7_pair_0 : List UInt8 := [27, 3, 42, 180, 0, 224, 4, 100, 184, 0, 96, 154, 0, 10, 42, 16, 250, 182, 0, 126, 172, 28]
abbrev dktX7_pair_0 : List UInt8 := dkwX7_pair_0 ++ dktX7_pair_1
theorem dksX7_pair_0 : cX7_pair.data.toList.drop 0 = dktX7_pair_0 := by decide +kernel
theorem dksX7_pair_1 : cX7_pair.data.toList.drop 22 = dktX7_pair_1 := dk_seg dksX7_pair_0 22 rfl rfl
theorem dksX7_pair_2 : cX7_pair.data.toList.drop 45 = dktX7_pair_2 := dk_seg dksX7_pair_1 23 rfl rfl
theorem dX7_pair_0 : decode cX7_pair 0 = .ok (.iload_n 1, 1) := dk_27 (dk_at dksX7_pair_0 0 rfl rfl)
theorem dX7_pair_1 : decode cX7_pair 1 = .ok (.iconst 0, 1) := dk_3 (dk_at dksX7_pair_0 1 rfl rfl)
theorem dX7_pair_2 : decode cX7_pair 2 = .ok (.aload_n 0, 1) := dk_42 (dk_at dksX7_pair_0 2 rfl rfl)
theorem dX7_pair_3 : decode cX7_pair 3 = .ok (.getfield 224, 3) := dk_180 0 224 (dk_at dksX7_pair_0 3 rfl rfl)
theorem dX7_pair_6 : decode cX7_pair 6 = .ok (.iconst 1, 1) := dk_4 (dk_at dksX7_pair_0 6 rfl rfl)
theorem dX7_pair_7 : decode cX7_pair 7 = .ok (.isub, 1) := dk_100 (dk_at dksX7_pair_0 7 rfl rfl)
theorem dX7_pair_8 : decode cX7_pair 8 = .ok (.invokestatic 96, 3) := dk_184 0 96 (dk_at dksX7_pair_0 8 rfl rfl)
theorem dX7_pair_11 : decode cX7_pair 11 = .ok (.ifCond .ne 10, 3) := dk_154 0 10 (dk_at dksX7_pair_0 11 rfl rfl)
theorem dX7_pair_14 : decode cX7_pair 14 = .ok (.aload_n 0, 1) := dk_42 (dk_at dksX7_pair_0 14 rfl rfl)
theorem dX7_pair_15 : decode cX7_pair 15 = .ok (.bipush (-6), 2) := dk_16 250 (dk_at dksX7_pair_0 15 rfl rfl)
theorem dX7_pair_17 : decode cX7_pair 17 = .ok (.invokevirtual 126, 3) := dk_182 0 126 (dk_at dksX7_pair_0 17 rfl rfl)
theorem dX7_pair_20 : decode cX7_pair 20 = .ok (.ireturn, 1) := dk_172 (dk_at dksX7_pair_0 20 rfl rfl)
theorem dX7_pair_21 : decode cX7_pair 21 = .ok (.iload_n 2, 1) := dk_28 (dk_at dksX7_pair_0 21 rfl rfl)
theorem dX7_pair_22 : decode cX7_pair 22 = .ok (.ifCond .ne 12, 3) := dk_154 0 12 (dk_at dksX7_pair_1 0 rfl rfl)
theorem dX7_pair_25 : decode cX7_pair 25 = .ok (.aload_n 0, 1) := dk_42 (dk_at dksX7_pair_1 3 rfl rfl)
theorem dX7_pair_26 : decode cX7_pair 26 = .ok (.getfield 66, 3) := dk_180 0 66 (dk_at dksX7_pair_1 4 rfl rfl)
theorem dX7_pair_29 : decode cX7_pair 29 = .ok (.iload_n 1, 1) := dk_27 (dk_at dksX7_pair_1 7 rfl rfl)
theorem dX7_pair_30 : decode cX7_pair 30 = .ok (.iaload, 1) := dk_46 (dk_at dksX7_pair_1 8 rfl rfl)
theorem dX7_pair_31 : decode cX7_pair 31 = .ok (.goto 22, 3) := dk_167 0 22 (dk_at dksX7_pair_1 9 rfl rfl)
theorem dX7_pair_34 : decode cX7_pair 34 = .ok (.iload_n 2, 1) := dk_28 (dk_at dksX7_pair_1 12 rfl rfl)
theorem dX7_pair_35 : decode cX7_pair 35 = .ok (.iconst 1, 1) := dk_4 (dk_at dksX7_pair_1 13 rfl rfl)
theorem dX7_pair_36 : decode cX7_pair 36 = .ok (.if_icmp .ne 12, 3) := dk_160 0 12 (dk_at dksX7_pair_1 14 rfl rfl)
theorem dX7_pair_39 : decode cX7_pair 39 = .ok (.aload_n 0, 1) := dk_42 (dk_at dksX7_pair_1 17 rfl rfl)
theorem dX7_pair_40 : decode cX7_pair 40 = .ok (.getfield 69, 3) := dk_180 0 69 (dk_at dksX7_pair_1 18 rfl rfl)
theorem dX7_pair_43 : decode cX7_pair 43 = .ok (.iload_n 1, 1) := dk_27 (dk_at dksX7_pair_1 21 rfl rfl)
theorem dX7_pair_44 : decode cX7_pair 44 = .ok (.iaload, 1) := dk_46 (dk_at dksX7_pair_1 22 rfl rfl)
theorem dX7_pair_45 : decode cX7_pair 45 = .ok (.goto 8, 3) := dk_167 0 8 (dk_at dksX7_pair_2 0 rfl rfl)
theorem dX7_pair_48 : decode cX7_pair 48 = .ok (.aload_n 0, 1) := dk_42 (dk_at dksX7_pair_2 3 rfl rfl)
theorem dX7_pair_49 : decode cX7_pair 49 = .ok (.iconst (-1), 1) := dk_2 (dk_at dksX7_pair_2 4 rfl rfl)
theorem dX7_pair_50 : decode cX7_pair 50 = .ok (.invokevirtual 126, 3) := dk_182 0 126 (dk_at dksX7_pair_2 5 rfl rfl)
theorem dX7_pair_53 : decode cX7_pair 53 = .ok (.ireturn, 1) := dk_172 (dk_at dksX7_pair_2 8 rfl rfl)
abbrev cX7_acts : ByteArray := prog_17_method_54_code
def yX7_acts : MethodName := ⟨RX7, "acts", "()I"⟩
theorem dX7_acts_0 : decode cX7_acts 0 = .ok (.aload_n 0, 1) := by decide +kernel
theorem dX7_acts_1 : decode cX7_acts 1 = .ok (.getfield 218, 3) := by decide +kernel
theorem dX7_acts_4 : decode cX7_acts 4 = .ok (.ireturn, 1) := by decide +kernel
abbrev cX7_act : ByteArray := prog_17_method_55_code
def yX7_act : MethodName := ⟨RX7, "act", "(II)I"⟩
def dkwX7_act_2 : List UInt8 := [167, 0, 22, 28, 5, 160, 0, 12, 42, 180, 0, 78, 27, 46, 167, 0, 8, 42, 2, 182, 0, 126, 172]
abbrev dktX7_act_2 : List UInt8 := dkwX7_act_2 ++ []
def dkwX7_act_1 : List UInt8 := [154, 0, 12, 42, 180, 0, 72, 27, 46, 167, 0, 36, 28, 4, 160, 0, 12, 42, 180, 0, 75, 27, 46]
abbrev dktX7_act_1 : List UInt8 := dkwX7_act_1 ++ dktX7_act_2
def dkwX7_act_0 : List UInt8 := [27, 3, 42, 180, 0, 218, 4, 100, 184, 0, 96, 154, 0, 10, 42, 16, 250, 182, 0, 126, 172, 28]
abbrev dktX7_act_0 : List UInt8 := dkwX7_act_0 ++ dktX7_act_1
theorem dksX7_act_0 : cX7_act.data.toList.drop 0 = dktX7_act_0 := by decide +kernel
theorem dksX7_act_1 : cX7_act.data.toList.drop 22 = dktX7_act_1 := dk_seg dksX7_act_0 22 rfl rfl
theorem dksX7_act_2 : cX7_act.data.toList.drop 45 = dktX7_act_2 := dk_seg dksX7_act_1 23 rfl rfl
theorem dX7_act_0 : decode cX7_act 0 = .ok (.iload_n 1, 1) := dk_27 (dk_at dksX7_act_0 0 rfl rfl)
theorem dX7_act_1 : decode cX7_act 1 = .ok (.iconst 0, 1) := dk_3 (dk_at dksX7_act_0 1 rfl rfl)
theorem dX7_act_2 : decode cX7_act 2 = .ok (.aload_n 0, 1) := dk_42 (dk_at dksX7_act_0 2 rfl rfl)
theorem dX7_act_3 : decode cX7_act 3 = .ok (.getfield 218, 3) := dk_180 0 218 (dk_at dksX7_act_0 3 rfl rfl)
theorem dX7_act_6 : decode cX7_act 6 = .ok (.iconst 1, 1) := dk_4 (dk_at dksX7_act_0 6 rfl rfl)
theorem dX7_act_7 : decode cX7_act 7 = .ok (.isub, 1) := dk_100 (dk_at dksX7_act_0 7 rfl rfl)
theorem dX7_act_8 : decode cX7_act 8 = .ok (.invokestatic 96, 3) := dk_184 0 96 (dk_at dksX7_act_0 8 rfl rfl)
theorem dX7_act_11 : decode cX7_act 11 = .ok (.ifCond .ne 10, 3) := dk_154 0 10 (dk_at dksX7_act_0 11 rfl rfl)
theorem dX7_act_14 : decode cX7_act 14 = .ok (.aload_n 0, 1) := dk_42 (dk_at dksX7_act_0 14 rfl rfl)
theorem dX7_act_15 : decode cX7_act 15 = .ok (.bipush (-6), 2) := dk_16 250 (dk_at dksX7_act_0 15 rfl rfl)
theorem dX7_act_17 : decode cX7_act 17 = .ok (.invokevirtual 126, 3) := dk_182 0 126 (dk_at dksX7_act_0 17 rfl rfl)
theorem dX7_act_20 : decode cX7_act 20 = .ok (.ireturn, 1) := dk_172 (dk_at dksX7_act_0 20 rfl rfl)
theorem dX7_act_21 : decode cX7_act 21 = .ok (.iload_n 2, 1) := dk_28 (dk_at dksX7_act_0 21 rfl rfl)
theorem dX7_act_22 : decode cX7_act 22 = .ok (.ifCond .ne 12, 3) := dk_154 0 12 (dk_at dksX7_act_1 0 rfl rfl)
theorem dX7_act_25 : decode cX7_act 25 = .ok (.aload_n 0, 1) := dk_42 (dk_at dksX7_act_1 3 rfl rfl)
theorem dX7_act_26 : decode cX7_act 26 = .ok (.getfield 72, 3) := dk_180 0 72 (dk_at dksX7_act_1 4 rfl rfl)
theorem dX7_act_29 : decode cX7_act 29 = .ok (.iload_n 1, 1) := dk_27 (dk_at dksX7_act_1 7 rfl rfl)
theorem dX7_act_30 : decode cX7_act 30 = .ok (.iaload, 1) := dk_46 (dk_at dksX7_act_1 8 rfl rfl)
theorem dX7_act_31 : decode cX7_act 31 = .ok (.goto 36, 3) := dk_167 0 36 (dk_at dksX7_act_1 9 rfl rfl)
theorem dX7_act_34 : decode cX7_act 34 = .ok (.iload_n 2, 1) := dk_28 (dk_at dksX7_act_1 12 rfl rfl)
theorem dX7_act_35 : decode cX7_act 35 = .ok (.iconst 1, 1) := dk_4 (dk_at dksX7_act_1 13 rfl rfl)
theorem dX7_act_36 : decode cX7_act 36 = .ok (.if_icmp .ne 12, 3) := dk_160 0 12 (dk_at dksX7_act_1 14 rfl rfl)
theorem dX7_act_39 : decode cX7_act 39 = .ok (.aload_n 0, 1) := dk_42 (dk_at dksX7_act_1 17 rfl rfl)
theorem dX7_act_40 : decode cX7_act 40 = .ok (.getfield 75, 3) := dk_180 0 75 (dk_at dksX7_act_1 18 rfl rfl)
theorem dX7_act_43 : decode cX7_act 43 = .ok (.iload_n 1, 1) := dk_27 (dk_at dksX7_act_1 21 rfl rfl)
theorem dX7_act_44 : decode cX7_act 44 = .ok (.iaload, 1) := dk_46 (dk_at dksX7_act_1 22 rfl rfl)
theorem dX7_act_45 : decode cX7_act 45 = .ok (.goto 22, 3) := dk_167 0 22 (dk_at dksX7_act_2 0 rfl rfl)
theorem dX7_act_48 : decode cX7_act 48 = .ok (.iload_n 2, 1) := dk_28 (dk_at dksX7_act_2 3 rfl rfl)
theorem dX7_act_49 : decode cX7_act 49 = .ok (.iconst 2, 1) := dk_5 (dk_at dksX7_act_2 4 rfl rfl)
theorem dX7_act_50 : decode cX7_act 50 = .ok (.if_icmp .ne 12, 3) := dk_160 0 12 (dk_at dksX7_act_2 5 rfl rfl)
theorem dX7_act_53 : decode cX7_act 53 = .ok (.aload_n 0, 1) := dk_42 (dk_at dksX7_act_2 8 rfl rfl)
theorem dX7_act_54 : decode cX7_act 54 = .ok (.getfield 78, 3) := dk_180 0 78 (dk_at dksX7_act_2 9 rfl rfl)
theorem dX7_act_57 : decode cX7_act 57 = .ok (.iload_n 1, 1) := dk_27 (dk_at dksX7_act_2 12 rfl rfl)
theorem dX7_act_58 : decode cX7_act 58 = .ok (.iaload, 1) := dk_46 (dk_at dksX7_act_2 13 rfl rfl)
theorem dX7_act_59 : decode cX7_act 59 = .ok (.goto 8, 3) := dk_167 0 8 (dk_at dksX7_act_2 14 rfl rfl)
theorem dX7_act_62 : decode cX7_act 62 = .ok (.aload_n 0, 1) := dk_42 (dk_at dksX7_act_2 17 rfl rfl)
theorem dX7_act_63 : decode cX7_act 63 = .ok (.iconst (-1), 1) := dk_2 (dk_at dksX7_act_2 18 rfl rfl)
theorem dX7_act_64 : decode cX7_act 64 = .ok (.invokevirtual 126, 3) := dk_182 0 126 (dk_at dksX7_act_2 19 rfl rfl)
theorem dX7_act_67 : decode cX7_act 67 = .ok (.ireturn, 1) := dk_172 (dk_at dksX7_act_2 22 rfl rfl)
abbrev cX7_like : ByteArray := prog_17_method_56_code
def yX7_like : MethodName := ⟨RX7, "like", "()I"⟩
def dkwX7_like_1 : List UInt8 := [42, 180, 0, 62, 108, 172]
abbrev dktX7_like_1 : List UInt8 := dkwX7_like_1 ++ []
def dkwX7_like_0 : List UInt8 := [42, 180, 0, 62, 156, 0, 12, 42, 16, 250, 182, 0, 126, 167, 0, 16, 17, 0, 200, 42, 180, 0, 224, 104]
abbrev dktX7_like_0 : List UInt8 := dkwX7_like_0 ++ dktX7_like_1
theorem dksX7_like_0 : cX7_like.data.toList.drop 0 = dktX7_like_0 := by decide +kernel
theorem dksX7_like_1 : cX7_like.data.toList.drop 24 = dktX7_like_1 := dk_seg dksX7_like_0 24 rfl rfl
theorem dX7_like_0 : decode cX7_like 0 = .ok (.aload_n 0, 1) := dk_42 (dk_at dksX7_like_0 0 rfl rfl)
theorem dX7_like_1 : decode cX7_like 1 = .ok (.getfield 62, 3) := dk_180 0 62 (dk_at dksX7_like_0 1 rfl rfl)
theorem dX7_like_4 : decode cX7_like 4 = .ok (.ifCond .ge 12, 3) := dk_156 0 12 (dk_at dksX7_like_0 4 rfl rfl)
theorem dX7_like_7 : decode cX7_like 7 = .ok (.aload_n 0, 1) := dk_42 (dk_at dksX7_like_0 7 rfl rfl)
theorem dX7_like_8 : decode cX7_like 8 = .ok (.bipush (-6), 2) := dk_16 250 (dk_at dksX7_like_0 8 rfl rfl)
theorem dX7_like_10 : decode cX7_like 10 = .ok (.invokevirtual 126, 3) := dk_182 0 126 (dk_at dksX7_like_0 10 rfl rfl)
theorem dX7_like_13 : decode cX7_like 13 = .ok (.goto 16, 3) := dk_167 0 16 (dk_at dksX7_like_0 13 rfl rfl)
theorem dX7_like_16 : decode cX7_like 16 = .ok (.sipush 200, 3) := dk_17 0 200 (dk_at dksX7_like_0 16 rfl rfl)
theorem dX7_like_19 : decode cX7_like 19 = .ok (.aload_n 0, 1) := dk_42 (dk_at dksX7_like_0 19 rfl rfl)
theorem dX7_like_20 : decode cX7_like 20 = .ok (.getfield 224, 3) := dk_180 0 224 (dk_at dksX7_like_0 20 rfl rfl)
theorem dX7_like_23 : decode cX7_like 23 = .ok (.imul, 1) := dk_104 (dk_at dksX7_like_0 23 rfl rfl)
theorem dX7_like_24 : decode cX7_like 24 = .ok (.aload_n 0, 1) := dk_42 (dk_at dksX7_like_1 0 rfl rfl)
theorem dX7_like_25 : decode cX7_like 25 = .ok (.getfield 62, 3) := dk_180 0 62 (dk_at dksX7_like_1 1 rfl rfl)
theorem dX7_like_28 : decode cX7_like 28 = .ok (.idiv, 1) := dk_108 (dk_at dksX7_like_1 4 rfl rfl)
theorem dX7_like_29 : decode cX7_like 29 = .ok (.ireturn, 1) := dk_172 (dk_at dksX7_like_1 5 rfl rfl)
abbrev cX7_same : ByteArray := prog_17_method_59_code
def yX7_same : MethodName := ⟨RX7, "same", "(II)I"⟩
def dkwX7_same_2 : List UInt8 := [180, 0, 81, 16, 30, 46, 160, 0, 7, 4, 167, 0, 4, 3, 172]
abbrev dktX7_same_2 : List UInt8 := dkwX7_same_2 ++ []
def dkwX7_same_1 : List UInt8 := [156, 0, 9, 42, 29, 182, 0, 126, 172, 42, 27, 28, 182, 0, 234, 42, 180, 0, 81, 3, 46, 42]
abbrev dktX7_same_1 : List UInt8 := dkwX7_same_1 ++ dktX7_same_2
def dkwX7_same_0 : List UInt8 := [42, 27, 182, 0, 161, 62, 29, 156, 0, 9, 42, 29, 182, 0, 126, 172, 42, 28, 182, 0, 161, 62, 29]
abbrev dktX7_same_0 : List UInt8 := dkwX7_same_0 ++ dktX7_same_1
theorem dksX7_same_0 : cX7_same.data.toList.drop 0 = dktX7_same_0 := by decide +kernel
theorem dksX7_same_1 : cX7_same.data.toList.drop 23 = dktX7_same_1 := dk_seg dksX7_same_0 23 rfl rfl
theorem dksX7_same_2 : cX7_same.data.toList.drop 45 = dktX7_same_2 := dk_seg dksX7_same_1 22 rfl rfl
theorem dX7_same_0 : decode cX7_same 0 = .ok (.aload_n 0, 1) := dk_42 (dk_at dksX7_same_0 0 rfl rfl)
theorem dX7_same_1 : decode cX7_same 1 = .ok (.iload_n 1, 1) := dk_27 (dk_at dksX7_same_0 1 rfl rfl)
theorem dX7_same_2 : decode cX7_same 2 = .ok (.invokevirtual 161, 3) := dk_182 0 161 (dk_at dksX7_same_0 2 rfl rfl)
theorem dX7_same_5 : decode cX7_same 5 = .ok (.istore_n 3, 1) := dk_62 (dk_at dksX7_same_0 5 rfl rfl)
theorem dX7_same_6 : decode cX7_same 6 = .ok (.iload_n 3, 1) := dk_29 (dk_at dksX7_same_0 6 rfl rfl)
theorem dX7_same_7 : decode cX7_same 7 = .ok (.ifCond .ge 9, 3) := dk_156 0 9 (dk_at dksX7_same_0 7 rfl rfl)
theorem dX7_same_10 : decode cX7_same 10 = .ok (.aload_n 0, 1) := dk_42 (dk_at dksX7_same_0 10 rfl rfl)
theorem dX7_same_11 : decode cX7_same 11 = .ok (.iload_n 3, 1) := dk_29 (dk_at dksX7_same_0 11 rfl rfl)
theorem dX7_same_12 : decode cX7_same 12 = .ok (.invokevirtual 126, 3) := dk_182 0 126 (dk_at dksX7_same_0 12 rfl rfl)
theorem dX7_same_15 : decode cX7_same 15 = .ok (.ireturn, 1) := dk_172 (dk_at dksX7_same_0 15 rfl rfl)
theorem dX7_same_16 : decode cX7_same 16 = .ok (.aload_n 0, 1) := dk_42 (dk_at dksX7_same_0 16 rfl rfl)
theorem dX7_same_17 : decode cX7_same 17 = .ok (.iload_n 2, 1) := dk_28 (dk_at dksX7_same_0 17 rfl rfl)
theorem dX7_same_18 : decode cX7_same 18 = .ok (.invokevirtual 161, 3) := dk_182 0 161 (dk_at dksX7_same_0 18 rfl rfl)
theorem dX7_same_21 : decode cX7_same 21 = .ok (.istore_n 3, 1) := dk_62 (dk_at dksX7_same_0 21 rfl rfl)
theorem dX7_same_22 : decode cX7_same 22 = .ok (.iload_n 3, 1) := dk_29 (dk_at dksX7_same_0 22 rfl rfl)
theorem dX7_same_23 : decode cX7_same 23 = .ok (.ifCond .ge 9, 3) := dk_156 0 9 (dk_at dksX7_same_1 0 rfl rfl)
theorem dX7_same_26 : decode cX7_same 26 = .ok (.aload_n 0, 1) := dk_42 (dk_at dksX7_same_1 3 rfl rfl)
theorem dX7_same_27 : decode cX7_same 27 = .ok (.iload_n 3, 1) := dk_29 (dk_at dksX7_same_1 4 rfl rfl)
theorem dX7_same_28 : decode cX7_same 28 = .ok (.invokevirtual 126, 3) := dk_182 0 126 (dk_at dksX7_same_1 5 rfl rfl)
theorem dX7_same_31 : decode cX7_same 31 = .ok (.ireturn, 1) := dk_172 (dk_at dksX7_same_1 8 rfl rfl)
theorem dX7_same_32 : decode cX7_same 32 = .ok (.aload_n 0, 1) := dk_42 (dk_at dksX7_same_1 9 rfl rfl)
theorem dX7_same_33 : decode cX7_same 33 = .ok (.iload_n 1, 1) := dk_27 (dk_at dksX7_same_1 10 rfl rfl)
theorem dX7_same_34 : decode cX7_same 34 = .ok (.iload_n 2, 1) := dk_28 (dk_at dksX7_same_1 11 rfl rfl)
theorem dX7_same_35 : decode cX7_same 35 = .ok (.invokevirtual 234, 3) := dk_182 0 234 (dk_at dksX7_same_1 12 rfl rfl)
theorem dX7_same_38 : decode cX7_same 38 = .ok (.aload_n 0, 1) := dk_42 (dk_at dksX7_same_1 15 rfl rfl)
theorem dX7_same_39 : decode cX7_same 39 = .ok (.getfield 81, 3) := dk_180 0 81 (dk_at dksX7_same_1 16 rfl rfl)
theorem dX7_same_42 : decode cX7_same 42 = .ok (.iconst 0, 1) := dk_3 (dk_at dksX7_same_1 19 rfl rfl)
theorem dX7_same_43 : decode cX7_same 43 = .ok (.iaload, 1) := dk_46 (dk_at dksX7_same_1 20 rfl rfl)
theorem dX7_same_44 : decode cX7_same 44 = .ok (.aload_n 0, 1) := dk_42 (dk_at dksX7_same_1 21 rfl rfl)
theorem dX7_same_45 : decode cX7_same 45 = .ok (.getfield 81, 3) := dk_180 0 81 (dk_at dksX7_same_2 0 rfl rfl)
theorem dX7_same_48 : decode cX7_same 48 = .ok (.bipush 30, 2) := dk_16 30 (dk_at dksX7_same_2 3 rfl rfl)
theorem dX7_same_50 : decode cX7_same 50 = .ok (.iaload, 1) := dk_46 (dk_at dksX7_same_2 5 rfl rfl)
theorem dX7_same_51 : decode cX7_same 51 = .ok (.if_icmp .ne 7, 3) := dk_160 0 7 (dk_at dksX7_same_2 6 rfl rfl)
theorem dX7_same_54 : decode cX7_same 54 = .ok (.iconst 1, 1) := dk_4 (dk_at dksX7_same_2 9 rfl rfl)
theorem dX7_same_55 : decode cX7_same 55 = .ok (.goto 4, 3) := dk_167 0 4 (dk_at dksX7_same_2 10 rfl rfl)
theorem dX7_same_58 : decode cX7_same 58 = .ok (.iconst 0, 1) := dk_3 (dk_at dksX7_same_2 13 rfl rfl)
theorem dX7_same_59 : decode cX7_same 59 = .ok (.ireturn, 1) := dk_172 (dk_at dksX7_same_2 14 rfl rfl)
abbrev cX7_sort : ByteArray := prog_17_method_58_code
def yX7_sort : MethodName := ⟨RX7, "sort", "(II)V"⟩
def dkwX7_sort_9 : List UInt8 := [132, 4, 255, 167, 255, 217, 132, 3, 255, 167, 255, 127, 177]
abbrev dktX7_sort_9 : List UInt8 := dkwX7_sort_9 ++ []
def dkwX7_sort_8 : List UInt8 := [182, 0, 230, 153, 0, 19, 42, 180, 0, 81, 16, 30, 29, 96, 42, 180, 0, 81, 21, 4, 46, 79]
abbrev dktX7_sort_8 : List UInt8 := dkwX7_sort_8 ++ dktX7_sort_9
def dkwX7_sort_7 : List UInt8 := [180, 0, 13, 27, 46, 4, 100, 54, 4, 21, 4, 155, 0, 40, 42, 28, 29, 16, 30, 27, 21, 4, 3]
abbrev dktX7_sort_7 : List UInt8 := dkwX7_sort_7 ++ dktX7_sort_8
def dkwX7_sort_6 : List UInt8 := [16, 30, 29, 96, 42, 180, 0, 81, 16, 30, 21, 4, 96, 46, 79, 132, 4, 255, 167, 255, 212, 42]
abbrev dktX7_sort_6 : List UInt8 := dkwX7_sort_6 ++ dktX7_sort_7
def dkwX7_sort_5 : List UInt8 := [164, 0, 44, 42, 28, 29, 16, 30, 28, 21, 4, 16, 30, 182, 0, 230, 153, 0, 22, 42, 180, 0, 81]
abbrev dktX7_sort_5 : List UInt8 := dkwX7_sort_5 ++ dktX7_sort_6
def dkwX7_sort_4 : List UInt8 := [16, 30, 29, 96, 16, 30, 29, 96, 79, 42, 180, 0, 13, 28, 46, 4, 100, 54, 4, 21, 4, 29]
abbrev dktX7_sort_4 : List UInt8 := dkwX7_sort_4 ++ dktX7_sort_5
def dkwX7_sort_3 : List UInt8 := [132, 3, 255, 167, 255, 193, 42, 180, 0, 13, 28, 46, 4, 100, 62, 29, 155, 0, 131, 42, 180, 0, 81]
abbrev dktX7_sort_3 : List UInt8 := dkwX7_sort_3 ++ dktX7_sort_4
def dkwX7_sort_2 : List UInt8 := [153, 0, 16, 42, 180, 0, 81, 29, 42, 180, 0, 81, 21, 4, 46, 79, 132, 4, 255, 167, 255, 220]
abbrev dktX7_sort_2 : List UInt8 := dkwX7_sort_2 ++ dktX7_sort_3
def dkwX7_sort_1 : List UInt8 := [27, 46, 4, 100, 54, 4, 21, 4, 29, 164, 0, 36, 42, 27, 29, 3, 27, 21, 4, 3, 182, 0, 230]
abbrev dktX7_sort_1 : List UInt8 := dkwX7_sort_1 ++ dktX7_sort_2
def dkwX7_sort_0 : List UInt8 := [42, 180, 0, 13, 27, 46, 4, 100, 62, 29, 155, 0, 65, 42, 180, 0, 81, 29, 29, 79, 42, 180, 0, 13]
abbrev dktX7_sort_0 : List UInt8 := dkwX7_sort_0 ++ dktX7_sort_1
theorem dksX7_sort_0 : cX7_sort.data.toList.drop 0 = dktX7_sort_0 := by decide +kernel
theorem dksX7_sort_1 : cX7_sort.data.toList.drop 24 = dktX7_sort_1 := dk_seg dksX7_sort_0 24 rfl rfl
theorem dksX7_sort_2 : cX7_sort.data.toList.drop 47 = dktX7_sort_2 := dk_seg dksX7_sort_1 23 rfl rfl
theorem dksX7_sort_3 : cX7_sort.data.toList.drop 69 = dktX7_sort_3 := dk_seg dksX7_sort_2 22 rfl rfl
theorem dksX7_sort_4 : cX7_sort.data.toList.drop 92 = dktX7_sort_4 := dk_seg dksX7_sort_3 23 rfl rfl
theorem dksX7_sort_5 : cX7_sort.data.toList.drop 114 = dktX7_sort_5 := dk_seg dksX7_sort_4 22 rfl rfl
theorem dksX7_sort_6 : cX7_sort.data.toList.drop 137 = dktX7_sort_6 := dk_seg dksX7_sort_5 23 rfl rfl
theorem dksX7_sort_7 : cX7_sort.data.toList.drop 159 = dktX7_sort_7 := dk_seg dksX7_sort_6 22 rfl rfl
theorem dksX7_sort_8 : cX7_sort.data.toList.drop 182 = dktX7_sort_8 := dk_seg dksX7_sort_7 23 rfl rfl
theorem dksX7_sort_9 : cX7_sort.data.toList.drop 204 = dktX7_sort_9 := dk_seg dksX7_sort_8 22 rfl rfl
theorem dX7_sort_0 : decode cX7_sort 0 = .ok (.aload_n 0, 1) := dk_42 (dk_at dksX7_sort_0 0 rfl rfl)
theorem dX7_sort_1 : decode cX7_sort 1 = .ok (.getfield 13, 3) := dk_180 0 13 (dk_at dksX7_sort_0 1 rfl rfl)
theorem dX7_sort_4 : decode cX7_sort 4 = .ok (.iload_n 1, 1) := dk_27 (dk_at dksX7_sort_0 4 rfl rfl)
theorem dX7_sort_5 : decode cX7_sort 5 = .ok (.iaload, 1) := dk_46 (dk_at dksX7_sort_0 5 rfl rfl)
theorem dX7_sort_6 : decode cX7_sort 6 = .ok (.iconst 1, 1) := dk_4 (dk_at dksX7_sort_0 6 rfl rfl)
theorem dX7_sort_7 : decode cX7_sort 7 = .ok (.isub, 1) := dk_100 (dk_at dksX7_sort_0 7 rfl rfl)
theorem dX7_sort_8 : decode cX7_sort 8 = .ok (.istore_n 3, 1) := dk_62 (dk_at dksX7_sort_0 8 rfl rfl)
theorem dX7_sort_9 : decode cX7_sort 9 = .ok (.iload_n 3, 1) := dk_29 (dk_at dksX7_sort_0 9 rfl rfl)
theorem dX7_sort_10 : decode cX7_sort 10 = .ok (.ifCond .lt 65, 3) := dk_155 0 65 (dk_at dksX7_sort_0 10 rfl rfl)
theorem dX7_sort_13 : decode cX7_sort 13 = .ok (.aload_n 0, 1) := dk_42 (dk_at dksX7_sort_0 13 rfl rfl)
theorem dX7_sort_14 : decode cX7_sort 14 = .ok (.getfield 81, 3) := dk_180 0 81 (dk_at dksX7_sort_0 14 rfl rfl)
theorem dX7_sort_17 : decode cX7_sort 17 = .ok (.iload_n 3, 1) := dk_29 (dk_at dksX7_sort_0 17 rfl rfl)
theorem dX7_sort_18 : decode cX7_sort 18 = .ok (.iload_n 3, 1) := dk_29 (dk_at dksX7_sort_0 18 rfl rfl)
theorem dX7_sort_19 : decode cX7_sort 19 = .ok (.iastore, 1) := dk_79 (dk_at dksX7_sort_0 19 rfl rfl)
theorem dX7_sort_20 : decode cX7_sort 20 = .ok (.aload_n 0, 1) := dk_42 (dk_at dksX7_sort_0 20 rfl rfl)
theorem dX7_sort_21 : decode cX7_sort 21 = .ok (.getfield 13, 3) := dk_180 0 13 (dk_at dksX7_sort_0 21 rfl rfl)
theorem dX7_sort_24 : decode cX7_sort 24 = .ok (.iload_n 1, 1) := dk_27 (dk_at dksX7_sort_1 0 rfl rfl)
theorem dX7_sort_25 : decode cX7_sort 25 = .ok (.iaload, 1) := dk_46 (dk_at dksX7_sort_1 1 rfl rfl)
theorem dX7_sort_26 : decode cX7_sort 26 = .ok (.iconst 1, 1) := dk_4 (dk_at dksX7_sort_1 2 rfl rfl)
theorem dX7_sort_27 : decode cX7_sort 27 = .ok (.isub, 1) := dk_100 (dk_at dksX7_sort_1 3 rfl rfl)
theorem dX7_sort_28 : decode cX7_sort 28 = .ok (.istore 4, 2) := dk_54 4 (dk_at dksX7_sort_1 4 rfl rfl)
theorem dX7_sort_30 : decode cX7_sort 30 = .ok (.iload 4, 2) := dk_21 4 (dk_at dksX7_sort_1 6 rfl rfl)
theorem dX7_sort_32 : decode cX7_sort 32 = .ok (.iload_n 3, 1) := dk_29 (dk_at dksX7_sort_1 8 rfl rfl)
theorem dX7_sort_33 : decode cX7_sort 33 = .ok (.if_icmp .le 36, 3) := dk_164 0 36 (dk_at dksX7_sort_1 9 rfl rfl)
theorem dX7_sort_36 : decode cX7_sort 36 = .ok (.aload_n 0, 1) := dk_42 (dk_at dksX7_sort_1 12 rfl rfl)
theorem dX7_sort_37 : decode cX7_sort 37 = .ok (.iload_n 1, 1) := dk_27 (dk_at dksX7_sort_1 13 rfl rfl)
theorem dX7_sort_38 : decode cX7_sort 38 = .ok (.iload_n 3, 1) := dk_29 (dk_at dksX7_sort_1 14 rfl rfl)
theorem dX7_sort_39 : decode cX7_sort 39 = .ok (.iconst 0, 1) := dk_3 (dk_at dksX7_sort_1 15 rfl rfl)
theorem dX7_sort_40 : decode cX7_sort 40 = .ok (.iload_n 1, 1) := dk_27 (dk_at dksX7_sort_1 16 rfl rfl)
theorem dX7_sort_41 : decode cX7_sort 41 = .ok (.iload 4, 2) := dk_21 4 (dk_at dksX7_sort_1 17 rfl rfl)
theorem dX7_sort_43 : decode cX7_sort 43 = .ok (.iconst 0, 1) := dk_3 (dk_at dksX7_sort_1 19 rfl rfl)
theorem dX7_sort_44 : decode cX7_sort 44 = .ok (.invokevirtual 230, 3) := dk_182 0 230 (dk_at dksX7_sort_1 20 rfl rfl)
theorem dX7_sort_47 : decode cX7_sort 47 = .ok (.ifCond .eq 16, 3) := dk_153 0 16 (dk_at dksX7_sort_2 0 rfl rfl)
theorem dX7_sort_50 : decode cX7_sort 50 = .ok (.aload_n 0, 1) := dk_42 (dk_at dksX7_sort_2 3 rfl rfl)
theorem dX7_sort_51 : decode cX7_sort 51 = .ok (.getfield 81, 3) := dk_180 0 81 (dk_at dksX7_sort_2 4 rfl rfl)
theorem dX7_sort_54 : decode cX7_sort 54 = .ok (.iload_n 3, 1) := dk_29 (dk_at dksX7_sort_2 7 rfl rfl)
theorem dX7_sort_55 : decode cX7_sort 55 = .ok (.aload_n 0, 1) := dk_42 (dk_at dksX7_sort_2 8 rfl rfl)
theorem dX7_sort_56 : decode cX7_sort 56 = .ok (.getfield 81, 3) := dk_180 0 81 (dk_at dksX7_sort_2 9 rfl rfl)
theorem dX7_sort_59 : decode cX7_sort 59 = .ok (.iload 4, 2) := dk_21 4 (dk_at dksX7_sort_2 12 rfl rfl)
theorem dX7_sort_61 : decode cX7_sort 61 = .ok (.iaload, 1) := dk_46 (dk_at dksX7_sort_2 14 rfl rfl)
theorem dX7_sort_62 : decode cX7_sort 62 = .ok (.iastore, 1) := dk_79 (dk_at dksX7_sort_2 15 rfl rfl)
theorem dX7_sort_63 : decode cX7_sort 63 = .ok (.iinc 4 (-1), 3) := dk_132 4 255 (dk_at dksX7_sort_2 16 rfl rfl)
theorem dX7_sort_66 : decode cX7_sort 66 = .ok (.goto (-36), 3) := dk_167 255 220 (dk_at dksX7_sort_2 19 rfl rfl)
theorem dX7_sort_69 : decode cX7_sort 69 = .ok (.iinc 3 (-1), 3) := dk_132 3 255 (dk_at dksX7_sort_3 0 rfl rfl)
theorem dX7_sort_72 : decode cX7_sort 72 = .ok (.goto (-63), 3) := dk_167 255 193 (dk_at dksX7_sort_3 3 rfl rfl)
theorem dX7_sort_75 : decode cX7_sort 75 = .ok (.aload_n 0, 1) := dk_42 (dk_at dksX7_sort_3 6 rfl rfl)
theorem dX7_sort_76 : decode cX7_sort 76 = .ok (.getfield 13, 3) := dk_180 0 13 (dk_at dksX7_sort_3 7 rfl rfl)
theorem dX7_sort_79 : decode cX7_sort 79 = .ok (.iload_n 2, 1) := dk_28 (dk_at dksX7_sort_3 10 rfl rfl)
theorem dX7_sort_80 : decode cX7_sort 80 = .ok (.iaload, 1) := dk_46 (dk_at dksX7_sort_3 11 rfl rfl)
theorem dX7_sort_81 : decode cX7_sort 81 = .ok (.iconst 1, 1) := dk_4 (dk_at dksX7_sort_3 12 rfl rfl)
theorem dX7_sort_82 : decode cX7_sort 82 = .ok (.isub, 1) := dk_100 (dk_at dksX7_sort_3 13 rfl rfl)
theorem dX7_sort_83 : decode cX7_sort 83 = .ok (.istore_n 3, 1) := dk_62 (dk_at dksX7_sort_3 14 rfl rfl)
theorem dX7_sort_84 : decode cX7_sort 84 = .ok (.iload_n 3, 1) := dk_29 (dk_at dksX7_sort_3 15 rfl rfl)
theorem dX7_sort_85 : decode cX7_sort 85 = .ok (.ifCond .lt 131, 3) := dk_155 0 131 (dk_at dksX7_sort_3 16 rfl rfl)
theorem dX7_sort_88 : decode cX7_sort 88 = .ok (.aload_n 0, 1) := dk_42 (dk_at dksX7_sort_3 19 rfl rfl)
theorem dX7_sort_89 : decode cX7_sort 89 = .ok (.getfield 81, 3) := dk_180 0 81 (dk_at dksX7_sort_3 20 rfl rfl)
theorem dX7_sort_92 : decode cX7_sort 92 = .ok (.bipush 30, 2) := dk_16 30 (dk_at dksX7_sort_4 0 rfl rfl)
theorem dX7_sort_94 : decode cX7_sort 94 = .ok (.iload_n 3, 1) := dk_29 (dk_at dksX7_sort_4 2 rfl rfl)
theorem dX7_sort_95 : decode cX7_sort 95 = .ok (.iadd, 1) := dk_96 (dk_at dksX7_sort_4 3 rfl rfl)
theorem dX7_sort_96 : decode cX7_sort 96 = .ok (.bipush 30, 2) := dk_16 30 (dk_at dksX7_sort_4 4 rfl rfl)
theorem dX7_sort_98 : decode cX7_sort 98 = .ok (.iload_n 3, 1) := dk_29 (dk_at dksX7_sort_4 6 rfl rfl)
theorem dX7_sort_99 : decode cX7_sort 99 = .ok (.iadd, 1) := dk_96 (dk_at dksX7_sort_4 7 rfl rfl)
theorem dX7_sort_100 : decode cX7_sort 100 = .ok (.iastore, 1) := dk_79 (dk_at dksX7_sort_4 8 rfl rfl)
theorem dX7_sort_101 : decode cX7_sort 101 = .ok (.aload_n 0, 1) := dk_42 (dk_at dksX7_sort_4 9 rfl rfl)
theorem dX7_sort_102 : decode cX7_sort 102 = .ok (.getfield 13, 3) := dk_180 0 13 (dk_at dksX7_sort_4 10 rfl rfl)
theorem dX7_sort_105 : decode cX7_sort 105 = .ok (.iload_n 2, 1) := dk_28 (dk_at dksX7_sort_4 13 rfl rfl)
theorem dX7_sort_106 : decode cX7_sort 106 = .ok (.iaload, 1) := dk_46 (dk_at dksX7_sort_4 14 rfl rfl)
theorem dX7_sort_107 : decode cX7_sort 107 = .ok (.iconst 1, 1) := dk_4 (dk_at dksX7_sort_4 15 rfl rfl)
theorem dX7_sort_108 : decode cX7_sort 108 = .ok (.isub, 1) := dk_100 (dk_at dksX7_sort_4 16 rfl rfl)
theorem dX7_sort_109 : decode cX7_sort 109 = .ok (.istore 4, 2) := dk_54 4 (dk_at dksX7_sort_4 17 rfl rfl)
theorem dX7_sort_111 : decode cX7_sort 111 = .ok (.iload 4, 2) := dk_21 4 (dk_at dksX7_sort_4 19 rfl rfl)
theorem dX7_sort_113 : decode cX7_sort 113 = .ok (.iload_n 3, 1) := dk_29 (dk_at dksX7_sort_4 21 rfl rfl)
theorem dX7_sort_114 : decode cX7_sort 114 = .ok (.if_icmp .le 44, 3) := dk_164 0 44 (dk_at dksX7_sort_5 0 rfl rfl)
theorem dX7_sort_117 : decode cX7_sort 117 = .ok (.aload_n 0, 1) := dk_42 (dk_at dksX7_sort_5 3 rfl rfl)
theorem dX7_sort_118 : decode cX7_sort 118 = .ok (.iload_n 2, 1) := dk_28 (dk_at dksX7_sort_5 4 rfl rfl)
theorem dX7_sort_119 : decode cX7_sort 119 = .ok (.iload_n 3, 1) := dk_29 (dk_at dksX7_sort_5 5 rfl rfl)
theorem dX7_sort_120 : decode cX7_sort 120 = .ok (.bipush 30, 2) := dk_16 30 (dk_at dksX7_sort_5 6 rfl rfl)
theorem dX7_sort_122 : decode cX7_sort 122 = .ok (.iload_n 2, 1) := dk_28 (dk_at dksX7_sort_5 8 rfl rfl)
theorem dX7_sort_123 : decode cX7_sort 123 = .ok (.iload 4, 2) := dk_21 4 (dk_at dksX7_sort_5 9 rfl rfl)
theorem dX7_sort_125 : decode cX7_sort 125 = .ok (.bipush 30, 2) := dk_16 30 (dk_at dksX7_sort_5 11 rfl rfl)
theorem dX7_sort_127 : decode cX7_sort 127 = .ok (.invokevirtual 230, 3) := dk_182 0 230 (dk_at dksX7_sort_5 13 rfl rfl)
theorem dX7_sort_130 : decode cX7_sort 130 = .ok (.ifCond .eq 22, 3) := dk_153 0 22 (dk_at dksX7_sort_5 16 rfl rfl)
theorem dX7_sort_133 : decode cX7_sort 133 = .ok (.aload_n 0, 1) := dk_42 (dk_at dksX7_sort_5 19 rfl rfl)
theorem dX7_sort_134 : decode cX7_sort 134 = .ok (.getfield 81, 3) := dk_180 0 81 (dk_at dksX7_sort_5 20 rfl rfl)
theorem dX7_sort_137 : decode cX7_sort 137 = .ok (.bipush 30, 2) := dk_16 30 (dk_at dksX7_sort_6 0 rfl rfl)
theorem dX7_sort_139 : decode cX7_sort 139 = .ok (.iload_n 3, 1) := dk_29 (dk_at dksX7_sort_6 2 rfl rfl)
theorem dX7_sort_140 : decode cX7_sort 140 = .ok (.iadd, 1) := dk_96 (dk_at dksX7_sort_6 3 rfl rfl)
theorem dX7_sort_141 : decode cX7_sort 141 = .ok (.aload_n 0, 1) := dk_42 (dk_at dksX7_sort_6 4 rfl rfl)
theorem dX7_sort_142 : decode cX7_sort 142 = .ok (.getfield 81, 3) := dk_180 0 81 (dk_at dksX7_sort_6 5 rfl rfl)
theorem dX7_sort_145 : decode cX7_sort 145 = .ok (.bipush 30, 2) := dk_16 30 (dk_at dksX7_sort_6 8 rfl rfl)
theorem dX7_sort_147 : decode cX7_sort 147 = .ok (.iload 4, 2) := dk_21 4 (dk_at dksX7_sort_6 10 rfl rfl)
theorem dX7_sort_149 : decode cX7_sort 149 = .ok (.iadd, 1) := dk_96 (dk_at dksX7_sort_6 12 rfl rfl)
theorem dX7_sort_150 : decode cX7_sort 150 = .ok (.iaload, 1) := dk_46 (dk_at dksX7_sort_6 13 rfl rfl)
theorem dX7_sort_151 : decode cX7_sort 151 = .ok (.iastore, 1) := dk_79 (dk_at dksX7_sort_6 14 rfl rfl)
theorem dX7_sort_152 : decode cX7_sort 152 = .ok (.iinc 4 (-1), 3) := dk_132 4 255 (dk_at dksX7_sort_6 15 rfl rfl)
theorem dX7_sort_155 : decode cX7_sort 155 = .ok (.goto (-44), 3) := dk_167 255 212 (dk_at dksX7_sort_6 18 rfl rfl)
theorem dX7_sort_158 : decode cX7_sort 158 = .ok (.aload_n 0, 1) := dk_42 (dk_at dksX7_sort_6 21 rfl rfl)
theorem dX7_sort_159 : decode cX7_sort 159 = .ok (.getfield 13, 3) := dk_180 0 13 (dk_at dksX7_sort_7 0 rfl rfl)
theorem dX7_sort_162 : decode cX7_sort 162 = .ok (.iload_n 1, 1) := dk_27 (dk_at dksX7_sort_7 3 rfl rfl)
theorem dX7_sort_163 : decode cX7_sort 163 = .ok (.iaload, 1) := dk_46 (dk_at dksX7_sort_7 4 rfl rfl)
theorem dX7_sort_164 : decode cX7_sort 164 = .ok (.iconst 1, 1) := dk_4 (dk_at dksX7_sort_7 5 rfl rfl)
theorem dX7_sort_165 : decode cX7_sort 165 = .ok (.isub, 1) := dk_100 (dk_at dksX7_sort_7 6 rfl rfl)
theorem dX7_sort_166 : decode cX7_sort 166 = .ok (.istore 4, 2) := dk_54 4 (dk_at dksX7_sort_7 7 rfl rfl)
theorem dX7_sort_168 : decode cX7_sort 168 = .ok (.iload 4, 2) := dk_21 4 (dk_at dksX7_sort_7 9 rfl rfl)
theorem dX7_sort_170 : decode cX7_sort 170 = .ok (.ifCond .lt 40, 3) := dk_155 0 40 (dk_at dksX7_sort_7 11 rfl rfl)
theorem dX7_sort_173 : decode cX7_sort 173 = .ok (.aload_n 0, 1) := dk_42 (dk_at dksX7_sort_7 14 rfl rfl)
theorem dX7_sort_174 : decode cX7_sort 174 = .ok (.iload_n 2, 1) := dk_28 (dk_at dksX7_sort_7 15 rfl rfl)
theorem dX7_sort_175 : decode cX7_sort 175 = .ok (.iload_n 3, 1) := dk_29 (dk_at dksX7_sort_7 16 rfl rfl)
theorem dX7_sort_176 : decode cX7_sort 176 = .ok (.bipush 30, 2) := dk_16 30 (dk_at dksX7_sort_7 17 rfl rfl)
theorem dX7_sort_178 : decode cX7_sort 178 = .ok (.iload_n 1, 1) := dk_27 (dk_at dksX7_sort_7 19 rfl rfl)
theorem dX7_sort_179 : decode cX7_sort 179 = .ok (.iload 4, 2) := dk_21 4 (dk_at dksX7_sort_7 20 rfl rfl)
theorem dX7_sort_181 : decode cX7_sort 181 = .ok (.iconst 0, 1) := dk_3 (dk_at dksX7_sort_7 22 rfl rfl)
theorem dX7_sort_182 : decode cX7_sort 182 = .ok (.invokevirtual 230, 3) := dk_182 0 230 (dk_at dksX7_sort_8 0 rfl rfl)
theorem dX7_sort_185 : decode cX7_sort 185 = .ok (.ifCond .eq 19, 3) := dk_153 0 19 (dk_at dksX7_sort_8 3 rfl rfl)
theorem dX7_sort_188 : decode cX7_sort 188 = .ok (.aload_n 0, 1) := dk_42 (dk_at dksX7_sort_8 6 rfl rfl)
theorem dX7_sort_189 : decode cX7_sort 189 = .ok (.getfield 81, 3) := dk_180 0 81 (dk_at dksX7_sort_8 7 rfl rfl)
theorem dX7_sort_192 : decode cX7_sort 192 = .ok (.bipush 30, 2) := dk_16 30 (dk_at dksX7_sort_8 10 rfl rfl)
theorem dX7_sort_194 : decode cX7_sort 194 = .ok (.iload_n 3, 1) := dk_29 (dk_at dksX7_sort_8 12 rfl rfl)
theorem dX7_sort_195 : decode cX7_sort 195 = .ok (.iadd, 1) := dk_96 (dk_at dksX7_sort_8 13 rfl rfl)
theorem dX7_sort_196 : decode cX7_sort 196 = .ok (.aload_n 0, 1) := dk_42 (dk_at dksX7_sort_8 14 rfl rfl)
theorem dX7_sort_197 : decode cX7_sort 197 = .ok (.getfield 81, 3) := dk_180 0 81 (dk_at dksX7_sort_8 15 rfl rfl)
theorem dX7_sort_200 : decode cX7_sort 200 = .ok (.iload 4, 2) := dk_21 4 (dk_at dksX7_sort_8 18 rfl rfl)
theorem dX7_sort_202 : decode cX7_sort 202 = .ok (.iaload, 1) := dk_46 (dk_at dksX7_sort_8 20 rfl rfl)
theorem dX7_sort_203 : decode cX7_sort 203 = .ok (.iastore, 1) := dk_79 (dk_at dksX7_sort_8 21 rfl rfl)
theorem dX7_sort_204 : decode cX7_sort 204 = .ok (.iinc 4 (-1), 3) := dk_132 4 255 (dk_at dksX7_sort_9 0 rfl rfl)
theorem dX7_sort_207 : decode cX7_sort 207 = .ok (.goto (-39), 3) := dk_167 255 217 (dk_at dksX7_sort_9 3 rfl rfl)
theorem dX7_sort_210 : decode cX7_sort 210 = .ok (.iinc 3 (-1), 3) := dk_132 3 255 (dk_at dksX7_sort_9 6 rfl rfl)
theorem dX7_sort_213 : decode cX7_sort 213 = .ok (.goto (-129), 3) := dk_167 255 127 (dk_at dksX7_sort_9 9 rfl rfl)
theorem dX7_sort_216 : decode cX7_sort 216 = .ok (.return_, 1) := dk_177 (dk_at dksX7_sort_9 12 rfl rfl)
abbrev cX7_areSame : ByteArray := prog_17_method_57_code
def yX7_areSame : MethodName := ⟨RX7, "areSame", "(IIIIII)Z"⟩
def dkwX7_areSame_13 : List UInt8 := [159, 0, 5, 3, 172, 42, 27, 21, 9, 182, 0, 119, 54, 9, 167, 255, 44, 4, 172]
abbrev dktX7_areSame_13 : List UInt8 := dkwX7_areSame_13 ++ []
def dkwX7_areSame_12 : List UInt8 := [167, 0, 4, 3, 96, 54, 11, 42, 21, 4, 21, 12, 182, 0, 119, 54, 12, 167, 255, 196, 21, 10, 21, 11]
abbrev dktX7_areSame_12 : List UInt8 := dkwX7_areSame_12 ++ dktX7_areSame_13
def dkwX7_areSame_11 : List UInt8 := [180, 0, 81, 21, 6, 21, 12, 96, 46, 42, 180, 0, 81, 29, 21, 9, 96, 46, 160, 0, 7, 4]
abbrev dktX7_areSame_11 : List UInt8 := dkwX7_areSame_11 ++ dktX7_areSame_12
def dkwX7_areSame_10 : List UInt8 := [54, 12, 21, 12, 42, 21, 4, 21, 5, 182, 0, 119, 162, 0, 53, 21, 7, 153, 0, 48, 21, 11, 42]
abbrev dktX7_areSame_10 : List UInt8 := dkwX7_areSame_10 ++ dktX7_areSame_11
def dkwX7_areSame_9 : List UInt8 := [167, 0, 4, 3, 96, 54, 10, 42, 27, 21, 12, 182, 0, 119, 54, 12, 167, 255, 200, 21, 5, 4, 96]
abbrev dktX7_areSame_9 : List UInt8 := dkwX7_areSame_9 ++ dktX7_areSame_10
def dkwX7_areSame_8 : List UInt8 := [21, 10, 42, 180, 0, 81, 29, 21, 12, 96, 46, 42, 180, 0, 81, 29, 21, 9, 96, 46, 160, 0, 7, 4]
abbrev dktX7_areSame_8 : List UInt8 := dkwX7_areSame_8 ++ dktX7_areSame_9
def dkwX7_areSame_7 : List UInt8 := [54, 11, 28, 4, 96, 54, 12, 21, 12, 42, 27, 28, 182, 0, 119, 162, 0, 51, 21, 7, 153, 0, 46]
abbrev dktX7_areSame_7 : List UInt8 := dkwX7_areSame_7 ++ dktX7_areSame_8
def dkwX7_areSame_6 : List UInt8 := [159, 0, 5, 3, 172, 21, 7, 154, 0, 13, 42, 21, 4, 21, 8, 182, 0, 119, 54, 8, 3, 54, 10, 3]
abbrev dktX7_areSame_6 : List UInt8 := dkwX7_areSame_6 ++ dktX7_areSame_7
def dkwX7_areSame_5 : List UInt8 := [21, 7, 154, 0, 27, 42, 180, 0, 81, 29, 21, 9, 96, 46, 42, 180, 0, 81, 21, 6, 21, 8, 96, 46]
abbrev dktX7_areSame_5 : List UInt8 := dkwX7_areSame_5 ++ dktX7_areSame_6
def dkwX7_areSame_4 : List UInt8 := [54, 7, 21, 5, 4, 96, 54, 8, 28, 4, 96, 54, 9, 21, 9, 42, 27, 28, 182, 0, 119, 162, 0, 207]
abbrev dktX7_areSame_4 : List UInt8 := dkwX7_areSame_4 ++ dktX7_areSame_5
def dkwX7_areSame_3 : List UInt8 := [182, 0, 104, 4, 159, 0, 14, 42, 27, 28, 4, 182, 0, 104, 5, 160, 0, 7, 4, 167, 0, 4, 3]
abbrev dktX7_areSame_3 : List UInt8 := dkwX7_areSame_3 ++ dktX7_areSame_4
def dkwX7_areSame_2 : List UInt8 := [42, 27, 28, 182, 0, 175, 42, 21, 4, 21, 5, 182, 0, 175, 159, 0, 5, 3, 172, 42, 27, 28, 4]
abbrev dktX7_areSame_2 : List UInt8 := dkwX7_areSame_2 ++ dktX7_areSame_3
def dkwX7_areSame_1 : List UInt8 := [21, 5, 6, 182, 0, 122, 153, 0, 35, 42, 27, 28, 21, 4, 21, 5, 16, 10, 182, 0, 122, 153, 0, 20]
abbrev dktX7_areSame_1 : List UInt8 := dkwX7_areSame_1 ++ dktX7_areSame_2
def dkwX7_areSame_0 : List UInt8 := [42, 27, 28, 4, 182, 0, 104, 42, 21, 4, 21, 5, 4, 182, 0, 104, 160, 0, 49, 42, 27, 28, 21, 4]
abbrev dktX7_areSame_0 : List UInt8 := dkwX7_areSame_0 ++ dktX7_areSame_1
theorem dksX7_areSame_0 : cX7_areSame.data.toList.drop 0 = dktX7_areSame_0 := by decide +kernel
theorem dksX7_areSame_1 : cX7_areSame.data.toList.drop 24 = dktX7_areSame_1 := dk_seg dksX7_areSame_0 24 rfl rfl
theorem dksX7_areSame_2 : cX7_areSame.data.toList.drop 48 = dktX7_areSame_2 := dk_seg dksX7_areSame_1 24 rfl rfl
theorem dksX7_areSame_3 : cX7_areSame.data.toList.drop 71 = dktX7_areSame_3 := dk_seg dksX7_areSame_2 23 rfl rfl
theorem dksX7_areSame_4 : cX7_areSame.data.toList.drop 94 = dktX7_areSame_4 := dk_seg dksX7_areSame_3 23 rfl rfl
theorem dksX7_areSame_5 : cX7_areSame.data.toList.drop 118 = dktX7_areSame_5 := dk_seg dksX7_areSame_4 24 rfl rfl
theorem dksX7_areSame_6 : cX7_areSame.data.toList.drop 142 = dktX7_areSame_6 := dk_seg dksX7_areSame_5 24 rfl rfl
theorem dksX7_areSame_7 : cX7_areSame.data.toList.drop 166 = dktX7_areSame_7 := dk_seg dksX7_areSame_6 24 rfl rfl
theorem dksX7_areSame_8 : cX7_areSame.data.toList.drop 189 = dktX7_areSame_8 := dk_seg dksX7_areSame_7 23 rfl rfl
theorem dksX7_areSame_9 : cX7_areSame.data.toList.drop 213 = dktX7_areSame_9 := dk_seg dksX7_areSame_8 24 rfl rfl
theorem dksX7_areSame_10 : cX7_areSame.data.toList.drop 236 = dktX7_areSame_10 := dk_seg dksX7_areSame_9 23 rfl rfl
theorem dksX7_areSame_11 : cX7_areSame.data.toList.drop 259 = dktX7_areSame_11 := dk_seg dksX7_areSame_10 23 rfl rfl
theorem dksX7_areSame_12 : cX7_areSame.data.toList.drop 281 = dktX7_areSame_12 := dk_seg dksX7_areSame_11 22 rfl rfl
theorem dksX7_areSame_13 : cX7_areSame.data.toList.drop 305 = dktX7_areSame_13 := dk_seg dksX7_areSame_12 24 rfl rfl
theorem dX7_areSame_0 : decode cX7_areSame 0 = .ok (.aload_n 0, 1) := dk_42 (dk_at dksX7_areSame_0 0 rfl rfl)
theorem dX7_areSame_1 : decode cX7_areSame 1 = .ok (.iload_n 1, 1) := dk_27 (dk_at dksX7_areSame_0 1 rfl rfl)
theorem dX7_areSame_2 : decode cX7_areSame 2 = .ok (.iload_n 2, 1) := dk_28 (dk_at dksX7_areSame_0 2 rfl rfl)
theorem dX7_areSame_3 : decode cX7_areSame 3 = .ok (.iconst 1, 1) := dk_4 (dk_at dksX7_areSame_0 3 rfl rfl)
theorem dX7_areSame_4 : decode cX7_areSame 4 = .ok (.invokevirtual 104, 3) := dk_182 0 104 (dk_at dksX7_areSame_0 4 rfl rfl)
theorem dX7_areSame_7 : decode cX7_areSame 7 = .ok (.aload_n 0, 1) := dk_42 (dk_at dksX7_areSame_0 7 rfl rfl)
theorem dX7_areSame_8 : decode cX7_areSame 8 = .ok (.iload 4, 2) := dk_21 4 (dk_at dksX7_areSame_0 8 rfl rfl)
theorem dX7_areSame_10 : decode cX7_areSame 10 = .ok (.iload 5, 2) := dk_21 5 (dk_at dksX7_areSame_0 10 rfl rfl)
theorem dX7_areSame_12 : decode cX7_areSame 12 = .ok (.iconst 1, 1) := dk_4 (dk_at dksX7_areSame_0 12 rfl rfl)
theorem dX7_areSame_13 : decode cX7_areSame 13 = .ok (.invokevirtual 104, 3) := dk_182 0 104 (dk_at dksX7_areSame_0 13 rfl rfl)
theorem dX7_areSame_16 : decode cX7_areSame 16 = .ok (.if_icmp .ne 49, 3) := dk_160 0 49 (dk_at dksX7_areSame_0 16 rfl rfl)
theorem dX7_areSame_19 : decode cX7_areSame 19 = .ok (.aload_n 0, 1) := dk_42 (dk_at dksX7_areSame_0 19 rfl rfl)
theorem dX7_areSame_20 : decode cX7_areSame 20 = .ok (.iload_n 1, 1) := dk_27 (dk_at dksX7_areSame_0 20 rfl rfl)
theorem dX7_areSame_21 : decode cX7_areSame 21 = .ok (.iload_n 2, 1) := dk_28 (dk_at dksX7_areSame_0 21 rfl rfl)
theorem dX7_areSame_22 : decode cX7_areSame 22 = .ok (.iload 4, 2) := dk_21 4 (dk_at dksX7_areSame_0 22 rfl rfl)
theorem dX7_areSame_24 : decode cX7_areSame 24 = .ok (.iload 5, 2) := dk_21 5 (dk_at dksX7_areSame_1 0 rfl rfl)
theorem dX7_areSame_26 : decode cX7_areSame 26 = .ok (.iconst 3, 1) := dk_6 (dk_at dksX7_areSame_1 2 rfl rfl)
theorem dX7_areSame_27 : decode cX7_areSame 27 = .ok (.invokevirtual 122, 3) := dk_182 0 122 (dk_at dksX7_areSame_1 3 rfl rfl)
theorem dX7_areSame_30 : decode cX7_areSame 30 = .ok (.ifCond .eq 35, 3) := dk_153 0 35 (dk_at dksX7_areSame_1 6 rfl rfl)
theorem dX7_areSame_33 : decode cX7_areSame 33 = .ok (.aload_n 0, 1) := dk_42 (dk_at dksX7_areSame_1 9 rfl rfl)
theorem dX7_areSame_34 : decode cX7_areSame 34 = .ok (.iload_n 1, 1) := dk_27 (dk_at dksX7_areSame_1 10 rfl rfl)
theorem dX7_areSame_35 : decode cX7_areSame 35 = .ok (.iload_n 2, 1) := dk_28 (dk_at dksX7_areSame_1 11 rfl rfl)
theorem dX7_areSame_36 : decode cX7_areSame 36 = .ok (.iload 4, 2) := dk_21 4 (dk_at dksX7_areSame_1 12 rfl rfl)
theorem dX7_areSame_38 : decode cX7_areSame 38 = .ok (.iload 5, 2) := dk_21 5 (dk_at dksX7_areSame_1 14 rfl rfl)
theorem dX7_areSame_40 : decode cX7_areSame 40 = .ok (.bipush 10, 2) := dk_16 10 (dk_at dksX7_areSame_1 16 rfl rfl)
theorem dX7_areSame_42 : decode cX7_areSame 42 = .ok (.invokevirtual 122, 3) := dk_182 0 122 (dk_at dksX7_areSame_1 18 rfl rfl)
theorem dX7_areSame_45 : decode cX7_areSame 45 = .ok (.ifCond .eq 20, 3) := dk_153 0 20 (dk_at dksX7_areSame_1 21 rfl rfl)
theorem dX7_areSame_48 : decode cX7_areSame 48 = .ok (.aload_n 0, 1) := dk_42 (dk_at dksX7_areSame_2 0 rfl rfl)
theorem dX7_areSame_49 : decode cX7_areSame 49 = .ok (.iload_n 1, 1) := dk_27 (dk_at dksX7_areSame_2 1 rfl rfl)
theorem dX7_areSame_50 : decode cX7_areSame 50 = .ok (.iload_n 2, 1) := dk_28 (dk_at dksX7_areSame_2 2 rfl rfl)
theorem dX7_areSame_51 : decode cX7_areSame 51 = .ok (.invokevirtual 175, 3) := dk_182 0 175 (dk_at dksX7_areSame_2 3 rfl rfl)
theorem dX7_areSame_54 : decode cX7_areSame 54 = .ok (.aload_n 0, 1) := dk_42 (dk_at dksX7_areSame_2 6 rfl rfl)
theorem dX7_areSame_55 : decode cX7_areSame 55 = .ok (.iload 4, 2) := dk_21 4 (dk_at dksX7_areSame_2 7 rfl rfl)
theorem dX7_areSame_57 : decode cX7_areSame 57 = .ok (.iload 5, 2) := dk_21 5 (dk_at dksX7_areSame_2 9 rfl rfl)
theorem dX7_areSame_59 : decode cX7_areSame 59 = .ok (.invokevirtual 175, 3) := dk_182 0 175 (dk_at dksX7_areSame_2 11 rfl rfl)
theorem dX7_areSame_62 : decode cX7_areSame 62 = .ok (.if_icmp .eq 5, 3) := dk_159 0 5 (dk_at dksX7_areSame_2 14 rfl rfl)
theorem dX7_areSame_65 : decode cX7_areSame 65 = .ok (.iconst 0, 1) := dk_3 (dk_at dksX7_areSame_2 17 rfl rfl)
theorem dX7_areSame_66 : decode cX7_areSame 66 = .ok (.ireturn, 1) := dk_172 (dk_at dksX7_areSame_2 18 rfl rfl)
theorem dX7_areSame_67 : decode cX7_areSame 67 = .ok (.aload_n 0, 1) := dk_42 (dk_at dksX7_areSame_2 19 rfl rfl)
theorem dX7_areSame_68 : decode cX7_areSame 68 = .ok (.iload_n 1, 1) := dk_27 (dk_at dksX7_areSame_2 20 rfl rfl)
theorem dX7_areSame_69 : decode cX7_areSame 69 = .ok (.iload_n 2, 1) := dk_28 (dk_at dksX7_areSame_2 21 rfl rfl)
theorem dX7_areSame_70 : decode cX7_areSame 70 = .ok (.iconst 1, 1) := dk_4 (dk_at dksX7_areSame_2 22 rfl rfl)
theorem dX7_areSame_71 : decode cX7_areSame 71 = .ok (.invokevirtual 104, 3) := dk_182 0 104 (dk_at dksX7_areSame_3 0 rfl rfl)
theorem dX7_areSame_74 : decode cX7_areSame 74 = .ok (.iconst 1, 1) := dk_4 (dk_at dksX7_areSame_3 3 rfl rfl)
theorem dX7_areSame_75 : decode cX7_areSame 75 = .ok (.if_icmp .eq 14, 3) := dk_159 0 14 (dk_at dksX7_areSame_3 4 rfl rfl)
theorem dX7_areSame_78 : decode cX7_areSame 78 = .ok (.aload_n 0, 1) := dk_42 (dk_at dksX7_areSame_3 7 rfl rfl)
theorem dX7_areSame_79 : decode cX7_areSame 79 = .ok (.iload_n 1, 1) := dk_27 (dk_at dksX7_areSame_3 8 rfl rfl)
theorem dX7_areSame_80 : decode cX7_areSame 80 = .ok (.iload_n 2, 1) := dk_28 (dk_at dksX7_areSame_3 9 rfl rfl)
theorem dX7_areSame_81 : decode cX7_areSame 81 = .ok (.iconst 1, 1) := dk_4 (dk_at dksX7_areSame_3 10 rfl rfl)
theorem dX7_areSame_82 : decode cX7_areSame 82 = .ok (.invokevirtual 104, 3) := dk_182 0 104 (dk_at dksX7_areSame_3 11 rfl rfl)
theorem dX7_areSame_85 : decode cX7_areSame 85 = .ok (.iconst 2, 1) := dk_5 (dk_at dksX7_areSame_3 14 rfl rfl)
theorem dX7_areSame_86 : decode cX7_areSame 86 = .ok (.if_icmp .ne 7, 3) := dk_160 0 7 (dk_at dksX7_areSame_3 15 rfl rfl)
theorem dX7_areSame_89 : decode cX7_areSame 89 = .ok (.iconst 1, 1) := dk_4 (dk_at dksX7_areSame_3 18 rfl rfl)
theorem dX7_areSame_90 : decode cX7_areSame 90 = .ok (.goto 4, 3) := dk_167 0 4 (dk_at dksX7_areSame_3 19 rfl rfl)
theorem dX7_areSame_93 : decode cX7_areSame 93 = .ok (.iconst 0, 1) := dk_3 (dk_at dksX7_areSame_3 22 rfl rfl)
theorem dX7_areSame_94 : decode cX7_areSame 94 = .ok (.istore 7, 2) := dk_54 7 (dk_at dksX7_areSame_4 0 rfl rfl)
theorem dX7_areSame_96 : decode cX7_areSame 96 = .ok (.iload 5, 2) := dk_21 5 (dk_at dksX7_areSame_4 2 rfl rfl)
theorem dX7_areSame_98 : decode cX7_areSame 98 = .ok (.iconst 1, 1) := dk_4 (dk_at dksX7_areSame_4 4 rfl rfl)
theorem dX7_areSame_99 : decode cX7_areSame 99 = .ok (.iadd, 1) := dk_96 (dk_at dksX7_areSame_4 5 rfl rfl)
theorem dX7_areSame_100 : decode cX7_areSame 100 = .ok (.istore 8, 2) := dk_54 8 (dk_at dksX7_areSame_4 6 rfl rfl)
theorem dX7_areSame_102 : decode cX7_areSame 102 = .ok (.iload_n 2, 1) := dk_28 (dk_at dksX7_areSame_4 8 rfl rfl)
theorem dX7_areSame_103 : decode cX7_areSame 103 = .ok (.iconst 1, 1) := dk_4 (dk_at dksX7_areSame_4 9 rfl rfl)
theorem dX7_areSame_104 : decode cX7_areSame 104 = .ok (.iadd, 1) := dk_96 (dk_at dksX7_areSame_4 10 rfl rfl)
theorem dX7_areSame_105 : decode cX7_areSame 105 = .ok (.istore 9, 2) := dk_54 9 (dk_at dksX7_areSame_4 11 rfl rfl)
theorem dX7_areSame_107 : decode cX7_areSame 107 = .ok (.iload 9, 2) := dk_21 9 (dk_at dksX7_areSame_4 13 rfl rfl)
theorem dX7_areSame_109 : decode cX7_areSame 109 = .ok (.aload_n 0, 1) := dk_42 (dk_at dksX7_areSame_4 15 rfl rfl)
theorem dX7_areSame_110 : decode cX7_areSame 110 = .ok (.iload_n 1, 1) := dk_27 (dk_at dksX7_areSame_4 16 rfl rfl)
theorem dX7_areSame_111 : decode cX7_areSame 111 = .ok (.iload_n 2, 1) := dk_28 (dk_at dksX7_areSame_4 17 rfl rfl)
theorem dX7_areSame_112 : decode cX7_areSame 112 = .ok (.invokevirtual 119, 3) := dk_182 0 119 (dk_at dksX7_areSame_4 18 rfl rfl)
theorem dX7_areSame_115 : decode cX7_areSame 115 = .ok (.if_icmp .ge 207, 3) := dk_162 0 207 (dk_at dksX7_areSame_4 21 rfl rfl)
theorem dX7_areSame_118 : decode cX7_areSame 118 = .ok (.iload 7, 2) := dk_21 7 (dk_at dksX7_areSame_5 0 rfl rfl)
theorem dX7_areSame_120 : decode cX7_areSame 120 = .ok (.ifCond .ne 27, 3) := dk_154 0 27 (dk_at dksX7_areSame_5 2 rfl rfl)
theorem dX7_areSame_123 : decode cX7_areSame 123 = .ok (.aload_n 0, 1) := dk_42 (dk_at dksX7_areSame_5 5 rfl rfl)
theorem dX7_areSame_124 : decode cX7_areSame 124 = .ok (.getfield 81, 3) := dk_180 0 81 (dk_at dksX7_areSame_5 6 rfl rfl)
theorem dX7_areSame_127 : decode cX7_areSame 127 = .ok (.iload_n 3, 1) := dk_29 (dk_at dksX7_areSame_5 9 rfl rfl)
theorem dX7_areSame_128 : decode cX7_areSame 128 = .ok (.iload 9, 2) := dk_21 9 (dk_at dksX7_areSame_5 10 rfl rfl)
theorem dX7_areSame_130 : decode cX7_areSame 130 = .ok (.iadd, 1) := dk_96 (dk_at dksX7_areSame_5 12 rfl rfl)
theorem dX7_areSame_131 : decode cX7_areSame 131 = .ok (.iaload, 1) := dk_46 (dk_at dksX7_areSame_5 13 rfl rfl)
theorem dX7_areSame_132 : decode cX7_areSame 132 = .ok (.aload_n 0, 1) := dk_42 (dk_at dksX7_areSame_5 14 rfl rfl)
theorem dX7_areSame_133 : decode cX7_areSame 133 = .ok (.getfield 81, 3) := dk_180 0 81 (dk_at dksX7_areSame_5 15 rfl rfl)
theorem dX7_areSame_136 : decode cX7_areSame 136 = .ok (.iload 6, 2) := dk_21 6 (dk_at dksX7_areSame_5 18 rfl rfl)
theorem dX7_areSame_138 : decode cX7_areSame 138 = .ok (.iload 8, 2) := dk_21 8 (dk_at dksX7_areSame_5 20 rfl rfl)
theorem dX7_areSame_140 : decode cX7_areSame 140 = .ok (.iadd, 1) := dk_96 (dk_at dksX7_areSame_5 22 rfl rfl)
theorem dX7_areSame_141 : decode cX7_areSame 141 = .ok (.iaload, 1) := dk_46 (dk_at dksX7_areSame_5 23 rfl rfl)
theorem dX7_areSame_142 : decode cX7_areSame 142 = .ok (.if_icmp .eq 5, 3) := dk_159 0 5 (dk_at dksX7_areSame_6 0 rfl rfl)
theorem dX7_areSame_145 : decode cX7_areSame 145 = .ok (.iconst 0, 1) := dk_3 (dk_at dksX7_areSame_6 3 rfl rfl)
theorem dX7_areSame_146 : decode cX7_areSame 146 = .ok (.ireturn, 1) := dk_172 (dk_at dksX7_areSame_6 4 rfl rfl)
theorem dX7_areSame_147 : decode cX7_areSame 147 = .ok (.iload 7, 2) := dk_21 7 (dk_at dksX7_areSame_6 5 rfl rfl)
theorem dX7_areSame_149 : decode cX7_areSame 149 = .ok (.ifCond .ne 13, 3) := dk_154 0 13 (dk_at dksX7_areSame_6 7 rfl rfl)
theorem dX7_areSame_152 : decode cX7_areSame 152 = .ok (.aload_n 0, 1) := dk_42 (dk_at dksX7_areSame_6 10 rfl rfl)
theorem dX7_areSame_153 : decode cX7_areSame 153 = .ok (.iload 4, 2) := dk_21 4 (dk_at dksX7_areSame_6 11 rfl rfl)
theorem dX7_areSame_155 : decode cX7_areSame 155 = .ok (.iload 8, 2) := dk_21 8 (dk_at dksX7_areSame_6 13 rfl rfl)
theorem dX7_areSame_157 : decode cX7_areSame 157 = .ok (.invokevirtual 119, 3) := dk_182 0 119 (dk_at dksX7_areSame_6 15 rfl rfl)
theorem dX7_areSame_160 : decode cX7_areSame 160 = .ok (.istore 8, 2) := dk_54 8 (dk_at dksX7_areSame_6 18 rfl rfl)
theorem dX7_areSame_162 : decode cX7_areSame 162 = .ok (.iconst 0, 1) := dk_3 (dk_at dksX7_areSame_6 20 rfl rfl)
theorem dX7_areSame_163 : decode cX7_areSame 163 = .ok (.istore 10, 2) := dk_54 10 (dk_at dksX7_areSame_6 21 rfl rfl)
theorem dX7_areSame_165 : decode cX7_areSame 165 = .ok (.iconst 0, 1) := dk_3 (dk_at dksX7_areSame_6 23 rfl rfl)
theorem dX7_areSame_166 : decode cX7_areSame 166 = .ok (.istore 11, 2) := dk_54 11 (dk_at dksX7_areSame_7 0 rfl rfl)
theorem dX7_areSame_168 : decode cX7_areSame 168 = .ok (.iload_n 2, 1) := dk_28 (dk_at dksX7_areSame_7 2 rfl rfl)
theorem dX7_areSame_169 : decode cX7_areSame 169 = .ok (.iconst 1, 1) := dk_4 (dk_at dksX7_areSame_7 3 rfl rfl)
theorem dX7_areSame_170 : decode cX7_areSame 170 = .ok (.iadd, 1) := dk_96 (dk_at dksX7_areSame_7 4 rfl rfl)
theorem dX7_areSame_171 : decode cX7_areSame 171 = .ok (.istore 12, 2) := dk_54 12 (dk_at dksX7_areSame_7 5 rfl rfl)
theorem dX7_areSame_173 : decode cX7_areSame 173 = .ok (.iload 12, 2) := dk_21 12 (dk_at dksX7_areSame_7 7 rfl rfl)
theorem dX7_areSame_175 : decode cX7_areSame 175 = .ok (.aload_n 0, 1) := dk_42 (dk_at dksX7_areSame_7 9 rfl rfl)
theorem dX7_areSame_176 : decode cX7_areSame 176 = .ok (.iload_n 1, 1) := dk_27 (dk_at dksX7_areSame_7 10 rfl rfl)
theorem dX7_areSame_177 : decode cX7_areSame 177 = .ok (.iload_n 2, 1) := dk_28 (dk_at dksX7_areSame_7 11 rfl rfl)
theorem dX7_areSame_178 : decode cX7_areSame 178 = .ok (.invokevirtual 119, 3) := dk_182 0 119 (dk_at dksX7_areSame_7 12 rfl rfl)
theorem dX7_areSame_181 : decode cX7_areSame 181 = .ok (.if_icmp .ge 51, 3) := dk_162 0 51 (dk_at dksX7_areSame_7 15 rfl rfl)
theorem dX7_areSame_184 : decode cX7_areSame 184 = .ok (.iload 7, 2) := dk_21 7 (dk_at dksX7_areSame_7 18 rfl rfl)
theorem dX7_areSame_186 : decode cX7_areSame 186 = .ok (.ifCond .eq 46, 3) := dk_153 0 46 (dk_at dksX7_areSame_7 20 rfl rfl)
theorem dX7_areSame_189 : decode cX7_areSame 189 = .ok (.iload 10, 2) := dk_21 10 (dk_at dksX7_areSame_8 0 rfl rfl)
theorem dX7_areSame_191 : decode cX7_areSame 191 = .ok (.aload_n 0, 1) := dk_42 (dk_at dksX7_areSame_8 2 rfl rfl)
theorem dX7_areSame_192 : decode cX7_areSame 192 = .ok (.getfield 81, 3) := dk_180 0 81 (dk_at dksX7_areSame_8 3 rfl rfl)
theorem dX7_areSame_195 : decode cX7_areSame 195 = .ok (.iload_n 3, 1) := dk_29 (dk_at dksX7_areSame_8 6 rfl rfl)
theorem dX7_areSame_196 : decode cX7_areSame 196 = .ok (.iload 12, 2) := dk_21 12 (dk_at dksX7_areSame_8 7 rfl rfl)
theorem dX7_areSame_198 : decode cX7_areSame 198 = .ok (.iadd, 1) := dk_96 (dk_at dksX7_areSame_8 9 rfl rfl)
theorem dX7_areSame_199 : decode cX7_areSame 199 = .ok (.iaload, 1) := dk_46 (dk_at dksX7_areSame_8 10 rfl rfl)
theorem dX7_areSame_200 : decode cX7_areSame 200 = .ok (.aload_n 0, 1) := dk_42 (dk_at dksX7_areSame_8 11 rfl rfl)
theorem dX7_areSame_201 : decode cX7_areSame 201 = .ok (.getfield 81, 3) := dk_180 0 81 (dk_at dksX7_areSame_8 12 rfl rfl)
theorem dX7_areSame_204 : decode cX7_areSame 204 = .ok (.iload_n 3, 1) := dk_29 (dk_at dksX7_areSame_8 15 rfl rfl)
theorem dX7_areSame_205 : decode cX7_areSame 205 = .ok (.iload 9, 2) := dk_21 9 (dk_at dksX7_areSame_8 16 rfl rfl)
theorem dX7_areSame_207 : decode cX7_areSame 207 = .ok (.iadd, 1) := dk_96 (dk_at dksX7_areSame_8 18 rfl rfl)
theorem dX7_areSame_208 : decode cX7_areSame 208 = .ok (.iaload, 1) := dk_46 (dk_at dksX7_areSame_8 19 rfl rfl)
theorem dX7_areSame_209 : decode cX7_areSame 209 = .ok (.if_icmp .ne 7, 3) := dk_160 0 7 (dk_at dksX7_areSame_8 20 rfl rfl)
theorem dX7_areSame_212 : decode cX7_areSame 212 = .ok (.iconst 1, 1) := dk_4 (dk_at dksX7_areSame_8 23 rfl rfl)
theorem dX7_areSame_213 : decode cX7_areSame 213 = .ok (.goto 4, 3) := dk_167 0 4 (dk_at dksX7_areSame_9 0 rfl rfl)
theorem dX7_areSame_216 : decode cX7_areSame 216 = .ok (.iconst 0, 1) := dk_3 (dk_at dksX7_areSame_9 3 rfl rfl)
theorem dX7_areSame_217 : decode cX7_areSame 217 = .ok (.iadd, 1) := dk_96 (dk_at dksX7_areSame_9 4 rfl rfl)
theorem dX7_areSame_218 : decode cX7_areSame 218 = .ok (.istore 10, 2) := dk_54 10 (dk_at dksX7_areSame_9 5 rfl rfl)
theorem dX7_areSame_220 : decode cX7_areSame 220 = .ok (.aload_n 0, 1) := dk_42 (dk_at dksX7_areSame_9 7 rfl rfl)
theorem dX7_areSame_221 : decode cX7_areSame 221 = .ok (.iload_n 1, 1) := dk_27 (dk_at dksX7_areSame_9 8 rfl rfl)
theorem dX7_areSame_222 : decode cX7_areSame 222 = .ok (.iload 12, 2) := dk_21 12 (dk_at dksX7_areSame_9 9 rfl rfl)
theorem dX7_areSame_224 : decode cX7_areSame 224 = .ok (.invokevirtual 119, 3) := dk_182 0 119 (dk_at dksX7_areSame_9 11 rfl rfl)
theorem dX7_areSame_227 : decode cX7_areSame 227 = .ok (.istore 12, 2) := dk_54 12 (dk_at dksX7_areSame_9 14 rfl rfl)
theorem dX7_areSame_229 : decode cX7_areSame 229 = .ok (.goto (-56), 3) := dk_167 255 200 (dk_at dksX7_areSame_9 16 rfl rfl)
theorem dX7_areSame_232 : decode cX7_areSame 232 = .ok (.iload 5, 2) := dk_21 5 (dk_at dksX7_areSame_9 19 rfl rfl)
theorem dX7_areSame_234 : decode cX7_areSame 234 = .ok (.iconst 1, 1) := dk_4 (dk_at dksX7_areSame_9 21 rfl rfl)
theorem dX7_areSame_235 : decode cX7_areSame 235 = .ok (.iadd, 1) := dk_96 (dk_at dksX7_areSame_9 22 rfl rfl)
theorem dX7_areSame_236 : decode cX7_areSame 236 = .ok (.istore 12, 2) := dk_54 12 (dk_at dksX7_areSame_10 0 rfl rfl)
theorem dX7_areSame_238 : decode cX7_areSame 238 = .ok (.iload 12, 2) := dk_21 12 (dk_at dksX7_areSame_10 2 rfl rfl)
theorem dX7_areSame_240 : decode cX7_areSame 240 = .ok (.aload_n 0, 1) := dk_42 (dk_at dksX7_areSame_10 4 rfl rfl)
theorem dX7_areSame_241 : decode cX7_areSame 241 = .ok (.iload 4, 2) := dk_21 4 (dk_at dksX7_areSame_10 5 rfl rfl)
theorem dX7_areSame_243 : decode cX7_areSame 243 = .ok (.iload 5, 2) := dk_21 5 (dk_at dksX7_areSame_10 7 rfl rfl)
theorem dX7_areSame_245 : decode cX7_areSame 245 = .ok (.invokevirtual 119, 3) := dk_182 0 119 (dk_at dksX7_areSame_10 9 rfl rfl)
theorem dX7_areSame_248 : decode cX7_areSame 248 = .ok (.if_icmp .ge 53, 3) := dk_162 0 53 (dk_at dksX7_areSame_10 12 rfl rfl)
theorem dX7_areSame_251 : decode cX7_areSame 251 = .ok (.iload 7, 2) := dk_21 7 (dk_at dksX7_areSame_10 15 rfl rfl)
theorem dX7_areSame_253 : decode cX7_areSame 253 = .ok (.ifCond .eq 48, 3) := dk_153 0 48 (dk_at dksX7_areSame_10 17 rfl rfl)
theorem dX7_areSame_256 : decode cX7_areSame 256 = .ok (.iload 11, 2) := dk_21 11 (dk_at dksX7_areSame_10 20 rfl rfl)
theorem dX7_areSame_258 : decode cX7_areSame 258 = .ok (.aload_n 0, 1) := dk_42 (dk_at dksX7_areSame_10 22 rfl rfl)
theorem dX7_areSame_259 : decode cX7_areSame 259 = .ok (.getfield 81, 3) := dk_180 0 81 (dk_at dksX7_areSame_11 0 rfl rfl)
theorem dX7_areSame_262 : decode cX7_areSame 262 = .ok (.iload 6, 2) := dk_21 6 (dk_at dksX7_areSame_11 3 rfl rfl)
theorem dX7_areSame_264 : decode cX7_areSame 264 = .ok (.iload 12, 2) := dk_21 12 (dk_at dksX7_areSame_11 5 rfl rfl)
theorem dX7_areSame_266 : decode cX7_areSame 266 = .ok (.iadd, 1) := dk_96 (dk_at dksX7_areSame_11 7 rfl rfl)
theorem dX7_areSame_267 : decode cX7_areSame 267 = .ok (.iaload, 1) := dk_46 (dk_at dksX7_areSame_11 8 rfl rfl)
theorem dX7_areSame_268 : decode cX7_areSame 268 = .ok (.aload_n 0, 1) := dk_42 (dk_at dksX7_areSame_11 9 rfl rfl)
theorem dX7_areSame_269 : decode cX7_areSame 269 = .ok (.getfield 81, 3) := dk_180 0 81 (dk_at dksX7_areSame_11 10 rfl rfl)
theorem dX7_areSame_272 : decode cX7_areSame 272 = .ok (.iload_n 3, 1) := dk_29 (dk_at dksX7_areSame_11 13 rfl rfl)
theorem dX7_areSame_273 : decode cX7_areSame 273 = .ok (.iload 9, 2) := dk_21 9 (dk_at dksX7_areSame_11 14 rfl rfl)
theorem dX7_areSame_275 : decode cX7_areSame 275 = .ok (.iadd, 1) := dk_96 (dk_at dksX7_areSame_11 16 rfl rfl)
theorem dX7_areSame_276 : decode cX7_areSame 276 = .ok (.iaload, 1) := dk_46 (dk_at dksX7_areSame_11 17 rfl rfl)
theorem dX7_areSame_277 : decode cX7_areSame 277 = .ok (.if_icmp .ne 7, 3) := dk_160 0 7 (dk_at dksX7_areSame_11 18 rfl rfl)
theorem dX7_areSame_280 : decode cX7_areSame 280 = .ok (.iconst 1, 1) := dk_4 (dk_at dksX7_areSame_11 21 rfl rfl)
theorem dX7_areSame_281 : decode cX7_areSame 281 = .ok (.goto 4, 3) := dk_167 0 4 (dk_at dksX7_areSame_12 0 rfl rfl)
theorem dX7_areSame_284 : decode cX7_areSame 284 = .ok (.iconst 0, 1) := dk_3 (dk_at dksX7_areSame_12 3 rfl rfl)
theorem dX7_areSame_285 : decode cX7_areSame 285 = .ok (.iadd, 1) := dk_96 (dk_at dksX7_areSame_12 4 rfl rfl)
theorem dX7_areSame_286 : decode cX7_areSame 286 = .ok (.istore 11, 2) := dk_54 11 (dk_at dksX7_areSame_12 5 rfl rfl)
theorem dX7_areSame_288 : decode cX7_areSame 288 = .ok (.aload_n 0, 1) := dk_42 (dk_at dksX7_areSame_12 7 rfl rfl)
theorem dX7_areSame_289 : decode cX7_areSame 289 = .ok (.iload 4, 2) := dk_21 4 (dk_at dksX7_areSame_12 8 rfl rfl)
theorem dX7_areSame_291 : decode cX7_areSame 291 = .ok (.iload 12, 2) := dk_21 12 (dk_at dksX7_areSame_12 10 rfl rfl)
theorem dX7_areSame_293 : decode cX7_areSame 293 = .ok (.invokevirtual 119, 3) := dk_182 0 119 (dk_at dksX7_areSame_12 12 rfl rfl)
theorem dX7_areSame_296 : decode cX7_areSame 296 = .ok (.istore 12, 2) := dk_54 12 (dk_at dksX7_areSame_12 15 rfl rfl)
theorem dX7_areSame_298 : decode cX7_areSame 298 = .ok (.goto (-60), 3) := dk_167 255 196 (dk_at dksX7_areSame_12 17 rfl rfl)
theorem dX7_areSame_301 : decode cX7_areSame 301 = .ok (.iload 10, 2) := dk_21 10 (dk_at dksX7_areSame_12 20 rfl rfl)
theorem dX7_areSame_303 : decode cX7_areSame 303 = .ok (.iload 11, 2) := dk_21 11 (dk_at dksX7_areSame_12 22 rfl rfl)
theorem dX7_areSame_305 : decode cX7_areSame 305 = .ok (.if_icmp .eq 5, 3) := dk_159 0 5 (dk_at dksX7_areSame_13 0 rfl rfl)
theorem dX7_areSame_308 : decode cX7_areSame 308 = .ok (.iconst 0, 1) := dk_3 (dk_at dksX7_areSame_13 3 rfl rfl)
theorem dX7_areSame_309 : decode cX7_areSame 309 = .ok (.ireturn, 1) := dk_172 (dk_at dksX7_areSame_13 4 rfl rfl)
theorem dX7_areSame_310 : decode cX7_areSame 310 = .ok (.aload_n 0, 1) := dk_42 (dk_at dksX7_areSame_13 5 rfl rfl)
theorem dX7_areSame_311 : decode cX7_areSame 311 = .ok (.iload_n 1, 1) := dk_27 (dk_at dksX7_areSame_13 6 rfl rfl)
theorem dX7_areSame_312 : decode cX7_areSame 312 = .ok (.iload 9, 2) := dk_21 9 (dk_at dksX7_areSame_13 7 rfl rfl)
theorem dX7_areSame_314 : decode cX7_areSame 314 = .ok (.invokevirtual 119, 3) := dk_182 0 119 (dk_at dksX7_areSame_13 9 rfl rfl)
theorem dX7_areSame_317 : decode cX7_areSame 317 = .ok (.istore 9, 2) := dk_54 9 (dk_at dksX7_areSame_13 12 rfl rfl)
theorem dX7_areSame_319 : decode cX7_areSame 319 = .ok (.goto (-212), 3) := dk_167 255 44 (dk_at dksX7_areSame_13 14 rfl rfl)
theorem dX7_areSame_322 : decode cX7_areSame 322 = .ok (.iconst 1, 1) := dk_4 (dk_at dksX7_areSame_13 17 rfl rfl)
theorem dX7_areSame_323 : decode cX7_areSame 323 = .ok (.ireturn, 1) := dk_172 (dk_at dksX7_areSame_13 18 rfl rfl)
abbrev cX7_unlike : ByteArray := prog_17_method_60_code
def yX7_unlike : MethodName := ⟨RX7, "unlike", "(I)I"⟩
def dkwX7_unlike_2 : List UInt8 := [160, 0, 7, 4, 167, 0, 4, 3, 96, 62, 132, 4, 1, 167, 255, 222, 29, 172]
abbrev dktX7_unlike_2 : List UInt8 := dkwX7_unlike_2 ++ []
def dkwX7_unlike_1 : List UInt8 := [3, 54, 4, 21, 4, 42, 180, 0, 13, 27, 46, 162, 0, 29, 29, 42, 180, 0, 81, 21, 4, 46, 21, 4]
abbrev dktX7_unlike_1 : List UInt8 := dkwX7_unlike_1 ++ dktX7_unlike_2
def dkwX7_unlike_0 : List UInt8 := [42, 27, 182, 0, 161, 61, 28, 156, 0, 9, 42, 28, 182, 0, 126, 172, 42, 27, 27, 182, 0, 234, 3, 62]
abbrev dktX7_unlike_0 : List UInt8 := dkwX7_unlike_0 ++ dktX7_unlike_1
theorem dksX7_unlike_0 : cX7_unlike.data.toList.drop 0 = dktX7_unlike_0 := by decide +kernel
theorem dksX7_unlike_1 : cX7_unlike.data.toList.drop 24 = dktX7_unlike_1 := dk_seg dksX7_unlike_0 24 rfl rfl
theorem dksX7_unlike_2 : cX7_unlike.data.toList.drop 48 = dktX7_unlike_2 := dk_seg dksX7_unlike_1 24 rfl rfl
theorem dX7_unlike_0 : decode cX7_unlike 0 = .ok (.aload_n 0, 1) := dk_42 (dk_at dksX7_unlike_0 0 rfl rfl)
theorem dX7_unlike_1 : decode cX7_unlike 1 = .ok (.iload_n 1, 1) := dk_27 (dk_at dksX7_unlike_0 1 rfl rfl)
theorem dX7_unlike_2 : decode cX7_unlike 2 = .ok (.invokevirtual 161, 3) := dk_182 0 161 (dk_at dksX7_unlike_0 2 rfl rfl)
theorem dX7_unlike_5 : decode cX7_unlike 5 = .ok (.istore_n 2, 1) := dk_61 (dk_at dksX7_unlike_0 5 rfl rfl)
theorem dX7_unlike_6 : decode cX7_unlike 6 = .ok (.iload_n 2, 1) := dk_28 (dk_at dksX7_unlike_0 6 rfl rfl)
theorem dX7_unlike_7 : decode cX7_unlike 7 = .ok (.ifCond .ge 9, 3) := dk_156 0 9 (dk_at dksX7_unlike_0 7 rfl rfl)
theorem dX7_unlike_10 : decode cX7_unlike 10 = .ok (.aload_n 0, 1) := dk_42 (dk_at dksX7_unlike_0 10 rfl rfl)
theorem dX7_unlike_11 : decode cX7_unlike 11 = .ok (.iload_n 2, 1) := dk_28 (dk_at dksX7_unlike_0 11 rfl rfl)
theorem dX7_unlike_12 : decode cX7_unlike 12 = .ok (.invokevirtual 126, 3) := dk_182 0 126 (dk_at dksX7_unlike_0 12 rfl rfl)
theorem dX7_unlike_15 : decode cX7_unlike 15 = .ok (.ireturn, 1) := dk_172 (dk_at dksX7_unlike_0 15 rfl rfl)
theorem dX7_unlike_16 : decode cX7_unlike 16 = .ok (.aload_n 0, 1) := dk_42 (dk_at dksX7_unlike_0 16 rfl rfl)
theorem dX7_unlike_17 : decode cX7_unlike 17 = .ok (.iload_n 1, 1) := dk_27 (dk_at dksX7_unlike_0 17 rfl rfl)
theorem dX7_unlike_18 : decode cX7_unlike 18 = .ok (.iload_n 1, 1) := dk_27 (dk_at dksX7_unlike_0 18 rfl rfl)
theorem dX7_unlike_19 : decode cX7_unlike 19 = .ok (.invokevirtual 234, 3) := dk_182 0 234 (dk_at dksX7_unlike_0 19 rfl rfl)
theorem dX7_unlike_22 : decode cX7_unlike 22 = .ok (.iconst 0, 1) := dk_3 (dk_at dksX7_unlike_0 22 rfl rfl)
theorem dX7_unlike_23 : decode cX7_unlike 23 = .ok (.istore_n 3, 1) := dk_62 (dk_at dksX7_unlike_0 23 rfl rfl)
theorem dX7_unlike_24 : decode cX7_unlike 24 = .ok (.iconst 0, 1) := dk_3 (dk_at dksX7_unlike_1 0 rfl rfl)
theorem dX7_unlike_25 : decode cX7_unlike 25 = .ok (.istore 4, 2) := dk_54 4 (dk_at dksX7_unlike_1 1 rfl rfl)
theorem dX7_unlike_27 : decode cX7_unlike 27 = .ok (.iload 4, 2) := dk_21 4 (dk_at dksX7_unlike_1 3 rfl rfl)
theorem dX7_unlike_29 : decode cX7_unlike 29 = .ok (.aload_n 0, 1) := dk_42 (dk_at dksX7_unlike_1 5 rfl rfl)
theorem dX7_unlike_30 : decode cX7_unlike 30 = .ok (.getfield 13, 3) := dk_180 0 13 (dk_at dksX7_unlike_1 6 rfl rfl)
theorem dX7_unlike_33 : decode cX7_unlike 33 = .ok (.iload_n 1, 1) := dk_27 (dk_at dksX7_unlike_1 9 rfl rfl)
theorem dX7_unlike_34 : decode cX7_unlike 34 = .ok (.iaload, 1) := dk_46 (dk_at dksX7_unlike_1 10 rfl rfl)
theorem dX7_unlike_35 : decode cX7_unlike 35 = .ok (.if_icmp .ge 29, 3) := dk_162 0 29 (dk_at dksX7_unlike_1 11 rfl rfl)
theorem dX7_unlike_38 : decode cX7_unlike 38 = .ok (.iload_n 3, 1) := dk_29 (dk_at dksX7_unlike_1 14 rfl rfl)
theorem dX7_unlike_39 : decode cX7_unlike 39 = .ok (.aload_n 0, 1) := dk_42 (dk_at dksX7_unlike_1 15 rfl rfl)
theorem dX7_unlike_40 : decode cX7_unlike 40 = .ok (.getfield 81, 3) := dk_180 0 81 (dk_at dksX7_unlike_1 16 rfl rfl)
theorem dX7_unlike_43 : decode cX7_unlike 43 = .ok (.iload 4, 2) := dk_21 4 (dk_at dksX7_unlike_1 19 rfl rfl)
theorem dX7_unlike_45 : decode cX7_unlike 45 = .ok (.iaload, 1) := dk_46 (dk_at dksX7_unlike_1 21 rfl rfl)
theorem dX7_unlike_46 : decode cX7_unlike 46 = .ok (.iload 4, 2) := dk_21 4 (dk_at dksX7_unlike_1 22 rfl rfl)
theorem dX7_unlike_48 : decode cX7_unlike 48 = .ok (.if_icmp .ne 7, 3) := dk_160 0 7 (dk_at dksX7_unlike_2 0 rfl rfl)
theorem dX7_unlike_51 : decode cX7_unlike 51 = .ok (.iconst 1, 1) := dk_4 (dk_at dksX7_unlike_2 3 rfl rfl)
theorem dX7_unlike_52 : decode cX7_unlike 52 = .ok (.goto 4, 3) := dk_167 0 4 (dk_at dksX7_unlike_2 4 rfl rfl)
theorem dX7_unlike_55 : decode cX7_unlike 55 = .ok (.iconst 0, 1) := dk_3 (dk_at dksX7_unlike_2 7 rfl rfl)
theorem dX7_unlike_56 : decode cX7_unlike 56 = .ok (.iadd, 1) := dk_96 (dk_at dksX7_unlike_2 8 rfl rfl)
theorem dX7_unlike_57 : decode cX7_unlike 57 = .ok (.istore_n 3, 1) := dk_62 (dk_at dksX7_unlike_2 9 rfl rfl)
theorem dX7_unlike_58 : decode cX7_unlike 58 = .ok (.iinc 4 1, 3) := dk_132 4 1 (dk_at dksX7_unlike_2 10 rfl rfl)
theorem dX7_unlike_61 : decode cX7_unlike 61 = .ok (.goto (-34), 3) := dk_167 255 222 (dk_at dksX7_unlike_2 13 rfl rfl)
theorem dX7_unlike_64 : decode cX7_unlike 64 = .ok (.iload_n 3, 1) := dk_29 (dk_at dksX7_unlike_2 16 rfl rfl)
theorem dX7_unlike_65 : decode cX7_unlike 65 = .ok (.ireturn, 1) := dk_172 (dk_at dksX7_unlike_2 17 rfl rfl)
abbrev cX7_shared : ByteArray := prog_17_method_61_code
def yX7_shared : MethodName := ⟨RX7, "shared", "(II)I"⟩
def dkwX7_shared_5 : List UInt8 := [4, 167, 0, 4, 3, 96, 54, 4, 132, 5, 1, 167, 255, 172, 21, 4, 172]
abbrev dktX7_shared_5 : List UInt8 := dkwX7_shared_5 ++ []
def dkwX7_shared_4 : List UInt8 := [46, 160, 0, 7, 4, 167, 0, 4, 3, 54, 6, 132, 7, 1, 167, 255, 210, 21, 4, 21, 6, 153, 0, 7]
abbrev dktX7_shared_4 : List UInt8 := dkwX7_shared_4 ++ dktX7_shared_5
def dkwX7_shared_3 : List UInt8 := [162, 0, 41, 21, 6, 154, 0, 23, 42, 180, 0, 81, 16, 30, 21, 7, 96, 46, 42, 180, 0, 81, 21, 5]
abbrev dktX7_shared_3 : List UInt8 := dkwX7_shared_3 ++ dktX7_shared_4
def dkwX7_shared_2 : List UInt8 := [180, 0, 13, 27, 46, 162, 0, 79, 3, 54, 6, 3, 54, 7, 21, 7, 42, 180, 0, 13, 28, 46]
abbrev dktX7_shared_2 : List UInt8 := dkwX7_shared_2 ++ dktX7_shared_3
def dkwX7_shared_1 : List UInt8 := [156, 0, 9, 42, 29, 182, 0, 126, 172, 42, 27, 28, 182, 0, 234, 3, 54, 4, 3, 54, 5, 21, 5, 42]
abbrev dktX7_shared_1 : List UInt8 := dkwX7_shared_1 ++ dktX7_shared_2
def dkwX7_shared_0 : List UInt8 := [42, 27, 182, 0, 161, 62, 29, 156, 0, 9, 42, 29, 182, 0, 126, 172, 42, 28, 182, 0, 161, 62, 29]
abbrev dktX7_shared_0 : List UInt8 := dkwX7_shared_0 ++ dktX7_shared_1
theorem dksX7_shared_0 : cX7_shared.data.toList.drop 0 = dktX7_shared_0 := by decide +kernel
theorem dksX7_shared_1 : cX7_shared.data.toList.drop 23 = dktX7_shared_1 := dk_seg dksX7_shared_0 23 rfl rfl
theorem dksX7_shared_2 : cX7_shared.data.toList.drop 47 = dktX7_shared_2 := dk_seg dksX7_shared_1 24 rfl rfl
theorem dksX7_shared_3 : cX7_shared.data.toList.drop 69 = dktX7_shared_3 := dk_seg dksX7_shared_2 22 rfl rfl
theorem dksX7_shared_4 : cX7_shared.data.toList.drop 93 = dktX7_shared_4 := dk_seg dksX7_shared_3 24 rfl rfl
theorem dksX7_shared_5 : cX7_shared.data.toList.drop 117 = dktX7_shared_5 := dk_seg dksX7_shared_4 24 rfl rfl
theorem dX7_shared_0 : decode cX7_shared 0 = .ok (.aload_n 0, 1) := dk_42 (dk_at dksX7_shared_0 0 rfl rfl)
theorem dX7_shared_1 : decode cX7_shared 1 = .ok (.iload_n 1, 1) := dk_27 (dk_at dksX7_shared_0 1 rfl rfl)
theorem dX7_shared_2 : decode cX7_shared 2 = .ok (.invokevirtual 161, 3) := dk_182 0 161 (dk_at dksX7_shared_0 2 rfl rfl)
theorem dX7_shared_5 : decode cX7_shared 5 = .ok (.istore_n 3, 1) := dk_62 (dk_at dksX7_shared_0 5 rfl rfl)
theorem dX7_shared_6 : decode cX7_shared 6 = .ok (.iload_n 3, 1) := dk_29 (dk_at dksX7_shared_0 6 rfl rfl)
theorem dX7_shared_7 : decode cX7_shared 7 = .ok (.ifCond .ge 9, 3) := dk_156 0 9 (dk_at dksX7_shared_0 7 rfl rfl)
theorem dX7_shared_10 : decode cX7_shared 10 = .ok (.aload_n 0, 1) := dk_42 (dk_at dksX7_shared_0 10 rfl rfl)
theorem dX7_shared_11 : decode cX7_shared 11 = .ok (.iload_n 3, 1) := dk_29 (dk_at dksX7_shared_0 11 rfl rfl)
theorem dX7_shared_12 : decode cX7_shared 12 = .ok (.invokevirtual 126, 3) := dk_182 0 126 (dk_at dksX7_shared_0 12 rfl rfl)
theorem dX7_shared_15 : decode cX7_shared 15 = .ok (.ireturn, 1) := dk_172 (dk_at dksX7_shared_0 15 rfl rfl)
theorem dX7_shared_16 : decode cX7_shared 16 = .ok (.aload_n 0, 1) := dk_42 (dk_at dksX7_shared_0 16 rfl rfl)
theorem dX7_shared_17 : decode cX7_shared 17 = .ok (.iload_n 2, 1) := dk_28 (dk_at dksX7_shared_0 17 rfl rfl)
theorem dX7_shared_18 : decode cX7_shared 18 = .ok (.invokevirtual 161, 3) := dk_182 0 161 (dk_at dksX7_shared_0 18 rfl rfl)
theorem dX7_shared_21 : decode cX7_shared 21 = .ok (.istore_n 3, 1) := dk_62 (dk_at dksX7_shared_0 21 rfl rfl)
theorem dX7_shared_22 : decode cX7_shared 22 = .ok (.iload_n 3, 1) := dk_29 (dk_at dksX7_shared_0 22 rfl rfl)
theorem dX7_shared_23 : decode cX7_shared 23 = .ok (.ifCond .ge 9, 3) := dk_156 0 9 (dk_at dksX7_shared_1 0 rfl rfl)
theorem dX7_shared_26 : decode cX7_shared 26 = .ok (.aload_n 0, 1) := dk_42 (dk_at dksX7_shared_1 3 rfl rfl)
theorem dX7_shared_27 : decode cX7_shared 27 = .ok (.iload_n 3, 1) := dk_29 (dk_at dksX7_shared_1 4 rfl rfl)
theorem dX7_shared_28 : decode cX7_shared 28 = .ok (.invokevirtual 126, 3) := dk_182 0 126 (dk_at dksX7_shared_1 5 rfl rfl)
theorem dX7_shared_31 : decode cX7_shared 31 = .ok (.ireturn, 1) := dk_172 (dk_at dksX7_shared_1 8 rfl rfl)
theorem dX7_shared_32 : decode cX7_shared 32 = .ok (.aload_n 0, 1) := dk_42 (dk_at dksX7_shared_1 9 rfl rfl)
theorem dX7_shared_33 : decode cX7_shared 33 = .ok (.iload_n 1, 1) := dk_27 (dk_at dksX7_shared_1 10 rfl rfl)
theorem dX7_shared_34 : decode cX7_shared 34 = .ok (.iload_n 2, 1) := dk_28 (dk_at dksX7_shared_1 11 rfl rfl)
theorem dX7_shared_35 : decode cX7_shared 35 = .ok (.invokevirtual 234, 3) := dk_182 0 234 (dk_at dksX7_shared_1 12 rfl rfl)
theorem dX7_shared_38 : decode cX7_shared 38 = .ok (.iconst 0, 1) := dk_3 (dk_at dksX7_shared_1 15 rfl rfl)
theorem dX7_shared_39 : decode cX7_shared 39 = .ok (.istore 4, 2) := dk_54 4 (dk_at dksX7_shared_1 16 rfl rfl)
theorem dX7_shared_41 : decode cX7_shared 41 = .ok (.iconst 0, 1) := dk_3 (dk_at dksX7_shared_1 18 rfl rfl)
theorem dX7_shared_42 : decode cX7_shared 42 = .ok (.istore 5, 2) := dk_54 5 (dk_at dksX7_shared_1 19 rfl rfl)
theorem dX7_shared_44 : decode cX7_shared 44 = .ok (.iload 5, 2) := dk_21 5 (dk_at dksX7_shared_1 21 rfl rfl)
theorem dX7_shared_46 : decode cX7_shared 46 = .ok (.aload_n 0, 1) := dk_42 (dk_at dksX7_shared_1 23 rfl rfl)
theorem dX7_shared_47 : decode cX7_shared 47 = .ok (.getfield 13, 3) := dk_180 0 13 (dk_at dksX7_shared_2 0 rfl rfl)
theorem dX7_shared_50 : decode cX7_shared 50 = .ok (.iload_n 1, 1) := dk_27 (dk_at dksX7_shared_2 3 rfl rfl)
theorem dX7_shared_51 : decode cX7_shared 51 = .ok (.iaload, 1) := dk_46 (dk_at dksX7_shared_2 4 rfl rfl)
theorem dX7_shared_52 : decode cX7_shared 52 = .ok (.if_icmp .ge 79, 3) := dk_162 0 79 (dk_at dksX7_shared_2 5 rfl rfl)
theorem dX7_shared_55 : decode cX7_shared 55 = .ok (.iconst 0, 1) := dk_3 (dk_at dksX7_shared_2 8 rfl rfl)
theorem dX7_shared_56 : decode cX7_shared 56 = .ok (.istore 6, 2) := dk_54 6 (dk_at dksX7_shared_2 9 rfl rfl)
theorem dX7_shared_58 : decode cX7_shared 58 = .ok (.iconst 0, 1) := dk_3 (dk_at dksX7_shared_2 11 rfl rfl)
theorem dX7_shared_59 : decode cX7_shared 59 = .ok (.istore 7, 2) := dk_54 7 (dk_at dksX7_shared_2 12 rfl rfl)
theorem dX7_shared_61 : decode cX7_shared 61 = .ok (.iload 7, 2) := dk_21 7 (dk_at dksX7_shared_2 14 rfl rfl)
theorem dX7_shared_63 : decode cX7_shared 63 = .ok (.aload_n 0, 1) := dk_42 (dk_at dksX7_shared_2 16 rfl rfl)
theorem dX7_shared_64 : decode cX7_shared 64 = .ok (.getfield 13, 3) := dk_180 0 13 (dk_at dksX7_shared_2 17 rfl rfl)
theorem dX7_shared_67 : decode cX7_shared 67 = .ok (.iload_n 2, 1) := dk_28 (dk_at dksX7_shared_2 20 rfl rfl)
theorem dX7_shared_68 : decode cX7_shared 68 = .ok (.iaload, 1) := dk_46 (dk_at dksX7_shared_2 21 rfl rfl)
theorem dX7_shared_69 : decode cX7_shared 69 = .ok (.if_icmp .ge 41, 3) := dk_162 0 41 (dk_at dksX7_shared_3 0 rfl rfl)
theorem dX7_shared_72 : decode cX7_shared 72 = .ok (.iload 6, 2) := dk_21 6 (dk_at dksX7_shared_3 3 rfl rfl)
theorem dX7_shared_74 : decode cX7_shared 74 = .ok (.ifCond .ne 23, 3) := dk_154 0 23 (dk_at dksX7_shared_3 5 rfl rfl)
theorem dX7_shared_77 : decode cX7_shared 77 = .ok (.aload_n 0, 1) := dk_42 (dk_at dksX7_shared_3 8 rfl rfl)
theorem dX7_shared_78 : decode cX7_shared 78 = .ok (.getfield 81, 3) := dk_180 0 81 (dk_at dksX7_shared_3 9 rfl rfl)
theorem dX7_shared_81 : decode cX7_shared 81 = .ok (.bipush 30, 2) := dk_16 30 (dk_at dksX7_shared_3 12 rfl rfl)
theorem dX7_shared_83 : decode cX7_shared 83 = .ok (.iload 7, 2) := dk_21 7 (dk_at dksX7_shared_3 14 rfl rfl)
theorem dX7_shared_85 : decode cX7_shared 85 = .ok (.iadd, 1) := dk_96 (dk_at dksX7_shared_3 16 rfl rfl)
theorem dX7_shared_86 : decode cX7_shared 86 = .ok (.iaload, 1) := dk_46 (dk_at dksX7_shared_3 17 rfl rfl)
theorem dX7_shared_87 : decode cX7_shared 87 = .ok (.aload_n 0, 1) := dk_42 (dk_at dksX7_shared_3 18 rfl rfl)
theorem dX7_shared_88 : decode cX7_shared 88 = .ok (.getfield 81, 3) := dk_180 0 81 (dk_at dksX7_shared_3 19 rfl rfl)
theorem dX7_shared_91 : decode cX7_shared 91 = .ok (.iload 5, 2) := dk_21 5 (dk_at dksX7_shared_3 22 rfl rfl)
theorem dX7_shared_93 : decode cX7_shared 93 = .ok (.iaload, 1) := dk_46 (dk_at dksX7_shared_4 0 rfl rfl)
theorem dX7_shared_94 : decode cX7_shared 94 = .ok (.if_icmp .ne 7, 3) := dk_160 0 7 (dk_at dksX7_shared_4 1 rfl rfl)
theorem dX7_shared_97 : decode cX7_shared 97 = .ok (.iconst 1, 1) := dk_4 (dk_at dksX7_shared_4 4 rfl rfl)
theorem dX7_shared_98 : decode cX7_shared 98 = .ok (.goto 4, 3) := dk_167 0 4 (dk_at dksX7_shared_4 5 rfl rfl)
theorem dX7_shared_101 : decode cX7_shared 101 = .ok (.iconst 0, 1) := dk_3 (dk_at dksX7_shared_4 8 rfl rfl)
theorem dX7_shared_102 : decode cX7_shared 102 = .ok (.istore 6, 2) := dk_54 6 (dk_at dksX7_shared_4 9 rfl rfl)
theorem dX7_shared_104 : decode cX7_shared 104 = .ok (.iinc 7 1, 3) := dk_132 7 1 (dk_at dksX7_shared_4 11 rfl rfl)
theorem dX7_shared_107 : decode cX7_shared 107 = .ok (.goto (-46), 3) := dk_167 255 210 (dk_at dksX7_shared_4 14 rfl rfl)
theorem dX7_shared_110 : decode cX7_shared 110 = .ok (.iload 4, 2) := dk_21 4 (dk_at dksX7_shared_4 17 rfl rfl)
theorem dX7_shared_112 : decode cX7_shared 112 = .ok (.iload 6, 2) := dk_21 6 (dk_at dksX7_shared_4 19 rfl rfl)
theorem dX7_shared_114 : decode cX7_shared 114 = .ok (.ifCond .eq 7, 3) := dk_153 0 7 (dk_at dksX7_shared_4 21 rfl rfl)
theorem dX7_shared_117 : decode cX7_shared 117 = .ok (.iconst 1, 1) := dk_4 (dk_at dksX7_shared_5 0 rfl rfl)
theorem dX7_shared_118 : decode cX7_shared 118 = .ok (.goto 4, 3) := dk_167 0 4 (dk_at dksX7_shared_5 1 rfl rfl)
theorem dX7_shared_121 : decode cX7_shared 121 = .ok (.iconst 0, 1) := dk_3 (dk_at dksX7_shared_5 4 rfl rfl)
theorem dX7_shared_122 : decode cX7_shared 122 = .ok (.iadd, 1) := dk_96 (dk_at dksX7_shared_5 5 rfl rfl)
theorem dX7_shared_123 : decode cX7_shared 123 = .ok (.istore 4, 2) := dk_54 4 (dk_at dksX7_shared_5 6 rfl rfl)
theorem dX7_shared_125 : decode cX7_shared 125 = .ok (.iinc 5 1, 3) := dk_132 5 1 (dk_at dksX7_shared_5 8 rfl rfl)
theorem dX7_shared_128 : decode cX7_shared 128 = .ok (.goto (-84), 3) := dk_167 255 172 (dk_at dksX7_shared_5 11 rfl rfl)
theorem dX7_shared_131 : decode cX7_shared 131 = .ok (.iload 4, 2) := dk_21 4 (dk_at dksX7_shared_5 14 rfl rfl)
theorem dX7_shared_133 : decode cX7_shared 133 = .ok (.ireturn, 1) := dk_172 (dk_at dksX7_shared_5 16 rfl rfl)
abbrev cX7_merge : ByteArray := prog_17_method_66_code
def yX7_merge : MethodName := ⟨RX7, "merge", "(IIII)I"⟩
def dkwX7_merge_9 : List UInt8 := [46, 181, 0, 250, 42, 16, 9, 21, 4, 182, 0, 151, 42, 180, 0, 237, 172]
abbrev dktX7_merge_9 : List UInt8 := dkwX7_merge_9 ++ []
def dkwX7_merge_8 : List UInt8 := [28, 29, 21, 8, 182, 1, 3, 54, 8, 167, 255, 198, 21, 7, 153, 0, 22, 42, 42, 180, 0, 13, 16, 9]
abbrev dktX7_merge_8 : List UInt8 := dkwX7_merge_8 ++ dktX7_merge_9
def dkwX7_merge_7 : List UInt8 := [54, 10, 42, 180, 0, 240, 153, 0, 11, 42, 21, 8, 21, 9, 182, 0, 253, 132, 9, 1, 167, 255, 219, 42]
abbrev dktX7_merge_7 : List UInt8 := dkwX7_merge_7 ++ dktX7_merge_8
def dkwX7_merge_6 : List UInt8 := [155, 0, 59, 3, 54, 9, 21, 9, 7, 162, 0, 37, 42, 27, 28, 29, 21, 8, 21, 9, 182, 0, 247]
abbrev dktX7_merge_6 : List UInt8 := dkwX7_merge_6 ++ dktX7_merge_7
def dkwX7_merge_5 : List UInt8 := [54, 7, 21, 7, 154, 0, 9, 42, 2, 8, 182, 0, 253, 42, 28, 29, 2, 182, 1, 3, 54, 8, 21, 8]
abbrev dktX7_merge_5 : List UInt8 := dkwX7_merge_5 ++ dktX7_merge_6
def dkwX7_merge_4 : List UInt8 := [21, 6, 159, 0, 14, 42, 2, 7, 182, 0, 253, 42, 180, 0, 237, 172, 42, 27, 28, 29, 182, 1, 0]
abbrev dktX7_merge_4 : List UInt8 := dkwX7_merge_4 ++ dktX7_merge_5
def dkwX7_merge_3 : List UInt8 := [182, 0, 104, 54, 6, 42, 28, 3, 3, 182, 0, 104, 21, 6, 160, 0, 15, 42, 29, 3, 3, 182, 0, 104]
abbrev dktX7_merge_3 : List UInt8 := dkwX7_merge_3 ++ dktX7_merge_4
def dkwX7_merge_2 : List UInt8 := [154, 0, 9, 42, 2, 182, 0, 126, 172, 42, 3, 181, 0, 237, 42, 3, 181, 0, 250, 42, 27, 3, 3]
abbrev dktX7_merge_2 : List UInt8 := dkwX7_merge_2 ++ dktX7_merge_3
def dkwX7_merge_1 : List UInt8 := [42, 29, 182, 0, 161, 54, 5, 21, 5, 156, 0, 10, 42, 21, 5, 182, 0, 126, 172, 21, 4, 184, 0, 100]
abbrev dktX7_merge_1 : List UInt8 := dkwX7_merge_1 ++ dktX7_merge_2
def dkwX7_merge_0 : List UInt8 := [42, 27, 182, 0, 161, 54, 5, 21, 5, 154, 0, 10, 42, 28, 182, 0, 161, 54, 5, 21, 5, 154, 0, 10]
abbrev dktX7_merge_0 : List UInt8 := dkwX7_merge_0 ++ dktX7_merge_1
theorem dksX7_merge_0 : cX7_merge.data.toList.drop 0 = dktX7_merge_0 := by decide +kernel
theorem dksX7_merge_1 : cX7_merge.data.toList.drop 24 = dktX7_merge_1 := dk_seg dksX7_merge_0 24 rfl rfl
theorem dksX7_merge_2 : cX7_merge.data.toList.drop 48 = dktX7_merge_2 := dk_seg dksX7_merge_1 24 rfl rfl
theorem dksX7_merge_3 : cX7_merge.data.toList.drop 71 = dktX7_merge_3 := dk_seg dksX7_merge_2 23 rfl rfl
theorem dksX7_merge_4 : cX7_merge.data.toList.drop 95 = dktX7_merge_4 := dk_seg dksX7_merge_3 24 rfl rfl
theorem dksX7_merge_5 : cX7_merge.data.toList.drop 118 = dktX7_merge_5 := dk_seg dksX7_merge_4 23 rfl rfl
theorem dksX7_merge_6 : cX7_merge.data.toList.drop 142 = dktX7_merge_6 := dk_seg dksX7_merge_5 24 rfl rfl
theorem dksX7_merge_7 : cX7_merge.data.toList.drop 165 = dktX7_merge_7 := dk_seg dksX7_merge_6 23 rfl rfl
theorem dksX7_merge_8 : cX7_merge.data.toList.drop 189 = dktX7_merge_8 := dk_seg dksX7_merge_7 24 rfl rfl
theorem dksX7_merge_9 : cX7_merge.data.toList.drop 213 = dktX7_merge_9 := dk_seg dksX7_merge_8 24 rfl rfl
theorem dX7_merge_0 : decode cX7_merge 0 = .ok (.aload_n 0, 1) := dk_42 (dk_at dksX7_merge_0 0 rfl rfl)
theorem dX7_merge_1 : decode cX7_merge 1 = .ok (.iload_n 1, 1) := dk_27 (dk_at dksX7_merge_0 1 rfl rfl)
theorem dX7_merge_2 : decode cX7_merge 2 = .ok (.invokevirtual 161, 3) := dk_182 0 161 (dk_at dksX7_merge_0 2 rfl rfl)
theorem dX7_merge_5 : decode cX7_merge 5 = .ok (.istore 5, 2) := dk_54 5 (dk_at dksX7_merge_0 5 rfl rfl)
theorem dX7_merge_7 : decode cX7_merge 7 = .ok (.iload 5, 2) := dk_21 5 (dk_at dksX7_merge_0 7 rfl rfl)
theorem dX7_merge_9 : decode cX7_merge 9 = .ok (.ifCond .ne 10, 3) := dk_154 0 10 (dk_at dksX7_merge_0 9 rfl rfl)
theorem dX7_merge_12 : decode cX7_merge 12 = .ok (.aload_n 0, 1) := dk_42 (dk_at dksX7_merge_0 12 rfl rfl)
theorem dX7_merge_13 : decode cX7_merge 13 = .ok (.iload_n 2, 1) := dk_28 (dk_at dksX7_merge_0 13 rfl rfl)
theorem dX7_merge_14 : decode cX7_merge 14 = .ok (.invokevirtual 161, 3) := dk_182 0 161 (dk_at dksX7_merge_0 14 rfl rfl)
theorem dX7_merge_17 : decode cX7_merge 17 = .ok (.istore 5, 2) := dk_54 5 (dk_at dksX7_merge_0 17 rfl rfl)
theorem dX7_merge_19 : decode cX7_merge 19 = .ok (.iload 5, 2) := dk_21 5 (dk_at dksX7_merge_0 19 rfl rfl)
theorem dX7_merge_21 : decode cX7_merge 21 = .ok (.ifCond .ne 10, 3) := dk_154 0 10 (dk_at dksX7_merge_0 21 rfl rfl)
theorem dX7_merge_24 : decode cX7_merge 24 = .ok (.aload_n 0, 1) := dk_42 (dk_at dksX7_merge_1 0 rfl rfl)
theorem dX7_merge_25 : decode cX7_merge 25 = .ok (.iload_n 3, 1) := dk_29 (dk_at dksX7_merge_1 1 rfl rfl)
theorem dX7_merge_26 : decode cX7_merge 26 = .ok (.invokevirtual 161, 3) := dk_182 0 161 (dk_at dksX7_merge_1 2 rfl rfl)
theorem dX7_merge_29 : decode cX7_merge 29 = .ok (.istore 5, 2) := dk_54 5 (dk_at dksX7_merge_1 5 rfl rfl)
theorem dX7_merge_31 : decode cX7_merge 31 = .ok (.iload 5, 2) := dk_21 5 (dk_at dksX7_merge_1 7 rfl rfl)
theorem dX7_merge_33 : decode cX7_merge 33 = .ok (.ifCond .ge 10, 3) := dk_156 0 10 (dk_at dksX7_merge_1 9 rfl rfl)
theorem dX7_merge_36 : decode cX7_merge 36 = .ok (.aload_n 0, 1) := dk_42 (dk_at dksX7_merge_1 12 rfl rfl)
theorem dX7_merge_37 : decode cX7_merge 37 = .ok (.iload 5, 2) := dk_21 5 (dk_at dksX7_merge_1 13 rfl rfl)
theorem dX7_merge_39 : decode cX7_merge 39 = .ok (.invokevirtual 126, 3) := dk_182 0 126 (dk_at dksX7_merge_1 15 rfl rfl)
theorem dX7_merge_42 : decode cX7_merge 42 = .ok (.ireturn, 1) := dk_172 (dk_at dksX7_merge_1 18 rfl rfl)
theorem dX7_merge_43 : decode cX7_merge 43 = .ok (.iload 4, 2) := dk_21 4 (dk_at dksX7_merge_1 19 rfl rfl)
theorem dX7_merge_45 : decode cX7_merge 45 = .ok (.invokestatic 100, 3) := dk_184 0 100 (dk_at dksX7_merge_1 21 rfl rfl)
theorem dX7_merge_48 : decode cX7_merge 48 = .ok (.ifCond .ne 9, 3) := dk_154 0 9 (dk_at dksX7_merge_2 0 rfl rfl)
theorem dX7_merge_51 : decode cX7_merge 51 = .ok (.aload_n 0, 1) := dk_42 (dk_at dksX7_merge_2 3 rfl rfl)
theorem dX7_merge_52 : decode cX7_merge 52 = .ok (.iconst (-1), 1) := dk_2 (dk_at dksX7_merge_2 4 rfl rfl)
theorem dX7_merge_53 : decode cX7_merge 53 = .ok (.invokevirtual 126, 3) := dk_182 0 126 (dk_at dksX7_merge_2 5 rfl rfl)
theorem dX7_merge_56 : decode cX7_merge 56 = .ok (.ireturn, 1) := dk_172 (dk_at dksX7_merge_2 8 rfl rfl)
theorem dX7_merge_57 : decode cX7_merge 57 = .ok (.aload_n 0, 1) := dk_42 (dk_at dksX7_merge_2 9 rfl rfl)
theorem dX7_merge_58 : decode cX7_merge 58 = .ok (.iconst 0, 1) := dk_3 (dk_at dksX7_merge_2 10 rfl rfl)
theorem dX7_merge_59 : decode cX7_merge 59 = .ok (.putfield 237, 3) := dk_181 0 237 (dk_at dksX7_merge_2 11 rfl rfl)
theorem dX7_merge_62 : decode cX7_merge 62 = .ok (.aload_n 0, 1) := dk_42 (dk_at dksX7_merge_2 14 rfl rfl)
theorem dX7_merge_63 : decode cX7_merge 63 = .ok (.iconst 0, 1) := dk_3 (dk_at dksX7_merge_2 15 rfl rfl)
theorem dX7_merge_64 : decode cX7_merge 64 = .ok (.putfield 250, 3) := dk_181 0 250 (dk_at dksX7_merge_2 16 rfl rfl)
theorem dX7_merge_67 : decode cX7_merge 67 = .ok (.aload_n 0, 1) := dk_42 (dk_at dksX7_merge_2 19 rfl rfl)
theorem dX7_merge_68 : decode cX7_merge 68 = .ok (.iload_n 1, 1) := dk_27 (dk_at dksX7_merge_2 20 rfl rfl)
theorem dX7_merge_69 : decode cX7_merge 69 = .ok (.iconst 0, 1) := dk_3 (dk_at dksX7_merge_2 21 rfl rfl)
theorem dX7_merge_70 : decode cX7_merge 70 = .ok (.iconst 0, 1) := dk_3 (dk_at dksX7_merge_2 22 rfl rfl)
theorem dX7_merge_71 : decode cX7_merge 71 = .ok (.invokevirtual 104, 3) := dk_182 0 104 (dk_at dksX7_merge_3 0 rfl rfl)
theorem dX7_merge_74 : decode cX7_merge 74 = .ok (.istore 6, 2) := dk_54 6 (dk_at dksX7_merge_3 3 rfl rfl)
theorem dX7_merge_76 : decode cX7_merge 76 = .ok (.aload_n 0, 1) := dk_42 (dk_at dksX7_merge_3 5 rfl rfl)
theorem dX7_merge_77 : decode cX7_merge 77 = .ok (.iload_n 2, 1) := dk_28 (dk_at dksX7_merge_3 6 rfl rfl)
theorem dX7_merge_78 : decode cX7_merge 78 = .ok (.iconst 0, 1) := dk_3 (dk_at dksX7_merge_3 7 rfl rfl)
theorem dX7_merge_79 : decode cX7_merge 79 = .ok (.iconst 0, 1) := dk_3 (dk_at dksX7_merge_3 8 rfl rfl)
theorem dX7_merge_80 : decode cX7_merge 80 = .ok (.invokevirtual 104, 3) := dk_182 0 104 (dk_at dksX7_merge_3 9 rfl rfl)
theorem dX7_merge_83 : decode cX7_merge 83 = .ok (.iload 6, 2) := dk_21 6 (dk_at dksX7_merge_3 12 rfl rfl)
theorem dX7_merge_85 : decode cX7_merge 85 = .ok (.if_icmp .ne 15, 3) := dk_160 0 15 (dk_at dksX7_merge_3 14 rfl rfl)
theorem dX7_merge_88 : decode cX7_merge 88 = .ok (.aload_n 0, 1) := dk_42 (dk_at dksX7_merge_3 17 rfl rfl)
theorem dX7_merge_89 : decode cX7_merge 89 = .ok (.iload_n 3, 1) := dk_29 (dk_at dksX7_merge_3 18 rfl rfl)
theorem dX7_merge_90 : decode cX7_merge 90 = .ok (.iconst 0, 1) := dk_3 (dk_at dksX7_merge_3 19 rfl rfl)
theorem dX7_merge_91 : decode cX7_merge 91 = .ok (.iconst 0, 1) := dk_3 (dk_at dksX7_merge_3 20 rfl rfl)
theorem dX7_merge_92 : decode cX7_merge 92 = .ok (.invokevirtual 104, 3) := dk_182 0 104 (dk_at dksX7_merge_3 21 rfl rfl)
theorem dX7_merge_95 : decode cX7_merge 95 = .ok (.iload 6, 2) := dk_21 6 (dk_at dksX7_merge_4 0 rfl rfl)
theorem dX7_merge_97 : decode cX7_merge 97 = .ok (.if_icmp .eq 14, 3) := dk_159 0 14 (dk_at dksX7_merge_4 2 rfl rfl)
theorem dX7_merge_100 : decode cX7_merge 100 = .ok (.aload_n 0, 1) := dk_42 (dk_at dksX7_merge_4 5 rfl rfl)
theorem dX7_merge_101 : decode cX7_merge 101 = .ok (.iconst (-1), 1) := dk_2 (dk_at dksX7_merge_4 6 rfl rfl)
theorem dX7_merge_102 : decode cX7_merge 102 = .ok (.iconst 4, 1) := dk_7 (dk_at dksX7_merge_4 7 rfl rfl)
theorem dX7_merge_103 : decode cX7_merge 103 = .ok (.invokevirtual 253, 3) := dk_182 0 253 (dk_at dksX7_merge_4 8 rfl rfl)
theorem dX7_merge_106 : decode cX7_merge 106 = .ok (.aload_n 0, 1) := dk_42 (dk_at dksX7_merge_4 11 rfl rfl)
theorem dX7_merge_107 : decode cX7_merge 107 = .ok (.getfield 237, 3) := dk_180 0 237 (dk_at dksX7_merge_4 12 rfl rfl)
theorem dX7_merge_110 : decode cX7_merge 110 = .ok (.ireturn, 1) := dk_172 (dk_at dksX7_merge_4 15 rfl rfl)
theorem dX7_merge_111 : decode cX7_merge 111 = .ok (.aload_n 0, 1) := dk_42 (dk_at dksX7_merge_4 16 rfl rfl)
theorem dX7_merge_112 : decode cX7_merge 112 = .ok (.iload_n 1, 1) := dk_27 (dk_at dksX7_merge_4 17 rfl rfl)
theorem dX7_merge_113 : decode cX7_merge 113 = .ok (.iload_n 2, 1) := dk_28 (dk_at dksX7_merge_4 18 rfl rfl)
theorem dX7_merge_114 : decode cX7_merge 114 = .ok (.iload_n 3, 1) := dk_29 (dk_at dksX7_merge_4 19 rfl rfl)
theorem dX7_merge_115 : decode cX7_merge 115 = .ok (.invokevirtual 256, 3) := dk_182 1 0 (dk_at dksX7_merge_4 20 rfl rfl)
theorem dX7_merge_118 : decode cX7_merge 118 = .ok (.istore 7, 2) := dk_54 7 (dk_at dksX7_merge_5 0 rfl rfl)
theorem dX7_merge_120 : decode cX7_merge 120 = .ok (.iload 7, 2) := dk_21 7 (dk_at dksX7_merge_5 2 rfl rfl)
theorem dX7_merge_122 : decode cX7_merge 122 = .ok (.ifCond .ne 9, 3) := dk_154 0 9 (dk_at dksX7_merge_5 4 rfl rfl)
theorem dX7_merge_125 : decode cX7_merge 125 = .ok (.aload_n 0, 1) := dk_42 (dk_at dksX7_merge_5 7 rfl rfl)
theorem dX7_merge_126 : decode cX7_merge 126 = .ok (.iconst (-1), 1) := dk_2 (dk_at dksX7_merge_5 8 rfl rfl)
theorem dX7_merge_127 : decode cX7_merge 127 = .ok (.iconst 5, 1) := dk_8 (dk_at dksX7_merge_5 9 rfl rfl)
theorem dX7_merge_128 : decode cX7_merge 128 = .ok (.invokevirtual 253, 3) := dk_182 0 253 (dk_at dksX7_merge_5 10 rfl rfl)
theorem dX7_merge_131 : decode cX7_merge 131 = .ok (.aload_n 0, 1) := dk_42 (dk_at dksX7_merge_5 13 rfl rfl)
theorem dX7_merge_132 : decode cX7_merge 132 = .ok (.iload_n 2, 1) := dk_28 (dk_at dksX7_merge_5 14 rfl rfl)
theorem dX7_merge_133 : decode cX7_merge 133 = .ok (.iload_n 3, 1) := dk_29 (dk_at dksX7_merge_5 15 rfl rfl)
theorem dX7_merge_134 : decode cX7_merge 134 = .ok (.iconst (-1), 1) := dk_2 (dk_at dksX7_merge_5 16 rfl rfl)
theorem dX7_merge_135 : decode cX7_merge 135 = .ok (.invokevirtual 259, 3) := dk_182 1 3 (dk_at dksX7_merge_5 17 rfl rfl)
theorem dX7_merge_138 : decode cX7_merge 138 = .ok (.istore 8, 2) := dk_54 8 (dk_at dksX7_merge_5 20 rfl rfl)
theorem dX7_merge_140 : decode cX7_merge 140 = .ok (.iload 8, 2) := dk_21 8 (dk_at dksX7_merge_5 22 rfl rfl)
theorem dX7_merge_142 : decode cX7_merge 142 = .ok (.ifCond .lt 59, 3) := dk_155 0 59 (dk_at dksX7_merge_6 0 rfl rfl)
theorem dX7_merge_145 : decode cX7_merge 145 = .ok (.iconst 0, 1) := dk_3 (dk_at dksX7_merge_6 3 rfl rfl)
theorem dX7_merge_146 : decode cX7_merge 146 = .ok (.istore 9, 2) := dk_54 9 (dk_at dksX7_merge_6 4 rfl rfl)
theorem dX7_merge_148 : decode cX7_merge 148 = .ok (.iload 9, 2) := dk_21 9 (dk_at dksX7_merge_6 6 rfl rfl)
theorem dX7_merge_150 : decode cX7_merge 150 = .ok (.iconst 4, 1) := dk_7 (dk_at dksX7_merge_6 8 rfl rfl)
theorem dX7_merge_151 : decode cX7_merge 151 = .ok (.if_icmp .ge 37, 3) := dk_162 0 37 (dk_at dksX7_merge_6 9 rfl rfl)
theorem dX7_merge_154 : decode cX7_merge 154 = .ok (.aload_n 0, 1) := dk_42 (dk_at dksX7_merge_6 12 rfl rfl)
theorem dX7_merge_155 : decode cX7_merge 155 = .ok (.iload_n 1, 1) := dk_27 (dk_at dksX7_merge_6 13 rfl rfl)
theorem dX7_merge_156 : decode cX7_merge 156 = .ok (.iload_n 2, 1) := dk_28 (dk_at dksX7_merge_6 14 rfl rfl)
theorem dX7_merge_157 : decode cX7_merge 157 = .ok (.iload_n 3, 1) := dk_29 (dk_at dksX7_merge_6 15 rfl rfl)
theorem dX7_merge_158 : decode cX7_merge 158 = .ok (.iload 8, 2) := dk_21 8 (dk_at dksX7_merge_6 16 rfl rfl)
theorem dX7_merge_160 : decode cX7_merge 160 = .ok (.iload 9, 2) := dk_21 9 (dk_at dksX7_merge_6 18 rfl rfl)
theorem dX7_merge_162 : decode cX7_merge 162 = .ok (.invokevirtual 247, 3) := dk_182 0 247 (dk_at dksX7_merge_6 20 rfl rfl)
theorem dX7_merge_165 : decode cX7_merge 165 = .ok (.istore 10, 2) := dk_54 10 (dk_at dksX7_merge_7 0 rfl rfl)
theorem dX7_merge_167 : decode cX7_merge 167 = .ok (.aload_n 0, 1) := dk_42 (dk_at dksX7_merge_7 2 rfl rfl)
theorem dX7_merge_168 : decode cX7_merge 168 = .ok (.getfield 240, 3) := dk_180 0 240 (dk_at dksX7_merge_7 3 rfl rfl)
theorem dX7_merge_171 : decode cX7_merge 171 = .ok (.ifCond .eq 11, 3) := dk_153 0 11 (dk_at dksX7_merge_7 6 rfl rfl)
theorem dX7_merge_174 : decode cX7_merge 174 = .ok (.aload_n 0, 1) := dk_42 (dk_at dksX7_merge_7 9 rfl rfl)
theorem dX7_merge_175 : decode cX7_merge 175 = .ok (.iload 8, 2) := dk_21 8 (dk_at dksX7_merge_7 10 rfl rfl)
theorem dX7_merge_177 : decode cX7_merge 177 = .ok (.iload 9, 2) := dk_21 9 (dk_at dksX7_merge_7 12 rfl rfl)
theorem dX7_merge_179 : decode cX7_merge 179 = .ok (.invokevirtual 253, 3) := dk_182 0 253 (dk_at dksX7_merge_7 14 rfl rfl)
theorem dX7_merge_182 : decode cX7_merge 182 = .ok (.iinc 9 1, 3) := dk_132 9 1 (dk_at dksX7_merge_7 17 rfl rfl)
theorem dX7_merge_185 : decode cX7_merge 185 = .ok (.goto (-37), 3) := dk_167 255 219 (dk_at dksX7_merge_7 20 rfl rfl)
theorem dX7_merge_188 : decode cX7_merge 188 = .ok (.aload_n 0, 1) := dk_42 (dk_at dksX7_merge_7 23 rfl rfl)
theorem dX7_merge_189 : decode cX7_merge 189 = .ok (.iload_n 2, 1) := dk_28 (dk_at dksX7_merge_8 0 rfl rfl)
theorem dX7_merge_190 : decode cX7_merge 190 = .ok (.iload_n 3, 1) := dk_29 (dk_at dksX7_merge_8 1 rfl rfl)
theorem dX7_merge_191 : decode cX7_merge 191 = .ok (.iload 8, 2) := dk_21 8 (dk_at dksX7_merge_8 2 rfl rfl)
theorem dX7_merge_193 : decode cX7_merge 193 = .ok (.invokevirtual 259, 3) := dk_182 1 3 (dk_at dksX7_merge_8 4 rfl rfl)
theorem dX7_merge_196 : decode cX7_merge 196 = .ok (.istore 8, 2) := dk_54 8 (dk_at dksX7_merge_8 7 rfl rfl)
theorem dX7_merge_198 : decode cX7_merge 198 = .ok (.goto (-58), 3) := dk_167 255 198 (dk_at dksX7_merge_8 9 rfl rfl)
theorem dX7_merge_201 : decode cX7_merge 201 = .ok (.iload 7, 2) := dk_21 7 (dk_at dksX7_merge_8 12 rfl rfl)
theorem dX7_merge_203 : decode cX7_merge 203 = .ok (.ifCond .eq 22, 3) := dk_153 0 22 (dk_at dksX7_merge_8 14 rfl rfl)
theorem dX7_merge_206 : decode cX7_merge 206 = .ok (.aload_n 0, 1) := dk_42 (dk_at dksX7_merge_8 17 rfl rfl)
theorem dX7_merge_207 : decode cX7_merge 207 = .ok (.aload_n 0, 1) := dk_42 (dk_at dksX7_merge_8 18 rfl rfl)
theorem dX7_merge_208 : decode cX7_merge 208 = .ok (.getfield 13, 3) := dk_180 0 13 (dk_at dksX7_merge_8 19 rfl rfl)
theorem dX7_merge_211 : decode cX7_merge 211 = .ok (.bipush 9, 2) := dk_16 9 (dk_at dksX7_merge_8 22 rfl rfl)
theorem dX7_merge_213 : decode cX7_merge 213 = .ok (.iaload, 1) := dk_46 (dk_at dksX7_merge_9 0 rfl rfl)
theorem dX7_merge_214 : decode cX7_merge 214 = .ok (.putfield 250, 3) := dk_181 0 250 (dk_at dksX7_merge_9 1 rfl rfl)
theorem dX7_merge_217 : decode cX7_merge 217 = .ok (.aload_n 0, 1) := dk_42 (dk_at dksX7_merge_9 4 rfl rfl)
theorem dX7_merge_218 : decode cX7_merge 218 = .ok (.bipush 9, 2) := dk_16 9 (dk_at dksX7_merge_9 5 rfl rfl)
theorem dX7_merge_220 : decode cX7_merge 220 = .ok (.iload 4, 2) := dk_21 4 (dk_at dksX7_merge_9 7 rfl rfl)
theorem dX7_merge_222 : decode cX7_merge 222 = .ok (.invokevirtual 151, 3) := dk_182 0 151 (dk_at dksX7_merge_9 9 rfl rfl)
theorem dX7_merge_225 : decode cX7_merge 225 = .ok (.aload_n 0, 1) := dk_42 (dk_at dksX7_merge_9 12 rfl rfl)
theorem dX7_merge_226 : decode cX7_merge 226 = .ok (.getfield 237, 3) := dk_180 0 237 (dk_at dksX7_merge_9 13 rfl rfl)
theorem dX7_merge_229 : decode cX7_merge 229 = .ok (.ireturn, 1) := dk_172 (dk_at dksX7_merge_9 16 rfl rfl)
abbrev cX7_clashed : ByteArray := prog_17_method_62_code
def yX7_clashed : MethodName := ⟨RX7, "clashed", "(II)V"⟩
def dkwX7_clashed_1 : List UInt8 := [180, 0, 237, 4, 96, 181, 0, 237, 177]
abbrev dktX7_clashed_1 : List UInt8 := dkwX7_clashed_1 ++ []
def dkwX7_clashed_0 : List UInt8 := [42, 180, 0, 84, 42, 180, 0, 237, 27, 79, 42, 180, 0, 87, 42, 180, 0, 237, 28, 79, 42, 89]
abbrev dktX7_clashed_0 : List UInt8 := dkwX7_clashed_0 ++ dktX7_clashed_1
theorem dksX7_clashed_0 : cX7_clashed.data.toList.drop 0 = dktX7_clashed_0 := by decide +kernel
theorem dksX7_clashed_1 : cX7_clashed.data.toList.drop 22 = dktX7_clashed_1 := dk_seg dksX7_clashed_0 22 rfl rfl
theorem dX7_clashed_0 : decode cX7_clashed 0 = .ok (.aload_n 0, 1) := dk_42 (dk_at dksX7_clashed_0 0 rfl rfl)
theorem dX7_clashed_1 : decode cX7_clashed 1 = .ok (.getfield 84, 3) := dk_180 0 84 (dk_at dksX7_clashed_0 1 rfl rfl)
theorem dX7_clashed_4 : decode cX7_clashed 4 = .ok (.aload_n 0, 1) := dk_42 (dk_at dksX7_clashed_0 4 rfl rfl)
theorem dX7_clashed_5 : decode cX7_clashed 5 = .ok (.getfield 237, 3) := dk_180 0 237 (dk_at dksX7_clashed_0 5 rfl rfl)
theorem dX7_clashed_8 : decode cX7_clashed 8 = .ok (.iload_n 1, 1) := dk_27 (dk_at dksX7_clashed_0 8 rfl rfl)
theorem dX7_clashed_9 : decode cX7_clashed 9 = .ok (.iastore, 1) := dk_79 (dk_at dksX7_clashed_0 9 rfl rfl)
theorem dX7_clashed_10 : decode cX7_clashed 10 = .ok (.aload_n 0, 1) := dk_42 (dk_at dksX7_clashed_0 10 rfl rfl)
theorem dX7_clashed_11 : decode cX7_clashed 11 = .ok (.getfield 87, 3) := dk_180 0 87 (dk_at dksX7_clashed_0 11 rfl rfl)
theorem dX7_clashed_14 : decode cX7_clashed 14 = .ok (.aload_n 0, 1) := dk_42 (dk_at dksX7_clashed_0 14 rfl rfl)
theorem dX7_clashed_15 : decode cX7_clashed 15 = .ok (.getfield 237, 3) := dk_180 0 237 (dk_at dksX7_clashed_0 15 rfl rfl)
theorem dX7_clashed_18 : decode cX7_clashed 18 = .ok (.iload_n 2, 1) := dk_28 (dk_at dksX7_clashed_0 18 rfl rfl)
theorem dX7_clashed_19 : decode cX7_clashed 19 = .ok (.iastore, 1) := dk_79 (dk_at dksX7_clashed_0 19 rfl rfl)
theorem dX7_clashed_20 : decode cX7_clashed 20 = .ok (.aload_n 0, 1) := dk_42 (dk_at dksX7_clashed_0 20 rfl rfl)
theorem dX7_clashed_21 : decode cX7_clashed 21 = .ok (.dup, 1) := dk_89 (dk_at dksX7_clashed_0 21 rfl rfl)
theorem dX7_clashed_22 : decode cX7_clashed 22 = .ok (.getfield 237, 3) := dk_180 0 237 (dk_at dksX7_clashed_1 0 rfl rfl)
theorem dX7_clashed_25 : decode cX7_clashed 25 = .ok (.iconst 1, 1) := dk_4 (dk_at dksX7_clashed_1 3 rfl rfl)
theorem dX7_clashed_26 : decode cX7_clashed 26 = .ok (.iadd, 1) := dk_96 (dk_at dksX7_clashed_1 4 rfl rfl)
theorem dX7_clashed_27 : decode cX7_clashed 27 = .ok (.putfield 237, 3) := dk_181 0 237 (dk_at dksX7_clashed_1 5 rfl rfl)
theorem dX7_clashed_30 : decode cX7_clashed 30 = .ok (.return_, 1) := dk_177 (dk_at dksX7_clashed_1 8 rfl rfl)
abbrev cX7_merges : ByteArray := prog_17_method_65_code
def yX7_merges : MethodName := ⟨RX7, "merges", "(III)Z"⟩
def dkwX7_merges_16 : List UInt8 := [132, 14, 255, 167, 255, 210, 167, 254, 160, 42, 16, 9, 182, 0, 194, 154, 0, 7, 4, 167, 0, 4, 3, 172]
abbrev dktX7_merges_16 : List UInt8 := dkwX7_merges_16 ++ []
def dkwX7_merges_15 : List UInt8 := [182, 0, 188, 3, 182, 0, 104, 79, 42, 180, 0, 93, 21, 4, 21, 6, 4, 96, 79, 132, 4, 1]
abbrev dktX7_merges_15 : List UInt8 := dkwX7_merges_15 ++ dktX7_merges_16
def dkwX7_merges_14 : List UInt8 := [54, 14, 21, 14, 155, 0, 47, 42, 180, 0, 90, 21, 4, 42, 21, 11, 42, 21, 11, 21, 12, 21, 14]
abbrev dktX7_merges_14 : List UInt8 := dkwX7_merges_14 ++ dktX7_merges_15
def dkwX7_merges_13 : List UInt8 := [21, 13, 158, 0, 18, 42, 16, 9, 21, 7, 4, 182, 0, 104, 6, 160, 0, 5, 3, 172, 21, 13, 4, 100]
abbrev dktX7_merges_13 : List UInt8 := dkwX7_merges_13 ++ dktX7_merges_14
def dkwX7_merges_12 : List UInt8 := [46, 4, 96, 79, 42, 21, 11, 21, 5, 182, 0, 181, 54, 12, 42, 21, 11, 21, 12, 182, 0, 175, 54, 13]
abbrev dktX7_merges_12 : List UInt8 := dkwX7_merges_12 ++ dktX7_merges_13
def dkwX7_merges_11 : List UInt8 := [182, 0, 181, 21, 12, 182, 0, 104, 182, 0, 108, 132, 12, 1, 167, 255, 220, 42, 180, 0, 13, 16, 9, 92]
abbrev dktX7_merges_11 : List UInt8 := dkwX7_merges_11 ++ dktX7_merges_12
def dkwX7_merges_10 : List UInt8 := [54, 12, 21, 12, 16, 19, 162, 0, 35, 42, 16, 9, 21, 7, 21, 12, 42, 21, 10, 42, 21, 10, 21, 5]
abbrev dktX7_merges_10 : List UInt8 := dkwX7_merges_10 ++ dktX7_merges_11
def dkwX7_merges_9 : List UInt8 := [21, 9, 21, 5, 182, 0, 181, 21, 12, 182, 0, 104, 182, 0, 108, 132, 12, 1, 167, 255, 220, 16, 10]
abbrev dktX7_merges_9 : List UInt8 := dkwX7_merges_9 ++ dktX7_merges_10
def dkwX7_merges_8 : List UInt8 := [182, 0, 108, 6, 54, 12, 21, 12, 16, 10, 162, 0, 35, 42, 16, 9, 21, 7, 21, 12, 42, 21, 9, 42]
abbrev dktX7_merges_8 : List UInt8 := dkwX7_merges_8 ++ dktX7_merges_9
def dkwX7_merges_7 : List UInt8 := [21, 8, 21, 5, 182, 0, 181, 4, 182, 0, 104, 182, 0, 108, 42, 16, 9, 21, 7, 5, 21, 6]
abbrev dktX7_merges_7 : List UInt8 := dkwX7_merges_7 ++ dktX7_merges_8
def dkwX7_merges_6 : List UInt8 := [54, 11, 42, 16, 9, 21, 7, 3, 21, 5, 182, 0, 108, 42, 16, 9, 21, 7, 4, 42, 21, 8, 42]
abbrev dktX7_merges_6 : List UInt8 := dkwX7_merges_6 ++ dktX7_merges_7
def dkwX7_merges_5 : List UInt8 := [54, 9, 42, 27, 28, 29, 21, 5, 5, 182, 0, 247, 54, 10, 42, 27, 28, 29, 21, 5, 6, 182, 0, 247]
abbrev dktX7_merges_5 : List UInt8 := dkwX7_merges_5 ++ dktX7_merges_6
def dkwX7_merges_4 : List UInt8 := [16, 30, 159, 0, 10, 21, 6, 16, 12, 161, 0, 5, 3, 172, 42, 27, 28, 29, 21, 5, 4, 182, 0, 247]
abbrev dktX7_merges_4 : List UInt8 := dkwX7_merges_4 ++ dktX7_merges_5
def dkwX7_merges_3 : List UInt8 := [3, 182, 0, 247, 54, 8, 42, 16, 9, 21, 5, 182, 0, 181, 156, 0, 22, 21, 8, 155, 0, 17, 21, 7]
abbrev dktX7_merges_3 : List UInt8 := dkwX7_merges_3 ++ dktX7_merges_4
def dkwX7_merges_2 : List UInt8 := [42, 180, 0, 93, 21, 4, 46, 54, 6, 42, 180, 0, 13, 16, 9, 46, 54, 7, 42, 27, 28, 29, 21, 5]
abbrev dktX7_merges_2 : List UInt8 := dkwX7_merges_2 ++ dktX7_merges_3
def dkwX7_merges_1 : List UInt8 := [42, 180, 0, 93, 3, 3, 79, 21, 4, 158, 1, 97, 132, 4, 255, 42, 180, 0, 90, 21, 4, 46, 54, 5]
abbrev dktX7_merges_1 : List UInt8 := dkwX7_merges_1 ++ dktX7_merges_2
def dkwX7_merges_0 : List UInt8 := [42, 180, 0, 13, 16, 9, 3, 79, 4, 54, 4, 42, 180, 0, 90, 3, 42, 27, 3, 3, 182, 0, 104, 79]
abbrev dktX7_merges_0 : List UInt8 := dkwX7_merges_0 ++ dktX7_merges_1
theorem dksX7_merges_0 : cX7_merges.data.toList.drop 0 = dktX7_merges_0 := by decide +kernel
theorem dksX7_merges_1 : cX7_merges.data.toList.drop 24 = dktX7_merges_1 := dk_seg dksX7_merges_0 24 rfl rfl
theorem dksX7_merges_2 : cX7_merges.data.toList.drop 48 = dktX7_merges_2 := dk_seg dksX7_merges_1 24 rfl rfl
theorem dksX7_merges_3 : cX7_merges.data.toList.drop 72 = dktX7_merges_3 := dk_seg dksX7_merges_2 24 rfl rfl
theorem dksX7_merges_4 : cX7_merges.data.toList.drop 96 = dktX7_merges_4 := dk_seg dksX7_merges_3 24 rfl rfl
theorem dksX7_merges_5 : cX7_merges.data.toList.drop 120 = dktX7_merges_5 := dk_seg dksX7_merges_4 24 rfl rfl
theorem dksX7_merges_6 : cX7_merges.data.toList.drop 144 = dktX7_merges_6 := dk_seg dksX7_merges_5 24 rfl rfl
theorem dksX7_merges_7 : cX7_merges.data.toList.drop 167 = dktX7_merges_7 := dk_seg dksX7_merges_6 23 rfl rfl
theorem dksX7_merges_8 : cX7_merges.data.toList.drop 189 = dktX7_merges_8 := dk_seg dksX7_merges_7 22 rfl rfl
theorem dksX7_merges_9 : cX7_merges.data.toList.drop 213 = dktX7_merges_9 := dk_seg dksX7_merges_8 24 rfl rfl
theorem dksX7_merges_10 : cX7_merges.data.toList.drop 236 = dktX7_merges_10 := dk_seg dksX7_merges_9 23 rfl rfl
theorem dksX7_merges_11 : cX7_merges.data.toList.drop 260 = dktX7_merges_11 := dk_seg dksX7_merges_10 24 rfl rfl
theorem dksX7_merges_12 : cX7_merges.data.toList.drop 284 = dktX7_merges_12 := dk_seg dksX7_merges_11 24 rfl rfl
theorem dksX7_merges_13 : cX7_merges.data.toList.drop 308 = dktX7_merges_13 := dk_seg dksX7_merges_12 24 rfl rfl
theorem dksX7_merges_14 : cX7_merges.data.toList.drop 332 = dktX7_merges_14 := dk_seg dksX7_merges_13 24 rfl rfl
theorem dksX7_merges_15 : cX7_merges.data.toList.drop 355 = dktX7_merges_15 := dk_seg dksX7_merges_14 23 rfl rfl
theorem dksX7_merges_16 : cX7_merges.data.toList.drop 377 = dktX7_merges_16 := dk_seg dksX7_merges_15 22 rfl rfl
theorem dX7_merges_0 : decode cX7_merges 0 = .ok (.aload_n 0, 1) := dk_42 (dk_at dksX7_merges_0 0 rfl rfl)
theorem dX7_merges_1 : decode cX7_merges 1 = .ok (.getfield 13, 3) := dk_180 0 13 (dk_at dksX7_merges_0 1 rfl rfl)
theorem dX7_merges_4 : decode cX7_merges 4 = .ok (.bipush 9, 2) := dk_16 9 (dk_at dksX7_merges_0 4 rfl rfl)
theorem dX7_merges_6 : decode cX7_merges 6 = .ok (.iconst 0, 1) := dk_3 (dk_at dksX7_merges_0 6 rfl rfl)
theorem dX7_merges_7 : decode cX7_merges 7 = .ok (.iastore, 1) := dk_79 (dk_at dksX7_merges_0 7 rfl rfl)
theorem dX7_merges_8 : decode cX7_merges 8 = .ok (.iconst 1, 1) := dk_4 (dk_at dksX7_merges_0 8 rfl rfl)
theorem dX7_merges_9 : decode cX7_merges 9 = .ok (.istore 4, 2) := dk_54 4 (dk_at dksX7_merges_0 9 rfl rfl)
theorem dX7_merges_11 : decode cX7_merges 11 = .ok (.aload_n 0, 1) := dk_42 (dk_at dksX7_merges_0 11 rfl rfl)
theorem dX7_merges_12 : decode cX7_merges 12 = .ok (.getfield 90, 3) := dk_180 0 90 (dk_at dksX7_merges_0 12 rfl rfl)
theorem dX7_merges_15 : decode cX7_merges 15 = .ok (.iconst 0, 1) := dk_3 (dk_at dksX7_merges_0 15 rfl rfl)
theorem dX7_merges_16 : decode cX7_merges 16 = .ok (.aload_n 0, 1) := dk_42 (dk_at dksX7_merges_0 16 rfl rfl)
theorem dX7_merges_17 : decode cX7_merges 17 = .ok (.iload_n 1, 1) := dk_27 (dk_at dksX7_merges_0 17 rfl rfl)
theorem dX7_merges_18 : decode cX7_merges 18 = .ok (.iconst 0, 1) := dk_3 (dk_at dksX7_merges_0 18 rfl rfl)
theorem dX7_merges_19 : decode cX7_merges 19 = .ok (.iconst 0, 1) := dk_3 (dk_at dksX7_merges_0 19 rfl rfl)
theorem dX7_merges_20 : decode cX7_merges 20 = .ok (.invokevirtual 104, 3) := dk_182 0 104 (dk_at dksX7_merges_0 20 rfl rfl)
theorem dX7_merges_23 : decode cX7_merges 23 = .ok (.iastore, 1) := dk_79 (dk_at dksX7_merges_0 23 rfl rfl)
theorem dX7_merges_24 : decode cX7_merges 24 = .ok (.aload_n 0, 1) := dk_42 (dk_at dksX7_merges_1 0 rfl rfl)
theorem dX7_merges_25 : decode cX7_merges 25 = .ok (.getfield 93, 3) := dk_180 0 93 (dk_at dksX7_merges_1 1 rfl rfl)
theorem dX7_merges_28 : decode cX7_merges 28 = .ok (.iconst 0, 1) := dk_3 (dk_at dksX7_merges_1 4 rfl rfl)
theorem dX7_merges_29 : decode cX7_merges 29 = .ok (.iconst 0, 1) := dk_3 (dk_at dksX7_merges_1 5 rfl rfl)
theorem dX7_merges_30 : decode cX7_merges 30 = .ok (.iastore, 1) := dk_79 (dk_at dksX7_merges_1 6 rfl rfl)
theorem dX7_merges_31 : decode cX7_merges 31 = .ok (.iload 4, 2) := dk_21 4 (dk_at dksX7_merges_1 7 rfl rfl)
theorem dX7_merges_33 : decode cX7_merges 33 = .ok (.ifCond .le 353, 3) := dk_158 1 97 (dk_at dksX7_merges_1 9 rfl rfl)
theorem dX7_merges_36 : decode cX7_merges 36 = .ok (.iinc 4 (-1), 3) := dk_132 4 255 (dk_at dksX7_merges_1 12 rfl rfl)
theorem dX7_merges_39 : decode cX7_merges 39 = .ok (.aload_n 0, 1) := dk_42 (dk_at dksX7_merges_1 15 rfl rfl)
theorem dX7_merges_40 : decode cX7_merges 40 = .ok (.getfield 90, 3) := dk_180 0 90 (dk_at dksX7_merges_1 16 rfl rfl)
theorem dX7_merges_43 : decode cX7_merges 43 = .ok (.iload 4, 2) := dk_21 4 (dk_at dksX7_merges_1 19 rfl rfl)
theorem dX7_merges_45 : decode cX7_merges 45 = .ok (.iaload, 1) := dk_46 (dk_at dksX7_merges_1 21 rfl rfl)
theorem dX7_merges_46 : decode cX7_merges 46 = .ok (.istore 5, 2) := dk_54 5 (dk_at dksX7_merges_1 22 rfl rfl)
theorem dX7_merges_48 : decode cX7_merges 48 = .ok (.aload_n 0, 1) := dk_42 (dk_at dksX7_merges_2 0 rfl rfl)
theorem dX7_merges_49 : decode cX7_merges 49 = .ok (.getfield 93, 3) := dk_180 0 93 (dk_at dksX7_merges_2 1 rfl rfl)
theorem dX7_merges_52 : decode cX7_merges 52 = .ok (.iload 4, 2) := dk_21 4 (dk_at dksX7_merges_2 4 rfl rfl)
theorem dX7_merges_54 : decode cX7_merges 54 = .ok (.iaload, 1) := dk_46 (dk_at dksX7_merges_2 6 rfl rfl)
theorem dX7_merges_55 : decode cX7_merges 55 = .ok (.istore 6, 2) := dk_54 6 (dk_at dksX7_merges_2 7 rfl rfl)
theorem dX7_merges_57 : decode cX7_merges 57 = .ok (.aload_n 0, 1) := dk_42 (dk_at dksX7_merges_2 9 rfl rfl)
theorem dX7_merges_58 : decode cX7_merges 58 = .ok (.getfield 13, 3) := dk_180 0 13 (dk_at dksX7_merges_2 10 rfl rfl)
theorem dX7_merges_61 : decode cX7_merges 61 = .ok (.bipush 9, 2) := dk_16 9 (dk_at dksX7_merges_2 13 rfl rfl)
theorem dX7_merges_63 : decode cX7_merges 63 = .ok (.iaload, 1) := dk_46 (dk_at dksX7_merges_2 15 rfl rfl)
theorem dX7_merges_64 : decode cX7_merges 64 = .ok (.istore 7, 2) := dk_54 7 (dk_at dksX7_merges_2 16 rfl rfl)
theorem dX7_merges_66 : decode cX7_merges 66 = .ok (.aload_n 0, 1) := dk_42 (dk_at dksX7_merges_2 18 rfl rfl)
theorem dX7_merges_67 : decode cX7_merges 67 = .ok (.iload_n 1, 1) := dk_27 (dk_at dksX7_merges_2 19 rfl rfl)
theorem dX7_merges_68 : decode cX7_merges 68 = .ok (.iload_n 2, 1) := dk_28 (dk_at dksX7_merges_2 20 rfl rfl)
theorem dX7_merges_69 : decode cX7_merges 69 = .ok (.iload_n 3, 1) := dk_29 (dk_at dksX7_merges_2 21 rfl rfl)
theorem dX7_merges_70 : decode cX7_merges 70 = .ok (.iload 5, 2) := dk_21 5 (dk_at dksX7_merges_2 22 rfl rfl)
theorem dX7_merges_72 : decode cX7_merges 72 = .ok (.iconst 0, 1) := dk_3 (dk_at dksX7_merges_3 0 rfl rfl)
theorem dX7_merges_73 : decode cX7_merges 73 = .ok (.invokevirtual 247, 3) := dk_182 0 247 (dk_at dksX7_merges_3 1 rfl rfl)
theorem dX7_merges_76 : decode cX7_merges 76 = .ok (.istore 8, 2) := dk_54 8 (dk_at dksX7_merges_3 4 rfl rfl)
theorem dX7_merges_78 : decode cX7_merges 78 = .ok (.aload_n 0, 1) := dk_42 (dk_at dksX7_merges_3 6 rfl rfl)
theorem dX7_merges_79 : decode cX7_merges 79 = .ok (.bipush 9, 2) := dk_16 9 (dk_at dksX7_merges_3 7 rfl rfl)
theorem dX7_merges_81 : decode cX7_merges 81 = .ok (.iload 5, 2) := dk_21 5 (dk_at dksX7_merges_3 9 rfl rfl)
theorem dX7_merges_83 : decode cX7_merges 83 = .ok (.invokevirtual 181, 3) := dk_182 0 181 (dk_at dksX7_merges_3 11 rfl rfl)
theorem dX7_merges_86 : decode cX7_merges 86 = .ok (.ifCond .ge 22, 3) := dk_156 0 22 (dk_at dksX7_merges_3 14 rfl rfl)
theorem dX7_merges_89 : decode cX7_merges 89 = .ok (.iload 8, 2) := dk_21 8 (dk_at dksX7_merges_3 17 rfl rfl)
theorem dX7_merges_91 : decode cX7_merges 91 = .ok (.ifCond .lt 17, 3) := dk_155 0 17 (dk_at dksX7_merges_3 19 rfl rfl)
theorem dX7_merges_94 : decode cX7_merges 94 = .ok (.iload 7, 2) := dk_21 7 (dk_at dksX7_merges_3 22 rfl rfl)
theorem dX7_merges_96 : decode cX7_merges 96 = .ok (.bipush 30, 2) := dk_16 30 (dk_at dksX7_merges_4 0 rfl rfl)
theorem dX7_merges_98 : decode cX7_merges 98 = .ok (.if_icmp .eq 10, 3) := dk_159 0 10 (dk_at dksX7_merges_4 2 rfl rfl)
theorem dX7_merges_101 : decode cX7_merges 101 = .ok (.iload 6, 2) := dk_21 6 (dk_at dksX7_merges_4 5 rfl rfl)
theorem dX7_merges_103 : decode cX7_merges 103 = .ok (.bipush 12, 2) := dk_16 12 (dk_at dksX7_merges_4 7 rfl rfl)
theorem dX7_merges_105 : decode cX7_merges 105 = .ok (.if_icmp .lt 5, 3) := dk_161 0 5 (dk_at dksX7_merges_4 9 rfl rfl)
theorem dX7_merges_108 : decode cX7_merges 108 = .ok (.iconst 0, 1) := dk_3 (dk_at dksX7_merges_4 12 rfl rfl)
theorem dX7_merges_109 : decode cX7_merges 109 = .ok (.ireturn, 1) := dk_172 (dk_at dksX7_merges_4 13 rfl rfl)
theorem dX7_merges_110 : decode cX7_merges 110 = .ok (.aload_n 0, 1) := dk_42 (dk_at dksX7_merges_4 14 rfl rfl)
theorem dX7_merges_111 : decode cX7_merges 111 = .ok (.iload_n 1, 1) := dk_27 (dk_at dksX7_merges_4 15 rfl rfl)
theorem dX7_merges_112 : decode cX7_merges 112 = .ok (.iload_n 2, 1) := dk_28 (dk_at dksX7_merges_4 16 rfl rfl)
theorem dX7_merges_113 : decode cX7_merges 113 = .ok (.iload_n 3, 1) := dk_29 (dk_at dksX7_merges_4 17 rfl rfl)
theorem dX7_merges_114 : decode cX7_merges 114 = .ok (.iload 5, 2) := dk_21 5 (dk_at dksX7_merges_4 18 rfl rfl)
theorem dX7_merges_116 : decode cX7_merges 116 = .ok (.iconst 1, 1) := dk_4 (dk_at dksX7_merges_4 20 rfl rfl)
theorem dX7_merges_117 : decode cX7_merges 117 = .ok (.invokevirtual 247, 3) := dk_182 0 247 (dk_at dksX7_merges_4 21 rfl rfl)
theorem dX7_merges_120 : decode cX7_merges 120 = .ok (.istore 9, 2) := dk_54 9 (dk_at dksX7_merges_5 0 rfl rfl)
theorem dX7_merges_122 : decode cX7_merges 122 = .ok (.aload_n 0, 1) := dk_42 (dk_at dksX7_merges_5 2 rfl rfl)
theorem dX7_merges_123 : decode cX7_merges 123 = .ok (.iload_n 1, 1) := dk_27 (dk_at dksX7_merges_5 3 rfl rfl)
theorem dX7_merges_124 : decode cX7_merges 124 = .ok (.iload_n 2, 1) := dk_28 (dk_at dksX7_merges_5 4 rfl rfl)
theorem dX7_merges_125 : decode cX7_merges 125 = .ok (.iload_n 3, 1) := dk_29 (dk_at dksX7_merges_5 5 rfl rfl)
theorem dX7_merges_126 : decode cX7_merges 126 = .ok (.iload 5, 2) := dk_21 5 (dk_at dksX7_merges_5 6 rfl rfl)
theorem dX7_merges_128 : decode cX7_merges 128 = .ok (.iconst 2, 1) := dk_5 (dk_at dksX7_merges_5 8 rfl rfl)
theorem dX7_merges_129 : decode cX7_merges 129 = .ok (.invokevirtual 247, 3) := dk_182 0 247 (dk_at dksX7_merges_5 9 rfl rfl)
theorem dX7_merges_132 : decode cX7_merges 132 = .ok (.istore 10, 2) := dk_54 10 (dk_at dksX7_merges_5 12 rfl rfl)
theorem dX7_merges_134 : decode cX7_merges 134 = .ok (.aload_n 0, 1) := dk_42 (dk_at dksX7_merges_5 14 rfl rfl)
theorem dX7_merges_135 : decode cX7_merges 135 = .ok (.iload_n 1, 1) := dk_27 (dk_at dksX7_merges_5 15 rfl rfl)
theorem dX7_merges_136 : decode cX7_merges 136 = .ok (.iload_n 2, 1) := dk_28 (dk_at dksX7_merges_5 16 rfl rfl)
theorem dX7_merges_137 : decode cX7_merges 137 = .ok (.iload_n 3, 1) := dk_29 (dk_at dksX7_merges_5 17 rfl rfl)
theorem dX7_merges_138 : decode cX7_merges 138 = .ok (.iload 5, 2) := dk_21 5 (dk_at dksX7_merges_5 18 rfl rfl)
theorem dX7_merges_140 : decode cX7_merges 140 = .ok (.iconst 3, 1) := dk_6 (dk_at dksX7_merges_5 20 rfl rfl)
theorem dX7_merges_141 : decode cX7_merges 141 = .ok (.invokevirtual 247, 3) := dk_182 0 247 (dk_at dksX7_merges_5 21 rfl rfl)
theorem dX7_merges_144 : decode cX7_merges 144 = .ok (.istore 11, 2) := dk_54 11 (dk_at dksX7_merges_6 0 rfl rfl)
theorem dX7_merges_146 : decode cX7_merges 146 = .ok (.aload_n 0, 1) := dk_42 (dk_at dksX7_merges_6 2 rfl rfl)
theorem dX7_merges_147 : decode cX7_merges 147 = .ok (.bipush 9, 2) := dk_16 9 (dk_at dksX7_merges_6 3 rfl rfl)
theorem dX7_merges_149 : decode cX7_merges 149 = .ok (.iload 7, 2) := dk_21 7 (dk_at dksX7_merges_6 5 rfl rfl)
theorem dX7_merges_151 : decode cX7_merges 151 = .ok (.iconst 0, 1) := dk_3 (dk_at dksX7_merges_6 7 rfl rfl)
theorem dX7_merges_152 : decode cX7_merges 152 = .ok (.iload 5, 2) := dk_21 5 (dk_at dksX7_merges_6 8 rfl rfl)
theorem dX7_merges_154 : decode cX7_merges 154 = .ok (.invokevirtual 108, 3) := dk_182 0 108 (dk_at dksX7_merges_6 10 rfl rfl)
theorem dX7_merges_157 : decode cX7_merges 157 = .ok (.aload_n 0, 1) := dk_42 (dk_at dksX7_merges_6 13 rfl rfl)
theorem dX7_merges_158 : decode cX7_merges 158 = .ok (.bipush 9, 2) := dk_16 9 (dk_at dksX7_merges_6 14 rfl rfl)
theorem dX7_merges_160 : decode cX7_merges 160 = .ok (.iload 7, 2) := dk_21 7 (dk_at dksX7_merges_6 16 rfl rfl)
theorem dX7_merges_162 : decode cX7_merges 162 = .ok (.iconst 1, 1) := dk_4 (dk_at dksX7_merges_6 18 rfl rfl)
theorem dX7_merges_163 : decode cX7_merges 163 = .ok (.aload_n 0, 1) := dk_42 (dk_at dksX7_merges_6 19 rfl rfl)
theorem dX7_merges_164 : decode cX7_merges 164 = .ok (.iload 8, 2) := dk_21 8 (dk_at dksX7_merges_6 20 rfl rfl)
theorem dX7_merges_166 : decode cX7_merges 166 = .ok (.aload_n 0, 1) := dk_42 (dk_at dksX7_merges_6 22 rfl rfl)
theorem dX7_merges_167 : decode cX7_merges 167 = .ok (.iload 8, 2) := dk_21 8 (dk_at dksX7_merges_7 0 rfl rfl)
theorem dX7_merges_169 : decode cX7_merges 169 = .ok (.iload 5, 2) := dk_21 5 (dk_at dksX7_merges_7 2 rfl rfl)
theorem dX7_merges_171 : decode cX7_merges 171 = .ok (.invokevirtual 181, 3) := dk_182 0 181 (dk_at dksX7_merges_7 4 rfl rfl)
theorem dX7_merges_174 : decode cX7_merges 174 = .ok (.iconst 1, 1) := dk_4 (dk_at dksX7_merges_7 7 rfl rfl)
theorem dX7_merges_175 : decode cX7_merges 175 = .ok (.invokevirtual 104, 3) := dk_182 0 104 (dk_at dksX7_merges_7 8 rfl rfl)
theorem dX7_merges_178 : decode cX7_merges 178 = .ok (.invokevirtual 108, 3) := dk_182 0 108 (dk_at dksX7_merges_7 11 rfl rfl)
theorem dX7_merges_181 : decode cX7_merges 181 = .ok (.aload_n 0, 1) := dk_42 (dk_at dksX7_merges_7 14 rfl rfl)
theorem dX7_merges_182 : decode cX7_merges 182 = .ok (.bipush 9, 2) := dk_16 9 (dk_at dksX7_merges_7 15 rfl rfl)
theorem dX7_merges_184 : decode cX7_merges 184 = .ok (.iload 7, 2) := dk_21 7 (dk_at dksX7_merges_7 17 rfl rfl)
theorem dX7_merges_186 : decode cX7_merges 186 = .ok (.iconst 2, 1) := dk_5 (dk_at dksX7_merges_7 19 rfl rfl)
theorem dX7_merges_187 : decode cX7_merges 187 = .ok (.iload 6, 2) := dk_21 6 (dk_at dksX7_merges_7 20 rfl rfl)
theorem dX7_merges_189 : decode cX7_merges 189 = .ok (.invokevirtual 108, 3) := dk_182 0 108 (dk_at dksX7_merges_8 0 rfl rfl)
theorem dX7_merges_192 : decode cX7_merges 192 = .ok (.iconst 3, 1) := dk_6 (dk_at dksX7_merges_8 3 rfl rfl)
theorem dX7_merges_193 : decode cX7_merges 193 = .ok (.istore 12, 2) := dk_54 12 (dk_at dksX7_merges_8 4 rfl rfl)
theorem dX7_merges_195 : decode cX7_merges 195 = .ok (.iload 12, 2) := dk_21 12 (dk_at dksX7_merges_8 6 rfl rfl)
theorem dX7_merges_197 : decode cX7_merges 197 = .ok (.bipush 10, 2) := dk_16 10 (dk_at dksX7_merges_8 8 rfl rfl)
theorem dX7_merges_199 : decode cX7_merges 199 = .ok (.if_icmp .ge 35, 3) := dk_162 0 35 (dk_at dksX7_merges_8 10 rfl rfl)
theorem dX7_merges_202 : decode cX7_merges 202 = .ok (.aload_n 0, 1) := dk_42 (dk_at dksX7_merges_8 13 rfl rfl)
theorem dX7_merges_203 : decode cX7_merges 203 = .ok (.bipush 9, 2) := dk_16 9 (dk_at dksX7_merges_8 14 rfl rfl)
theorem dX7_merges_205 : decode cX7_merges 205 = .ok (.iload 7, 2) := dk_21 7 (dk_at dksX7_merges_8 16 rfl rfl)
theorem dX7_merges_207 : decode cX7_merges 207 = .ok (.iload 12, 2) := dk_21 12 (dk_at dksX7_merges_8 18 rfl rfl)
theorem dX7_merges_209 : decode cX7_merges 209 = .ok (.aload_n 0, 1) := dk_42 (dk_at dksX7_merges_8 20 rfl rfl)
theorem dX7_merges_210 : decode cX7_merges 210 = .ok (.iload 9, 2) := dk_21 9 (dk_at dksX7_merges_8 21 rfl rfl)
theorem dX7_merges_212 : decode cX7_merges 212 = .ok (.aload_n 0, 1) := dk_42 (dk_at dksX7_merges_8 23 rfl rfl)
theorem dX7_merges_213 : decode cX7_merges 213 = .ok (.iload 9, 2) := dk_21 9 (dk_at dksX7_merges_9 0 rfl rfl)
theorem dX7_merges_215 : decode cX7_merges 215 = .ok (.iload 5, 2) := dk_21 5 (dk_at dksX7_merges_9 2 rfl rfl)
theorem dX7_merges_217 : decode cX7_merges 217 = .ok (.invokevirtual 181, 3) := dk_182 0 181 (dk_at dksX7_merges_9 4 rfl rfl)
theorem dX7_merges_220 : decode cX7_merges 220 = .ok (.iload 12, 2) := dk_21 12 (dk_at dksX7_merges_9 7 rfl rfl)
theorem dX7_merges_222 : decode cX7_merges 222 = .ok (.invokevirtual 104, 3) := dk_182 0 104 (dk_at dksX7_merges_9 9 rfl rfl)
theorem dX7_merges_225 : decode cX7_merges 225 = .ok (.invokevirtual 108, 3) := dk_182 0 108 (dk_at dksX7_merges_9 12 rfl rfl)
theorem dX7_merges_228 : decode cX7_merges 228 = .ok (.iinc 12 1, 3) := dk_132 12 1 (dk_at dksX7_merges_9 15 rfl rfl)
theorem dX7_merges_231 : decode cX7_merges 231 = .ok (.goto (-36), 3) := dk_167 255 220 (dk_at dksX7_merges_9 18 rfl rfl)
theorem dX7_merges_234 : decode cX7_merges 234 = .ok (.bipush 10, 2) := dk_16 10 (dk_at dksX7_merges_9 21 rfl rfl)
theorem dX7_merges_236 : decode cX7_merges 236 = .ok (.istore 12, 2) := dk_54 12 (dk_at dksX7_merges_10 0 rfl rfl)
theorem dX7_merges_238 : decode cX7_merges 238 = .ok (.iload 12, 2) := dk_21 12 (dk_at dksX7_merges_10 2 rfl rfl)
theorem dX7_merges_240 : decode cX7_merges 240 = .ok (.bipush 19, 2) := dk_16 19 (dk_at dksX7_merges_10 4 rfl rfl)
theorem dX7_merges_242 : decode cX7_merges 242 = .ok (.if_icmp .ge 35, 3) := dk_162 0 35 (dk_at dksX7_merges_10 6 rfl rfl)
theorem dX7_merges_245 : decode cX7_merges 245 = .ok (.aload_n 0, 1) := dk_42 (dk_at dksX7_merges_10 9 rfl rfl)
theorem dX7_merges_246 : decode cX7_merges 246 = .ok (.bipush 9, 2) := dk_16 9 (dk_at dksX7_merges_10 10 rfl rfl)
theorem dX7_merges_248 : decode cX7_merges 248 = .ok (.iload 7, 2) := dk_21 7 (dk_at dksX7_merges_10 12 rfl rfl)
theorem dX7_merges_250 : decode cX7_merges 250 = .ok (.iload 12, 2) := dk_21 12 (dk_at dksX7_merges_10 14 rfl rfl)
theorem dX7_merges_252 : decode cX7_merges 252 = .ok (.aload_n 0, 1) := dk_42 (dk_at dksX7_merges_10 16 rfl rfl)
theorem dX7_merges_253 : decode cX7_merges 253 = .ok (.iload 10, 2) := dk_21 10 (dk_at dksX7_merges_10 17 rfl rfl)
theorem dX7_merges_255 : decode cX7_merges 255 = .ok (.aload_n 0, 1) := dk_42 (dk_at dksX7_merges_10 19 rfl rfl)
theorem dX7_merges_256 : decode cX7_merges 256 = .ok (.iload 10, 2) := dk_21 10 (dk_at dksX7_merges_10 20 rfl rfl)
theorem dX7_merges_258 : decode cX7_merges 258 = .ok (.iload 5, 2) := dk_21 5 (dk_at dksX7_merges_10 22 rfl rfl)
theorem dX7_merges_260 : decode cX7_merges 260 = .ok (.invokevirtual 181, 3) := dk_182 0 181 (dk_at dksX7_merges_11 0 rfl rfl)
theorem dX7_merges_263 : decode cX7_merges 263 = .ok (.iload 12, 2) := dk_21 12 (dk_at dksX7_merges_11 3 rfl rfl)
theorem dX7_merges_265 : decode cX7_merges 265 = .ok (.invokevirtual 104, 3) := dk_182 0 104 (dk_at dksX7_merges_11 5 rfl rfl)
theorem dX7_merges_268 : decode cX7_merges 268 = .ok (.invokevirtual 108, 3) := dk_182 0 108 (dk_at dksX7_merges_11 8 rfl rfl)
theorem dX7_merges_271 : decode cX7_merges 271 = .ok (.iinc 12 1, 3) := dk_132 12 1 (dk_at dksX7_merges_11 11 rfl rfl)
theorem dX7_merges_274 : decode cX7_merges 274 = .ok (.goto (-36), 3) := dk_167 255 220 (dk_at dksX7_merges_11 14 rfl rfl)
theorem dX7_merges_277 : decode cX7_merges 277 = .ok (.aload_n 0, 1) := dk_42 (dk_at dksX7_merges_11 17 rfl rfl)
theorem dX7_merges_278 : decode cX7_merges 278 = .ok (.getfield 13, 3) := dk_180 0 13 (dk_at dksX7_merges_11 18 rfl rfl)
theorem dX7_merges_281 : decode cX7_merges 281 = .ok (.bipush 9, 2) := dk_16 9 (dk_at dksX7_merges_11 21 rfl rfl)
theorem dX7_merges_283 : decode cX7_merges 283 = .ok (.dup2, 1) := dk_92 (dk_at dksX7_merges_11 23 rfl rfl)
theorem dX7_merges_284 : decode cX7_merges 284 = .ok (.iaload, 1) := dk_46 (dk_at dksX7_merges_12 0 rfl rfl)
theorem dX7_merges_285 : decode cX7_merges 285 = .ok (.iconst 1, 1) := dk_4 (dk_at dksX7_merges_12 1 rfl rfl)
theorem dX7_merges_286 : decode cX7_merges 286 = .ok (.iadd, 1) := dk_96 (dk_at dksX7_merges_12 2 rfl rfl)
theorem dX7_merges_287 : decode cX7_merges 287 = .ok (.iastore, 1) := dk_79 (dk_at dksX7_merges_12 3 rfl rfl)
theorem dX7_merges_288 : decode cX7_merges 288 = .ok (.aload_n 0, 1) := dk_42 (dk_at dksX7_merges_12 4 rfl rfl)
theorem dX7_merges_289 : decode cX7_merges 289 = .ok (.iload 11, 2) := dk_21 11 (dk_at dksX7_merges_12 5 rfl rfl)
theorem dX7_merges_291 : decode cX7_merges 291 = .ok (.iload 5, 2) := dk_21 5 (dk_at dksX7_merges_12 7 rfl rfl)
theorem dX7_merges_293 : decode cX7_merges 293 = .ok (.invokevirtual 181, 3) := dk_182 0 181 (dk_at dksX7_merges_12 9 rfl rfl)
theorem dX7_merges_296 : decode cX7_merges 296 = .ok (.istore 12, 2) := dk_54 12 (dk_at dksX7_merges_12 12 rfl rfl)
theorem dX7_merges_298 : decode cX7_merges 298 = .ok (.aload_n 0, 1) := dk_42 (dk_at dksX7_merges_12 14 rfl rfl)
theorem dX7_merges_299 : decode cX7_merges 299 = .ok (.iload 11, 2) := dk_21 11 (dk_at dksX7_merges_12 15 rfl rfl)
theorem dX7_merges_301 : decode cX7_merges 301 = .ok (.iload 12, 2) := dk_21 12 (dk_at dksX7_merges_12 17 rfl rfl)
theorem dX7_merges_303 : decode cX7_merges 303 = .ok (.invokevirtual 175, 3) := dk_182 0 175 (dk_at dksX7_merges_12 19 rfl rfl)
theorem dX7_merges_306 : decode cX7_merges 306 = .ok (.istore 13, 2) := dk_54 13 (dk_at dksX7_merges_12 22 rfl rfl)
theorem dX7_merges_308 : decode cX7_merges 308 = .ok (.iload 13, 2) := dk_21 13 (dk_at dksX7_merges_13 0 rfl rfl)
theorem dX7_merges_310 : decode cX7_merges 310 = .ok (.ifCond .le 18, 3) := dk_158 0 18 (dk_at dksX7_merges_13 2 rfl rfl)
theorem dX7_merges_313 : decode cX7_merges 313 = .ok (.aload_n 0, 1) := dk_42 (dk_at dksX7_merges_13 5 rfl rfl)
theorem dX7_merges_314 : decode cX7_merges 314 = .ok (.bipush 9, 2) := dk_16 9 (dk_at dksX7_merges_13 6 rfl rfl)
theorem dX7_merges_316 : decode cX7_merges 316 = .ok (.iload 7, 2) := dk_21 7 (dk_at dksX7_merges_13 8 rfl rfl)
theorem dX7_merges_318 : decode cX7_merges 318 = .ok (.iconst 1, 1) := dk_4 (dk_at dksX7_merges_13 10 rfl rfl)
theorem dX7_merges_319 : decode cX7_merges 319 = .ok (.invokevirtual 104, 3) := dk_182 0 104 (dk_at dksX7_merges_13 11 rfl rfl)
theorem dX7_merges_322 : decode cX7_merges 322 = .ok (.iconst 3, 1) := dk_6 (dk_at dksX7_merges_13 14 rfl rfl)
theorem dX7_merges_323 : decode cX7_merges 323 = .ok (.if_icmp .ne 5, 3) := dk_160 0 5 (dk_at dksX7_merges_13 15 rfl rfl)
theorem dX7_merges_326 : decode cX7_merges 326 = .ok (.iconst 0, 1) := dk_3 (dk_at dksX7_merges_13 18 rfl rfl)
theorem dX7_merges_327 : decode cX7_merges 327 = .ok (.ireturn, 1) := dk_172 (dk_at dksX7_merges_13 19 rfl rfl)
theorem dX7_merges_328 : decode cX7_merges 328 = .ok (.iload 13, 2) := dk_21 13 (dk_at dksX7_merges_13 20 rfl rfl)
theorem dX7_merges_330 : decode cX7_merges 330 = .ok (.iconst 1, 1) := dk_4 (dk_at dksX7_merges_13 22 rfl rfl)
theorem dX7_merges_331 : decode cX7_merges 331 = .ok (.isub, 1) := dk_100 (dk_at dksX7_merges_13 23 rfl rfl)
theorem dX7_merges_332 : decode cX7_merges 332 = .ok (.istore 14, 2) := dk_54 14 (dk_at dksX7_merges_14 0 rfl rfl)
theorem dX7_merges_334 : decode cX7_merges 334 = .ok (.iload 14, 2) := dk_21 14 (dk_at dksX7_merges_14 2 rfl rfl)
theorem dX7_merges_336 : decode cX7_merges 336 = .ok (.ifCond .lt 47, 3) := dk_155 0 47 (dk_at dksX7_merges_14 4 rfl rfl)
theorem dX7_merges_339 : decode cX7_merges 339 = .ok (.aload_n 0, 1) := dk_42 (dk_at dksX7_merges_14 7 rfl rfl)
theorem dX7_merges_340 : decode cX7_merges 340 = .ok (.getfield 90, 3) := dk_180 0 90 (dk_at dksX7_merges_14 8 rfl rfl)
theorem dX7_merges_343 : decode cX7_merges 343 = .ok (.iload 4, 2) := dk_21 4 (dk_at dksX7_merges_14 11 rfl rfl)
theorem dX7_merges_345 : decode cX7_merges 345 = .ok (.aload_n 0, 1) := dk_42 (dk_at dksX7_merges_14 13 rfl rfl)
theorem dX7_merges_346 : decode cX7_merges 346 = .ok (.iload 11, 2) := dk_21 11 (dk_at dksX7_merges_14 14 rfl rfl)
theorem dX7_merges_348 : decode cX7_merges 348 = .ok (.aload_n 0, 1) := dk_42 (dk_at dksX7_merges_14 16 rfl rfl)
theorem dX7_merges_349 : decode cX7_merges 349 = .ok (.iload 11, 2) := dk_21 11 (dk_at dksX7_merges_14 17 rfl rfl)
theorem dX7_merges_351 : decode cX7_merges 351 = .ok (.iload 12, 2) := dk_21 12 (dk_at dksX7_merges_14 19 rfl rfl)
theorem dX7_merges_353 : decode cX7_merges 353 = .ok (.iload 14, 2) := dk_21 14 (dk_at dksX7_merges_14 21 rfl rfl)
theorem dX7_merges_355 : decode cX7_merges 355 = .ok (.invokevirtual 188, 3) := dk_182 0 188 (dk_at dksX7_merges_15 0 rfl rfl)
theorem dX7_merges_358 : decode cX7_merges 358 = .ok (.iconst 0, 1) := dk_3 (dk_at dksX7_merges_15 3 rfl rfl)
theorem dX7_merges_359 : decode cX7_merges 359 = .ok (.invokevirtual 104, 3) := dk_182 0 104 (dk_at dksX7_merges_15 4 rfl rfl)
theorem dX7_merges_362 : decode cX7_merges 362 = .ok (.iastore, 1) := dk_79 (dk_at dksX7_merges_15 7 rfl rfl)
theorem dX7_merges_363 : decode cX7_merges 363 = .ok (.aload_n 0, 1) := dk_42 (dk_at dksX7_merges_15 8 rfl rfl)
theorem dX7_merges_364 : decode cX7_merges 364 = .ok (.getfield 93, 3) := dk_180 0 93 (dk_at dksX7_merges_15 9 rfl rfl)
theorem dX7_merges_367 : decode cX7_merges 367 = .ok (.iload 4, 2) := dk_21 4 (dk_at dksX7_merges_15 12 rfl rfl)
theorem dX7_merges_369 : decode cX7_merges 369 = .ok (.iload 6, 2) := dk_21 6 (dk_at dksX7_merges_15 14 rfl rfl)
theorem dX7_merges_371 : decode cX7_merges 371 = .ok (.iconst 1, 1) := dk_4 (dk_at dksX7_merges_15 16 rfl rfl)
theorem dX7_merges_372 : decode cX7_merges 372 = .ok (.iadd, 1) := dk_96 (dk_at dksX7_merges_15 17 rfl rfl)
theorem dX7_merges_373 : decode cX7_merges 373 = .ok (.iastore, 1) := dk_79 (dk_at dksX7_merges_15 18 rfl rfl)
theorem dX7_merges_374 : decode cX7_merges 374 = .ok (.iinc 4 1, 3) := dk_132 4 1 (dk_at dksX7_merges_15 19 rfl rfl)
theorem dX7_merges_377 : decode cX7_merges 377 = .ok (.iinc 14 (-1), 3) := dk_132 14 255 (dk_at dksX7_merges_16 0 rfl rfl)
theorem dX7_merges_380 : decode cX7_merges 380 = .ok (.goto (-46), 3) := dk_167 255 210 (dk_at dksX7_merges_16 3 rfl rfl)
theorem dX7_merges_383 : decode cX7_merges 383 = .ok (.goto (-352), 3) := dk_167 254 160 (dk_at dksX7_merges_16 6 rfl rfl)
theorem dX7_merges_386 : decode cX7_merges 386 = .ok (.aload_n 0, 1) := dk_42 (dk_at dksX7_merges_16 9 rfl rfl)
theorem dX7_merges_387 : decode cX7_merges 387 = .ok (.bipush 9, 2) := dk_16 9 (dk_at dksX7_merges_16 10 rfl rfl)
theorem dX7_merges_389 : decode cX7_merges 389 = .ok (.invokevirtual 194, 3) := dk_182 0 194 (dk_at dksX7_merges_16 12 rfl rfl)
theorem dX7_merges_392 : decode cX7_merges 392 = .ok (.ifCond .ne 7, 3) := dk_154 0 7 (dk_at dksX7_merges_16 15 rfl rfl)
theorem dX7_merges_395 : decode cX7_merges 395 = .ok (.iconst 1, 1) := dk_4 (dk_at dksX7_merges_16 18 rfl rfl)
theorem dX7_merges_396 : decode cX7_merges 396 = .ok (.goto 4, 3) := dk_167 0 4 (dk_at dksX7_merges_16 19 rfl rfl)
theorem dX7_merges_399 : decode cX7_merges 399 = .ok (.iconst 0, 1) := dk_3 (dk_at dksX7_merges_16 22 rfl rfl)
theorem dX7_merges_400 : decode cX7_merges 400 = .ok (.ireturn, 1) := dk_172 (dk_at dksX7_merges_16 23 rfl rfl)
abbrev cX7_whose : ByteArray := prog_17_method_64_code
def yX7_whose : MethodName := ⟨RX7, "whose", "(IIIII)I"⟩
def dkwX7_whose_6 : List UInt8 := [21, 7, 155, 0, 7, 28, 167, 0, 13, 21, 8, 155, 0, 7, 29, 167, 0, 4, 2, 172]
abbrev dktX7_whose_6 : List UInt8 := dkwX7_whose_6 ++ []
def dkwX7_whose_5 : List UInt8 := [28, 21, 7, 29, 21, 8, 21, 5, 182, 0, 244, 154, 0, 7, 4, 167, 0, 4, 3, 181, 0, 240, 28, 172]
abbrev dktX7_whose_5 : List UInt8 := dkwX7_whose_5 ++ dktX7_whose_6
def dkwX7_whose_4 : List UInt8 := [153, 0, 5, 28, 172, 42, 4, 181, 0, 240, 27, 172, 21, 7, 155, 0, 34, 21, 8, 155, 0, 29, 42, 42]
abbrev dktX7_whose_4 : List UInt8 := dkwX7_whose_4 ++ dktX7_whose_5
def dkwX7_whose_3 : List UInt8 := [27, 21, 6, 21, 5, 182, 0, 244, 154, 0, 18, 42, 28, 21, 7, 29, 21, 8, 21, 5, 182, 0, 244]
abbrev dktX7_whose_3 : List UInt8 := dkwX7_whose_3 ++ dktX7_whose_4
def dkwX7_whose_2 : List UInt8 := [155, 0, 59, 42, 28, 21, 7, 27, 21, 6, 21, 5, 182, 0, 244, 153, 0, 5, 29, 172, 42, 29, 21, 8]
abbrev dktX7_whose_2 : List UInt8 := dkwX7_whose_2 ++ dktX7_whose_3
def dkwX7_whose_1 : List UInt8 := [182, 0, 181, 54, 8, 42, 3, 181, 0, 240, 21, 7, 155, 0, 69, 21, 8, 155, 0, 64, 21, 6]
abbrev dktX7_whose_1 : List UInt8 := dkwX7_whose_1 ++ dktX7_whose_2
def dkwX7_whose_0 : List UInt8 := [42, 27, 21, 4, 182, 0, 181, 54, 6, 42, 28, 21, 4, 182, 0, 181, 54, 7, 42, 29, 21, 4]
abbrev dktX7_whose_0 : List UInt8 := dkwX7_whose_0 ++ dktX7_whose_1
theorem dksX7_whose_0 : cX7_whose.data.toList.drop 0 = dktX7_whose_0 := by decide +kernel
theorem dksX7_whose_1 : cX7_whose.data.toList.drop 22 = dktX7_whose_1 := dk_seg dksX7_whose_0 22 rfl rfl
theorem dksX7_whose_2 : cX7_whose.data.toList.drop 44 = dktX7_whose_2 := dk_seg dksX7_whose_1 22 rfl rfl
theorem dksX7_whose_3 : cX7_whose.data.toList.drop 68 = dktX7_whose_3 := dk_seg dksX7_whose_2 24 rfl rfl
theorem dksX7_whose_4 : cX7_whose.data.toList.drop 91 = dktX7_whose_4 := dk_seg dksX7_whose_3 23 rfl rfl
theorem dksX7_whose_5 : cX7_whose.data.toList.drop 115 = dktX7_whose_5 := dk_seg dksX7_whose_4 24 rfl rfl
theorem dksX7_whose_6 : cX7_whose.data.toList.drop 139 = dktX7_whose_6 := dk_seg dksX7_whose_5 24 rfl rfl
theorem dX7_whose_0 : decode cX7_whose 0 = .ok (.aload_n 0, 1) := dk_42 (dk_at dksX7_whose_0 0 rfl rfl)
theorem dX7_whose_1 : decode cX7_whose 1 = .ok (.iload_n 1, 1) := dk_27 (dk_at dksX7_whose_0 1 rfl rfl)
theorem dX7_whose_2 : decode cX7_whose 2 = .ok (.iload 4, 2) := dk_21 4 (dk_at dksX7_whose_0 2 rfl rfl)
theorem dX7_whose_4 : decode cX7_whose 4 = .ok (.invokevirtual 181, 3) := dk_182 0 181 (dk_at dksX7_whose_0 4 rfl rfl)
theorem dX7_whose_7 : decode cX7_whose 7 = .ok (.istore 6, 2) := dk_54 6 (dk_at dksX7_whose_0 7 rfl rfl)
theorem dX7_whose_9 : decode cX7_whose 9 = .ok (.aload_n 0, 1) := dk_42 (dk_at dksX7_whose_0 9 rfl rfl)
theorem dX7_whose_10 : decode cX7_whose 10 = .ok (.iload_n 2, 1) := dk_28 (dk_at dksX7_whose_0 10 rfl rfl)
theorem dX7_whose_11 : decode cX7_whose 11 = .ok (.iload 4, 2) := dk_21 4 (dk_at dksX7_whose_0 11 rfl rfl)
theorem dX7_whose_13 : decode cX7_whose 13 = .ok (.invokevirtual 181, 3) := dk_182 0 181 (dk_at dksX7_whose_0 13 rfl rfl)
theorem dX7_whose_16 : decode cX7_whose 16 = .ok (.istore 7, 2) := dk_54 7 (dk_at dksX7_whose_0 16 rfl rfl)
theorem dX7_whose_18 : decode cX7_whose 18 = .ok (.aload_n 0, 1) := dk_42 (dk_at dksX7_whose_0 18 rfl rfl)
theorem dX7_whose_19 : decode cX7_whose 19 = .ok (.iload_n 3, 1) := dk_29 (dk_at dksX7_whose_0 19 rfl rfl)
theorem dX7_whose_20 : decode cX7_whose 20 = .ok (.iload 4, 2) := dk_21 4 (dk_at dksX7_whose_0 20 rfl rfl)
theorem dX7_whose_22 : decode cX7_whose 22 = .ok (.invokevirtual 181, 3) := dk_182 0 181 (dk_at dksX7_whose_1 0 rfl rfl)
theorem dX7_whose_25 : decode cX7_whose 25 = .ok (.istore 8, 2) := dk_54 8 (dk_at dksX7_whose_1 3 rfl rfl)
theorem dX7_whose_27 : decode cX7_whose 27 = .ok (.aload_n 0, 1) := dk_42 (dk_at dksX7_whose_1 5 rfl rfl)
theorem dX7_whose_28 : decode cX7_whose 28 = .ok (.iconst 0, 1) := dk_3 (dk_at dksX7_whose_1 6 rfl rfl)
theorem dX7_whose_29 : decode cX7_whose 29 = .ok (.putfield 240, 3) := dk_181 0 240 (dk_at dksX7_whose_1 7 rfl rfl)
theorem dX7_whose_32 : decode cX7_whose 32 = .ok (.iload 7, 2) := dk_21 7 (dk_at dksX7_whose_1 10 rfl rfl)
theorem dX7_whose_34 : decode cX7_whose 34 = .ok (.ifCond .lt 69, 3) := dk_155 0 69 (dk_at dksX7_whose_1 12 rfl rfl)
theorem dX7_whose_37 : decode cX7_whose 37 = .ok (.iload 8, 2) := dk_21 8 (dk_at dksX7_whose_1 15 rfl rfl)
theorem dX7_whose_39 : decode cX7_whose 39 = .ok (.ifCond .lt 64, 3) := dk_155 0 64 (dk_at dksX7_whose_1 17 rfl rfl)
theorem dX7_whose_42 : decode cX7_whose 42 = .ok (.iload 6, 2) := dk_21 6 (dk_at dksX7_whose_1 20 rfl rfl)
theorem dX7_whose_44 : decode cX7_whose 44 = .ok (.ifCond .lt 59, 3) := dk_155 0 59 (dk_at dksX7_whose_2 0 rfl rfl)
theorem dX7_whose_47 : decode cX7_whose 47 = .ok (.aload_n 0, 1) := dk_42 (dk_at dksX7_whose_2 3 rfl rfl)
theorem dX7_whose_48 : decode cX7_whose 48 = .ok (.iload_n 2, 1) := dk_28 (dk_at dksX7_whose_2 4 rfl rfl)
theorem dX7_whose_49 : decode cX7_whose 49 = .ok (.iload 7, 2) := dk_21 7 (dk_at dksX7_whose_2 5 rfl rfl)
theorem dX7_whose_51 : decode cX7_whose 51 = .ok (.iload_n 1, 1) := dk_27 (dk_at dksX7_whose_2 7 rfl rfl)
theorem dX7_whose_52 : decode cX7_whose 52 = .ok (.iload 6, 2) := dk_21 6 (dk_at dksX7_whose_2 8 rfl rfl)
theorem dX7_whose_54 : decode cX7_whose 54 = .ok (.iload 5, 2) := dk_21 5 (dk_at dksX7_whose_2 10 rfl rfl)
theorem dX7_whose_56 : decode cX7_whose 56 = .ok (.invokevirtual 244, 3) := dk_182 0 244 (dk_at dksX7_whose_2 12 rfl rfl)
theorem dX7_whose_59 : decode cX7_whose 59 = .ok (.ifCond .eq 5, 3) := dk_153 0 5 (dk_at dksX7_whose_2 15 rfl rfl)
theorem dX7_whose_62 : decode cX7_whose 62 = .ok (.iload_n 3, 1) := dk_29 (dk_at dksX7_whose_2 18 rfl rfl)
theorem dX7_whose_63 : decode cX7_whose 63 = .ok (.ireturn, 1) := dk_172 (dk_at dksX7_whose_2 19 rfl rfl)
theorem dX7_whose_64 : decode cX7_whose 64 = .ok (.aload_n 0, 1) := dk_42 (dk_at dksX7_whose_2 20 rfl rfl)
theorem dX7_whose_65 : decode cX7_whose 65 = .ok (.iload_n 3, 1) := dk_29 (dk_at dksX7_whose_2 21 rfl rfl)
theorem dX7_whose_66 : decode cX7_whose 66 = .ok (.iload 8, 2) := dk_21 8 (dk_at dksX7_whose_2 22 rfl rfl)
theorem dX7_whose_68 : decode cX7_whose 68 = .ok (.iload_n 1, 1) := dk_27 (dk_at dksX7_whose_3 0 rfl rfl)
theorem dX7_whose_69 : decode cX7_whose 69 = .ok (.iload 6, 2) := dk_21 6 (dk_at dksX7_whose_3 1 rfl rfl)
theorem dX7_whose_71 : decode cX7_whose 71 = .ok (.iload 5, 2) := dk_21 5 (dk_at dksX7_whose_3 3 rfl rfl)
theorem dX7_whose_73 : decode cX7_whose 73 = .ok (.invokevirtual 244, 3) := dk_182 0 244 (dk_at dksX7_whose_3 5 rfl rfl)
theorem dX7_whose_76 : decode cX7_whose 76 = .ok (.ifCond .ne 18, 3) := dk_154 0 18 (dk_at dksX7_whose_3 8 rfl rfl)
theorem dX7_whose_79 : decode cX7_whose 79 = .ok (.aload_n 0, 1) := dk_42 (dk_at dksX7_whose_3 11 rfl rfl)
theorem dX7_whose_80 : decode cX7_whose 80 = .ok (.iload_n 2, 1) := dk_28 (dk_at dksX7_whose_3 12 rfl rfl)
theorem dX7_whose_81 : decode cX7_whose 81 = .ok (.iload 7, 2) := dk_21 7 (dk_at dksX7_whose_3 13 rfl rfl)
theorem dX7_whose_83 : decode cX7_whose 83 = .ok (.iload_n 3, 1) := dk_29 (dk_at dksX7_whose_3 15 rfl rfl)
theorem dX7_whose_84 : decode cX7_whose 84 = .ok (.iload 8, 2) := dk_21 8 (dk_at dksX7_whose_3 16 rfl rfl)
theorem dX7_whose_86 : decode cX7_whose 86 = .ok (.iload 5, 2) := dk_21 5 (dk_at dksX7_whose_3 18 rfl rfl)
theorem dX7_whose_88 : decode cX7_whose 88 = .ok (.invokevirtual 244, 3) := dk_182 0 244 (dk_at dksX7_whose_3 20 rfl rfl)
theorem dX7_whose_91 : decode cX7_whose 91 = .ok (.ifCond .eq 5, 3) := dk_153 0 5 (dk_at dksX7_whose_4 0 rfl rfl)
theorem dX7_whose_94 : decode cX7_whose 94 = .ok (.iload_n 2, 1) := dk_28 (dk_at dksX7_whose_4 3 rfl rfl)
theorem dX7_whose_95 : decode cX7_whose 95 = .ok (.ireturn, 1) := dk_172 (dk_at dksX7_whose_4 4 rfl rfl)
theorem dX7_whose_96 : decode cX7_whose 96 = .ok (.aload_n 0, 1) := dk_42 (dk_at dksX7_whose_4 5 rfl rfl)
theorem dX7_whose_97 : decode cX7_whose 97 = .ok (.iconst 1, 1) := dk_4 (dk_at dksX7_whose_4 6 rfl rfl)
theorem dX7_whose_98 : decode cX7_whose 98 = .ok (.putfield 240, 3) := dk_181 0 240 (dk_at dksX7_whose_4 7 rfl rfl)
theorem dX7_whose_101 : decode cX7_whose 101 = .ok (.iload_n 1, 1) := dk_27 (dk_at dksX7_whose_4 10 rfl rfl)
theorem dX7_whose_102 : decode cX7_whose 102 = .ok (.ireturn, 1) := dk_172 (dk_at dksX7_whose_4 11 rfl rfl)
theorem dX7_whose_103 : decode cX7_whose 103 = .ok (.iload 7, 2) := dk_21 7 (dk_at dksX7_whose_4 12 rfl rfl)
theorem dX7_whose_105 : decode cX7_whose 105 = .ok (.ifCond .lt 34, 3) := dk_155 0 34 (dk_at dksX7_whose_4 14 rfl rfl)
theorem dX7_whose_108 : decode cX7_whose 108 = .ok (.iload 8, 2) := dk_21 8 (dk_at dksX7_whose_4 17 rfl rfl)
theorem dX7_whose_110 : decode cX7_whose 110 = .ok (.ifCond .lt 29, 3) := dk_155 0 29 (dk_at dksX7_whose_4 19 rfl rfl)
theorem dX7_whose_113 : decode cX7_whose 113 = .ok (.aload_n 0, 1) := dk_42 (dk_at dksX7_whose_4 22 rfl rfl)
theorem dX7_whose_114 : decode cX7_whose 114 = .ok (.aload_n 0, 1) := dk_42 (dk_at dksX7_whose_4 23 rfl rfl)
theorem dX7_whose_115 : decode cX7_whose 115 = .ok (.iload_n 2, 1) := dk_28 (dk_at dksX7_whose_5 0 rfl rfl)
theorem dX7_whose_116 : decode cX7_whose 116 = .ok (.iload 7, 2) := dk_21 7 (dk_at dksX7_whose_5 1 rfl rfl)
theorem dX7_whose_118 : decode cX7_whose 118 = .ok (.iload_n 3, 1) := dk_29 (dk_at dksX7_whose_5 3 rfl rfl)
theorem dX7_whose_119 : decode cX7_whose 119 = .ok (.iload 8, 2) := dk_21 8 (dk_at dksX7_whose_5 4 rfl rfl)
theorem dX7_whose_121 : decode cX7_whose 121 = .ok (.iload 5, 2) := dk_21 5 (dk_at dksX7_whose_5 6 rfl rfl)
theorem dX7_whose_123 : decode cX7_whose 123 = .ok (.invokevirtual 244, 3) := dk_182 0 244 (dk_at dksX7_whose_5 8 rfl rfl)
theorem dX7_whose_126 : decode cX7_whose 126 = .ok (.ifCond .ne 7, 3) := dk_154 0 7 (dk_at dksX7_whose_5 11 rfl rfl)
theorem dX7_whose_129 : decode cX7_whose 129 = .ok (.iconst 1, 1) := dk_4 (dk_at dksX7_whose_5 14 rfl rfl)
theorem dX7_whose_130 : decode cX7_whose 130 = .ok (.goto 4, 3) := dk_167 0 4 (dk_at dksX7_whose_5 15 rfl rfl)
theorem dX7_whose_133 : decode cX7_whose 133 = .ok (.iconst 0, 1) := dk_3 (dk_at dksX7_whose_5 18 rfl rfl)
theorem dX7_whose_134 : decode cX7_whose 134 = .ok (.putfield 240, 3) := dk_181 0 240 (dk_at dksX7_whose_5 19 rfl rfl)
theorem dX7_whose_137 : decode cX7_whose 137 = .ok (.iload_n 2, 1) := dk_28 (dk_at dksX7_whose_5 22 rfl rfl)
theorem dX7_whose_138 : decode cX7_whose 138 = .ok (.ireturn, 1) := dk_172 (dk_at dksX7_whose_5 23 rfl rfl)
theorem dX7_whose_139 : decode cX7_whose 139 = .ok (.iload 7, 2) := dk_21 7 (dk_at dksX7_whose_6 0 rfl rfl)
theorem dX7_whose_141 : decode cX7_whose 141 = .ok (.ifCond .lt 7, 3) := dk_155 0 7 (dk_at dksX7_whose_6 2 rfl rfl)
theorem dX7_whose_144 : decode cX7_whose 144 = .ok (.iload_n 2, 1) := dk_28 (dk_at dksX7_whose_6 5 rfl rfl)
theorem dX7_whose_145 : decode cX7_whose 145 = .ok (.goto 13, 3) := dk_167 0 13 (dk_at dksX7_whose_6 6 rfl rfl)
theorem dX7_whose_148 : decode cX7_whose 148 = .ok (.iload 8, 2) := dk_21 8 (dk_at dksX7_whose_6 9 rfl rfl)
theorem dX7_whose_150 : decode cX7_whose 150 = .ok (.ifCond .lt 7, 3) := dk_155 0 7 (dk_at dksX7_whose_6 11 rfl rfl)
theorem dX7_whose_153 : decode cX7_whose 153 = .ok (.iload_n 3, 1) := dk_29 (dk_at dksX7_whose_6 14 rfl rfl)
theorem dX7_whose_154 : decode cX7_whose 154 = .ok (.goto 4, 3) := dk_167 0 4 (dk_at dksX7_whose_6 15 rfl rfl)
theorem dX7_whose_157 : decode cX7_whose 157 = .ok (.iconst (-1), 1) := dk_2 (dk_at dksX7_whose_6 18 rfl rfl)
theorem dX7_whose_158 : decode cX7_whose 158 = .ok (.ireturn, 1) := dk_172 (dk_at dksX7_whose_6 19 rfl rfl)
abbrev cX7_isField : ByteArray := prog_17_method_63_code
def yX7_isField : MethodName := ⟨RX7, "isField", "(IIIII)Z"⟩
def dkwX7_isField_5 : List UInt8 := [42, 29, 21, 6, 182, 0, 119, 54, 6, 42, 27, 21, 7, 182, 0, 119, 54, 7, 167, 255, 206, 4, 172]
abbrev dktX7_isField_5 : List UInt8 := dkwX7_isField_5 ++ []
def dkwX7_isField_4 : List UInt8 := [162, 0, 45, 42, 27, 21, 7, 3, 182, 0, 104, 42, 29, 21, 6, 3, 182, 0, 104, 159, 0, 5, 3, 172]
abbrev dktX7_isField_4 : List UInt8 := dkwX7_isField_4 ++ dktX7_isField_5
def dkwX7_isField_3 : List UInt8 := [159, 0, 5, 3, 172, 21, 4, 4, 96, 54, 6, 28, 4, 96, 54, 7, 21, 7, 42, 27, 28, 182, 0, 119]
abbrev dktX7_isField_3 : List UInt8 := dkwX7_isField_3 ++ dktX7_isField_4
def dkwX7_isField_2 : List UInt8 := [167, 0, 5, 16, 10, 182, 0, 122, 172, 42, 27, 28, 182, 0, 175, 42, 29, 21, 4, 182, 0, 175]
abbrev dktX7_isField_2 : List UInt8 := dkwX7_isField_2 ++ dktX7_isField_3
def dkwX7_isField_1 : List UInt8 := [167, 0, 4, 3, 172, 21, 5, 6, 162, 0, 25, 42, 27, 28, 29, 21, 4, 21, 5, 4, 160, 0, 7, 6]
abbrev dktX7_isField_1 : List UInt8 := dkwX7_isField_1 ++ dktX7_isField_2
def dkwX7_isField_0 : List UInt8 := [21, 5, 154, 0, 27, 42, 27, 28, 4, 182, 0, 104, 42, 29, 21, 4, 4, 182, 0, 104, 160, 0, 7, 4]
abbrev dktX7_isField_0 : List UInt8 := dkwX7_isField_0 ++ dktX7_isField_1
theorem dksX7_isField_0 : cX7_isField.data.toList.drop 0 = dktX7_isField_0 := by decide +kernel
theorem dksX7_isField_1 : cX7_isField.data.toList.drop 24 = dktX7_isField_1 := dk_seg dksX7_isField_0 24 rfl rfl
theorem dksX7_isField_2 : cX7_isField.data.toList.drop 48 = dktX7_isField_2 := dk_seg dksX7_isField_1 24 rfl rfl
theorem dksX7_isField_3 : cX7_isField.data.toList.drop 70 = dktX7_isField_3 := dk_seg dksX7_isField_2 22 rfl rfl
theorem dksX7_isField_4 : cX7_isField.data.toList.drop 94 = dktX7_isField_4 := dk_seg dksX7_isField_3 24 rfl rfl
theorem dksX7_isField_5 : cX7_isField.data.toList.drop 118 = dktX7_isField_5 := dk_seg dksX7_isField_4 24 rfl rfl
theorem dX7_isField_0 : decode cX7_isField 0 = .ok (.iload 5, 2) := dk_21 5 (dk_at dksX7_isField_0 0 rfl rfl)
theorem dX7_isField_2 : decode cX7_isField 2 = .ok (.ifCond .ne 27, 3) := dk_154 0 27 (dk_at dksX7_isField_0 2 rfl rfl)
theorem dX7_isField_5 : decode cX7_isField 5 = .ok (.aload_n 0, 1) := dk_42 (dk_at dksX7_isField_0 5 rfl rfl)
theorem dX7_isField_6 : decode cX7_isField 6 = .ok (.iload_n 1, 1) := dk_27 (dk_at dksX7_isField_0 6 rfl rfl)
theorem dX7_isField_7 : decode cX7_isField 7 = .ok (.iload_n 2, 1) := dk_28 (dk_at dksX7_isField_0 7 rfl rfl)
theorem dX7_isField_8 : decode cX7_isField 8 = .ok (.iconst 1, 1) := dk_4 (dk_at dksX7_isField_0 8 rfl rfl)
theorem dX7_isField_9 : decode cX7_isField 9 = .ok (.invokevirtual 104, 3) := dk_182 0 104 (dk_at dksX7_isField_0 9 rfl rfl)
theorem dX7_isField_12 : decode cX7_isField 12 = .ok (.aload_n 0, 1) := dk_42 (dk_at dksX7_isField_0 12 rfl rfl)
theorem dX7_isField_13 : decode cX7_isField 13 = .ok (.iload_n 3, 1) := dk_29 (dk_at dksX7_isField_0 13 rfl rfl)
theorem dX7_isField_14 : decode cX7_isField 14 = .ok (.iload 4, 2) := dk_21 4 (dk_at dksX7_isField_0 14 rfl rfl)
theorem dX7_isField_16 : decode cX7_isField 16 = .ok (.iconst 1, 1) := dk_4 (dk_at dksX7_isField_0 16 rfl rfl)
theorem dX7_isField_17 : decode cX7_isField 17 = .ok (.invokevirtual 104, 3) := dk_182 0 104 (dk_at dksX7_isField_0 17 rfl rfl)
theorem dX7_isField_20 : decode cX7_isField 20 = .ok (.if_icmp .ne 7, 3) := dk_160 0 7 (dk_at dksX7_isField_0 20 rfl rfl)
theorem dX7_isField_23 : decode cX7_isField 23 = .ok (.iconst 1, 1) := dk_4 (dk_at dksX7_isField_0 23 rfl rfl)
theorem dX7_isField_24 : decode cX7_isField 24 = .ok (.goto 4, 3) := dk_167 0 4 (dk_at dksX7_isField_1 0 rfl rfl)
theorem dX7_isField_27 : decode cX7_isField 27 = .ok (.iconst 0, 1) := dk_3 (dk_at dksX7_isField_1 3 rfl rfl)
theorem dX7_isField_28 : decode cX7_isField 28 = .ok (.ireturn, 1) := dk_172 (dk_at dksX7_isField_1 4 rfl rfl)
theorem dX7_isField_29 : decode cX7_isField 29 = .ok (.iload 5, 2) := dk_21 5 (dk_at dksX7_isField_1 5 rfl rfl)
theorem dX7_isField_31 : decode cX7_isField 31 = .ok (.iconst 3, 1) := dk_6 (dk_at dksX7_isField_1 7 rfl rfl)
theorem dX7_isField_32 : decode cX7_isField 32 = .ok (.if_icmp .ge 25, 3) := dk_162 0 25 (dk_at dksX7_isField_1 8 rfl rfl)
theorem dX7_isField_35 : decode cX7_isField 35 = .ok (.aload_n 0, 1) := dk_42 (dk_at dksX7_isField_1 11 rfl rfl)
theorem dX7_isField_36 : decode cX7_isField 36 = .ok (.iload_n 1, 1) := dk_27 (dk_at dksX7_isField_1 12 rfl rfl)
theorem dX7_isField_37 : decode cX7_isField 37 = .ok (.iload_n 2, 1) := dk_28 (dk_at dksX7_isField_1 13 rfl rfl)
theorem dX7_isField_38 : decode cX7_isField 38 = .ok (.iload_n 3, 1) := dk_29 (dk_at dksX7_isField_1 14 rfl rfl)
theorem dX7_isField_39 : decode cX7_isField 39 = .ok (.iload 4, 2) := dk_21 4 (dk_at dksX7_isField_1 15 rfl rfl)
theorem dX7_isField_41 : decode cX7_isField 41 = .ok (.iload 5, 2) := dk_21 5 (dk_at dksX7_isField_1 17 rfl rfl)
theorem dX7_isField_43 : decode cX7_isField 43 = .ok (.iconst 1, 1) := dk_4 (dk_at dksX7_isField_1 19 rfl rfl)
theorem dX7_isField_44 : decode cX7_isField 44 = .ok (.if_icmp .ne 7, 3) := dk_160 0 7 (dk_at dksX7_isField_1 20 rfl rfl)
theorem dX7_isField_47 : decode cX7_isField 47 = .ok (.iconst 3, 1) := dk_6 (dk_at dksX7_isField_1 23 rfl rfl)
theorem dX7_isField_48 : decode cX7_isField 48 = .ok (.goto 5, 3) := dk_167 0 5 (dk_at dksX7_isField_2 0 rfl rfl)
theorem dX7_isField_51 : decode cX7_isField 51 = .ok (.bipush 10, 2) := dk_16 10 (dk_at dksX7_isField_2 3 rfl rfl)
theorem dX7_isField_53 : decode cX7_isField 53 = .ok (.invokevirtual 122, 3) := dk_182 0 122 (dk_at dksX7_isField_2 5 rfl rfl)
theorem dX7_isField_56 : decode cX7_isField 56 = .ok (.ireturn, 1) := dk_172 (dk_at dksX7_isField_2 8 rfl rfl)
theorem dX7_isField_57 : decode cX7_isField 57 = .ok (.aload_n 0, 1) := dk_42 (dk_at dksX7_isField_2 9 rfl rfl)
theorem dX7_isField_58 : decode cX7_isField 58 = .ok (.iload_n 1, 1) := dk_27 (dk_at dksX7_isField_2 10 rfl rfl)
theorem dX7_isField_59 : decode cX7_isField 59 = .ok (.iload_n 2, 1) := dk_28 (dk_at dksX7_isField_2 11 rfl rfl)
theorem dX7_isField_60 : decode cX7_isField 60 = .ok (.invokevirtual 175, 3) := dk_182 0 175 (dk_at dksX7_isField_2 12 rfl rfl)
theorem dX7_isField_63 : decode cX7_isField 63 = .ok (.aload_n 0, 1) := dk_42 (dk_at dksX7_isField_2 15 rfl rfl)
theorem dX7_isField_64 : decode cX7_isField 64 = .ok (.iload_n 3, 1) := dk_29 (dk_at dksX7_isField_2 16 rfl rfl)
theorem dX7_isField_65 : decode cX7_isField 65 = .ok (.iload 4, 2) := dk_21 4 (dk_at dksX7_isField_2 17 rfl rfl)
theorem dX7_isField_67 : decode cX7_isField 67 = .ok (.invokevirtual 175, 3) := dk_182 0 175 (dk_at dksX7_isField_2 19 rfl rfl)
theorem dX7_isField_70 : decode cX7_isField 70 = .ok (.if_icmp .eq 5, 3) := dk_159 0 5 (dk_at dksX7_isField_3 0 rfl rfl)
theorem dX7_isField_73 : decode cX7_isField 73 = .ok (.iconst 0, 1) := dk_3 (dk_at dksX7_isField_3 3 rfl rfl)
theorem dX7_isField_74 : decode cX7_isField 74 = .ok (.ireturn, 1) := dk_172 (dk_at dksX7_isField_3 4 rfl rfl)
theorem dX7_isField_75 : decode cX7_isField 75 = .ok (.iload 4, 2) := dk_21 4 (dk_at dksX7_isField_3 5 rfl rfl)
theorem dX7_isField_77 : decode cX7_isField 77 = .ok (.iconst 1, 1) := dk_4 (dk_at dksX7_isField_3 7 rfl rfl)
theorem dX7_isField_78 : decode cX7_isField 78 = .ok (.iadd, 1) := dk_96 (dk_at dksX7_isField_3 8 rfl rfl)
theorem dX7_isField_79 : decode cX7_isField 79 = .ok (.istore 6, 2) := dk_54 6 (dk_at dksX7_isField_3 9 rfl rfl)
theorem dX7_isField_81 : decode cX7_isField 81 = .ok (.iload_n 2, 1) := dk_28 (dk_at dksX7_isField_3 11 rfl rfl)
theorem dX7_isField_82 : decode cX7_isField 82 = .ok (.iconst 1, 1) := dk_4 (dk_at dksX7_isField_3 12 rfl rfl)
theorem dX7_isField_83 : decode cX7_isField 83 = .ok (.iadd, 1) := dk_96 (dk_at dksX7_isField_3 13 rfl rfl)
theorem dX7_isField_84 : decode cX7_isField 84 = .ok (.istore 7, 2) := dk_54 7 (dk_at dksX7_isField_3 14 rfl rfl)
theorem dX7_isField_86 : decode cX7_isField 86 = .ok (.iload 7, 2) := dk_21 7 (dk_at dksX7_isField_3 16 rfl rfl)
theorem dX7_isField_88 : decode cX7_isField 88 = .ok (.aload_n 0, 1) := dk_42 (dk_at dksX7_isField_3 18 rfl rfl)
theorem dX7_isField_89 : decode cX7_isField 89 = .ok (.iload_n 1, 1) := dk_27 (dk_at dksX7_isField_3 19 rfl rfl)
theorem dX7_isField_90 : decode cX7_isField 90 = .ok (.iload_n 2, 1) := dk_28 (dk_at dksX7_isField_3 20 rfl rfl)
theorem dX7_isField_91 : decode cX7_isField 91 = .ok (.invokevirtual 119, 3) := dk_182 0 119 (dk_at dksX7_isField_3 21 rfl rfl)
theorem dX7_isField_94 : decode cX7_isField 94 = .ok (.if_icmp .ge 45, 3) := dk_162 0 45 (dk_at dksX7_isField_4 0 rfl rfl)
theorem dX7_isField_97 : decode cX7_isField 97 = .ok (.aload_n 0, 1) := dk_42 (dk_at dksX7_isField_4 3 rfl rfl)
theorem dX7_isField_98 : decode cX7_isField 98 = .ok (.iload_n 1, 1) := dk_27 (dk_at dksX7_isField_4 4 rfl rfl)
theorem dX7_isField_99 : decode cX7_isField 99 = .ok (.iload 7, 2) := dk_21 7 (dk_at dksX7_isField_4 5 rfl rfl)
theorem dX7_isField_101 : decode cX7_isField 101 = .ok (.iconst 0, 1) := dk_3 (dk_at dksX7_isField_4 7 rfl rfl)
theorem dX7_isField_102 : decode cX7_isField 102 = .ok (.invokevirtual 104, 3) := dk_182 0 104 (dk_at dksX7_isField_4 8 rfl rfl)
theorem dX7_isField_105 : decode cX7_isField 105 = .ok (.aload_n 0, 1) := dk_42 (dk_at dksX7_isField_4 11 rfl rfl)
theorem dX7_isField_106 : decode cX7_isField 106 = .ok (.iload_n 3, 1) := dk_29 (dk_at dksX7_isField_4 12 rfl rfl)
theorem dX7_isField_107 : decode cX7_isField 107 = .ok (.iload 6, 2) := dk_21 6 (dk_at dksX7_isField_4 13 rfl rfl)
theorem dX7_isField_109 : decode cX7_isField 109 = .ok (.iconst 0, 1) := dk_3 (dk_at dksX7_isField_4 15 rfl rfl)
theorem dX7_isField_110 : decode cX7_isField 110 = .ok (.invokevirtual 104, 3) := dk_182 0 104 (dk_at dksX7_isField_4 16 rfl rfl)
theorem dX7_isField_113 : decode cX7_isField 113 = .ok (.if_icmp .eq 5, 3) := dk_159 0 5 (dk_at dksX7_isField_4 19 rfl rfl)
theorem dX7_isField_116 : decode cX7_isField 116 = .ok (.iconst 0, 1) := dk_3 (dk_at dksX7_isField_4 22 rfl rfl)
theorem dX7_isField_117 : decode cX7_isField 117 = .ok (.ireturn, 1) := dk_172 (dk_at dksX7_isField_4 23 rfl rfl)
theorem dX7_isField_118 : decode cX7_isField 118 = .ok (.aload_n 0, 1) := dk_42 (dk_at dksX7_isField_5 0 rfl rfl)
theorem dX7_isField_119 : decode cX7_isField 119 = .ok (.iload_n 3, 1) := dk_29 (dk_at dksX7_isField_5 1 rfl rfl)
theorem dX7_isField_120 : decode cX7_isField 120 = .ok (.iload 6, 2) := dk_21 6 (dk_at dksX7_isField_5 2 rfl rfl)
theorem dX7_isField_122 : decode cX7_isField 122 = .ok (.invokevirtual 119, 3) := dk_182 0 119 (dk_at dksX7_isField_5 4 rfl rfl)
theorem dX7_isField_125 : decode cX7_isField 125 = .ok (.istore 6, 2) := dk_54 6 (dk_at dksX7_isField_5 7 rfl rfl)
theorem dX7_isField_127 : decode cX7_isField 127 = .ok (.aload_n 0, 1) := dk_42 (dk_at dksX7_isField_5 9 rfl rfl)
theorem dX7_isField_128 : decode cX7_isField 128 = .ok (.iload_n 1, 1) := dk_27 (dk_at dksX7_isField_5 10 rfl rfl)
theorem dX7_isField_129 : decode cX7_isField 129 = .ok (.iload 7, 2) := dk_21 7 (dk_at dksX7_isField_5 11 rfl rfl)
theorem dX7_isField_131 : decode cX7_isField 131 = .ok (.invokevirtual 119, 3) := dk_182 0 119 (dk_at dksX7_isField_5 13 rfl rfl)
theorem dX7_isField_134 : decode cX7_isField 134 = .ok (.istore 7, 2) := dk_54 7 (dk_at dksX7_isField_5 16 rfl rfl)
theorem dX7_isField_136 : decode cX7_isField 136 = .ok (.goto (-50), 3) := dk_167 255 206 (dk_at dksX7_isField_5 18 rfl rfl)
theorem dX7_isField_139 : decode cX7_isField 139 = .ok (.iconst 1, 1) := dk_4 (dk_at dksX7_isField_5 21 rfl rfl)
theorem dX7_isField_140 : decode cX7_isField 140 = .ok (.ireturn, 1) := dk_172 (dk_at dksX7_isField_5 22 rfl rfl)
abbrev cX7_least : ByteArray := prog_17_method_67_code
def yX7_least : MethodName := ⟨RX7, "least", "(III)I"⟩
def dkwX7_least_2 : List UInt8 := [155, 0, 10, 21, 6, 21, 4, 162, 0, 7, 21, 6, 54, 4, 132, 5, 1, 167, 255, 200, 21, 4, 172]
abbrev dktX7_least_2 : List UInt8 := dkwX7_least_2 ++ []
def dkwX7_least_1 : List UInt8 := [182, 0, 104, 54, 6, 21, 6, 29, 164, 0, 29, 42, 28, 21, 6, 182, 0, 181, 155, 0, 19, 21, 4]
abbrev dktX7_least_1 : List UInt8 := dkwX7_least_1 ++ dktX7_least_2
def dkwX7_least_0 : List UInt8 := [2, 54, 4, 3, 54, 5, 21, 5, 42, 180, 0, 13, 27, 46, 162, 0, 51, 42, 27, 21, 5, 3]
abbrev dktX7_least_0 : List UInt8 := dkwX7_least_0 ++ dktX7_least_1
theorem dksX7_least_0 : cX7_least.data.toList.drop 0 = dktX7_least_0 := by decide +kernel
theorem dksX7_least_1 : cX7_least.data.toList.drop 22 = dktX7_least_1 := dk_seg dksX7_least_0 22 rfl rfl
theorem dksX7_least_2 : cX7_least.data.toList.drop 45 = dktX7_least_2 := dk_seg dksX7_least_1 23 rfl rfl
theorem dX7_least_0 : decode cX7_least 0 = .ok (.iconst (-1), 1) := dk_2 (dk_at dksX7_least_0 0 rfl rfl)
theorem dX7_least_1 : decode cX7_least 1 = .ok (.istore 4, 2) := dk_54 4 (dk_at dksX7_least_0 1 rfl rfl)
theorem dX7_least_3 : decode cX7_least 3 = .ok (.iconst 0, 1) := dk_3 (dk_at dksX7_least_0 3 rfl rfl)
theorem dX7_least_4 : decode cX7_least 4 = .ok (.istore 5, 2) := dk_54 5 (dk_at dksX7_least_0 4 rfl rfl)
theorem dX7_least_6 : decode cX7_least 6 = .ok (.iload 5, 2) := dk_21 5 (dk_at dksX7_least_0 6 rfl rfl)
theorem dX7_least_8 : decode cX7_least 8 = .ok (.aload_n 0, 1) := dk_42 (dk_at dksX7_least_0 8 rfl rfl)
theorem dX7_least_9 : decode cX7_least 9 = .ok (.getfield 13, 3) := dk_180 0 13 (dk_at dksX7_least_0 9 rfl rfl)
theorem dX7_least_12 : decode cX7_least 12 = .ok (.iload_n 1, 1) := dk_27 (dk_at dksX7_least_0 12 rfl rfl)
theorem dX7_least_13 : decode cX7_least 13 = .ok (.iaload, 1) := dk_46 (dk_at dksX7_least_0 13 rfl rfl)
theorem dX7_least_14 : decode cX7_least 14 = .ok (.if_icmp .ge 51, 3) := dk_162 0 51 (dk_at dksX7_least_0 14 rfl rfl)
theorem dX7_least_17 : decode cX7_least 17 = .ok (.aload_n 0, 1) := dk_42 (dk_at dksX7_least_0 17 rfl rfl)
theorem dX7_least_18 : decode cX7_least 18 = .ok (.iload_n 1, 1) := dk_27 (dk_at dksX7_least_0 18 rfl rfl)
theorem dX7_least_19 : decode cX7_least 19 = .ok (.iload 5, 2) := dk_21 5 (dk_at dksX7_least_0 19 rfl rfl)
theorem dX7_least_21 : decode cX7_least 21 = .ok (.iconst 0, 1) := dk_3 (dk_at dksX7_least_0 21 rfl rfl)
theorem dX7_least_22 : decode cX7_least 22 = .ok (.invokevirtual 104, 3) := dk_182 0 104 (dk_at dksX7_least_1 0 rfl rfl)
theorem dX7_least_25 : decode cX7_least 25 = .ok (.istore 6, 2) := dk_54 6 (dk_at dksX7_least_1 3 rfl rfl)
theorem dX7_least_27 : decode cX7_least 27 = .ok (.iload 6, 2) := dk_21 6 (dk_at dksX7_least_1 5 rfl rfl)
theorem dX7_least_29 : decode cX7_least 29 = .ok (.iload_n 3, 1) := dk_29 (dk_at dksX7_least_1 7 rfl rfl)
theorem dX7_least_30 : decode cX7_least 30 = .ok (.if_icmp .le 29, 3) := dk_164 0 29 (dk_at dksX7_least_1 8 rfl rfl)
theorem dX7_least_33 : decode cX7_least 33 = .ok (.aload_n 0, 1) := dk_42 (dk_at dksX7_least_1 11 rfl rfl)
theorem dX7_least_34 : decode cX7_least 34 = .ok (.iload_n 2, 1) := dk_28 (dk_at dksX7_least_1 12 rfl rfl)
theorem dX7_least_35 : decode cX7_least 35 = .ok (.iload 6, 2) := dk_21 6 (dk_at dksX7_least_1 13 rfl rfl)
theorem dX7_least_37 : decode cX7_least 37 = .ok (.invokevirtual 181, 3) := dk_182 0 181 (dk_at dksX7_least_1 15 rfl rfl)
theorem dX7_least_40 : decode cX7_least 40 = .ok (.ifCond .lt 19, 3) := dk_155 0 19 (dk_at dksX7_least_1 18 rfl rfl)
theorem dX7_least_43 : decode cX7_least 43 = .ok (.iload 4, 2) := dk_21 4 (dk_at dksX7_least_1 21 rfl rfl)
theorem dX7_least_45 : decode cX7_least 45 = .ok (.ifCond .lt 10, 3) := dk_155 0 10 (dk_at dksX7_least_2 0 rfl rfl)
theorem dX7_least_48 : decode cX7_least 48 = .ok (.iload 6, 2) := dk_21 6 (dk_at dksX7_least_2 3 rfl rfl)
theorem dX7_least_50 : decode cX7_least 50 = .ok (.iload 4, 2) := dk_21 4 (dk_at dksX7_least_2 5 rfl rfl)
theorem dX7_least_52 : decode cX7_least 52 = .ok (.if_icmp .ge 7, 3) := dk_162 0 7 (dk_at dksX7_least_2 7 rfl rfl)
theorem dX7_least_55 : decode cX7_least 55 = .ok (.iload 6, 2) := dk_21 6 (dk_at dksX7_least_2 10 rfl rfl)
theorem dX7_least_57 : decode cX7_least 57 = .ok (.istore 4, 2) := dk_54 4 (dk_at dksX7_least_2 12 rfl rfl)
theorem dX7_least_59 : decode cX7_least 59 = .ok (.iinc 5 1, 3) := dk_132 5 1 (dk_at dksX7_least_2 14 rfl rfl)
theorem dX7_least_62 : decode cX7_least 62 = .ok (.goto (-56), 3) := dk_167 255 200 (dk_at dksX7_least_2 17 rfl rfl)
theorem dX7_least_65 : decode cX7_least 65 = .ok (.iload 4, 2) := dk_21 4 (dk_at dksX7_least_2 20 rfl rfl)
theorem dX7_least_67 : decode cX7_least 67 = .ok (.ireturn, 1) := dk_172 (dk_at dksX7_least_2 22 rfl rfl)
abbrev cX7_merged : ByteArray := prog_17_method_68_code
def yX7_merged : MethodName := ⟨RX7, "merged", "()I"⟩
theorem dX7_merged_0 : decode cX7_merged 0 = .ok (.aload_n 0, 1) := by decide +kernel
theorem dX7_merged_1 : decode cX7_merged 1 = .ok (.getfield 250, 3) := by decide +kernel
theorem dX7_merged_4 : decode cX7_merged 4 = .ok (.ireturn, 1) := by decide +kernel
abbrev cX7_clash : ByteArray := prog_17_method_69_code
def yX7_clash : MethodName := ⟨RX7, "clash", "(II)I"⟩
def dkwX7_clash_2 : List UInt8 := [167, 0, 8, 42, 2, 182, 0, 126, 172]
abbrev dktX7_clash_2 : List UInt8 := dkwX7_clash_2 ++ []
def dkwX7_clash_1 : List UInt8 := [154, 0, 12, 42, 180, 0, 84, 27, 46, 167, 0, 22, 28, 4, 160, 0, 12, 42, 180, 0, 87, 27, 46]
abbrev dktX7_clash_1 : List UInt8 := dkwX7_clash_1 ++ dktX7_clash_2
def dkwX7_clash_0 : List UInt8 := [27, 3, 42, 180, 0, 237, 4, 100, 184, 0, 96, 154, 0, 10, 42, 16, 250, 182, 0, 126, 172, 28]
abbrev dktX7_clash_0 : List UInt8 := dkwX7_clash_0 ++ dktX7_clash_1
theorem dksX7_clash_0 : cX7_clash.data.toList.drop 0 = dktX7_clash_0 := by decide +kernel
theorem dksX7_clash_1 : cX7_clash.data.toList.drop 22 = dktX7_clash_1 := dk_seg dksX7_clash_0 22 rfl rfl
theorem dksX7_clash_2 : cX7_clash.data.toList.drop 45 = dktX7_clash_2 := dk_seg dksX7_clash_1 23 rfl rfl
theorem dX7_clash_0 : decode cX7_clash 0 = .ok (.iload_n 1, 1) := dk_27 (dk_at dksX7_clash_0 0 rfl rfl)
theorem dX7_clash_1 : decode cX7_clash 1 = .ok (.iconst 0, 1) := dk_3 (dk_at dksX7_clash_0 1 rfl rfl)
theorem dX7_clash_2 : decode cX7_clash 2 = .ok (.aload_n 0, 1) := dk_42 (dk_at dksX7_clash_0 2 rfl rfl)
theorem dX7_clash_3 : decode cX7_clash 3 = .ok (.getfield 237, 3) := dk_180 0 237 (dk_at dksX7_clash_0 3 rfl rfl)
theorem dX7_clash_6 : decode cX7_clash 6 = .ok (.iconst 1, 1) := dk_4 (dk_at dksX7_clash_0 6 rfl rfl)
theorem dX7_clash_7 : decode cX7_clash 7 = .ok (.isub, 1) := dk_100 (dk_at dksX7_clash_0 7 rfl rfl)
theorem dX7_clash_8 : decode cX7_clash 8 = .ok (.invokestatic 96, 3) := dk_184 0 96 (dk_at dksX7_clash_0 8 rfl rfl)
theorem dX7_clash_11 : decode cX7_clash 11 = .ok (.ifCond .ne 10, 3) := dk_154 0 10 (dk_at dksX7_clash_0 11 rfl rfl)
theorem dX7_clash_14 : decode cX7_clash 14 = .ok (.aload_n 0, 1) := dk_42 (dk_at dksX7_clash_0 14 rfl rfl)
theorem dX7_clash_15 : decode cX7_clash 15 = .ok (.bipush (-6), 2) := dk_16 250 (dk_at dksX7_clash_0 15 rfl rfl)
theorem dX7_clash_17 : decode cX7_clash 17 = .ok (.invokevirtual 126, 3) := dk_182 0 126 (dk_at dksX7_clash_0 17 rfl rfl)
theorem dX7_clash_20 : decode cX7_clash 20 = .ok (.ireturn, 1) := dk_172 (dk_at dksX7_clash_0 20 rfl rfl)
theorem dX7_clash_21 : decode cX7_clash 21 = .ok (.iload_n 2, 1) := dk_28 (dk_at dksX7_clash_0 21 rfl rfl)
theorem dX7_clash_22 : decode cX7_clash 22 = .ok (.ifCond .ne 12, 3) := dk_154 0 12 (dk_at dksX7_clash_1 0 rfl rfl)
theorem dX7_clash_25 : decode cX7_clash 25 = .ok (.aload_n 0, 1) := dk_42 (dk_at dksX7_clash_1 3 rfl rfl)
theorem dX7_clash_26 : decode cX7_clash 26 = .ok (.getfield 84, 3) := dk_180 0 84 (dk_at dksX7_clash_1 4 rfl rfl)
theorem dX7_clash_29 : decode cX7_clash 29 = .ok (.iload_n 1, 1) := dk_27 (dk_at dksX7_clash_1 7 rfl rfl)
theorem dX7_clash_30 : decode cX7_clash 30 = .ok (.iaload, 1) := dk_46 (dk_at dksX7_clash_1 8 rfl rfl)
theorem dX7_clash_31 : decode cX7_clash 31 = .ok (.goto 22, 3) := dk_167 0 22 (dk_at dksX7_clash_1 9 rfl rfl)
theorem dX7_clash_34 : decode cX7_clash 34 = .ok (.iload_n 2, 1) := dk_28 (dk_at dksX7_clash_1 12 rfl rfl)
theorem dX7_clash_35 : decode cX7_clash 35 = .ok (.iconst 1, 1) := dk_4 (dk_at dksX7_clash_1 13 rfl rfl)
theorem dX7_clash_36 : decode cX7_clash 36 = .ok (.if_icmp .ne 12, 3) := dk_160 0 12 (dk_at dksX7_clash_1 14 rfl rfl)
theorem dX7_clash_39 : decode cX7_clash 39 = .ok (.aload_n 0, 1) := dk_42 (dk_at dksX7_clash_1 17 rfl rfl)
theorem dX7_clash_40 : decode cX7_clash 40 = .ok (.getfield 87, 3) := dk_180 0 87 (dk_at dksX7_clash_1 18 rfl rfl)
theorem dX7_clash_43 : decode cX7_clash 43 = .ok (.iload_n 1, 1) := dk_27 (dk_at dksX7_clash_1 21 rfl rfl)
theorem dX7_clash_44 : decode cX7_clash 44 = .ok (.iaload, 1) := dk_46 (dk_at dksX7_clash_1 22 rfl rfl)
theorem dX7_clash_45 : decode cX7_clash 45 = .ok (.goto 8, 3) := dk_167 0 8 (dk_at dksX7_clash_2 0 rfl rfl)
theorem dX7_clash_48 : decode cX7_clash 48 = .ok (.aload_n 0, 1) := dk_42 (dk_at dksX7_clash_2 3 rfl rfl)
theorem dX7_clash_49 : decode cX7_clash 49 = .ok (.iconst (-1), 1) := dk_2 (dk_at dksX7_clash_2 4 rfl rfl)
theorem dX7_clash_50 : decode cX7_clash 50 = .ok (.invokevirtual 126, 3) := dk_182 0 126 (dk_at dksX7_clash_2 5 rfl rfl)
theorem dX7_clash_53 : decode cX7_clash 53 = .ok (.ireturn, 1) := dk_172 (dk_at dksX7_clash_2 8 rfl rfl)
abbrev cX7_found : ByteArray := prog_17_method_70_code
def yX7_found : MethodName := ⟨RX7, "found", "(I)I"⟩
def dkwX7_found_1 : List UInt8 := [167, 0, 8, 42, 2, 182, 0, 126, 172]
abbrev dktX7_found_1 : List UInt8 := dkwX7_found_1 ++ []
def dkwX7_found_0 : List UInt8 := [27, 16, 249, 2, 184, 0, 96, 154, 0, 9, 27, 16, 247, 160, 0, 13, 42, 180, 0, 25, 27, 116, 46]
abbrev dktX7_found_0 : List UInt8 := dkwX7_found_0 ++ dktX7_found_1
theorem dksX7_found_0 : cX7_found.data.toList.drop 0 = dktX7_found_0 := by decide +kernel
theorem dksX7_found_1 : cX7_found.data.toList.drop 23 = dktX7_found_1 := dk_seg dksX7_found_0 23 rfl rfl
theorem dX7_found_0 : decode cX7_found 0 = .ok (.iload_n 1, 1) := dk_27 (dk_at dksX7_found_0 0 rfl rfl)
theorem dX7_found_1 : decode cX7_found 1 = .ok (.bipush (-7), 2) := dk_16 249 (dk_at dksX7_found_0 1 rfl rfl)
theorem dX7_found_3 : decode cX7_found 3 = .ok (.iconst (-1), 1) := dk_2 (dk_at dksX7_found_0 3 rfl rfl)
theorem dX7_found_4 : decode cX7_found 4 = .ok (.invokestatic 96, 3) := dk_184 0 96 (dk_at dksX7_found_0 4 rfl rfl)
theorem dX7_found_7 : decode cX7_found 7 = .ok (.ifCond .ne 9, 3) := dk_154 0 9 (dk_at dksX7_found_0 7 rfl rfl)
theorem dX7_found_10 : decode cX7_found 10 = .ok (.iload_n 1, 1) := dk_27 (dk_at dksX7_found_0 10 rfl rfl)
theorem dX7_found_11 : decode cX7_found 11 = .ok (.bipush (-9), 2) := dk_16 247 (dk_at dksX7_found_0 11 rfl rfl)
theorem dX7_found_13 : decode cX7_found 13 = .ok (.if_icmp .ne 13, 3) := dk_160 0 13 (dk_at dksX7_found_0 13 rfl rfl)
theorem dX7_found_16 : decode cX7_found 16 = .ok (.aload_n 0, 1) := dk_42 (dk_at dksX7_found_0 16 rfl rfl)
theorem dX7_found_17 : decode cX7_found 17 = .ok (.getfield 25, 3) := dk_180 0 25 (dk_at dksX7_found_0 17 rfl rfl)
theorem dX7_found_20 : decode cX7_found 20 = .ok (.iload_n 1, 1) := dk_27 (dk_at dksX7_found_0 20 rfl rfl)
theorem dX7_found_21 : decode cX7_found 21 = .ok (.ineg, 1) := dk_116 (dk_at dksX7_found_0 21 rfl rfl)
theorem dX7_found_22 : decode cX7_found 22 = .ok (.iaload, 1) := dk_46 (dk_at dksX7_found_0 22 rfl rfl)
theorem dX7_found_23 : decode cX7_found 23 = .ok (.goto 8, 3) := dk_167 0 8 (dk_at dksX7_found_1 0 rfl rfl)
theorem dX7_found_26 : decode cX7_found 26 = .ok (.aload_n 0, 1) := dk_42 (dk_at dksX7_found_1 3 rfl rfl)
theorem dX7_found_27 : decode cX7_found 27 = .ok (.iconst (-1), 1) := dk_2 (dk_at dksX7_found_1 4 rfl rfl)
theorem dX7_found_28 : decode cX7_found 28 = .ok (.invokevirtual 126, 3) := dk_182 0 126 (dk_at dksX7_found_1 5 rfl rfl)
theorem dX7_found_31 : decode cX7_found 31 = .ok (.ireturn, 1) := dk_172 (dk_at dksX7_found_1 8 rfl rfl)
theorem q79 : (Jvm.Cond.initialized "BranchMenderModel") ∈ lw_all := lw_g (lw_at lw_m1 14 rfl) rfl
theorem q674 : (Jvm.Cond.selects "BranchMenderModel" ({ cls := "java/lang/Object", name := "getClass", desc := "()Ljava/lang/Class;" } : Jvm.MethodName) ({ cls := "java/lang/Object", name := "getClass", desc := "()Ljava/lang/Class;" } : Jvm.MethodName)) ∈ lw_all := lw_g (lw_at lw_m3 129 rfl) rfl
theorem q1008 : (Jvm.Cond.selects "BranchMenderModel" ({ cls := "java/lang/Object", name := "equals", desc := "(Ljava/lang/Object;)Z" } : Jvm.MethodName) ({ cls := "java/lang/Object", name := "equals", desc := "(Ljava/lang/Object;)Z" } : Jvm.MethodName)) ∈ lw_all := lw_g (lw_at lw_m4 223 rfl) rfl
theorem q1251 : (Jvm.Cond.instantiable "BranchMenderModel" (36 : Nat)) ∈ lw_all := lw_g (lw_at lw_m5 226 rfl) rfl
theorem q1253 : (Jvm.Cond.instanceMethod ({ cls := "BranchMenderModel", name := "<init>", desc := "()V" } : Jvm.MethodName)) ∈ lw_all := lw_g (lw_at lw_m5 228 rfl) rfl
theorem q1254 : (Jvm.Cond.code ({ cls := "BranchMenderModel", name := "<init>", desc := "()V" } : Jvm.MethodName) prog_17_method_1_code (1 : Nat) (Option.none : Option Jvm.ClassFile.FieldType)) ∈ lw_all := lw_g (lw_at lw_m5 229 rfl) rfl
theorem q1255 : (Jvm.Cond.methodLink "BranchMenderModel" (1 : Nat) ({ cls := "java/lang/Object", name := "<init>", desc := "()V" } : Jvm.MethodName)) ∈ lw_all := lw_g (lw_at lw_m5 230 rfl) rfl
theorem q1256 : (Jvm.Cond.constant "BranchMenderModel" (40 : Nat) (923521 : Int32)) ∈ lw_all := lw_g (lw_at lw_m5 231 rfl) rfl
theorem q1257 : (Jvm.Cond.fieldLink "BranchMenderModel" (7 : Nat) "BranchMenderModel" "nodes" "[I") ∈ lw_all := lw_g (lw_at lw_m5 232 rfl) rfl
theorem q1258 : (Jvm.Cond.fieldLink "BranchMenderModel" (13 : Nat) "BranchMenderModel" "sizes" "[I") ∈ lw_all := lw_g (lw_at lw_m5 233 rfl) rfl
theorem q1259 : (Jvm.Cond.fieldLink "BranchMenderModel" (155 : Nat) "BranchMenderModel" "nextName" "I") ∈ lw_all := lw_g (lw_at lw_m5 234 rfl) rfl
theorem q1260 : (Jvm.Cond.fieldLink "BranchMenderModel" (16 : Nat) "BranchMenderModel" "tape" "[I") ∈ lw_all := lw_g (lw_at lw_m5 235 rfl) rfl
theorem q1261 : (Jvm.Cond.fieldLink "BranchMenderModel" (130 : Nat) "BranchMenderModel" "taped" "I") ∈ lw_all := lw_g (lw_at lw_m5 236 rfl) rfl
theorem q1262 : (Jvm.Cond.fieldLink "BranchMenderModel" (19 : Nat) "BranchMenderModel" "written" "[I") ∈ lw_all := lw_g (lw_at lw_m5 237 rfl) rfl
theorem q1263 : (Jvm.Cond.fieldLink "BranchMenderModel" (158 : Nat) "BranchMenderModel" "writtenMany" "I") ∈ lw_all := lw_g (lw_at lw_m5 238 rfl) rfl
theorem q1264 : (Jvm.Cond.fieldLink "BranchMenderModel" (22 : Nat) "BranchMenderModel" "prices" "[I") ∈ lw_all := lw_g (lw_at lw_m5 239 rfl) rfl
theorem q1265 : (Jvm.Cond.fieldLink "BranchMenderModel" (25 : Nat) "BranchMenderModel" "findings" "[I") ∈ lw_all := lw_g (lw_at lw_m6 0 rfl) rfl
theorem q1266 : (Jvm.Cond.fieldLink "BranchMenderModel" (28 : Nat) "BranchMenderModel" "open" "[I") ∈ lw_all := lw_g (lw_at lw_m6 1 rfl) rfl
theorem q1267 : (Jvm.Cond.fieldLink "BranchMenderModel" (31 : Nat) "BranchMenderModel" "closing" "[I") ∈ lw_all := lw_g (lw_at lw_m6 2 rfl) rfl
theorem q1268 : (Jvm.Cond.fieldLink "BranchMenderModel" (34 : Nat) "BranchMenderModel" "ahead" "[I") ∈ lw_all := lw_g (lw_at lw_m6 3 rfl) rfl
theorem q1269 : (Jvm.Cond.fieldLink "BranchMenderModel" (37 : Nat) "BranchMenderModel" "low" "[I") ∈ lw_all := lw_g (lw_at lw_m6 4 rfl) rfl
theorem q1270 : (Jvm.Cond.fieldLink "BranchMenderModel" (41 : Nat) "BranchMenderModel" "costs" "[I") ∈ lw_all := lw_g (lw_at lw_m6 5 rfl) rfl
theorem q1271 : (Jvm.Cond.fieldLink "BranchMenderModel" (44 : Nat) "BranchMenderModel" "pairOf" "[I") ∈ lw_all := lw_g (lw_at lw_m6 6 rfl) rfl
theorem q1272 : (Jvm.Cond.fieldLink "BranchMenderModel" (47 : Nat) "BranchMenderModel" "pairTo" "[I") ∈ lw_all := lw_g (lw_at lw_m6 7 rfl) rfl
theorem q1273 : (Jvm.Cond.fieldLink "BranchMenderModel" (50 : Nat) "BranchMenderModel" "dueA" "[I") ∈ lw_all := lw_g (lw_at lw_m6 8 rfl) rfl
theorem q1274 : (Jvm.Cond.fieldLink "BranchMenderModel" (53 : Nat) "BranchMenderModel" "dueN" "[I") ∈ lw_all := lw_g (lw_at lw_m6 9 rfl) rfl
theorem q1275 : (Jvm.Cond.fieldLink "BranchMenderModel" (56 : Nat) "BranchMenderModel" "dueB" "[I") ∈ lw_all := lw_g (lw_at lw_m6 10 rfl) rfl
theorem q1276 : (Jvm.Cond.fieldLink "BranchMenderModel" (59 : Nat) "BranchMenderModel" "dueM" "[I") ∈ lw_all := lw_g (lw_at lw_m6 11 rfl) rfl
theorem q1277 : (Jvm.Cond.fieldLink "BranchMenderModel" (224 : Nat) "BranchMenderModel" "pairMany" "I") ∈ lw_all := lw_g (lw_at lw_m6 12 rfl) rfl
theorem q1278 : (Jvm.Cond.fieldLink "BranchMenderModel" (218 : Nat) "BranchMenderModel" "actMany" "I") ∈ lw_all := lw_g (lw_at lw_m6 13 rfl) rfl
theorem q1279 : (Jvm.Cond.fieldLink "BranchMenderModel" (62 : Nat) "BranchMenderModel" "mapped" "I") ∈ lw_all := lw_g (lw_at lw_m6 14 rfl) rfl
theorem q1280 : (Jvm.Cond.fieldLink "BranchMenderModel" (66 : Nat) "BranchMenderModel" "pairOne" "[I") ∈ lw_all := lw_g (lw_at lw_m6 15 rfl) rfl
theorem q1281 : (Jvm.Cond.fieldLink "BranchMenderModel" (69 : Nat) "BranchMenderModel" "pairTwo" "[I") ∈ lw_all := lw_g (lw_at lw_m6 16 rfl) rfl
theorem q1282 : (Jvm.Cond.fieldLink "BranchMenderModel" (72 : Nat) "BranchMenderModel" "actWhich" "[I") ∈ lw_all := lw_g (lw_at lw_m6 17 rfl) rfl
theorem q1283 : (Jvm.Cond.fieldLink "BranchMenderModel" (75 : Nat) "BranchMenderModel" "actName" "[I") ∈ lw_all := lw_g (lw_at lw_m6 18 rfl) rfl
theorem q1284 : (Jvm.Cond.fieldLink "BranchMenderModel" (78 : Nat) "BranchMenderModel" "actPrice" "[I") ∈ lw_all := lw_g (lw_at lw_m6 19 rfl) rfl
theorem q1285 : (Jvm.Cond.fieldLink "BranchMenderModel" (81 : Nat) "BranchMenderModel" "classes" "[I") ∈ lw_all := lw_g (lw_at lw_m6 20 rfl) rfl
theorem q1286 : (Jvm.Cond.fieldLink "BranchMenderModel" (84 : Nat) "BranchMenderModel" "clashName" "[I") ∈ lw_all := lw_g (lw_at lw_m6 21 rfl) rfl
theorem q1287 : (Jvm.Cond.fieldLink "BranchMenderModel" (87 : Nat) "BranchMenderModel" "clashWhat" "[I") ∈ lw_all := lw_g (lw_at lw_m6 22 rfl) rfl
theorem q1288 : (Jvm.Cond.fieldLink "BranchMenderModel" (237 : Nat) "BranchMenderModel" "clashes" "I") ∈ lw_all := lw_g (lw_at lw_m6 23 rfl) rfl
theorem q1289 : (Jvm.Cond.fieldLink "BranchMenderModel" (250 : Nat) "BranchMenderModel" "merged" "I") ∈ lw_all := lw_g (lw_at lw_m6 24 rfl) rfl
theorem q1290 : (Jvm.Cond.fieldLink "BranchMenderModel" (240 : Nat) "BranchMenderModel" "isClash" "Z") ∈ lw_all := lw_g (lw_at lw_m6 25 rfl) rfl
theorem q1291 : (Jvm.Cond.fieldLink "BranchMenderModel" (90 : Nat) "BranchMenderModel" "dueName" "[I") ∈ lw_all := lw_g (lw_at lw_m6 26 rfl) rfl
theorem q1292 : (Jvm.Cond.fieldLink "BranchMenderModel" (93 : Nat) "BranchMenderModel" "dueDeep" "[I") ∈ lw_all := lw_g (lw_at lw_m6 27 rfl) rfl
theorem q1293 : (Jvm.Cond.laysFinal "BranchMenderModel" "BranchMenderModel" "nodes" "[I") ∈ lw_all := lw_g (lw_at lw_m6 28 rfl) rfl
theorem q1294 : (Jvm.Cond.soleField "BranchMenderModel" "nodes") ∈ lw_all := lw_g (lw_at lw_m6 29 rfl) rfl
theorem q1295 : (Jvm.Cond.laysFinal "BranchMenderModel" "BranchMenderModel" "sizes" "[I") ∈ lw_all := lw_g (lw_at lw_m6 30 rfl) rfl
theorem q1296 : (Jvm.Cond.soleField "BranchMenderModel" "sizes") ∈ lw_all := lw_g (lw_at lw_m6 31 rfl) rfl
theorem q1297 : (Jvm.Cond.lays "BranchMenderModel" "BranchMenderModel" "nextName" "I") ∈ lw_all := lw_g (lw_at lw_m6 32 rfl) rfl
theorem q1298 : (Jvm.Cond.soleField "BranchMenderModel" "nextName") ∈ lw_all := lw_g (lw_at lw_m6 33 rfl) rfl
theorem q1299 : (Jvm.Cond.laysFinal "BranchMenderModel" "BranchMenderModel" "tape" "[I") ∈ lw_all := lw_g (lw_at lw_m6 34 rfl) rfl
theorem q1300 : (Jvm.Cond.soleField "BranchMenderModel" "tape") ∈ lw_all := lw_g (lw_at lw_m6 35 rfl) rfl
theorem q1301 : (Jvm.Cond.lays "BranchMenderModel" "BranchMenderModel" "taped" "I") ∈ lw_all := lw_g (lw_at lw_m6 36 rfl) rfl
theorem q1302 : (Jvm.Cond.soleField "BranchMenderModel" "taped") ∈ lw_all := lw_g (lw_at lw_m6 37 rfl) rfl
theorem q1303 : (Jvm.Cond.laysFinal "BranchMenderModel" "BranchMenderModel" "written" "[I") ∈ lw_all := lw_g (lw_at lw_m6 38 rfl) rfl
theorem q1304 : (Jvm.Cond.soleField "BranchMenderModel" "written") ∈ lw_all := lw_g (lw_at lw_m6 39 rfl) rfl
theorem q1305 : (Jvm.Cond.lays "BranchMenderModel" "BranchMenderModel" "writtenMany" "I") ∈ lw_all := lw_g (lw_at lw_m6 40 rfl) rfl
theorem q1306 : (Jvm.Cond.soleField "BranchMenderModel" "writtenMany") ∈ lw_all := lw_g (lw_at lw_m6 41 rfl) rfl
theorem q1307 : (Jvm.Cond.laysFinal "BranchMenderModel" "BranchMenderModel" "prices" "[I") ∈ lw_all := lw_g (lw_at lw_m6 42 rfl) rfl
theorem q1308 : (Jvm.Cond.soleField "BranchMenderModel" "prices") ∈ lw_all := lw_g (lw_at lw_m6 43 rfl) rfl
theorem q1309 : (Jvm.Cond.laysFinal "BranchMenderModel" "BranchMenderModel" "findings" "[I") ∈ lw_all := lw_g (lw_at lw_m6 44 rfl) rfl
theorem q1310 : (Jvm.Cond.soleField "BranchMenderModel" "findings") ∈ lw_all := lw_g (lw_at lw_m6 45 rfl) rfl
theorem q1311 : (Jvm.Cond.laysFinal "BranchMenderModel" "BranchMenderModel" "open" "[I") ∈ lw_all := lw_g (lw_at lw_m6 46 rfl) rfl
theorem q1312 : (Jvm.Cond.soleField "BranchMenderModel" "open") ∈ lw_all := lw_g (lw_at lw_m6 47 rfl) rfl
theorem q1313 : (Jvm.Cond.laysFinal "BranchMenderModel" "BranchMenderModel" "closing" "[I") ∈ lw_all := lw_g (lw_at lw_m6 48 rfl) rfl
theorem q1314 : (Jvm.Cond.soleField "BranchMenderModel" "closing") ∈ lw_all := lw_g (lw_at lw_m6 49 rfl) rfl
theorem q1315 : (Jvm.Cond.laysFinal "BranchMenderModel" "BranchMenderModel" "ahead" "[I") ∈ lw_all := lw_g (lw_at lw_m6 50 rfl) rfl
theorem q1316 : (Jvm.Cond.soleField "BranchMenderModel" "ahead") ∈ lw_all := lw_g (lw_at lw_m6 51 rfl) rfl
theorem q1317 : (Jvm.Cond.laysFinal "BranchMenderModel" "BranchMenderModel" "low" "[I") ∈ lw_all := lw_g (lw_at lw_m6 52 rfl) rfl
theorem q1318 : (Jvm.Cond.soleField "BranchMenderModel" "low") ∈ lw_all := lw_g (lw_at lw_m6 53 rfl) rfl
theorem q1319 : (Jvm.Cond.laysFinal "BranchMenderModel" "BranchMenderModel" "costs" "[I") ∈ lw_all := lw_g (lw_at lw_m6 54 rfl) rfl
theorem q1320 : (Jvm.Cond.soleField "BranchMenderModel" "costs") ∈ lw_all := lw_g (lw_at lw_m6 55 rfl) rfl
theorem q1321 : (Jvm.Cond.laysFinal "BranchMenderModel" "BranchMenderModel" "pairOf" "[I") ∈ lw_all := lw_g (lw_at lw_m6 56 rfl) rfl
theorem q1322 : (Jvm.Cond.soleField "BranchMenderModel" "pairOf") ∈ lw_all := lw_g (lw_at lw_m6 57 rfl) rfl
theorem q1323 : (Jvm.Cond.laysFinal "BranchMenderModel" "BranchMenderModel" "pairTo" "[I") ∈ lw_all := lw_g (lw_at lw_m6 58 rfl) rfl
theorem q1324 : (Jvm.Cond.soleField "BranchMenderModel" "pairTo") ∈ lw_all := lw_g (lw_at lw_m6 59 rfl) rfl
theorem q1325 : (Jvm.Cond.laysFinal "BranchMenderModel" "BranchMenderModel" "dueA" "[I") ∈ lw_all := lw_g (lw_at lw_m6 60 rfl) rfl
theorem q1326 : (Jvm.Cond.soleField "BranchMenderModel" "dueA") ∈ lw_all := lw_g (lw_at lw_m6 61 rfl) rfl
theorem q1327 : (Jvm.Cond.laysFinal "BranchMenderModel" "BranchMenderModel" "dueN" "[I") ∈ lw_all := lw_g (lw_at lw_m6 62 rfl) rfl
theorem q1328 : (Jvm.Cond.soleField "BranchMenderModel" "dueN") ∈ lw_all := lw_g (lw_at lw_m6 63 rfl) rfl
theorem q1329 : (Jvm.Cond.laysFinal "BranchMenderModel" "BranchMenderModel" "dueB" "[I") ∈ lw_all := lw_g (lw_at lw_m6 64 rfl) rfl
theorem q1330 : (Jvm.Cond.soleField "BranchMenderModel" "dueB") ∈ lw_all := lw_g (lw_at lw_m6 65 rfl) rfl
theorem q1331 : (Jvm.Cond.laysFinal "BranchMenderModel" "BranchMenderModel" "dueM" "[I") ∈ lw_all := lw_g (lw_at lw_m6 66 rfl) rfl
theorem q1332 : (Jvm.Cond.soleField "BranchMenderModel" "dueM") ∈ lw_all := lw_g (lw_at lw_m6 67 rfl) rfl
theorem q1333 : (Jvm.Cond.lays "BranchMenderModel" "BranchMenderModel" "pairMany" "I") ∈ lw_all := lw_g (lw_at lw_m6 68 rfl) rfl
theorem q1334 : (Jvm.Cond.soleField "BranchMenderModel" "pairMany") ∈ lw_all := lw_g (lw_at lw_m6 69 rfl) rfl
theorem q1335 : (Jvm.Cond.lays "BranchMenderModel" "BranchMenderModel" "actMany" "I") ∈ lw_all := lw_g (lw_at lw_m6 70 rfl) rfl
theorem q1336 : (Jvm.Cond.soleField "BranchMenderModel" "actMany") ∈ lw_all := lw_g (lw_at lw_m6 71 rfl) rfl
theorem q1337 : (Jvm.Cond.lays "BranchMenderModel" "BranchMenderModel" "mapped" "I") ∈ lw_all := lw_g (lw_at lw_m6 72 rfl) rfl
theorem q1338 : (Jvm.Cond.soleField "BranchMenderModel" "mapped") ∈ lw_all := lw_g (lw_at lw_m6 73 rfl) rfl
theorem q1339 : (Jvm.Cond.laysFinal "BranchMenderModel" "BranchMenderModel" "pairOne" "[I") ∈ lw_all := lw_g (lw_at lw_m6 74 rfl) rfl
theorem q1340 : (Jvm.Cond.soleField "BranchMenderModel" "pairOne") ∈ lw_all := lw_g (lw_at lw_m6 75 rfl) rfl
theorem q1341 : (Jvm.Cond.laysFinal "BranchMenderModel" "BranchMenderModel" "pairTwo" "[I") ∈ lw_all := lw_g (lw_at lw_m6 76 rfl) rfl
theorem q1342 : (Jvm.Cond.soleField "BranchMenderModel" "pairTwo") ∈ lw_all := lw_g (lw_at lw_m6 77 rfl) rfl
theorem q1343 : (Jvm.Cond.laysFinal "BranchMenderModel" "BranchMenderModel" "actWhich" "[I") ∈ lw_all := lw_g (lw_at lw_m6 78 rfl) rfl
theorem q1344 : (Jvm.Cond.soleField "BranchMenderModel" "actWhich") ∈ lw_all := lw_g (lw_at lw_m6 79 rfl) rfl
theorem q1345 : (Jvm.Cond.laysFinal "BranchMenderModel" "BranchMenderModel" "actName" "[I") ∈ lw_all := lw_g (lw_at lw_m6 80 rfl) rfl
theorem q1346 : (Jvm.Cond.soleField "BranchMenderModel" "actName") ∈ lw_all := lw_g (lw_at lw_m6 81 rfl) rfl
theorem q1347 : (Jvm.Cond.laysFinal "BranchMenderModel" "BranchMenderModel" "actPrice" "[I") ∈ lw_all := lw_g (lw_at lw_m6 82 rfl) rfl
theorem q1348 : (Jvm.Cond.soleField "BranchMenderModel" "actPrice") ∈ lw_all := lw_g (lw_at lw_m6 83 rfl) rfl
theorem q1349 : (Jvm.Cond.laysFinal "BranchMenderModel" "BranchMenderModel" "classes" "[I") ∈ lw_all := lw_g (lw_at lw_m6 84 rfl) rfl
theorem q1350 : (Jvm.Cond.soleField "BranchMenderModel" "classes") ∈ lw_all := lw_g (lw_at lw_m6 85 rfl) rfl
theorem q1351 : (Jvm.Cond.laysFinal "BranchMenderModel" "BranchMenderModel" "clashName" "[I") ∈ lw_all := lw_g (lw_at lw_m6 86 rfl) rfl
theorem q1352 : (Jvm.Cond.soleField "BranchMenderModel" "clashName") ∈ lw_all := lw_g (lw_at lw_m6 87 rfl) rfl
theorem q1353 : (Jvm.Cond.laysFinal "BranchMenderModel" "BranchMenderModel" "clashWhat" "[I") ∈ lw_all := lw_g (lw_at lw_m6 88 rfl) rfl
theorem q1354 : (Jvm.Cond.soleField "BranchMenderModel" "clashWhat") ∈ lw_all := lw_g (lw_at lw_m6 89 rfl) rfl
theorem q1355 : (Jvm.Cond.lays "BranchMenderModel" "BranchMenderModel" "clashes" "I") ∈ lw_all := lw_g (lw_at lw_m6 90 rfl) rfl
theorem q1356 : (Jvm.Cond.soleField "BranchMenderModel" "clashes") ∈ lw_all := lw_g (lw_at lw_m6 91 rfl) rfl
theorem q1357 : (Jvm.Cond.lays "BranchMenderModel" "BranchMenderModel" "merged" "I") ∈ lw_all := lw_g (lw_at lw_m6 92 rfl) rfl
theorem q1358 : (Jvm.Cond.soleField "BranchMenderModel" "merged") ∈ lw_all := lw_g (lw_at lw_m6 93 rfl) rfl
theorem q1359 : (Jvm.Cond.lays "BranchMenderModel" "BranchMenderModel" "isClash" "Z") ∈ lw_all := lw_g (lw_at lw_m6 94 rfl) rfl
theorem q1360 : (Jvm.Cond.soleField "BranchMenderModel" "isClash") ∈ lw_all := lw_g (lw_at lw_m6 95 rfl) rfl
theorem q1361 : (Jvm.Cond.laysFinal "BranchMenderModel" "BranchMenderModel" "dueName" "[I") ∈ lw_all := lw_g (lw_at lw_m6 96 rfl) rfl
theorem q1362 : (Jvm.Cond.soleField "BranchMenderModel" "dueName") ∈ lw_all := lw_g (lw_at lw_m6 97 rfl) rfl
theorem q1363 : (Jvm.Cond.laysFinal "BranchMenderModel" "BranchMenderModel" "dueDeep" "[I") ∈ lw_all := lw_g (lw_at lw_m6 98 rfl) rfl
theorem q1364 : (Jvm.Cond.soleField "BranchMenderModel" "dueDeep") ∈ lw_all := lw_g (lw_at lw_m6 99 rfl) rfl
theorem q1365 : (Jvm.Cond.superclass "BranchMenderModel" "java/lang/Object") ∈ lw_all := lw_g (lw_at lw_m6 100 rfl) rfl
theorem q1367 : (Jvm.Cond.instanceMethod ({ cls := "BranchMenderModel", name := "feed", desc := "(JI)I" } : Jvm.MethodName)) ∈ lw_all := lw_g (lw_at lw_m6 102 rfl) rfl
theorem q1368 : (Jvm.Cond.selects "BranchMenderModel" ({ cls := "BranchMenderModel", name := "feed", desc := "(JI)I" } : Jvm.MethodName) ({ cls := "BranchMenderModel", name := "feed", desc := "(JI)I" } : Jvm.MethodName)) ∈ lw_all := lw_g (lw_at lw_m6 103 rfl) rfl
theorem q1369 : (Jvm.Cond.code ({ cls := "BranchMenderModel", name := "feed", desc := "(JI)I" } : Jvm.MethodName) prog_17_method_20_code (5 : Nat) (Option.some Jvm.ClassFile.FieldType.int)) ∈ lw_all := lw_g (lw_at lw_m6 104 rfl) rfl
theorem q1370 : (Jvm.Cond.methodLink "BranchMenderModel" (96 : Nat) ({ cls := "BranchMenderModel", name := "in", desc := "(III)Z" } : Jvm.MethodName)) ∈ lw_all := lw_g (lw_at lw_m6 105 rfl) rfl
theorem q1371 : (Jvm.Cond.static ({ cls := "BranchMenderModel", name := "in", desc := "(III)Z" } : Jvm.MethodName)) ∈ lw_all := lw_g (lw_at lw_m6 106 rfl) rfl
theorem q1372 : (Jvm.Cond.code ({ cls := "BranchMenderModel", name := "in", desc := "(III)Z" } : Jvm.MethodName) prog_17_method_4_code (3 : Nat) (Option.some Jvm.ClassFile.FieldType.boolean)) ∈ lw_all := lw_g (lw_at lw_m6 107 rfl) rfl
theorem q1373 : (Jvm.Cond.methodLink "BranchMenderModel" (126 : Nat) ({ cls := "BranchMenderModel", name := "found0", desc := "(I)I" } : Jvm.MethodName)) ∈ lw_all := lw_g (lw_at lw_m6 108 rfl) rfl
theorem q1374 : (Jvm.Cond.privateMethod ({ cls := "BranchMenderModel", name := "found0", desc := "(I)I" } : Jvm.MethodName)) ∈ lw_tbl := lw_at lw_m6 109 rfl
theorem q1375 : (Jvm.Cond.instanceMethod ({ cls := "BranchMenderModel", name := "found0", desc := "(I)I" } : Jvm.MethodName)) ∈ lw_all := lw_g (lw_at lw_m6 110 rfl) rfl
theorem q1376 : (Jvm.Cond.code ({ cls := "BranchMenderModel", name := "found0", desc := "(I)I" } : Jvm.MethodName) prog_17_method_3_code (2 : Nat) (Option.some Jvm.ClassFile.FieldType.int)) ∈ lw_all := lw_g (lw_at lw_m6 111 rfl) rfl
theorem q1377 : (Jvm.Cond.constantLong "BranchMenderModel" (133 : Nat) (255 : Int64)) ∈ lw_all := lw_g (lw_at lw_m6 112 rfl) rfl
theorem q1379 : (Jvm.Cond.instanceMethod ({ cls := "BranchMenderModel", name := "read", desc := "(I)I" } : Jvm.MethodName)) ∈ lw_all := lw_g (lw_at lw_m6 114 rfl) rfl
theorem q1380 : (Jvm.Cond.selects "BranchMenderModel" ({ cls := "BranchMenderModel", name := "read", desc := "(I)I" } : Jvm.MethodName) ({ cls := "BranchMenderModel", name := "read", desc := "(I)I" } : Jvm.MethodName)) ∈ lw_all := lw_g (lw_at lw_m6 115 rfl) rfl
theorem q1381 : (Jvm.Cond.code ({ cls := "BranchMenderModel", name := "read", desc := "(I)I" } : Jvm.MethodName) prog_17_method_26_code (5 : Nat) (Option.some Jvm.ClassFile.FieldType.int)) ∈ lw_all := lw_g (lw_at lw_m6 116 rfl) rfl
theorem q1382 : (Jvm.Cond.methodLink "BranchMenderModel" (100 : Nat) ({ cls := "BranchMenderModel", name := "isPlace", desc := "(I)Z" } : Jvm.MethodName)) ∈ lw_all := lw_g (lw_at lw_m6 117 rfl) rfl
theorem q1383 : (Jvm.Cond.static ({ cls := "BranchMenderModel", name := "isPlace", desc := "(I)Z" } : Jvm.MethodName)) ∈ lw_all := lw_g (lw_at lw_m6 118 rfl) rfl
theorem q1384 : (Jvm.Cond.code ({ cls := "BranchMenderModel", name := "isPlace", desc := "(I)Z" } : Jvm.MethodName) prog_17_method_5_code (1 : Nat) (Option.some Jvm.ClassFile.FieldType.boolean)) ∈ lw_all := lw_g (lw_at lw_m6 119 rfl) rfl
theorem q1385 : (Jvm.Cond.methodLink "BranchMenderModel" (148 : Nat) ({ cls := "BranchMenderModel", name := "reads", desc := "(I)I" } : Jvm.MethodName)) ∈ lw_all := lw_g (lw_at lw_m6 120 rfl) rfl
theorem q1386 : (Jvm.Cond.privateMethod ({ cls := "BranchMenderModel", name := "reads", desc := "(I)I" } : Jvm.MethodName)) ∈ lw_tbl := lw_at lw_m6 121 rfl
theorem q1387 : (Jvm.Cond.instanceMethod ({ cls := "BranchMenderModel", name := "reads", desc := "(I)I" } : Jvm.MethodName)) ∈ lw_all := lw_g (lw_at lw_m6 122 rfl) rfl
theorem q1388 : (Jvm.Cond.code ({ cls := "BranchMenderModel", name := "reads", desc := "(I)I" } : Jvm.MethodName) prog_17_method_25_code (8 : Nat) (Option.some Jvm.ClassFile.FieldType.int)) ∈ lw_all := lw_g (lw_at lw_m6 123 rfl) rfl
theorem q1389 : (Jvm.Cond.methodLink "BranchMenderModel" (138 : Nat) ({ cls := "BranchMenderModel", name := "at", desc := "(II)I" } : Jvm.MethodName)) ∈ lw_all := lw_g (lw_at lw_m6 124 rfl) rfl
theorem q1390 : (Jvm.Cond.privateMethod ({ cls := "BranchMenderModel", name := "at", desc := "(II)I" } : Jvm.MethodName)) ∈ lw_tbl := lw_at lw_m6 125 rfl
theorem q1391 : (Jvm.Cond.instanceMethod ({ cls := "BranchMenderModel", name := "at", desc := "(II)I" } : Jvm.MethodName)) ∈ lw_all := lw_g (lw_at lw_m6 126 rfl) rfl
theorem q1392 : (Jvm.Cond.code ({ cls := "BranchMenderModel", name := "at", desc := "(II)I" } : Jvm.MethodName) prog_17_method_23_code (3 : Nat) (Option.some Jvm.ClassFile.FieldType.int)) ∈ lw_all := lw_g (lw_at lw_m6 127 rfl) rfl
theorem q1393 : (Jvm.Cond.methodLink "BranchMenderModel" (135 : Nat) ({ cls := "BranchMenderModel", name := "isLetter", desc := "(I)Z" } : Jvm.MethodName)) ∈ lw_all := lw_g (lw_at lw_m6 128 rfl) rfl
theorem q1394 : (Jvm.Cond.static ({ cls := "BranchMenderModel", name := "isLetter", desc := "(I)Z" } : Jvm.MethodName)) ∈ lw_all := lw_g (lw_at lw_m6 129 rfl) rfl
theorem q1395 : (Jvm.Cond.code ({ cls := "BranchMenderModel", name := "isLetter", desc := "(I)Z" } : Jvm.MethodName) prog_17_method_21_code (1 : Nat) (Option.some Jvm.ClassFile.FieldType.boolean)) ∈ lw_all := lw_g (lw_at lw_m6 130 rfl) rfl
theorem q1396 : (Jvm.Cond.methodLink "BranchMenderModel" (108 : Nat) ({ cls := "BranchMenderModel", name := "set", desc := "(IIII)V" } : Jvm.MethodName)) ∈ lw_all := lw_g (lw_at lw_m6 131 rfl) rfl
theorem q1397 : (Jvm.Cond.privateMethod ({ cls := "BranchMenderModel", name := "set", desc := "(IIII)V" } : Jvm.MethodName)) ∈ lw_tbl := lw_at lw_m6 132 rfl
theorem q1398 : (Jvm.Cond.instanceMethod ({ cls := "BranchMenderModel", name := "set", desc := "(IIII)V" } : Jvm.MethodName)) ∈ lw_all := lw_g (lw_at lw_m6 133 rfl) rfl
theorem q1399 : (Jvm.Cond.code ({ cls := "BranchMenderModel", name := "set", desc := "(IIII)V" } : Jvm.MethodName) prog_17_method_8_code (5 : Nat) (Option.none : Option Jvm.ClassFile.FieldType)) ∈ lw_all := lw_g (lw_at lw_m6 134 rfl) rfl
theorem q1400 : (Jvm.Cond.methodLink "BranchMenderModel" (144 : Nat) ({ cls := "BranchMenderModel", name := "signs", desc := "(IIIII)I" } : Jvm.MethodName)) ∈ lw_all := lw_g (lw_at lw_m6 135 rfl) rfl
theorem q1401 : (Jvm.Cond.privateMethod ({ cls := "BranchMenderModel", name := "signs", desc := "(IIIII)I" } : Jvm.MethodName)) ∈ lw_tbl := lw_at lw_m6 136 rfl
theorem q1402 : (Jvm.Cond.instanceMethod ({ cls := "BranchMenderModel", name := "signs", desc := "(IIIII)I" } : Jvm.MethodName)) ∈ lw_all := lw_g (lw_at lw_m6 137 rfl) rfl
theorem q1403 : (Jvm.Cond.code ({ cls := "BranchMenderModel", name := "signs", desc := "(IIIII)I" } : Jvm.MethodName) prog_17_method_24_code (7 : Nat) (Option.some Jvm.ClassFile.FieldType.int)) ∈ lw_all := lw_g (lw_at lw_m6 138 rfl) rfl
theorem q1404 : (Jvm.Cond.methodLink "BranchMenderModel" (141 : Nat) ({ cls := "BranchMenderModel", name := "isSign", desc := "(I)Z" } : Jvm.MethodName)) ∈ lw_all := lw_g (lw_at lw_m6 139 rfl) rfl
theorem q1405 : (Jvm.Cond.static ({ cls := "BranchMenderModel", name := "isSign", desc := "(I)Z" } : Jvm.MethodName)) ∈ lw_all := lw_g (lw_at lw_m6 140 rfl) rfl
theorem q1406 : (Jvm.Cond.code ({ cls := "BranchMenderModel", name := "isSign", desc := "(I)Z" } : Jvm.MethodName) prog_17_method_22_code (1 : Nat) (Option.some Jvm.ClassFile.FieldType.boolean)) ∈ lw_all := lw_g (lw_at lw_m6 141 rfl) rfl
theorem q1407 : (Jvm.Cond.methodLink "BranchMenderModel" (104 : Nat) ({ cls := "BranchMenderModel", name := "of", desc := "(III)I" } : Jvm.MethodName)) ∈ lw_all := lw_g (lw_at lw_m6 142 rfl) rfl
theorem q1408 : (Jvm.Cond.privateMethod ({ cls := "BranchMenderModel", name := "of", desc := "(III)I" } : Jvm.MethodName)) ∈ lw_tbl := lw_at lw_m6 143 rfl
theorem q1409 : (Jvm.Cond.instanceMethod ({ cls := "BranchMenderModel", name := "of", desc := "(III)I" } : Jvm.MethodName)) ∈ lw_all := lw_g (lw_at lw_m6 144 rfl) rfl
theorem q1410 : (Jvm.Cond.code ({ cls := "BranchMenderModel", name := "of", desc := "(III)I" } : Jvm.MethodName) prog_17_method_7_code (4 : Nat) (Option.some Jvm.ClassFile.FieldType.int)) ∈ lw_all := lw_g (lw_at lw_m6 145 rfl) rfl
theorem q1411 : (Jvm.Cond.methodLink "BranchMenderModel" (122 : Nat) ({ cls := "BranchMenderModel", name := "isLike", desc := "(IIIII)Z" } : Jvm.MethodName)) ∈ lw_all := lw_g (lw_at lw_m6 146 rfl) rfl
theorem q1412 : (Jvm.Cond.privateMethod ({ cls := "BranchMenderModel", name := "isLike", desc := "(IIIII)Z" } : Jvm.MethodName)) ∈ lw_tbl := lw_at lw_m6 147 rfl
theorem q1413 : (Jvm.Cond.instanceMethod ({ cls := "BranchMenderModel", name := "isLike", desc := "(IIIII)Z" } : Jvm.MethodName)) ∈ lw_all := lw_g (lw_at lw_m6 148 rfl) rfl
theorem q1414 : (Jvm.Cond.code ({ cls := "BranchMenderModel", name := "isLike", desc := "(IIIII)Z" } : Jvm.MethodName) prog_17_method_17_code (8 : Nat) (Option.some Jvm.ClassFile.FieldType.boolean)) ∈ lw_all := lw_g (lw_at lw_m6 149 rfl) rfl
theorem q1415 : (Jvm.Cond.methodLink "BranchMenderModel" (119 : Nat) ({ cls := "BranchMenderModel", name := "end", desc := "(II)I" } : Jvm.MethodName)) ∈ lw_all := lw_g (lw_at lw_m6 150 rfl) rfl
theorem q1416 : (Jvm.Cond.privateMethod ({ cls := "BranchMenderModel", name := "end", desc := "(II)I" } : Jvm.MethodName)) ∈ lw_tbl := lw_at lw_m6 151 rfl
theorem q1417 : (Jvm.Cond.instanceMethod ({ cls := "BranchMenderModel", name := "end", desc := "(II)I" } : Jvm.MethodName)) ∈ lw_all := lw_g (lw_at lw_m6 152 rfl) rfl
theorem q1418 : (Jvm.Cond.code ({ cls := "BranchMenderModel", name := "end", desc := "(II)I" } : Jvm.MethodName) prog_17_method_12_code (4 : Nat) (Option.some Jvm.ClassFile.FieldType.int)) ∈ lw_all := lw_g (lw_at lw_m6 153 rfl) rfl
theorem q1419 : (Jvm.Cond.methodLink "BranchMenderModel" (115 : Nat) ({ cls := "BranchMenderModel", name := "deep", desc := "(II)I" } : Jvm.MethodName)) ∈ lw_all := lw_g (lw_at lw_m6 154 rfl) rfl
theorem q1420 : (Jvm.Cond.privateMethod ({ cls := "BranchMenderModel", name := "deep", desc := "(II)I" } : Jvm.MethodName)) ∈ lw_tbl := lw_at lw_m6 155 rfl
theorem q1421 : (Jvm.Cond.instanceMethod ({ cls := "BranchMenderModel", name := "deep", desc := "(II)I" } : Jvm.MethodName)) ∈ lw_all := lw_g (lw_at lw_m6 156 rfl) rfl
theorem q1422 : (Jvm.Cond.code ({ cls := "BranchMenderModel", name := "deep", desc := "(II)I" } : Jvm.MethodName) prog_17_method_9_code (3 : Nat) (Option.some Jvm.ClassFile.FieldType.int)) ∈ lw_all := lw_g (lw_at lw_m6 157 rfl) rfl
theorem q1423 : (Jvm.Cond.methodLink "BranchMenderModel" (151 : Nat) ({ cls := "BranchMenderModel", name := "copyAll", desc := "(II)V" } : Jvm.MethodName)) ∈ lw_all := lw_g (lw_at lw_m6 158 rfl) rfl
theorem q1424 : (Jvm.Cond.privateMethod ({ cls := "BranchMenderModel", name := "copyAll", desc := "(II)V" } : Jvm.MethodName)) ∈ lw_tbl := lw_at lw_m6 159 rfl
theorem q1425 : (Jvm.Cond.instanceMethod ({ cls := "BranchMenderModel", name := "copyAll", desc := "(II)V" } : Jvm.MethodName)) ∈ lw_all := lw_g (lw_at lw_m6 160 rfl) rfl
theorem q1426 : (Jvm.Cond.code ({ cls := "BranchMenderModel", name := "copyAll", desc := "(II)V" } : Jvm.MethodName) prog_17_method_11_code (4 : Nat) (Option.none : Option Jvm.ClassFile.FieldType)) ∈ lw_all := lw_g (lw_at lw_m6 161 rfl) rfl
theorem q1427 : (Jvm.Cond.methodLink "BranchMenderModel" (112 : Nat) ({ cls := "BranchMenderModel", name := "carry", desc := "(IIII)V" } : Jvm.MethodName)) ∈ lw_all := lw_g (lw_at lw_m6 162 rfl) rfl
theorem q1428 : (Jvm.Cond.privateMethod ({ cls := "BranchMenderModel", name := "carry", desc := "(IIII)V" } : Jvm.MethodName)) ∈ lw_tbl := lw_at lw_m6 163 rfl
theorem q1429 : (Jvm.Cond.instanceMethod ({ cls := "BranchMenderModel", name := "carry", desc := "(IIII)V" } : Jvm.MethodName)) ∈ lw_all := lw_g (lw_at lw_m6 164 rfl) rfl
theorem q1430 : (Jvm.Cond.code ({ cls := "BranchMenderModel", name := "carry", desc := "(IIII)V" } : Jvm.MethodName) prog_17_method_10_code (6 : Nat) (Option.none : Option Jvm.ClassFile.FieldType)) ∈ lw_all := lw_g (lw_at lw_m6 165 rfl) rfl
theorem q1432 : (Jvm.Cond.instanceMethod ({ cls := "BranchMenderModel", name := "write", desc := "(I)I" } : Jvm.MethodName)) ∈ lw_all := lw_g (lw_at lw_m6 167 rfl) rfl
theorem q1433 : (Jvm.Cond.selects "BranchMenderModel" ({ cls := "BranchMenderModel", name := "write", desc := "(I)I" } : Jvm.MethodName) ({ cls := "BranchMenderModel", name := "write", desc := "(I)I" } : Jvm.MethodName)) ∈ lw_all := lw_g (lw_at lw_m6 168 rfl) rfl
theorem q1434 : (Jvm.Cond.code ({ cls := "BranchMenderModel", name := "write", desc := "(I)I" } : Jvm.MethodName) prog_17_method_28_code (7 : Nat) (Option.some Jvm.ClassFile.FieldType.int)) ∈ lw_all := lw_g (lw_at lw_m6 169 rfl) rfl
theorem q1435 : (Jvm.Cond.methodLink "BranchMenderModel" (161 : Nat) ({ cls := "BranchMenderModel", name := "lacks", desc := "(I)I" } : Jvm.MethodName)) ∈ lw_all := lw_g (lw_at lw_m6 170 rfl) rfl
theorem q1436 : (Jvm.Cond.privateMethod ({ cls := "BranchMenderModel", name := "lacks", desc := "(I)I" } : Jvm.MethodName)) ∈ lw_tbl := lw_at lw_m6 171 rfl
theorem q1437 : (Jvm.Cond.instanceMethod ({ cls := "BranchMenderModel", name := "lacks", desc := "(I)I" } : Jvm.MethodName)) ∈ lw_all := lw_g (lw_at lw_m6 172 rfl) rfl
theorem q1438 : (Jvm.Cond.code ({ cls := "BranchMenderModel", name := "lacks", desc := "(I)I" } : Jvm.MethodName) prog_17_method_6_code (2 : Nat) (Option.some Jvm.ClassFile.FieldType.int)) ∈ lw_all := lw_g (lw_at lw_m6 173 rfl) rfl
theorem q1439 : (Jvm.Cond.methodLink "BranchMenderModel" (164 : Nat) ({ cls := "BranchMenderModel", name := "closes", desc := "(III)V" } : Jvm.MethodName)) ∈ lw_all := lw_g (lw_at lw_m6 174 rfl) rfl
theorem q1440 : (Jvm.Cond.privateMethod ({ cls := "BranchMenderModel", name := "closes", desc := "(III)V" } : Jvm.MethodName)) ∈ lw_tbl := lw_at lw_m6 175 rfl
theorem q1441 : (Jvm.Cond.instanceMethod ({ cls := "BranchMenderModel", name := "closes", desc := "(III)V" } : Jvm.MethodName)) ∈ lw_all := lw_g (lw_at lw_m6 176 rfl) rfl
theorem q1442 : (Jvm.Cond.code ({ cls := "BranchMenderModel", name := "closes", desc := "(III)V" } : Jvm.MethodName) prog_17_method_29_code (6 : Nat) (Option.none : Option Jvm.ClassFile.FieldType)) ∈ lw_all := lw_g (lw_at lw_m6 177 rfl) rfl
theorem q1443 : (Jvm.Cond.methodLink "BranchMenderModel" (172 : Nat) ({ cls := "BranchMenderModel", name := "parent", desc := "(II)I" } : Jvm.MethodName)) ∈ lw_all := lw_g (lw_at lw_m6 178 rfl) rfl
theorem q1444 : (Jvm.Cond.privateMethod ({ cls := "BranchMenderModel", name := "parent", desc := "(II)I" } : Jvm.MethodName)) ∈ lw_tbl := lw_at lw_m6 179 rfl
theorem q1445 : (Jvm.Cond.instanceMethod ({ cls := "BranchMenderModel", name := "parent", desc := "(II)I" } : Jvm.MethodName)) ∈ lw_all := lw_g (lw_at lw_m6 180 rfl) rfl
theorem q1446 : (Jvm.Cond.code ({ cls := "BranchMenderModel", name := "parent", desc := "(II)I" } : Jvm.MethodName) prog_17_method_13_code (4 : Nat) (Option.some Jvm.ClassFile.FieldType.int)) ∈ lw_all := lw_g (lw_at lw_m6 181 rfl) rfl
theorem q1447 : (Jvm.Cond.methodLink "BranchMenderModel" (168 : Nat) ({ cls := "BranchMenderModel", name := "writes", desc := "(I)V" } : Jvm.MethodName)) ∈ lw_all := lw_g (lw_at lw_m6 182 rfl) rfl
theorem q1448 : (Jvm.Cond.privateMethod ({ cls := "BranchMenderModel", name := "writes", desc := "(I)V" } : Jvm.MethodName)) ∈ lw_tbl := lw_at lw_m6 183 rfl
theorem q1449 : (Jvm.Cond.instanceMethod ({ cls := "BranchMenderModel", name := "writes", desc := "(I)V" } : Jvm.MethodName)) ∈ lw_all := lw_g (lw_at lw_m6 184 rfl) rfl
theorem q1450 : (Jvm.Cond.code ({ cls := "BranchMenderModel", name := "writes", desc := "(I)V" } : Jvm.MethodName) prog_17_method_27_code (2 : Nat) (Option.none : Option Jvm.ClassFile.FieldType)) ∈ lw_all := lw_g (lw_at lw_m6 185 rfl) rfl
theorem q1452 : (Jvm.Cond.instanceMethod ({ cls := "BranchMenderModel", name := "letter", desc := "(I)I" } : Jvm.MethodName)) ∈ lw_all := lw_g (lw_at lw_m6 187 rfl) rfl
theorem q1453 : (Jvm.Cond.selects "BranchMenderModel" ({ cls := "BranchMenderModel", name := "letter", desc := "(I)I" } : Jvm.MethodName) ({ cls := "BranchMenderModel", name := "letter", desc := "(I)I" } : Jvm.MethodName)) ∈ lw_all := lw_g (lw_at lw_m6 188 rfl) rfl
theorem q1454 : (Jvm.Cond.code ({ cls := "BranchMenderModel", name := "letter", desc := "(I)I" } : Jvm.MethodName) prog_17_method_30_code (2 : Nat) (Option.some Jvm.ClassFile.FieldType.int)) ∈ lw_all := lw_g (lw_at lw_m6 189 rfl) rfl
theorem q1456 : (Jvm.Cond.instanceMethod ({ cls := "BranchMenderModel", name := "copy", desc := "(II)I" } : Jvm.MethodName)) ∈ lw_all := lw_g (lw_at lw_m6 191 rfl) rfl
theorem q1457 : (Jvm.Cond.selects "BranchMenderModel" ({ cls := "BranchMenderModel", name := "copy", desc := "(II)I" } : Jvm.MethodName) ({ cls := "BranchMenderModel", name := "copy", desc := "(II)I" } : Jvm.MethodName)) ∈ lw_all := lw_g (lw_at lw_m6 192 rfl) rfl
theorem q1458 : (Jvm.Cond.code ({ cls := "BranchMenderModel", name := "copy", desc := "(II)I" } : Jvm.MethodName) prog_17_method_31_code (4 : Nat) (Option.some Jvm.ClassFile.FieldType.int)) ∈ lw_all := lw_g (lw_at lw_m6 193 rfl) rfl
theorem q1460 : (Jvm.Cond.instanceMethod ({ cls := "BranchMenderModel", name := "clear", desc := "(I)I" } : Jvm.MethodName)) ∈ lw_all := lw_g (lw_at lw_m6 195 rfl) rfl
theorem q1461 : (Jvm.Cond.selects "BranchMenderModel" ({ cls := "BranchMenderModel", name := "clear", desc := "(I)I" } : Jvm.MethodName) ({ cls := "BranchMenderModel", name := "clear", desc := "(I)I" } : Jvm.MethodName)) ∈ lw_all := lw_g (lw_at lw_m6 196 rfl) rfl
theorem q1462 : (Jvm.Cond.code ({ cls := "BranchMenderModel", name := "clear", desc := "(I)I" } : Jvm.MethodName) prog_17_method_32_code (3 : Nat) (Option.some Jvm.ClassFile.FieldType.int)) ∈ lw_all := lw_g (lw_at lw_m6 197 rfl) rfl
theorem q1464 : (Jvm.Cond.instanceMethod ({ cls := "BranchMenderModel", name := "node", desc := "(III)I" } : Jvm.MethodName)) ∈ lw_all := lw_g (lw_at lw_m6 199 rfl) rfl
theorem q1465 : (Jvm.Cond.selects "BranchMenderModel" ({ cls := "BranchMenderModel", name := "node", desc := "(III)I" } : Jvm.MethodName) ({ cls := "BranchMenderModel", name := "node", desc := "(III)I" } : Jvm.MethodName)) ∈ lw_all := lw_g (lw_at lw_m6 200 rfl) rfl
theorem q1466 : (Jvm.Cond.code ({ cls := "BranchMenderModel", name := "node", desc := "(III)I" } : Jvm.MethodName) prog_17_method_34_code (5 : Nat) (Option.some Jvm.ClassFile.FieldType.int)) ∈ lw_all := lw_g (lw_at lw_m6 201 rfl) rfl
theorem q1467 : (Jvm.Cond.methodLink "BranchMenderModel" (175 : Nat) ({ cls := "BranchMenderModel", name := "children", desc := "(II)I" } : Jvm.MethodName)) ∈ lw_all := lw_g (lw_at lw_m6 202 rfl) rfl
theorem q1468 : (Jvm.Cond.privateMethod ({ cls := "BranchMenderModel", name := "children", desc := "(II)I" } : Jvm.MethodName)) ∈ lw_tbl := lw_at lw_m6 203 rfl
theorem q1469 : (Jvm.Cond.instanceMethod ({ cls := "BranchMenderModel", name := "children", desc := "(II)I" } : Jvm.MethodName)) ∈ lw_all := lw_g (lw_at lw_m6 204 rfl) rfl
theorem q1470 : (Jvm.Cond.code ({ cls := "BranchMenderModel", name := "children", desc := "(II)I" } : Jvm.MethodName) prog_17_method_15_code (5 : Nat) (Option.some Jvm.ClassFile.FieldType.int)) ∈ lw_all := lw_g (lw_at lw_m6 205 rfl) rfl
theorem q1471 : (Jvm.Cond.methodLink "BranchMenderModel" (178 : Nat) ({ cls := "BranchMenderModel", name := "behind", desc := "(II)I" } : Jvm.MethodName)) ∈ lw_all := lw_g (lw_at lw_m6 206 rfl) rfl
theorem q1472 : (Jvm.Cond.privateMethod ({ cls := "BranchMenderModel", name := "behind", desc := "(II)I" } : Jvm.MethodName)) ∈ lw_tbl := lw_at lw_m6 207 rfl
theorem q1473 : (Jvm.Cond.instanceMethod ({ cls := "BranchMenderModel", name := "behind", desc := "(II)I" } : Jvm.MethodName)) ∈ lw_all := lw_g (lw_at lw_m6 208 rfl) rfl
theorem q1474 : (Jvm.Cond.code ({ cls := "BranchMenderModel", name := "behind", desc := "(II)I" } : Jvm.MethodName) prog_17_method_33_code (5 : Nat) (Option.some Jvm.ClassFile.FieldType.int)) ∈ lw_all := lw_g (lw_at lw_m6 209 rfl) rfl
theorem q1476 : (Jvm.Cond.instanceMethod ({ cls := "BranchMenderModel", name := "size", desc := "(I)I" } : Jvm.MethodName)) ∈ lw_all := lw_g (lw_at lw_m6 211 rfl) rfl
theorem q1477 : (Jvm.Cond.selects "BranchMenderModel" ({ cls := "BranchMenderModel", name := "size", desc := "(I)I" } : Jvm.MethodName) ({ cls := "BranchMenderModel", name := "size", desc := "(I)I" } : Jvm.MethodName)) ∈ lw_all := lw_g (lw_at lw_m6 212 rfl) rfl
theorem q1478 : (Jvm.Cond.code ({ cls := "BranchMenderModel", name := "size", desc := "(I)I" } : Jvm.MethodName) prog_17_method_35_code (3 : Nat) (Option.some Jvm.ClassFile.FieldType.int)) ∈ lw_all := lw_g (lw_at lw_m6 213 rfl) rfl
theorem q1480 : (Jvm.Cond.instanceMethod ({ cls := "BranchMenderModel", name := "relabel", desc := "(II)I" } : Jvm.MethodName)) ∈ lw_all := lw_g (lw_at lw_m6 215 rfl) rfl
theorem q1481 : (Jvm.Cond.selects "BranchMenderModel" ({ cls := "BranchMenderModel", name := "relabel", desc := "(II)I" } : Jvm.MethodName) ({ cls := "BranchMenderModel", name := "relabel", desc := "(II)I" } : Jvm.MethodName)) ∈ lw_all := lw_g (lw_at lw_m6 216 rfl) rfl
theorem q1482 : (Jvm.Cond.code ({ cls := "BranchMenderModel", name := "relabel", desc := "(II)I" } : Jvm.MethodName) prog_17_method_37_code (7 : Nat) (Option.some Jvm.ClassFile.FieldType.int)) ∈ lw_all := lw_g (lw_at lw_m6 217 rfl) rfl
theorem q1483 : (Jvm.Cond.methodLink "BranchMenderModel" (181 : Nat) ({ cls := "BranchMenderModel", name := "named", desc := "(II)I" } : Jvm.MethodName)) ∈ lw_all := lw_g (lw_at lw_m6 218 rfl) rfl
theorem q1484 : (Jvm.Cond.privateMethod ({ cls := "BranchMenderModel", name := "named", desc := "(II)I" } : Jvm.MethodName)) ∈ lw_tbl := lw_at lw_m6 219 rfl
theorem q1485 : (Jvm.Cond.instanceMethod ({ cls := "BranchMenderModel", name := "named", desc := "(II)I" } : Jvm.MethodName)) ∈ lw_all := lw_g (lw_at lw_m6 220 rfl) rfl
theorem q1486 : (Jvm.Cond.code ({ cls := "BranchMenderModel", name := "named", desc := "(II)I" } : Jvm.MethodName) prog_17_method_16_code (4 : Nat) (Option.some Jvm.ClassFile.FieldType.int)) ∈ lw_all := lw_g (lw_at lw_m6 221 rfl) rfl
theorem q1487 : (Jvm.Cond.methodLink "BranchMenderModel" (184 : Nat) ({ cls := "BranchMenderModel", name := "takes", desc := "(II)Z" } : Jvm.MethodName)) ∈ lw_all := lw_g (lw_at lw_m6 222 rfl) rfl
theorem q1488 : (Jvm.Cond.privateMethod ({ cls := "BranchMenderModel", name := "takes", desc := "(II)Z" } : Jvm.MethodName)) ∈ lw_tbl := lw_at lw_m6 223 rfl
theorem q1489 : (Jvm.Cond.instanceMethod ({ cls := "BranchMenderModel", name := "takes", desc := "(II)Z" } : Jvm.MethodName)) ∈ lw_all := lw_g (lw_at lw_m6 224 rfl) rfl
theorem q1490 : (Jvm.Cond.code ({ cls := "BranchMenderModel", name := "takes", desc := "(II)Z" } : Jvm.MethodName) prog_17_method_36_code (5 : Nat) (Option.some Jvm.ClassFile.FieldType.boolean)) ∈ lw_all := lw_g (lw_at lw_m6 225 rfl) rfl
theorem q1492 : (Jvm.Cond.instanceMethod ({ cls := "BranchMenderModel", name := "retext", desc := "(II)I" } : Jvm.MethodName)) ∈ lw_all := lw_g (lw_at lw_m6 227 rfl) rfl
theorem q1493 : (Jvm.Cond.selects "BranchMenderModel" ({ cls := "BranchMenderModel", name := "retext", desc := "(II)I" } : Jvm.MethodName) ({ cls := "BranchMenderModel", name := "retext", desc := "(II)I" } : Jvm.MethodName)) ∈ lw_all := lw_g (lw_at lw_m6 228 rfl) rfl
theorem q1494 : (Jvm.Cond.code ({ cls := "BranchMenderModel", name := "retext", desc := "(II)I" } : Jvm.MethodName) prog_17_method_38_code (5 : Nat) (Option.some Jvm.ClassFile.FieldType.int)) ∈ lw_all := lw_g (lw_at lw_m6 229 rfl) rfl
theorem q1496 : (Jvm.Cond.instanceMethod ({ cls := "BranchMenderModel", name := "put", desc := "(IIIII)I" } : Jvm.MethodName)) ∈ lw_all := lw_g (lw_at lw_m6 231 rfl) rfl
theorem q1497 : (Jvm.Cond.selects "BranchMenderModel" ({ cls := "BranchMenderModel", name := "put", desc := "(IIIII)I" } : Jvm.MethodName) ({ cls := "BranchMenderModel", name := "put", desc := "(IIIII)I" } : Jvm.MethodName)) ∈ lw_all := lw_g (lw_at lw_m6 232 rfl) rfl
theorem q1498 : (Jvm.Cond.code ({ cls := "BranchMenderModel", name := "put", desc := "(IIIII)I" } : Jvm.MethodName) prog_17_method_39_code (13 : Nat) (Option.some Jvm.ClassFile.FieldType.int)) ∈ lw_all := lw_g (lw_at lw_m6 233 rfl) rfl
theorem q1499 : (Jvm.Cond.methodLink "BranchMenderModel" (188 : Nat) ({ cls := "BranchMenderModel", name := "child", desc := "(III)I" } : Jvm.MethodName)) ∈ lw_all := lw_g (lw_at lw_m6 234 rfl) rfl
theorem q1500 : (Jvm.Cond.privateMethod ({ cls := "BranchMenderModel", name := "child", desc := "(III)I" } : Jvm.MethodName)) ∈ lw_tbl := lw_at lw_m6 235 rfl
theorem q1501 : (Jvm.Cond.instanceMethod ({ cls := "BranchMenderModel", name := "child", desc := "(III)I" } : Jvm.MethodName)) ∈ lw_all := lw_g (lw_at lw_m6 236 rfl) rfl
theorem q1502 : (Jvm.Cond.code ({ cls := "BranchMenderModel", name := "child", desc := "(III)I" } : Jvm.MethodName) prog_17_method_14_code (6 : Nat) (Option.some Jvm.ClassFile.FieldType.int)) ∈ lw_all := lw_g (lw_at lw_m6 237 rfl) rfl
theorem q1503 : (Jvm.Cond.methodLink "BranchMenderModel" (191 : Nat) ({ cls := "BranchMenderModel", name := "isTooDeep", desc := "(I)Z" } : Jvm.MethodName)) ∈ lw_all := lw_g (lw_at lw_m6 238 rfl) rfl
theorem q1504 : (Jvm.Cond.privateMethod ({ cls := "BranchMenderModel", name := "isTooDeep", desc := "(I)Z" } : Jvm.MethodName)) ∈ lw_tbl := lw_at lw_m6 239 rfl
theorem q1505 : (Jvm.Cond.instanceMethod ({ cls := "BranchMenderModel", name := "isTooDeep", desc := "(I)Z" } : Jvm.MethodName)) ∈ lw_all := lw_g (lw_at lw_m7 0 rfl) rfl
theorem q1506 : (Jvm.Cond.code ({ cls := "BranchMenderModel", name := "isTooDeep", desc := "(I)Z" } : Jvm.MethodName) prog_17_method_19_code (3 : Nat) (Option.some Jvm.ClassFile.FieldType.boolean)) ∈ lw_all := lw_g (lw_at lw_m7 1 rfl) rfl
theorem q1507 : (Jvm.Cond.methodLink "BranchMenderModel" (194 : Nat) ({ cls := "BranchMenderModel", name := "hasTwice", desc := "(I)Z" } : Jvm.MethodName)) ∈ lw_all := lw_g (lw_at lw_m7 2 rfl) rfl
theorem q1508 : (Jvm.Cond.privateMethod ({ cls := "BranchMenderModel", name := "hasTwice", desc := "(I)Z" } : Jvm.MethodName)) ∈ lw_tbl := lw_at lw_m7 3 rfl
theorem q1509 : (Jvm.Cond.instanceMethod ({ cls := "BranchMenderModel", name := "hasTwice", desc := "(I)Z" } : Jvm.MethodName)) ∈ lw_all := lw_g (lw_at lw_m7 4 rfl) rfl
theorem q1510 : (Jvm.Cond.code ({ cls := "BranchMenderModel", name := "hasTwice", desc := "(I)Z" } : Jvm.MethodName) prog_17_method_18_code (5 : Nat) (Option.some Jvm.ClassFile.FieldType.boolean)) ∈ lw_all := lw_g (lw_at lw_m7 5 rfl) rfl
theorem q1512 : (Jvm.Cond.instanceMethod ({ cls := "BranchMenderModel", name := "take", desc := "(II)I" } : Jvm.MethodName)) ∈ lw_all := lw_g (lw_at lw_m7 7 rfl) rfl
theorem q1513 : (Jvm.Cond.selects "BranchMenderModel" ({ cls := "BranchMenderModel", name := "take", desc := "(II)I" } : Jvm.MethodName) ({ cls := "BranchMenderModel", name := "take", desc := "(II)I" } : Jvm.MethodName)) ∈ lw_all := lw_g (lw_at lw_m7 8 rfl) rfl
theorem q1514 : (Jvm.Cond.code ({ cls := "BranchMenderModel", name := "take", desc := "(II)I" } : Jvm.MethodName) prog_17_method_40_code (8 : Nat) (Option.some Jvm.ClassFile.FieldType.int)) ∈ lw_all := lw_g (lw_at lw_m7 9 rfl) rfl
theorem q1516 : (Jvm.Cond.instanceMethod ({ cls := "BranchMenderModel", name := "move", desc := "(IIII)I" } : Jvm.MethodName)) ∈ lw_all := lw_g (lw_at lw_m7 11 rfl) rfl
theorem q1517 : (Jvm.Cond.selects "BranchMenderModel" ({ cls := "BranchMenderModel", name := "move", desc := "(IIII)I" } : Jvm.MethodName) ({ cls := "BranchMenderModel", name := "move", desc := "(IIII)I" } : Jvm.MethodName)) ∈ lw_all := lw_g (lw_at lw_m7 12 rfl) rfl
theorem q1518 : (Jvm.Cond.code ({ cls := "BranchMenderModel", name := "move", desc := "(IIII)I" } : Jvm.MethodName) prog_17_method_41_code (14 : Nat) (Option.some Jvm.ClassFile.FieldType.int)) ∈ lw_all := lw_g (lw_at lw_m7 13 rfl) rfl
theorem q1520 : (Jvm.Cond.instanceMethod ({ cls := "BranchMenderModel", name := "price", desc := "(II)I" } : Jvm.MethodName)) ∈ lw_all := lw_g (lw_at lw_m7 15 rfl) rfl
theorem q1521 : (Jvm.Cond.selects "BranchMenderModel" ({ cls := "BranchMenderModel", name := "price", desc := "(II)I" } : Jvm.MethodName) ({ cls := "BranchMenderModel", name := "price", desc := "(II)I" } : Jvm.MethodName)) ∈ lw_all := lw_g (lw_at lw_m7 16 rfl) rfl
theorem q1522 : (Jvm.Cond.code ({ cls := "BranchMenderModel", name := "price", desc := "(II)I" } : Jvm.MethodName) prog_17_method_42_code (4 : Nat) (Option.some Jvm.ClassFile.FieldType.int)) ∈ lw_all := lw_g (lw_at lw_m7 17 rfl) rfl
theorem q1524 : (Jvm.Cond.instanceMethod ({ cls := "BranchMenderModel", name := "distance", desc := "(II)I" } : Jvm.MethodName)) ∈ lw_all := lw_g (lw_at lw_m7 19 rfl) rfl
theorem q1525 : (Jvm.Cond.selects "BranchMenderModel" ({ cls := "BranchMenderModel", name := "distance", desc := "(II)I" } : Jvm.MethodName) ({ cls := "BranchMenderModel", name := "distance", desc := "(II)I" } : Jvm.MethodName)) ∈ lw_all := lw_g (lw_at lw_m7 20 rfl) rfl
theorem q1526 : (Jvm.Cond.code ({ cls := "BranchMenderModel", name := "distance", desc := "(II)I" } : Jvm.MethodName) prog_17_method_49_code (4 : Nat) (Option.some Jvm.ClassFile.FieldType.int)) ∈ lw_all := lw_g (lw_at lw_m7 21 rfl) rfl
theorem q1527 : (Jvm.Cond.methodLink "BranchMenderModel" (215 : Nat) ({ cls := "BranchMenderModel", name := "reckon", desc := "(II)V" } : Jvm.MethodName)) ∈ lw_all := lw_g (lw_at lw_m7 22 rfl) rfl
theorem q1528 : (Jvm.Cond.privateMethod ({ cls := "BranchMenderModel", name := "reckon", desc := "(II)V" } : Jvm.MethodName)) ∈ lw_tbl := lw_at lw_m7 23 rfl
theorem q1529 : (Jvm.Cond.instanceMethod ({ cls := "BranchMenderModel", name := "reckon", desc := "(II)V" } : Jvm.MethodName)) ∈ lw_all := lw_g (lw_at lw_m7 24 rfl) rfl
theorem q1530 : (Jvm.Cond.code ({ cls := "BranchMenderModel", name := "reckon", desc := "(II)V" } : Jvm.MethodName) prog_17_method_46_code (10 : Nat) (Option.none : Option Jvm.ClassFile.FieldType)) ∈ lw_all := lw_g (lw_at lw_m7 25 rfl) rfl
theorem q1531 : (Jvm.Cond.methodLink "BranchMenderModel" (198 : Nat) ({ cls := "BranchMenderModel", name := "lay", desc := "(II)V" } : Jvm.MethodName)) ∈ lw_all := lw_g (lw_at lw_m7 26 rfl) rfl
theorem q1532 : (Jvm.Cond.privateMethod ({ cls := "BranchMenderModel", name := "lay", desc := "(II)V" } : Jvm.MethodName)) ∈ lw_tbl := lw_at lw_m7 27 rfl
theorem q1533 : (Jvm.Cond.instanceMethod ({ cls := "BranchMenderModel", name := "lay", desc := "(II)V" } : Jvm.MethodName)) ∈ lw_all := lw_g (lw_at lw_m7 28 rfl) rfl
theorem q1534 : (Jvm.Cond.code ({ cls := "BranchMenderModel", name := "lay", desc := "(II)V" } : Jvm.MethodName) prog_17_method_43_code (5 : Nat) (Option.none : Option Jvm.ClassFile.FieldType)) ∈ lw_all := lw_g (lw_at lw_m7 29 rfl) rfl
theorem q1535 : (Jvm.Cond.constant "BranchMenderModel" (197 : Nat) (1000000000 : Int32)) ∈ lw_all := lw_g (lw_at lw_m7 30 rfl) rfl
theorem q1536 : (Jvm.Cond.methodLink "BranchMenderModel" (201 : Nat) ({ cls := "BranchMenderModel", name := "cell", desc := "(IIII)I" } : Jvm.MethodName)) ∈ lw_all := lw_g (lw_at lw_m7 31 rfl) rfl
theorem q1537 : (Jvm.Cond.static ({ cls := "BranchMenderModel", name := "cell", desc := "(IIII)I" } : Jvm.MethodName)) ∈ lw_all := lw_g (lw_at lw_m7 32 rfl) rfl
theorem q1538 : (Jvm.Cond.code ({ cls := "BranchMenderModel", name := "cell", desc := "(IIII)I" } : Jvm.MethodName) prog_17_method_45_code (4 : Nat) (Option.some Jvm.ClassFile.FieldType.int)) ∈ lw_all := lw_g (lw_at lw_m7 33 rfl) rfl
theorem q1539 : (Jvm.Cond.methodLink "BranchMenderModel" (205 : Nat) ({ cls := "BranchMenderModel", name := "lesser", desc := "(II)I" } : Jvm.MethodName)) ∈ lw_all := lw_g (lw_at lw_m7 34 rfl) rfl
theorem q1540 : (Jvm.Cond.static ({ cls := "BranchMenderModel", name := "lesser", desc := "(II)I" } : Jvm.MethodName)) ∈ lw_all := lw_g (lw_at lw_m7 35 rfl) rfl
theorem q1541 : (Jvm.Cond.code ({ cls := "BranchMenderModel", name := "lesser", desc := "(II)I" } : Jvm.MethodName) prog_17_method_48_code (2 : Nat) (Option.some Jvm.ClassFile.FieldType.int)) ∈ lw_all := lw_g (lw_at lw_m7 36 rfl) rfl
theorem q1542 : (Jvm.Cond.methodLink "BranchMenderModel" (208 : Nat) ({ cls := "BranchMenderModel", name := "byPair", desc := "(IIIIII)I" } : Jvm.MethodName)) ∈ lw_all := lw_g (lw_at lw_m7 37 rfl) rfl
theorem q1543 : (Jvm.Cond.privateMethod ({ cls := "BranchMenderModel", name := "byPair", desc := "(IIIIII)I" } : Jvm.MethodName)) ∈ lw_tbl := lw_at lw_m7 38 rfl
theorem q1544 : (Jvm.Cond.instanceMethod ({ cls := "BranchMenderModel", name := "byPair", desc := "(IIIIII)I" } : Jvm.MethodName)) ∈ lw_all := lw_g (lw_at lw_m7 39 rfl) rfl
theorem q1545 : (Jvm.Cond.code ({ cls := "BranchMenderModel", name := "byPair", desc := "(IIIIII)I" } : Jvm.MethodName) prog_17_method_47_code (10 : Nat) (Option.some Jvm.ClassFile.FieldType.int)) ∈ lw_all := lw_g (lw_at lw_m7 40 rfl) rfl
theorem q1546 : (Jvm.Cond.methodLink "BranchMenderModel" (212 : Nat) ({ cls := "BranchMenderModel", name := "pairs", desc := "(IIII)I" } : Jvm.MethodName)) ∈ lw_all := lw_g (lw_at lw_m7 41 rfl) rfl
theorem q1547 : (Jvm.Cond.privateMethod ({ cls := "BranchMenderModel", name := "pairs", desc := "(IIII)I" } : Jvm.MethodName)) ∈ lw_tbl := lw_at lw_m7 42 rfl
theorem q1548 : (Jvm.Cond.instanceMethod ({ cls := "BranchMenderModel", name := "pairs", desc := "(IIII)I" } : Jvm.MethodName)) ∈ lw_all := lw_g (lw_at lw_m7 43 rfl) rfl
theorem q1549 : (Jvm.Cond.code ({ cls := "BranchMenderModel", name := "pairs", desc := "(IIII)I" } : Jvm.MethodName) prog_17_method_44_code (7 : Nat) (Option.some Jvm.ClassFile.FieldType.int)) ∈ lw_all := lw_g (lw_at lw_m7 44 rfl) rfl
theorem q1551 : (Jvm.Cond.instanceMethod ({ cls := "BranchMenderModel", name := "map", desc := "(II)I" } : Jvm.MethodName)) ∈ lw_all := lw_g (lw_at lw_m7 46 rfl) rfl
theorem q1552 : (Jvm.Cond.selects "BranchMenderModel" ({ cls := "BranchMenderModel", name := "map", desc := "(II)I" } : Jvm.MethodName) ({ cls := "BranchMenderModel", name := "map", desc := "(II)I" } : Jvm.MethodName)) ∈ lw_all := lw_g (lw_at lw_m7 47 rfl) rfl
theorem q1553 : (Jvm.Cond.code ({ cls := "BranchMenderModel", name := "map", desc := "(II)I" } : Jvm.MethodName) prog_17_method_51_code (11 : Nat) (Option.some Jvm.ClassFile.FieldType.int)) ∈ lw_all := lw_g (lw_at lw_m7 48 rfl) rfl
theorem q1554 : (Jvm.Cond.methodLink "BranchMenderModel" (221 : Nat) ({ cls := "BranchMenderModel", name := "tells", desc := "(II)V" } : Jvm.MethodName)) ∈ lw_all := lw_g (lw_at lw_m7 49 rfl) rfl
theorem q1555 : (Jvm.Cond.privateMethod ({ cls := "BranchMenderModel", name := "tells", desc := "(II)V" } : Jvm.MethodName)) ∈ lw_tbl := lw_at lw_m7 50 rfl
theorem q1556 : (Jvm.Cond.instanceMethod ({ cls := "BranchMenderModel", name := "tells", desc := "(II)V" } : Jvm.MethodName)) ∈ lw_all := lw_g (lw_at lw_m7 51 rfl) rfl
theorem q1557 : (Jvm.Cond.code ({ cls := "BranchMenderModel", name := "tells", desc := "(II)V" } : Jvm.MethodName) prog_17_method_52_code (5 : Nat) (Option.none : Option Jvm.ClassFile.FieldType)) ∈ lw_all := lw_g (lw_at lw_m7 52 rfl) rfl
theorem q1558 : (Jvm.Cond.methodLink "BranchMenderModel" (227 : Nat) ({ cls := "BranchMenderModel", name := "adds", desc := "(II)V" } : Jvm.MethodName)) ∈ lw_all := lw_g (lw_at lw_m7 53 rfl) rfl
theorem q1559 : (Jvm.Cond.privateMethod ({ cls := "BranchMenderModel", name := "adds", desc := "(II)V" } : Jvm.MethodName)) ∈ lw_tbl := lw_at lw_m7 54 rfl
theorem q1560 : (Jvm.Cond.instanceMethod ({ cls := "BranchMenderModel", name := "adds", desc := "(II)V" } : Jvm.MethodName)) ∈ lw_all := lw_g (lw_at lw_m7 55 rfl) rfl
theorem q1561 : (Jvm.Cond.code ({ cls := "BranchMenderModel", name := "adds", desc := "(II)V" } : Jvm.MethodName) prog_17_method_50_code (3 : Nat) (Option.none : Option Jvm.ClassFile.FieldType)) ∈ lw_all := lw_g (lw_at lw_m7 56 rfl) rfl
theorem q1563 : (Jvm.Cond.instanceMethod ({ cls := "BranchMenderModel", name := "pair", desc := "(II)I" } : Jvm.MethodName)) ∈ lw_all := lw_g (lw_at lw_m7 58 rfl) rfl
theorem q1564 : (Jvm.Cond.selects "BranchMenderModel" ({ cls := "BranchMenderModel", name := "pair", desc := "(II)I" } : Jvm.MethodName) ({ cls := "BranchMenderModel", name := "pair", desc := "(II)I" } : Jvm.MethodName)) ∈ lw_all := lw_g (lw_at lw_m7 59 rfl) rfl
theorem q1565 : (Jvm.Cond.code ({ cls := "BranchMenderModel", name := "pair", desc := "(II)I" } : Jvm.MethodName) prog_17_method_53_code (3 : Nat) (Option.some Jvm.ClassFile.FieldType.int)) ∈ lw_all := lw_g (lw_at lw_m7 60 rfl) rfl
theorem q1567 : (Jvm.Cond.instanceMethod ({ cls := "BranchMenderModel", name := "acts", desc := "()I" } : Jvm.MethodName)) ∈ lw_all := lw_g (lw_at lw_m7 62 rfl) rfl
theorem q1568 : (Jvm.Cond.selects "BranchMenderModel" ({ cls := "BranchMenderModel", name := "acts", desc := "()I" } : Jvm.MethodName) ({ cls := "BranchMenderModel", name := "acts", desc := "()I" } : Jvm.MethodName)) ∈ lw_all := lw_g (lw_at lw_m7 63 rfl) rfl
theorem q1569 : (Jvm.Cond.code ({ cls := "BranchMenderModel", name := "acts", desc := "()I" } : Jvm.MethodName) prog_17_method_54_code (1 : Nat) (Option.some Jvm.ClassFile.FieldType.int)) ∈ lw_all := lw_g (lw_at lw_m7 64 rfl) rfl
theorem q1571 : (Jvm.Cond.instanceMethod ({ cls := "BranchMenderModel", name := "act", desc := "(II)I" } : Jvm.MethodName)) ∈ lw_all := lw_g (lw_at lw_m7 66 rfl) rfl
theorem q1572 : (Jvm.Cond.selects "BranchMenderModel" ({ cls := "BranchMenderModel", name := "act", desc := "(II)I" } : Jvm.MethodName) ({ cls := "BranchMenderModel", name := "act", desc := "(II)I" } : Jvm.MethodName)) ∈ lw_all := lw_g (lw_at lw_m7 67 rfl) rfl
theorem q1573 : (Jvm.Cond.code ({ cls := "BranchMenderModel", name := "act", desc := "(II)I" } : Jvm.MethodName) prog_17_method_55_code (3 : Nat) (Option.some Jvm.ClassFile.FieldType.int)) ∈ lw_all := lw_g (lw_at lw_m7 68 rfl) rfl
theorem q1575 : (Jvm.Cond.instanceMethod ({ cls := "BranchMenderModel", name := "like", desc := "()I" } : Jvm.MethodName)) ∈ lw_all := lw_g (lw_at lw_m7 70 rfl) rfl
theorem q1576 : (Jvm.Cond.selects "BranchMenderModel" ({ cls := "BranchMenderModel", name := "like", desc := "()I" } : Jvm.MethodName) ({ cls := "BranchMenderModel", name := "like", desc := "()I" } : Jvm.MethodName)) ∈ lw_all := lw_g (lw_at lw_m7 71 rfl) rfl
theorem q1577 : (Jvm.Cond.code ({ cls := "BranchMenderModel", name := "like", desc := "()I" } : Jvm.MethodName) prog_17_method_56_code (1 : Nat) (Option.some Jvm.ClassFile.FieldType.int)) ∈ lw_all := lw_g (lw_at lw_m7 72 rfl) rfl
theorem q1579 : (Jvm.Cond.instanceMethod ({ cls := "BranchMenderModel", name := "same", desc := "(II)I" } : Jvm.MethodName)) ∈ lw_all := lw_g (lw_at lw_m7 74 rfl) rfl
theorem q1580 : (Jvm.Cond.selects "BranchMenderModel" ({ cls := "BranchMenderModel", name := "same", desc := "(II)I" } : Jvm.MethodName) ({ cls := "BranchMenderModel", name := "same", desc := "(II)I" } : Jvm.MethodName)) ∈ lw_all := lw_g (lw_at lw_m7 75 rfl) rfl
theorem q1581 : (Jvm.Cond.code ({ cls := "BranchMenderModel", name := "same", desc := "(II)I" } : Jvm.MethodName) prog_17_method_59_code (4 : Nat) (Option.some Jvm.ClassFile.FieldType.int)) ∈ lw_all := lw_g (lw_at lw_m7 76 rfl) rfl
theorem q1582 : (Jvm.Cond.methodLink "BranchMenderModel" (234 : Nat) ({ cls := "BranchMenderModel", name := "sort", desc := "(II)V" } : Jvm.MethodName)) ∈ lw_all := lw_g (lw_at lw_m7 77 rfl) rfl
theorem q1583 : (Jvm.Cond.privateMethod ({ cls := "BranchMenderModel", name := "sort", desc := "(II)V" } : Jvm.MethodName)) ∈ lw_tbl := lw_at lw_m7 78 rfl
theorem q1584 : (Jvm.Cond.instanceMethod ({ cls := "BranchMenderModel", name := "sort", desc := "(II)V" } : Jvm.MethodName)) ∈ lw_all := lw_g (lw_at lw_m7 79 rfl) rfl
theorem q1585 : (Jvm.Cond.code ({ cls := "BranchMenderModel", name := "sort", desc := "(II)V" } : Jvm.MethodName) prog_17_method_58_code (5 : Nat) (Option.none : Option Jvm.ClassFile.FieldType)) ∈ lw_all := lw_g (lw_at lw_m7 80 rfl) rfl
theorem q1586 : (Jvm.Cond.methodLink "BranchMenderModel" (230 : Nat) ({ cls := "BranchMenderModel", name := "areSame", desc := "(IIIIII)Z" } : Jvm.MethodName)) ∈ lw_all := lw_g (lw_at lw_m7 81 rfl) rfl
theorem q1587 : (Jvm.Cond.privateMethod ({ cls := "BranchMenderModel", name := "areSame", desc := "(IIIIII)Z" } : Jvm.MethodName)) ∈ lw_tbl := lw_at lw_m7 82 rfl
theorem q1588 : (Jvm.Cond.instanceMethod ({ cls := "BranchMenderModel", name := "areSame", desc := "(IIIIII)Z" } : Jvm.MethodName)) ∈ lw_all := lw_g (lw_at lw_m7 83 rfl) rfl
theorem q1589 : (Jvm.Cond.code ({ cls := "BranchMenderModel", name := "areSame", desc := "(IIIIII)Z" } : Jvm.MethodName) prog_17_method_57_code (13 : Nat) (Option.some Jvm.ClassFile.FieldType.boolean)) ∈ lw_all := lw_g (lw_at lw_m7 84 rfl) rfl
theorem q1591 : (Jvm.Cond.instanceMethod ({ cls := "BranchMenderModel", name := "unlike", desc := "(I)I" } : Jvm.MethodName)) ∈ lw_all := lw_g (lw_at lw_m7 86 rfl) rfl
theorem q1592 : (Jvm.Cond.selects "BranchMenderModel" ({ cls := "BranchMenderModel", name := "unlike", desc := "(I)I" } : Jvm.MethodName) ({ cls := "BranchMenderModel", name := "unlike", desc := "(I)I" } : Jvm.MethodName)) ∈ lw_all := lw_g (lw_at lw_m7 87 rfl) rfl
theorem q1593 : (Jvm.Cond.code ({ cls := "BranchMenderModel", name := "unlike", desc := "(I)I" } : Jvm.MethodName) prog_17_method_60_code (5 : Nat) (Option.some Jvm.ClassFile.FieldType.int)) ∈ lw_all := lw_g (lw_at lw_m7 88 rfl) rfl
theorem q1595 : (Jvm.Cond.instanceMethod ({ cls := "BranchMenderModel", name := "shared", desc := "(II)I" } : Jvm.MethodName)) ∈ lw_all := lw_g (lw_at lw_m7 90 rfl) rfl
theorem q1596 : (Jvm.Cond.selects "BranchMenderModel" ({ cls := "BranchMenderModel", name := "shared", desc := "(II)I" } : Jvm.MethodName) ({ cls := "BranchMenderModel", name := "shared", desc := "(II)I" } : Jvm.MethodName)) ∈ lw_all := lw_g (lw_at lw_m7 91 rfl) rfl
theorem q1597 : (Jvm.Cond.code ({ cls := "BranchMenderModel", name := "shared", desc := "(II)I" } : Jvm.MethodName) prog_17_method_61_code (8 : Nat) (Option.some Jvm.ClassFile.FieldType.int)) ∈ lw_all := lw_g (lw_at lw_m7 92 rfl) rfl
theorem q1599 : (Jvm.Cond.instanceMethod ({ cls := "BranchMenderModel", name := "merge", desc := "(IIII)I" } : Jvm.MethodName)) ∈ lw_all := lw_g (lw_at lw_m7 94 rfl) rfl
theorem q1600 : (Jvm.Cond.selects "BranchMenderModel" ({ cls := "BranchMenderModel", name := "merge", desc := "(IIII)I" } : Jvm.MethodName) ({ cls := "BranchMenderModel", name := "merge", desc := "(IIII)I" } : Jvm.MethodName)) ∈ lw_all := lw_g (lw_at lw_m7 95 rfl) rfl
theorem q1601 : (Jvm.Cond.code ({ cls := "BranchMenderModel", name := "merge", desc := "(IIII)I" } : Jvm.MethodName) prog_17_method_66_code (11 : Nat) (Option.some Jvm.ClassFile.FieldType.int)) ∈ lw_all := lw_g (lw_at lw_m7 96 rfl) rfl
theorem q1602 : (Jvm.Cond.methodLink "BranchMenderModel" (253 : Nat) ({ cls := "BranchMenderModel", name := "clashed", desc := "(II)V" } : Jvm.MethodName)) ∈ lw_all := lw_g (lw_at lw_m7 97 rfl) rfl
theorem q1603 : (Jvm.Cond.privateMethod ({ cls := "BranchMenderModel", name := "clashed", desc := "(II)V" } : Jvm.MethodName)) ∈ lw_tbl := lw_at lw_m7 98 rfl
theorem q1604 : (Jvm.Cond.instanceMethod ({ cls := "BranchMenderModel", name := "clashed", desc := "(II)V" } : Jvm.MethodName)) ∈ lw_all := lw_g (lw_at lw_m7 99 rfl) rfl
theorem q1605 : (Jvm.Cond.code ({ cls := "BranchMenderModel", name := "clashed", desc := "(II)V" } : Jvm.MethodName) prog_17_method_62_code (3 : Nat) (Option.none : Option Jvm.ClassFile.FieldType)) ∈ lw_all := lw_g (lw_at lw_m7 100 rfl) rfl
theorem q1606 : (Jvm.Cond.methodLink "BranchMenderModel" (256 : Nat) ({ cls := "BranchMenderModel", name := "merges", desc := "(III)Z" } : Jvm.MethodName)) ∈ lw_all := lw_g (lw_at lw_m7 101 rfl) rfl
theorem q1607 : (Jvm.Cond.privateMethod ({ cls := "BranchMenderModel", name := "merges", desc := "(III)Z" } : Jvm.MethodName)) ∈ lw_tbl := lw_at lw_m7 102 rfl
theorem q1608 : (Jvm.Cond.instanceMethod ({ cls := "BranchMenderModel", name := "merges", desc := "(III)Z" } : Jvm.MethodName)) ∈ lw_all := lw_g (lw_at lw_m7 103 rfl) rfl
theorem q1609 : (Jvm.Cond.code ({ cls := "BranchMenderModel", name := "merges", desc := "(III)Z" } : Jvm.MethodName) prog_17_method_65_code (15 : Nat) (Option.some Jvm.ClassFile.FieldType.boolean)) ∈ lw_all := lw_g (lw_at lw_m7 104 rfl) rfl
theorem q1610 : (Jvm.Cond.methodLink "BranchMenderModel" (247 : Nat) ({ cls := "BranchMenderModel", name := "whose", desc := "(IIIII)I" } : Jvm.MethodName)) ∈ lw_all := lw_g (lw_at lw_m7 105 rfl) rfl
theorem q1611 : (Jvm.Cond.privateMethod ({ cls := "BranchMenderModel", name := "whose", desc := "(IIIII)I" } : Jvm.MethodName)) ∈ lw_tbl := lw_at lw_m7 106 rfl
theorem q1612 : (Jvm.Cond.instanceMethod ({ cls := "BranchMenderModel", name := "whose", desc := "(IIIII)I" } : Jvm.MethodName)) ∈ lw_all := lw_g (lw_at lw_m7 107 rfl) rfl
theorem q1613 : (Jvm.Cond.code ({ cls := "BranchMenderModel", name := "whose", desc := "(IIIII)I" } : Jvm.MethodName) prog_17_method_64_code (9 : Nat) (Option.some Jvm.ClassFile.FieldType.int)) ∈ lw_all := lw_g (lw_at lw_m7 108 rfl) rfl
theorem q1614 : (Jvm.Cond.methodLink "BranchMenderModel" (244 : Nat) ({ cls := "BranchMenderModel", name := "isField", desc := "(IIIII)Z" } : Jvm.MethodName)) ∈ lw_all := lw_g (lw_at lw_m7 109 rfl) rfl
theorem q1615 : (Jvm.Cond.privateMethod ({ cls := "BranchMenderModel", name := "isField", desc := "(IIIII)Z" } : Jvm.MethodName)) ∈ lw_tbl := lw_at lw_m7 110 rfl
theorem q1616 : (Jvm.Cond.instanceMethod ({ cls := "BranchMenderModel", name := "isField", desc := "(IIIII)Z" } : Jvm.MethodName)) ∈ lw_all := lw_g (lw_at lw_m7 111 rfl) rfl
theorem q1617 : (Jvm.Cond.code ({ cls := "BranchMenderModel", name := "isField", desc := "(IIIII)Z" } : Jvm.MethodName) prog_17_method_63_code (8 : Nat) (Option.some Jvm.ClassFile.FieldType.boolean)) ∈ lw_all := lw_g (lw_at lw_m7 112 rfl) rfl
theorem q1618 : (Jvm.Cond.methodLink "BranchMenderModel" (259 : Nat) ({ cls := "BranchMenderModel", name := "least", desc := "(III)I" } : Jvm.MethodName)) ∈ lw_all := lw_g (lw_at lw_m7 113 rfl) rfl
theorem q1619 : (Jvm.Cond.privateMethod ({ cls := "BranchMenderModel", name := "least", desc := "(III)I" } : Jvm.MethodName)) ∈ lw_tbl := lw_at lw_m7 114 rfl
theorem q1620 : (Jvm.Cond.instanceMethod ({ cls := "BranchMenderModel", name := "least", desc := "(III)I" } : Jvm.MethodName)) ∈ lw_all := lw_g (lw_at lw_m7 115 rfl) rfl
theorem q1621 : (Jvm.Cond.code ({ cls := "BranchMenderModel", name := "least", desc := "(III)I" } : Jvm.MethodName) prog_17_method_67_code (7 : Nat) (Option.some Jvm.ClassFile.FieldType.int)) ∈ lw_all := lw_g (lw_at lw_m7 116 rfl) rfl
theorem q1623 : (Jvm.Cond.instanceMethod ({ cls := "BranchMenderModel", name := "merged", desc := "()I" } : Jvm.MethodName)) ∈ lw_all := lw_g (lw_at lw_m7 118 rfl) rfl
theorem q1624 : (Jvm.Cond.selects "BranchMenderModel" ({ cls := "BranchMenderModel", name := "merged", desc := "()I" } : Jvm.MethodName) ({ cls := "BranchMenderModel", name := "merged", desc := "()I" } : Jvm.MethodName)) ∈ lw_all := lw_g (lw_at lw_m7 119 rfl) rfl
theorem q1625 : (Jvm.Cond.code ({ cls := "BranchMenderModel", name := "merged", desc := "()I" } : Jvm.MethodName) prog_17_method_68_code (1 : Nat) (Option.some Jvm.ClassFile.FieldType.int)) ∈ lw_all := lw_g (lw_at lw_m7 120 rfl) rfl
theorem q1627 : (Jvm.Cond.instanceMethod ({ cls := "BranchMenderModel", name := "clash", desc := "(II)I" } : Jvm.MethodName)) ∈ lw_all := lw_g (lw_at lw_m7 122 rfl) rfl
theorem q1628 : (Jvm.Cond.selects "BranchMenderModel" ({ cls := "BranchMenderModel", name := "clash", desc := "(II)I" } : Jvm.MethodName) ({ cls := "BranchMenderModel", name := "clash", desc := "(II)I" } : Jvm.MethodName)) ∈ lw_all := lw_g (lw_at lw_m7 123 rfl) rfl
theorem q1629 : (Jvm.Cond.code ({ cls := "BranchMenderModel", name := "clash", desc := "(II)I" } : Jvm.MethodName) prog_17_method_69_code (3 : Nat) (Option.some Jvm.ClassFile.FieldType.int)) ∈ lw_all := lw_g (lw_at lw_m7 124 rfl) rfl
theorem q1631 : (Jvm.Cond.instanceMethod ({ cls := "BranchMenderModel", name := "found", desc := "(I)I" } : Jvm.MethodName)) ∈ lw_all := lw_g (lw_at lw_m7 126 rfl) rfl
theorem q1632 : (Jvm.Cond.selects "BranchMenderModel" ({ cls := "BranchMenderModel", name := "found", desc := "(I)I" } : Jvm.MethodName) ({ cls := "BranchMenderModel", name := "found", desc := "(I)I" } : Jvm.MethodName)) ∈ lw_all := lw_g (lw_at lw_m7 127 rfl) rfl
theorem q1633 : (Jvm.Cond.code ({ cls := "BranchMenderModel", name := "found", desc := "(I)I" } : Jvm.MethodName) prog_17_method_70_code (2 : Nat) (Option.some Jvm.ClassFile.FieldType.int)) ∈ lw_all := lw_g (lw_at lw_m7 128 rfl) rfl
theorem q1652 : (Jvm.Cond.castable "BranchMenderModel" "java/lang/Object") ∈ lw_tbl := lw_at lw_m7 147 rfl
theorem in_X7 : ∀ w ∈ wsX70, w ∈ lw_all := lw_in wsX70 [1293, 1295, 1297, 1299, 1301, 1303, 1305, 1307, 1309, 1311, 1313, 1315, 1317, 1319, 1321, 1323, 1325, 1327, 1329, 1331, 1333, 1335, 1337, 1339, 1341, 1343, 1345, 1347, 1349, 1351, 1353, 1355, 1357, 1359, 1361, 1363] (by decide +kernel) (by decide +kernel)
