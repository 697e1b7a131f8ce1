set_option maxRecDepth 100000
/-! BranchMender -/
def RX0 : String := "BranchMender"
def TX0 : u_T := fun k => match k with
  | 0 => ("BranchMender", "finding", "LBranchMender$Finding;", true)
  | 1 => ("BranchMender", "found", "[I", true)
  | 2 => ("BranchMender", "trees", "[LBranchMender$Tree;", true)
  | 3 => ("BranchMender", "names", "I", false)
  | 4 => ("BranchMender", "tape", "[B", true)
  | 5 => ("BranchMender", "taped", "I", false)
  | 6 => ("BranchMender", "reader", "LBranchMender$Reader;", true)
  | 7 => ("BranchMender", "pen", "LBranchMender$Pen;", true)
  | 8 => ("BranchMender", "mapper", "LBranchMender$Mapper;", true)
  | 9 => ("BranchMender", "kinds", "LBranchMender$Kinds;", true)
  | 10 => ("BranchMender", "merger", "LBranchMender$Merger;", true)
  | 11 => ("BranchMender", "mergedSize", "I", false)
  | 12 => ("BranchMender", "mapped", "Z", false)
  | 13 => ("BranchMender", "pairs", "I", false)
  | 14 => ("BranchMender", "bothSizes", "I", false)
  | 15 => ("BranchMender", "pairOne", "[I", true)
  | 16 => ("BranchMender", "pairTwo", "[I", true)
  | 17 => ("BranchMender", "acts", "I", false)
  | 18 => ("BranchMender", "actKinds", "[I", true)
  | 19 => ("BranchMender", "actNames", "[I", true)
  | _ => ("BranchMender", "actPrices", "[I", true)
def tyX0 : Nat → FieldType := fun k => match k with
  | 0 => .object "BranchMender$Finding"
  | 1 => .array .int
  | 2 => .array (.object "BranchMender$Tree")
  | 3 => .int
  | 4 => .array .byte
  | 5 => .int
  | 6 => .object "BranchMender$Reader"
  | 7 => .object "BranchMender$Pen"
  | 8 => .object "BranchMender$Mapper"
  | 9 => .object "BranchMender$Kinds"
  | 10 => .object "BranchMender$Merger"
  | 11 => .int
  | 12 => .boolean
  | 13 => .int
  | 14 => .int
  | 15 => .array .int
  | 16 => .array .int
  | 17 => .int
  | 18 => .array .int
  | 19 => .array .int
  | _ => .array .int
abbrev wsX00 : List Cond := u_ws RX0 TX0 21
set_option maxRecDepth 100000 in
theorem nmX0 : ∀ a, a < 21 → ∀ b, b < 21 → a ≠ b → (TX0 a).2.1 ≠ (TX0 b).2.1 := by decide +kernel
set_option maxRecDepth 100000 in
theorem tyX0_ok : ∀ k, k < 21 → parseFieldDescriptor (TX0 k).2.2.1 = some (tyX0 k) := by decide +kernel
/-! BranchMender$Finding -/
def RX1 : String := "BranchMender$Finding"
def TX1 : u_T := fun k => match k with
  | 0 => ("java/lang/Throwable", "cause", "Ljava/lang/Throwable;", false)
  | 1 => ("java/lang/Throwable", "stackTrace", "[Ljava/lang/StackTraceElement;", false)
  | 2 => ("java/lang/Throwable", "suppressedExceptions", "Ljava/util/List;", false)
  | 3 => ("java/lang/Throwable", "detailMessage", "Ljava/lang/String;", false)
  | 4 => ("java/lang/Throwable", "backtrace", "Ljava/lang/Object;", false)
  | 5 => ("java/lang/Throwable", "depth", "I", false)
  | _ => ("BranchMender$Finding", "code", "I", false)
def tyX1 : Nat → FieldType := fun k => match k with
  | 0 => .object "java/lang/Throwable"
  | 1 => .array (.object "java/lang/StackTraceElement")
  | 2 => .object "java/util/List"
  | 3 => .object "java/lang/String"
  | 4 => .object "java/lang/Object"
  | 5 => .int
  | _ => .int
abbrev wsX10 : List Cond := u_ws RX1 TX1 7
theorem nmX1 : ∀ a, a < 7 → ∀ b, b < 7 → a ≠ b → (TX1 a).2.1 ≠ (TX1 b).2.1 := by decide +kernel
theorem tyX1_ok : ∀ k, k < 7 → parseFieldDescriptor (TX1 k).2.2.1 = some (tyX1 k) := by decide +kernel
/-! BranchMender$Reader -/
def RX2 : String := "BranchMender$Reader"
def TX2 : u_T := fun k => match k with
  | 0 => ("BranchMender$Reader", "finding", "LBranchMender$Finding;", true)
  | 1 => ("BranchMender$Reader", "row", "[B", false)
  | 2 => ("BranchMender$Reader", "length", "I", false)
  | 3 => ("BranchMender$Reader", "at", "I", false)
  | _ => ("BranchMender$Reader", "nodes", "I", false)
def tyX2 : Nat → FieldType := fun k => match k with
  | 0 => .object "BranchMender$Finding"
  | 1 => .array .byte
  | 2 => .int
  | 3 => .int
  | _ => .int
abbrev wsX20 : List Cond := u_ws RX2 TX2 5
theorem nmX2 : ∀ a, a < 5 → ∀ b, b < 5 → a ≠ b → (TX2 a).2.1 ≠ (TX2 b).2.1 := by decide +kernel
theorem tyX2_ok : ∀ k, k < 5 → parseFieldDescriptor (TX2 k).2.2.1 = some (tyX2 k) := by decide +kernel
/-! BranchMender$Pen -/
def RX3 : String := "BranchMender$Pen"
def TX3 : u_T := fun k => match k with
  | 0 => ("BranchMender$Pen", "row", "[B", true)
  | _ => ("BranchMender$Pen", "size", "I", false)
def tyX3 : Nat → FieldType := fun k => match k with
  | 0 => .array .byte
  | _ => .int
abbrev wsX30 : List Cond := u_ws RX3 TX3 2
theorem nmX3 : ∀ a, a < 2 → ∀ b, b < 2 → a ≠ b → (TX3 a).2.1 ≠ (TX3 b).2.1 := by decide +kernel
theorem tyX3_ok : ∀ k, k < 2 → parseFieldDescriptor (TX3 k).2.2.1 = some (tyX3 k) := by decide +kernel
/-! BranchMender$Mapper -/
def RX4 : String := "BranchMender$Mapper"
def TX4 : u_T := fun k => match k with
  | 0 => ("BranchMender$Mapper", "prices", "[I", true)
  | 1 => ("BranchMender$Mapper", "one", "LBranchMender$Tree;", false)
  | 2 => ("BranchMender$Mapper", "two", "LBranchMender$Tree;", false)
  | 3 => ("BranchMender$Mapper", "under", "[[I", true)
  | 4 => ("BranchMender$Mapper", "table", "[[I", true)
  | 5 => ("BranchMender$Mapper", "mates", "[LBranchMender$Node;", true)
  | _ => ("BranchMender$Mapper", "paired", "[Z", true)
def tyX4 : Nat → FieldType := fun k => match k with
  | 0 => .array .int
  | 1 => .object "BranchMender$Tree"
  | 2 => .object "BranchMender$Tree"
  | 3 => .array (.array .int)
  | 4 => .array (.array .int)
  | 5 => .array (.object "BranchMender$Node")
  | _ => .array .boolean
abbrev wsX40 : List Cond := u_ws RX4 TX4 7
theorem nmX4 : ∀ a, a < 7 → ∀ b, b < 7 → a ≠ b → (TX4 a).2.1 ≠ (TX4 b).2.1 := by decide +kernel
theorem tyX4_ok : ∀ k, k < 7 → parseFieldDescriptor (TX4 k).2.2.1 = some (tyX4 k) := by decide +kernel
/-! BranchMender$Kinds -/
def RX5 : String := "BranchMender$Kinds"
def TX5 : u_T := fun k => match k with
  | 0 => ("BranchMender$Kinds", "rows", "[[I", true)
  | _ => ("BranchMender$Kinds", "many", "I", false)
def tyX5 : Nat → FieldType := fun k => match k with
  | 0 => .array (.array .int)
  | _ => .int
abbrev wsX50 : List Cond := u_ws RX5 TX5 2
theorem nmX5 : ∀ a, a < 2 → ∀ b, b < 2 → a ≠ b → (TX5 a).2.1 ≠ (TX5 b).2.1 := by decide +kernel
theorem tyX5_ok : ∀ k, k < 2 → parseFieldDescriptor (TX5 k).2.2.1 = some (tyX5 k) := by decide +kernel
/-! BranchMender$Merger -/
def RX6 : String := "BranchMender$Merger"
def TX6 : u_T := fun k => match k with
  | 0 => ("BranchMender$Merger", "names", "Ljava/util/ArrayList;", true)
  | 1 => ("BranchMender$Merger", "clashNames", "[I", true)
  | 2 => ("BranchMender$Merger", "clashKinds", "[I", true)
  | 3 => ("BranchMender$Merger", "clashes", "I", false)
  | 4 => ("BranchMender$Merger", "o", "LBranchMender$Tree;", false)
  | 5 => ("BranchMender$Merger", "l", "LBranchMender$Tree;", false)
  | 6 => ("BranchMender$Merger", "\x72", "LBranchMender$Tree;", false)
  | 7 => ("BranchMender$Merger", "made", "Ljava/util/ArrayList;", true)
  | _ => ("BranchMender$Merger", "bad", "Z", false)
def tyX6 : Nat → FieldType := fun k => match k with
  | 0 => .object "java/util/ArrayList"
  | 1 => .array .int
  | 2 => .array .int
  | 3 => .int
  | 4 => .object "BranchMender$Tree"
  | 5 => .object "BranchMender$Tree"
  | 6 => .object "BranchMender$Tree"
  | 7 => .object "java/util/ArrayList"
  | _ => .boolean
abbrev wsX60 : List Cond := u_ws RX6 TX6 9
theorem nmX6 : ∀ a, a < 9 → ∀ b, b < 9 → a ≠ b → (TX6 a).2.1 ≠ (TX6 b).2.1 := by decide +kernel
theorem tyX6_ok : ∀ k, k < 9 → parseFieldDescriptor (TX6 k).2.2.1 = some (tyX6 k) := by decide +kernel
/-! BranchMender$Tree -/
def RX8 : String := "BranchMender$Tree"
def TX8 : u_T := fun k => match k with
  | 0 => ("BranchMender$Tree", "root", "LBranchMender$Node;", false)
  | 1 => ("BranchMender$Tree", "ahead", "[LBranchMender$Node;", true)
  | 2 => ("BranchMender$Tree", "behind", "[LBranchMender$Node;", true)
  | 3 => ("BranchMender$Tree", "size", "I", false)
  | _ => ("BranchMender$Tree", "last", "I", false)
def tyX8 : Nat → FieldType := fun k => match k with
  | 0 => .object "BranchMender$Node"
  | 1 => .array (.object "BranchMender$Node")
  | 2 => .array (.object "BranchMender$Node")
  | 3 => .int
  | _ => .int
abbrev wsX80 : List Cond := u_ws RX8 TX8 5
theorem nmX8 : ∀ a, a < 5 → ∀ b, b < 5 → a ≠ b → (TX8 a).2.1 ≠ (TX8 b).2.1 := by decide +kernel
theorem tyX8_ok : ∀ k, k < 5 → parseFieldDescriptor (TX8 k).2.2.1 = some (tyX8 k) := by decide +kernel
/-! BranchMender$Node -/
def RX9 : String := "BranchMender$Node"
/-! BranchMender$Branch -/
def RX10 : String := "BranchMender$Branch"
def TX10 : u_T := fun k => match k with
  | 0 => ("BranchMender$Node", "name", "I", false)
  | 1 => ("BranchMender$Node", "label", "[B", false)
  | 2 => ("BranchMender$Node", "text", "[B", false)
  | 3 => ("BranchMender$Node", "parent", "LBranchMender$Node;", false)
  | 4 => ("BranchMender$Node", "children", "Ljava/util/ArrayList;", true)
  | 5 => ("BranchMender$Node", "ahead", "I", false)
  | 6 => ("BranchMender$Node", "behind", "I", false)
  | 7 => ("BranchMender$Node", "first", "I", false)
  | 8 => ("BranchMender$Node", "deep", "I", false)
  | _ => ("BranchMender$Node", "which", "I", false)
def tyX10 : Nat → FieldType := fun k => match k with
  | 0 => .int
  | 1 => .array .byte
  | 2 => .array .byte
  | 3 => .object "BranchMender$Node"
  | 4 => .object "java/util/ArrayList"
  | 5 => .int
  | 6 => .int
  | 7 => .int
  | 8 => .int
  | _ => .int
abbrev wsX100 : List Cond := u_ws RX10 TX10 10
theorem nmX10 : ∀ a, a < 10 → ∀ b, b < 10 → a ≠ b → (TX10 a).2.1 ≠ (TX10 b).2.1 := by decide +kernel
theorem tyX10_ok : ∀ k, k < 10 → parseFieldDescriptor (TX10 k).2.2.1 = some (tyX10 k) := by decide +kernel
/-! BranchMender$Bag -/
def RX11 : String := "BranchMender$Bag"
def TX11 : u_T := fun k => match k with
  | 0 => ("BranchMender$Node", "name", "I", false)
  | 1 => ("BranchMender$Node", "label", "[B", false)
  | 2 => ("BranchMender$Node", "text", "[B", false)
  | 3 => ("BranchMender$Node", "parent", "LBranchMender$Node;", false)
  | 4 => ("BranchMender$Node", "children", "Ljava/util/ArrayList;", true)
  | 5 => ("BranchMender$Node", "ahead", "I", false)
  | 6 => ("BranchMender$Node", "behind", "I", false)
  | 7 => ("BranchMender$Node", "first", "I", false)
  | 8 => ("BranchMender$Node", "deep", "I", false)
  | _ => ("BranchMender$Node", "which", "I", false)
def tyX11 : Nat → FieldType := fun k => match k with
  | 0 => .int
  | 1 => .array .byte
  | 2 => .array .byte
  | 3 => .object "BranchMender$Node"
  | 4 => .object "java/util/ArrayList"
  | 5 => .int
  | 6 => .int
  | 7 => .int
  | 8 => .int
  | _ => .int
abbrev wsX110 : List Cond := u_ws RX11 TX11 10
theorem nmX11 : ∀ a, a < 10 → ∀ b, b < 10 → a ≠ b → (TX11 a).2.1 ≠ (TX11 b).2.1 := by decide +kernel
theorem tyX11_ok : ∀ k, k < 10 → parseFieldDescriptor (TX11 k).2.2.1 = some (tyX11 k) := by decide +kernel
/-! BranchMender$Keyed -/
def RX12 : String := "BranchMender$Keyed"
def TX12 : u_T := fun k => match k with
  | 0 => ("BranchMender$Node", "name", "I", false)
  | 1 => ("BranchMender$Node", "label", "[B", false)
  | 2 => ("BranchMender$Node", "text", "[B", false)
  | 3 => ("BranchMender$Node", "parent", "LBranchMender$Node;", false)
  | 4 => ("BranchMender$Node", "children", "Ljava/util/ArrayList;", true)
  | 5 => ("BranchMender$Node", "ahead", "I", false)
  | 6 => ("BranchMender$Node", "behind", "I", false)
  | 7 => ("BranchMender$Node", "first", "I", false)
  | 8 => ("BranchMender$Node", "deep", "I", false)
  | _ => ("BranchMender$Node", "which", "I", false)
def tyX12 : Nat → FieldType := fun k => match k with
  | 0 => .int
  | 1 => .array .byte
  | 2 => .array .byte
  | 3 => .object "BranchMender$Node"
  | 4 => .object "java/util/ArrayList"
  | 5 => .int
  | 6 => .int
  | 7 => .int
  | 8 => .int
  | _ => .int
abbrev wsX120 : List Cond := u_ws RX12 TX12 10
theorem nmX12 : ∀ a, a < 10 → ∀ b, b < 10 → a ≠ b → (TX12 a).2.1 ≠ (TX12 b).2.1 := by decide +kernel
theorem tyX12_ok : ∀ k, k < 10 → parseFieldDescriptor (TX12 k).2.2.1 = some (tyX12 k) := by decide +kernel
/-! BranchMender$Whole -/
def RX13 : String := "BranchMender$Whole"
def TX13 : u_T := fun k => match k with
  | 0 => ("BranchMender$Node", "name", "I", false)
  | 1 => ("BranchMender$Node", "label", "[B", false)
  | 2 => ("BranchMender$Node", "text", "[B", false)
  | 3 => ("BranchMender$Node", "parent", "LBranchMender$Node;", false)
  | 4 => ("BranchMender$Node", "children", "Ljava/util/ArrayList;", true)
  | 5 => ("BranchMender$Node", "ahead", "I", false)
  | 6 => ("BranchMender$Node", "behind", "I", false)
  | 7 => ("BranchMender$Node", "first", "I", false)
  | 8 => ("BranchMender$Node", "deep", "I", false)
  | _ => ("BranchMender$Node", "which", "I", false)
def tyX13 : Nat → FieldType := fun k => match k with
  | 0 => .int
  | 1 => .array .byte
  | 2 => .array .byte
  | 3 => .object "BranchMender$Node"
  | 4 => .object "java/util/ArrayList"
  | 5 => .int
  | 6 => .int
  | 7 => .int
  | 8 => .int
  | _ => .int
abbrev wsX130 : List Cond := u_ws RX13 TX13 10
theorem nmX13 : ∀ a, a < 10 → ∀ b, b < 10 → a ≠ b → (TX13 a).2.1 ≠ (TX13 b).2.1 := by decide +kernel
theorem tyX13_ok : ∀ k, k < 10 → parseFieldDescriptor (TX13 k).2.2.1 = some (tyX13 k) := by decide +kernel
/-! java/lang/Throwable -/
def RJ0 : String := "java/lang/Throwable"
def TJ0 : u_T := fun k => match k with
  | 0 => ("java/lang/Throwable", "cause", "Ljava/lang/Throwable;", false)
  | 1 => ("java/lang/Throwable", "stackTrace", "[Ljava/lang/StackTraceElement;", false)
  | 2 => ("java/lang/Throwable", "suppressedExceptions", "Ljava/util/List;", false)
  | 3 => ("java/lang/Throwable", "detailMessage", "Ljava/lang/String;", false)
  | _ => ("java/lang/Throwable", "backtrace", "Ljava/lang/Object;", false)
def tyJ0 : Nat → FieldType := fun k => match k with
  | 0 => .object "java/lang/Throwable"
  | 1 => .array (.object "java/lang/StackTraceElement")
  | 2 => .object "java/util/List"
  | 3 => .object "java/lang/String"
  | _ => .object "java/lang/Object"
abbrev wsJ00 : List Cond := u_ws RJ0 TJ0 5
theorem nmJ0 : ∀ a, a < 5 → ∀ b, b < 5 → a ≠ b → (TJ0 a).2.1 ≠ (TJ0 b).2.1 := by decide +kernel
theorem tyJ0_ok : ∀ k, k < 5 → parseFieldDescriptor (TJ0 k).2.2.1 = some (tyJ0 k) := by decide +kernel
/-! java/lang/Exception -/
def RJ1 : String := "java/lang/Exception"
/-! java/lang/RuntimeException -/
def RJ2 : String := "java/lang/RuntimeException"
/-! java/util/AbstractCollection -/
def RJ3 : String := "java/util/AbstractCollection"
/-! java/util/AbstractList -/
def RJ4 : String := "java/util/AbstractList"
/-! java/util/ArrayList -/
def RJ5 : String := "java/util/ArrayList"
def TJ5 : u_T := fun k => match k with
  | 0 => ("java/util/AbstractList", "modCount", "I", false)
  | 1 => ("java/util/ArrayList", "elementData", "[Ljava/lang/Object;", false)
  | _ => ("java/util/ArrayList", "size", "I", false)
def tyJ5 : Nat → FieldType := fun k => match k with
  | 0 => .int
  | 1 => .array (.object "java/lang/Object")
  | _ => .int
abbrev wsJ50 : List Cond := u_ws RJ5 TJ5 3
theorem nmJ5 : ∀ a, a < 3 → ∀ b, b < 3 → a ≠ b → (TJ5 a).2.1 ≠ (TJ5 b).2.1 := by decide +kernel
theorem tyJ5_ok : ∀ k, k < 3 → parseFieldDescriptor (TJ5 k).2.2.1 = some (tyJ5 k) := by decide +kernel
/-! java/util/Objects -/
def RJ6 : String := "java/util/Objects"
/-! jdk/internal/util/Preconditions -/
def RJ7 : String := "jdk/internal/util/Preconditions"
/-! jdk/internal/util/ArraysSupport -/
def RJ8 : String := "jdk/internal/util/ArraysSupport"
/-! java/lang/Math -/
def RJ9 : String := "java/lang/Math"
/-! java/util/Arrays -/
def RJ10 : String := "java/util/Arrays"
/-! java/lang/IndexOutOfBoundsException -/
def RJ11 : String := "java/lang/IndexOutOfBoundsException"
/-! java/lang/ArrayIndexOutOfBoundsException -/
def RJ12 : String := "java/lang/ArrayIndexOutOfBoundsException"
def TJ12 : u_T := fun k => match k with
  | 0 => ("java/lang/Throwable", "backtrace", "Ljava/lang/Object;", false)
  | 1 => ("java/lang/Throwable", "detailMessage", "Ljava/lang/String;", false)
  | 2 => ("java/lang/Throwable", "cause", "Ljava/lang/Throwable;", false)
  | 3 => ("java/lang/Throwable", "stackTrace", "[Ljava/lang/StackTraceElement;", false)
  | 4 => ("java/lang/Throwable", "depth", "I", false)
  | _ => ("java/lang/Throwable", "suppressedExceptions", "Ljava/util/List;", false)
def tyJ12 : Nat → FieldType := fun k => match k with
  | 0 => .object "java/lang/Object"
  | 1 => .object "java/lang/String"
  | 2 => .object "java/lang/Throwable"
  | 3 => .array (.object "java/lang/StackTraceElement")
  | 4 => .int
  | _ => .object "java/util/List"
abbrev wsJ120 : List Cond := u_ws RJ12 TJ12 6
theorem nmJ12 : ∀ a, a < 6 → ∀ b, b < 6 → a ≠ b → (TJ12 a).2.1 ≠ (TJ12 b).2.1 := by decide +kernel
theorem tyJ12_ok : ∀ k, k < 6 → parseFieldDescriptor (TJ12 k).2.2.1 = some (tyJ12 k) := by decide +kernel
/-! java/lang/String -/
def RJ13 : String := "java/lang/String"
def TJ13 : u_T := fun k => match k with
  | 0 => ("java/lang/String", "value", "[B", true)
  | _ => ("java/lang/String", "coder", "B", true)
def tyJ13 : Nat → FieldType := fun k => match k with
  | 0 => .array .byte
  | _ => .byte
abbrev wsJ130 : List Cond := u_ws RJ13 TJ13 2
theorem nmJ13 : ∀ a, a < 2 → ∀ b, b < 2 → a ≠ b → (TJ13 a).2.1 ≠ (TJ13 b).2.1 := by decide +kernel
theorem tyJ13_ok : ∀ k, k < 2 → parseFieldDescriptor (TJ13 k).2.2.1 = some (tyJ13 k) := by decide +kernel
/-! java/lang/NullPointerException -/
def RJ14 : String := "java/lang/NullPointerException"
def TJ14 : u_T := fun k => match k with
  | 0 => ("java/lang/Throwable", "backtrace", "Ljava/lang/Object;", false)
  | 1 => ("java/lang/Throwable", "detailMessage", "Ljava/lang/String;", false)
  | 2 => ("java/lang/Throwable", "cause", "Ljava/lang/Throwable;", false)
  | 3 => ("java/lang/Throwable", "stackTrace", "[Ljava/lang/StackTraceElement;", false)
  | 4 => ("java/lang/Throwable", "depth", "I", false)
  | 5 => ("java/lang/Throwable", "suppressedExceptions", "Ljava/util/List;", false)
  | 6 => ("java/lang/NullPointerException", "extendedMessageState", "I", false)
  | _ => ("java/lang/NullPointerException", "extendedMessage", "Ljava/lang/String;", false)
def tyJ14 : Nat → FieldType := fun k => match k with
  | 0 => .object "java/lang/Object"
  | 1 => .object "java/lang/String"
  | 2 => .object "java/lang/Throwable"
  | 3 => .array (.object "java/lang/StackTraceElement")
  | 4 => .int
  | 5 => .object "java/util/List"
  | 6 => .int
  | _ => .object "java/lang/String"
abbrev wsJ140 : List Cond := u_ws RJ14 TJ14 8
theorem nmJ14 : ∀ a, a < 8 → ∀ b, b < 8 → a ≠ b → (TJ14 a).2.1 ≠ (TJ14 b).2.1 := by decide +kernel
theorem tyJ14_ok : ∀ k, k < 8 → parseFieldDescriptor (TJ14 k).2.2.1 = some (tyJ14 k) := by decide +kernel
/-! java/lang/Number -/
def RJ15 : String := "java/lang/Number"
/-! java/lang/Integer -/
def RJ16 : String := "java/lang/Integer"
def TJ16 : u_T := fun k => match k with
  | _ => ("java/lang/Integer", "value", "I", true)
def tyJ16 : Nat → FieldType := fun k => match k with
  | _ => .int
abbrev wsJ160 : List Cond := u_ws RJ16 TJ16 1
theorem nmJ16 : ∀ a, a < 1 → ∀ b, b < 1 → a ≠ b → (TJ16 a).2.1 ≠ (TJ16 b).2.1 := by decide +kernel
theorem tyJ16_ok : ∀ k, k < 1 → parseFieldDescriptor (TJ16 k).2.2.1 = some (tyJ16 k) := by decide +kernel
/-! java/lang/Object -/
def RJ17 : String := "java/lang/Object"
