set_option maxRecDepth 100000
/-! LandMap -/
def RX0 : String := "LandMap"
def TX0 : u_T := fun k => match k with
  | 0 => ("LandMap", "tray", "[B", true)
  | 1 => ("LandMap", "trayed", "I", false)
  | 2 => ("LandMap", "fed", "I", false)
  | 3 => ("LandMap", "stop", "LLandMap$Stop;", true)
  | 4 => ("LandMap", "scan", "LLandMap$Scan;", true)
  | 5 => ("LandMap", "texts", "LLandMap$FeatureTexts;", true)
  | 6 => ("LandMap", "came", "Ljava/util/ArrayList;", true)
  | 7 => ("LandMap", "rules", "LLandMap$Rules;", true)
  | 8 => ("LandMap", "relation", "LLandMap$Relation;", true)
  | 9 => ("LandMap", "overlay", "LLandMap$Overlay;", true)
  | 10 => ("LandMap", "roads", "LLandMap$Roads;", true)
  | 11 => ("LandMap", "draft", "LLandMap$Draft;", true)
  | 12 => ("LandMap", "now", "LLandMap$Laid;", false)
  | 13 => ("LandMap", "work", "LLandMap$Laid;", false)
  | 14 => ("LandMap", "isLaid", "Z", false)
  | 15 => ("LandMap", "state", "LLandMap$State;", false)
  | 16 => ("LandMap", "undos", "I", false)
  | 17 => ("LandMap", "made", "I", false)
  | 18 => ("LandMap", "place", "I", false)
  | 19 => ("LandMap", "rule", "I", false)
  | 20 => ("LandMap", "broken", "I", false)
  | 21 => ("LandMap", "spotXs", "[I", true)
  | 22 => ("LandMap", "spotYs", "[I", true)
  | 23 => ("LandMap", "spots", "I", false)
  | 24 => ("LandMap", "otherLayer", "I", false)
  | 25 => ("LandMap", "otherFeature", "I", false)
  | 26 => ("LandMap", "cornerX", "I", false)
  | 27 => ("LandMap", "cornerY", "I", false)
  | 28 => ("LandMap", "rasters", "Ljava/util/ArrayList;", true)
  | 29 => ("LandMap", "algebra", "LLandMap$Algebra;", true)
  | _ => ("LandMap", "spread", "LLandMap$Spread;", true)
def tyX0 : Nat → FieldType := fun k => match k with
  | 0 => .array .byte
  | 1 => .int
  | 2 => .int
  | 3 => .object "LandMap$Stop"
  | 4 => .object "LandMap$Scan"
  | 5 => .object "LandMap$FeatureTexts"
  | 6 => .object "java/util/ArrayList"
  | 7 => .object "LandMap$Rules"
  | 8 => .object "LandMap$Relation"
  | 9 => .object "LandMap$Overlay"
  | 10 => .object "LandMap$Roads"
  | 11 => .object "LandMap$Draft"
  | 12 => .object "LandMap$Laid"
  | 13 => .object "LandMap$Laid"
  | 14 => .boolean
  | 15 => .object "LandMap$State"
  | 16 => .int
  | 17 => .int
  | 18 => .int
  | 19 => .int
  | 20 => .int
  | 21 => .array .int
  | 22 => .array .int
  | 23 => .int
  | 24 => .int
  | 25 => .int
  | 26 => .int
  | 27 => .int
  | 28 => .object "java/util/ArrayList"
  | 29 => .object "LandMap$Algebra"
  | _ => .object "LandMap$Spread"
abbrev wsX00 : List Cond := u_ws RX0 TX0 31
theorem nmX0 : ∀ a, a < 31 → ∀ b, b < 31 → a ≠ b → (TX0 a).2.1 ≠ (TX0 b).2.1 := by decide +kernel
theorem tyX0_ok : ∀ k, k < 31 → parseFieldDescriptor (TX0 k).2.2.1 = some (tyX0 k) := by decide +kernel
theorem in_X0 : ∀ w ∈ wsX00, w ∈ lw_all := lw_in wsX00 [1024, 1026, 1028, 1030, 1032, 1034, 1036, 1038, 1040, 1042, 1044, 1046, 1048, 1050, 1052, 1054, 1056, 1058, 1060, 1062, 1064, 1066, 1068, 1070, 1072, 1074, 1076, 1078, 1080, 1082, 1084] (by decide +kernel) (by decide +kernel)
/-! LandMap$Stop -/
def RX1 : String := "LandMap$Stop"
def TX1 : u_T := fun k => match k with
  | 0 => ("LandMap$Stop", "thrown", "Ljava/lang/IllegalStateException;", true)
  | 1 => ("LandMap$Stop", "code", "I", false)
  | _ => ("LandMap$Stop", "place", "I", false)
def tyX1 : Nat → FieldType := fun k => match k with
  | 0 => .object "java/lang/IllegalStateException"
  | 1 => .int
  | _ => .int
abbrev wsX10 : List Cond := u_ws RX1 TX1 3
theorem nmX1 : ∀ a, a < 3 → ∀ b, b < 3 → a ≠ b → (TX1 a).2.1 ≠ (TX1 b).2.1 := by decide +kernel
theorem tyX1_ok : ∀ k, k < 3 → parseFieldDescriptor (TX1 k).2.2.1 = some (tyX1 k) := by decide +kernel
theorem in_X1 : ∀ w ∈ wsX10, w ∈ lw_all := lw_in wsX10 [322, 324, 326] (by decide +kernel) (by decide +kernel)
/-! java/lang/Throwable -/
def RJ0 : String := "java/lang/Throwable"
def TJ0 : u_T := fun k => match k with
  | 0 => ("java/lang/Throwable", "cause", "Ljava/lang/Throwable;", false)
  | 1 => ("java/lang/Throwable", "stackTrace", "[Ljava/lang/StackTraceElement;", false)
  | 2 => ("java/lang/Throwable", "suppressedExceptions", "Ljava/util/List;", false)
  | 3 => ("java/lang/Throwable", "detailMessage", "Ljava/lang/String;", false)
  | _ => ("java/lang/Throwable", "backtrace", "Ljava/lang/Object;", false)
def tyJ0 : Nat → FieldType := fun k => match k with
  | 0 => .object "java/lang/Throwable"
  | 1 => .array (.object "java/lang/StackTraceElement")
  | 2 => .object "java/util/List"
  | 3 => .object "java/lang/String"
  | _ => .object "java/lang/Object"
abbrev wsJ00 : List Cond := u_ws RJ0 TJ0 5
theorem nmJ0 : ∀ a, a < 5 → ∀ b, b < 5 → a ≠ b → (TJ0 a).2.1 ≠ (TJ0 b).2.1 := by decide +kernel
theorem tyJ0_ok : ∀ k, k < 5 → parseFieldDescriptor (TJ0 k).2.2.1 = some (tyJ0 k) := by decide +kernel
theorem in_J0 : ∀ w ∈ wsJ00, w ∈ lw_all := lw_in wsJ00 [268, 270, 272, 274, 276] (by decide +kernel) (by decide +kernel)
/-! java/lang/Exception -/
def RJ1 : String := "java/lang/Exception"
/-! java/lang/RuntimeException -/
def RJ2 : String := "java/lang/RuntimeException"
/-! java/lang/IllegalStateException -/
def RJ3 : String := "java/lang/IllegalStateException"
def TJ3 : u_T := fun k => match k with
  | 0 => ("java/lang/Throwable", "cause", "Ljava/lang/Throwable;", false)
  | 1 => ("java/lang/Throwable", "stackTrace", "[Ljava/lang/StackTraceElement;", false)
  | 2 => ("java/lang/Throwable", "suppressedExceptions", "Ljava/util/List;", false)
  | 3 => ("java/lang/Throwable", "detailMessage", "Ljava/lang/String;", false)
  | 4 => ("java/lang/Throwable", "backtrace", "Ljava/lang/Object;", false)
  | _ => ("java/lang/Throwable", "depth", "I", false)
def tyJ3 : Nat → FieldType := fun k => match k with
  | 0 => .object "java/lang/Throwable"
  | 1 => .array (.object "java/lang/StackTraceElement")
  | 2 => .object "java/util/List"
  | 3 => .object "java/lang/String"
  | 4 => .object "java/lang/Object"
  | _ => .int
abbrev wsJ30 : List Cond := u_ws RJ3 TJ3 6
theorem nmJ3 : ∀ a, a < 6 → ∀ b, b < 6 → a ≠ b → (TJ3 a).2.1 ≠ (TJ3 b).2.1 := by decide +kernel
theorem tyJ3_ok : ∀ k, k < 6 → parseFieldDescriptor (TJ3 k).2.2.1 = some (tyJ3 k) := by decide +kernel
theorem in_J3 : ∀ w ∈ wsJ30, w ∈ lw_all := lw_in wsJ30 [267, 269, 271, 273, 275, 313] (by decide +kernel) (by decide +kernel)
/-! LandMap$Scan -/
def RX2 : String := "LandMap$Scan"
def TX2 : u_T := fun k => match k with
  | 0 => ("LandMap$Scan", "stop", "LLandMap$Stop;", true)
  | 1 => ("LandMap$Scan", "text", "[B", false)
  | 2 => ("LandMap$Scan", "size", "I", false)
  | _ => ("LandMap$Scan", "at", "I", false)
def tyX2 : Nat → FieldType := fun k => match k with
  | 0 => .object "LandMap$Stop"
  | 1 => .array .byte
  | 2 => .int
  | _ => .int
abbrev wsX20 : List Cond := u_ws RX2 TX2 4
theorem nmX2 : ∀ a, a < 4 → ∀ b, b < 4 → a ≠ b → (TX2 a).2.1 ≠ (TX2 b).2.1 := by decide +kernel
theorem tyX2_ok : ∀ k, k < 4 → parseFieldDescriptor (TX2 k).2.2.1 = some (tyX2 k) := by decide +kernel
theorem in_X2 : ∀ w ∈ wsX20, w ∈ lw_all := lw_in wsX20 [340, 342, 344, 346] (by decide +kernel) (by decide +kernel)
/-! LandMap$FeatureTexts -/
def RX3 : String := "LandMap$FeatureTexts"
def TX3 : u_T := fun k => match k with
  | 0 => ("LandMap$FeatureTexts", "scan", "LLandMap$Scan;", true)
  | _ => ("LandMap$FeatureTexts", "draft", "LLandMap$Draft;", true)
def tyX3 : Nat → FieldType := fun k => match k with
  | 0 => .object "LandMap$Scan"
  | _ => .object "LandMap$Draft"
abbrev wsX30 : List Cond := u_ws RX3 TX3 2
theorem nmX3 : ∀ a, a < 2 → ∀ b, b < 2 → a ≠ b → (TX3 a).2.1 ≠ (TX3 b).2.1 := by decide +kernel
theorem tyX3_ok : ∀ k, k < 2 → parseFieldDescriptor (TX3 k).2.2.1 = some (tyX3 k) := by decide +kernel
theorem in_X3 : ∀ w ∈ wsX30, w ∈ lw_all := lw_in wsX30 [380, 382] (by decide +kernel) (by decide +kernel)
/-! LandMap$Draft -/
def RX4 : String := "LandMap$Draft"
def TX4 : u_T := fun k => match k with
  | 0 => ("LandMap$Draft", "xs", "[I", true)
  | 1 => ("LandMap$Draft", "ys", "[I", true)
  | 2 => ("LandMap$Draft", "starts", "[I", true)
  | 3 => ("LandMap$Draft", "places", "I", false)
  | _ => ("LandMap$Draft", "rows", "I", false)
def tyX4 : Nat → FieldType := fun k => match k with
  | 0 => .array .int
  | 1 => .array .int
  | 2 => .array .int
  | 3 => .int
  | _ => .int
abbrev wsX40 : List Cond := u_ws RX4 TX4 5
theorem nmX4 : ∀ a, a < 5 → ∀ b, b < 5 → a ≠ b → (TX4 a).2.1 ≠ (TX4 b).2.1 := by decide +kernel
theorem tyX4_ok : ∀ k, k < 5 → parseFieldDescriptor (TX4 k).2.2.1 = some (tyX4 k) := by decide +kernel
theorem in_X4 : ∀ w ∈ wsX40, w ∈ lw_all := lw_in wsX40 [366, 368, 370, 372, 374] (by decide +kernel) (by decide +kernel)
/-! java/util/AbstractCollection -/
def RJ4 : String := "java/util/AbstractCollection"
/-! java/util/AbstractList -/
def RJ5 : String := "java/util/AbstractList"
/-! java/util/ArrayList -/
def RJ6 : String := "java/util/ArrayList"
def TJ6 : u_T := fun k => match k with
  | 0 => ("java/util/AbstractList", "modCount", "I", false)
  | 1 => ("java/util/ArrayList", "elementData", "[Ljava/lang/Object;", false)
  | _ => ("java/util/ArrayList", "size", "I", false)
def tyJ6 : Nat → FieldType := fun k => match k with
  | 0 => .int
  | 1 => .array (.object "java/lang/Object")
  | _ => .int
abbrev wsJ60 : List Cond := u_ws RJ6 TJ6 3
theorem nmJ6 : ∀ a, a < 3 → ∀ b, b < 3 → a ≠ b → (TJ6 a).2.1 ≠ (TJ6 b).2.1 := by decide +kernel
theorem tyJ6_ok : ∀ k, k < 3 → parseFieldDescriptor (TJ6 k).2.2.1 = some (tyJ6 k) := by decide +kernel
theorem in_J6 : ∀ w ∈ wsJ60, w ∈ lw_all := lw_in wsJ60 [410, 406, 408] (by decide +kernel) (by decide +kernel)
/-! LandMap$Rules -/
def RX5 : String := "LandMap$Rules"
def TX5 : u_T := fun k => match k with
  | 0 => ("LandMap$Rules", "edges", "LLandMap$Edges;", true)
  | 1 => ("LandMap$Rules", "group", "[I", true)
  | _ => ("LandMap$Rules", "whole", "[I", true)
def tyX5 : Nat → FieldType := fun k => match k with
  | 0 => .object "LandMap$Edges"
  | 1 => .array .int
  | _ => .array .int
abbrev wsX50 : List Cond := u_ws RX5 TX5 3
theorem nmX5 : ∀ a, a < 3 → ∀ b, b < 3 → a ≠ b → (TX5 a).2.1 ≠ (TX5 b).2.1 := by decide +kernel
theorem tyX5_ok : ∀ k, k < 3 → parseFieldDescriptor (TX5 k).2.2.1 = some (tyX5 k) := by decide +kernel
theorem in_X5 : ∀ w ∈ wsX50, w ∈ lw_all := lw_in wsX50 [477, 479, 481] (by decide +kernel) (by decide +kernel)
/-! LandMap$Edges -/
def RX6 : String := "LandMap$Edges"
def TX6 : u_T := fun k => match k with
  | 0 => ("LandMap$Edges", "x1", "[I", true)
  | 1 => ("LandMap$Edges", "y1", "[I", true)
  | 2 => ("LandMap$Edges", "x2", "[I", true)
  | 3 => ("LandMap$Edges", "y2", "[I", true)
  | 4 => ("LandMap$Edges", "source", "[I", true)
  | 5 => ("LandMap$Edges", "order", "[I", true)
  | 6 => ("LandMap$Edges", "keys", "[J", true)
  | 7 => ("LandMap$Edges", "sorter", "LLandMap$Sorter;", true)
  | _ => ("LandMap$Edges", "size", "I", false)
def tyX6 : Nat → FieldType := fun k => match k with
  | 0 => .array .int
  | 1 => .array .int
  | 2 => .array .int
  | 3 => .array .int
  | 4 => .array .int
  | 5 => .array .int
  | 6 => .array .long
  | 7 => .object "LandMap$Sorter"
  | _ => .int
abbrev wsX60 : List Cond := u_ws RX6 TX6 9
theorem nmX6 : ∀ a, a < 9 → ∀ b, b < 9 → a ≠ b → (TX6 a).2.1 ≠ (TX6 b).2.1 := by decide +kernel
theorem tyX6_ok : ∀ k, k < 9 → parseFieldDescriptor (TX6 k).2.2.1 = some (tyX6 k) := by decide +kernel
theorem in_X6 : ∀ w ∈ wsX60, w ∈ lw_all := lw_in wsX60 [455, 457, 459, 461, 463, 465, 467, 469, 471] (by decide +kernel) (by decide +kernel)
/-! LandMap$Sorter -/
def RX7 : String := "LandMap$Sorter"
def TX7 : u_T := fun k => match k with
  | _ => ("LandMap$Sorter", "spare", "[J", false)
def tyX7 : Nat → FieldType := fun k => match k with
  | _ => .array .long
abbrev wsX70 : List Cond := u_ws RX7 TX7 1
theorem nmX7 : ∀ a, a < 1 → ∀ b, b < 1 → a ≠ b → (TX7 a).2.1 ≠ (TX7 b).2.1 := by decide +kernel
theorem tyX7_ok : ∀ k, k < 1 → parseFieldDescriptor (TX7 k).2.2.1 = some (tyX7 k) := by decide +kernel
theorem in_X7 : ∀ w ∈ wsX70, w ∈ lw_all := lw_in wsX70 [428] (by decide +kernel) (by decide +kernel)
/-! LandMap$Relation -/
def RX8 : String := "LandMap$Relation"
def TX8 : u_T := fun k => match k with
  | 0 => ("LandMap$Relation", "plane", "LLandMap$Plane;", false)
  | 1 => ("LandMap$Relation", "faces", "LLandMap$Faces;", false)
  | _ => ("LandMap$Relation", "entries", "[I", true)
def tyX8 : Nat → FieldType := fun k => match k with
  | 0 => .object "LandMap$Plane"
  | 1 => .object "LandMap$Faces"
  | _ => .array .int
abbrev wsX80 : List Cond := u_ws RX8 TX8 3
theorem nmX8 : ∀ a, a < 3 → ∀ b, b < 3 → a ≠ b → (TX8 a).2.1 ≠ (TX8 b).2.1 := by decide +kernel
theorem tyX8_ok : ∀ k, k < 3 → parseFieldDescriptor (TX8 k).2.2.1 = some (tyX8 k) := by decide +kernel
theorem in_X8 : ∀ w ∈ wsX80, w ∈ lw_all := lw_in wsX80 [493, 495, 497] (by decide +kernel) (by decide +kernel)
/-! LandMap$Overlay -/
def RX9 : String := "LandMap$Overlay"
def TX9 : u_T := fun k => match k with
  | 0 => ("LandMap$Overlay", "plane", "LLandMap$Plane;", false)
  | 1 => ("LandMap$Overlay", "faces", "LLandMap$Faces;", false)
  | 2 => ("LandMap$Overlay", "group", "[I", true)
  | 3 => ("LandMap$Overlay", "whole", "[I", true)
  | 4 => ("LandMap$Overlay", "leastA", "[I", true)
  | 5 => ("LandMap$Overlay", "leastB", "[I", true)
  | 6 => ("LandMap$Overlay", "isDone", "[Z", true)
  | 7 => ("LandMap$Overlay", "stack", "[I", true)
  | 8 => ("LandMap$Overlay", "seenAt", "[I", true)
  | 9 => ("LandMap$Overlay", "height", "I", false)
  | 10 => ("LandMap$Overlay", "xs", "[I", true)
  | 11 => ("LandMap$Overlay", "ys", "[I", true)
  | 12 => ("LandMap$Overlay", "from", "[I", true)
  | 13 => ("LandMap$Overlay", "ringWhole", "[I", true)
  | 14 => ("LandMap$Overlay", "isFirst", "[Z", true)
  | 15 => ("LandMap$Overlay", "rings", "I", false)
  | 16 => ("LandMap$Overlay", "order", "[I", true)
  | 17 => ("LandMap$Overlay", "values", "[I", true)
  | 18 => ("LandMap$Overlay", "sizes", "[I", true)
  | _ => ("LandMap$Overlay", "wholes", "I", false)
def tyX9 : Nat → FieldType := fun k => match k with
  | 0 => .object "LandMap$Plane"
  | 1 => .object "LandMap$Faces"
  | 2 => .array .int
  | 3 => .array .int
  | 4 => .array .int
  | 5 => .array .int
  | 6 => .array .boolean
  | 7 => .array .int
  | 8 => .array .int
  | 9 => .int
  | 10 => .array .int
  | 11 => .array .int
  | 12 => .array .int
  | 13 => .array .int
  | 14 => .array .boolean
  | 15 => .int
  | 16 => .array .int
  | 17 => .array .int
  | 18 => .array .int
  | _ => .int
abbrev wsX90 : List Cond := u_ws RX9 TX9 20
theorem nmX9 : ∀ a, a < 20 → ∀ b, b < 20 → a ≠ b → (TX9 a).2.1 ≠ (TX9 b).2.1 := by decide +kernel
theorem tyX9_ok : ∀ k, k < 20 → parseFieldDescriptor (TX9 k).2.2.1 = some (tyX9 k) := by decide +kernel
theorem in_X9 : ∀ w ∈ wsX90, w ∈ lw_all := lw_in wsX90 [528, 530, 532, 534, 536, 538, 540, 542, 544, 546, 548, 550, 552, 554, 556, 558, 560, 562, 564, 566] (by decide +kernel) (by decide +kernel)
/-! LandMap$Roads -/
def RX10 : String := "LandMap$Roads"
def TX10 : u_T := fun k => match k with
  | 0 => ("LandMap$Roads", "plane", "LLandMap$Plane;", false)
  | 1 => ("LandMap$Roads", "faces", "LLandMap$Faces;", false)
  | 2 => ("LandMap$Roads", "costs", "[J", true)
  | 3 => ("LandMap$Roads", "isRoad", "[Z", true)
  | 4 => ("LandMap$Roads", "bars", "[I", true)
  | 5 => ("LandMap$Roads", "barNodes", "[I", true)
  | 6 => ("LandMap$Roads", "hasBar", "[Z", true)
  | 7 => ("LandMap$Roads", "barCount", "I", false)
  | 8 => ("LandMap$Roads", "heap", "LLandMap$Heap;", true)
  | 9 => ("LandMap$Roads", "row", "[I", true)
  | _ => ("LandMap$Roads", "rowLength", "I", false)
def tyX10 : Nat → FieldType := fun k => match k with
  | 0 => .object "LandMap$Plane"
  | 1 => .object "LandMap$Faces"
  | 2 => .array .long
  | 3 => .array .boolean
  | 4 => .array .int
  | 5 => .array .int
  | 6 => .array .boolean
  | 7 => .int
  | 8 => .object "LandMap$Heap"
  | 9 => .array .int
  | _ => .int
abbrev wsX100 : List Cond := u_ws RX10 TX10 11
theorem nmX10 : ∀ a, a < 11 → ∀ b, b < 11 → a ≠ b → (TX10 a).2.1 ≠ (TX10 b).2.1 := by decide +kernel
theorem tyX10_ok : ∀ k, k < 11 → parseFieldDescriptor (TX10 k).2.2.1 = some (tyX10 k) := by decide +kernel
theorem in_X10 : ∀ w ∈ wsX100, w ∈ lw_all := lw_in wsX100 [613, 615, 617, 619, 621, 623, 625, 627, 629, 631, 633] (by decide +kernel) (by decide +kernel)
/-! LandMap$Heap -/
def RX11 : String := "LandMap$Heap"
def TX11 : u_T := fun k => match k with
  | 0 => ("LandMap$Heap", "cost", "[J", true)
  | 1 => ("LandMap$Heap", "steps", "[I", true)
  | 2 => ("LandMap$Heap", "heap", "[I", true)
  | 3 => ("LandMap$Heap", "at", "[I", true)
  | _ => ("LandMap$Heap", "size", "I", false)
def tyX11 : Nat → FieldType := fun k => match k with
  | 0 => .array .long
  | 1 => .array .int
  | 2 => .array .int
  | 3 => .array .int
  | _ => .int
abbrev wsX110 : List Cond := u_ws RX11 TX11 5
theorem nmX11 : ∀ a, a < 5 → ∀ b, b < 5 → a ≠ b → (TX11 a).2.1 ≠ (TX11 b).2.1 := by decide +kernel
theorem tyX11_ok : ∀ k, k < 5 → parseFieldDescriptor (TX11 k).2.2.1 = some (tyX11 k) := by decide +kernel
theorem in_X11 : ∀ w ∈ wsX110, w ∈ lw_all := lw_in wsX110 [590, 592, 594, 596, 598] (by decide +kernel) (by decide +kernel)
/-! LandMap$Laid -/
def RX12 : String := "LandMap$Laid"
def TX12 : u_T := fun k => match k with
  | 0 => ("LandMap$Laid", "plane", "LLandMap$Plane;", true)
  | _ => ("LandMap$Laid", "faces", "LLandMap$Faces;", true)
def tyX12 : Nat → FieldType := fun k => match k with
  | 0 => .object "LandMap$Plane"
  | _ => .object "LandMap$Faces"
abbrev wsX120 : List Cond := u_ws RX12 TX12 2
theorem nmX12 : ∀ a, a < 2 → ∀ b, b < 2 → a ≠ b → (TX12 a).2.1 ≠ (TX12 b).2.1 := by decide +kernel
theorem tyX12_ok : ∀ k, k < 2 → parseFieldDescriptor (TX12 k).2.2.1 = some (tyX12 k) := by decide +kernel
theorem in_X12 : ∀ w ∈ wsX120, w ∈ lw_all := lw_in wsX120 [903, 905] (by decide +kernel) (by decide +kernel)
/-! LandMap$Plane -/
def RX13 : String := "LandMap$Plane"
def TX13 : u_T := fun k => match k with
  | 0 => ("LandMap$Plane", "sorter", "LLandMap$Sorter;", true)
  | 1 => ("LandMap$Plane", "edges", "LLandMap$Edges;", true)
  | 2 => ("LandMap$Plane", "hot", "LLandMap$HotSet;", true)
  | 3 => ("LandMap$Plane", "part", "LLandMap$Part;", true)
  | 4 => ("LandMap$Plane", "of", "[LLandMap$Feature;", true)
  | 5 => ("LandMap$Plane", "side", "[I", true)
  | 6 => ("LandMap$Plane", "number", "[I", true)
  | 7 => ("LandMap$Plane", "sources", "I", false)
  | 8 => ("LandMap$Plane", "xs", "[I", true)
  | 9 => ("LandMap$Plane", "ys", "[I", true)
  | 10 => ("LandMap$Plane", "nodes", "I", false)
  | 11 => ("LandMap$Plane", "one", "[I", true)
  | 12 => ("LandMap$Plane", "two", "[I", true)
  | 13 => ("LandMap$Plane", "goersFrom", "[I", true)
  | 14 => ("LandMap$Plane", "pieces", "I", false)
  | 15 => ("LandMap$Plane", "goer", "[I", true)
  | 16 => ("LandMap$Plane", "times", "[I", true)
  | 17 => ("LandMap$Plane", "steps", "[J", true)
  | 18 => ("LandMap$Plane", "stepCount", "I", false)
  | 19 => ("LandMap$Plane", "met", "[I", true)
  | 20 => ("LandMap$Plane", "along", "[J", true)
  | 21 => ("LandMap$Plane", "metCount", "I", false)
  | _ => ("LandMap$Plane", "good", "Z", false)
def tyX13 : Nat → FieldType := fun k => match k with
  | 0 => .object "LandMap$Sorter"
  | 1 => .object "LandMap$Edges"
  | 2 => .object "LandMap$HotSet"
  | 3 => .object "LandMap$Part"
  | 4 => .array (.object "LandMap$Feature")
  | 5 => .array .int
  | 6 => .array .int
  | 7 => .int
  | 8 => .array .int
  | 9 => .array .int
  | 10 => .int
  | 11 => .array .int
  | 12 => .array .int
  | 13 => .array .int
  | 14 => .int
  | 15 => .array .int
  | 16 => .array .int
  | 17 => .array .long
  | 18 => .int
  | 19 => .array .int
  | 20 => .array .long
  | 21 => .int
  | _ => .boolean
abbrev wsX130 : List Cond := u_ws RX13 TX13 23
theorem nmX13 : ∀ a, a < 23 → ∀ b, b < 23 → a ≠ b → (TX13 a).2.1 ≠ (TX13 b).2.1 := by decide +kernel
theorem tyX13_ok : ∀ k, k < 23 → parseFieldDescriptor (TX13 k).2.2.1 = some (tyX13 k) := by decide +kernel
theorem in_X13 : ∀ w ∈ wsX130, w ∈ lw_all := lw_in wsX130 [761, 763, 765, 767, 769, 771, 773, 775, 777, 779, 781, 783, 785, 787, 789, 791, 793, 795, 797, 799, 801, 803, 805] (by decide +kernel) (by decide +kernel)
/-! LandMap$HotSet -/
def RX14 : String := "LandMap$HotSet"
def TX14 : u_T := fun k => match k with
  | 0 => ("LandMap$HotSet", "table", "[J", true)
  | 1 => ("LandMap$HotSet", "keys", "[J", true)
  | _ => ("LandMap$HotSet", "size", "I", false)
def tyX14 : Nat → FieldType := fun k => match k with
  | 0 => .array .long
  | 1 => .array .long
  | _ => .int
abbrev wsX140 : List Cond := u_ws RX14 TX14 3
theorem nmX14 : ∀ a, a < 3 → ∀ b, b < 3 → a ≠ b → (TX14 a).2.1 ≠ (TX14 b).2.1 := by decide +kernel
theorem tyX14_ok : ∀ k, k < 3 → parseFieldDescriptor (TX14 k).2.2.1 = some (tyX14 k) := by decide +kernel
theorem in_X14 : ∀ w ∈ wsX140, w ∈ lw_all := lw_in wsX140 [665, 667, 669] (by decide +kernel) (by decide +kernel)
/-! LandMap$Part -/
def RX15 : String := "LandMap$Part"
def TX15 : u_T := fun k => match k with
  | 0 => ("LandMap$Part", "loUp", "J", false)
  | 1 => ("LandMap$Part", "loDown", "J", false)
  | 2 => ("LandMap$Part", "hiUp", "J", false)
  | 3 => ("LandMap$Part", "hiDown", "J", false)
  | 4 => ("LandMap$Part", "loOpen", "Z", false)
  | _ => ("LandMap$Part", "hiOpen", "Z", false)
def tyX15 : Nat → FieldType := fun k => match k with
  | 0 => .long
  | 1 => .long
  | 2 => .long
  | 3 => .long
  | 4 => .boolean
  | _ => .boolean
abbrev wsX150 : List Cond := u_ws RX15 TX15 6
theorem nmX15 : ∀ a, a < 6 → ∀ b, b < 6 → a ≠ b → (TX15 a).2.1 ≠ (TX15 b).2.1 := by decide +kernel
theorem tyX15_ok : ∀ k, k < 6 → parseFieldDescriptor (TX15 k).2.2.1 = some (tyX15 k) := by decide +kernel
theorem in_X15 : ∀ w ∈ wsX150, w ∈ lw_all := lw_in wsX150 [684, 686, 688, 690, 692, 694] (by decide +kernel) (by decide +kernel)
/-! LandMap$Faces -/
def RX16 : String := "LandMap$Faces"
def TX16 : u_T := fun k => match k with
  | 0 => ("LandMap$Faces", "plane", "LLandMap$Plane;", true)
  | 1 => ("LandMap$Faces", "sorter", "LLandMap$Sorter;", true)
  | 2 => ("LandMap$Faces", "outFrom", "[I", true)
  | 3 => ("LandMap$Faces", "out", "[I", true)
  | 4 => ("LandMap$Faces", "placeOf", "[I", true)
  | 5 => ("LandMap$Faces", "ring", "[I", true)
  | 6 => ("LandMap$Faces", "ringWay", "[I", true)
  | 7 => ("LandMap$Faces", "ringArea", "[J", true)
  | 8 => ("LandMap$Faces", "ringFace", "[I", true)
  | 9 => ("LandMap$Faces", "ringLeast", "[I", true)
  | 10 => ("LandMap$Faces", "ringSize", "[I", true)
  | 11 => ("LandMap$Faces", "rings", "I", false)
  | 12 => ("LandMap$Faces", "faces", "I", false)
  | 13 => ("LandMap$Faces", "keys", "[J", true)
  | 14 => ("LandMap$Faces", "faceRings", "[I", true)
  | 15 => ("LandMap$Faces", "faceWays", "[I", true)
  | 16 => ("LandMap$Faces", "faceArea", "[J", true)
  | 17 => ("LandMap$Faces", "firstRing", "[I", true)
  | 18 => ("LandMap$Faces", "nextRing", "[I", true)
  | 19 => ("LandMap$Faces", "covers", "[I", true)
  | 20 => ("LandMap$Faces", "isKnown", "[Z", true)
  | _ => ("LandMap$Faces", "queue", "[I", true)
def tyX16 : Nat → FieldType := fun k => match k with
  | 0 => .object "LandMap$Plane"
  | 1 => .object "LandMap$Sorter"
  | 2 => .array .int
  | 3 => .array .int
  | 4 => .array .int
  | 5 => .array .int
  | 6 => .array .int
  | 7 => .array .long
  | 8 => .array .int
  | 9 => .array .int
  | 10 => .array .int
  | 11 => .int
  | 12 => .int
  | 13 => .array .long
  | 14 => .array .int
  | 15 => .array .int
  | 16 => .array .long
  | 17 => .array .int
  | 18 => .array .int
  | 19 => .array .int
  | 20 => .array .boolean
  | _ => .array .int
abbrev wsX160 : List Cond := u_ws RX16 TX16 22
theorem nmX16 : ∀ a, a < 22 → ∀ b, b < 22 → a ≠ b → (TX16 a).2.1 ≠ (TX16 b).2.1 := by decide +kernel
theorem tyX16_ok : ∀ k, k < 22 → parseFieldDescriptor (TX16 k).2.2.1 = some (tyX16 k) := by decide +kernel
theorem in_X16 : ∀ w ∈ wsX160, w ∈ lw_all := lw_in wsX160 [846, 848, 850, 852, 854, 856, 858, 860, 862, 864, 866, 868, 870, 872, 874, 876, 878, 880, 882, 884, 886, 888] (by decide +kernel) (by decide +kernel)
/-! LandMap$State -/
def RX17 : String := "LandMap$State"
def TX17 : u_T := fun k => match k with
  | 0 => ("LandMap$State", "layers", "[LLandMap$Layer;", true)
  | _ => ("LandMap$State", "before", "LLandMap$State;", true)
def tyX17 : Nat → FieldType := fun k => match k with
  | 0 => .array (.object "LandMap$Layer")
  | _ => .object "LandMap$State"
abbrev wsX170 : List Cond := u_ws RX17 TX17 2
theorem nmX17 : ∀ a, a < 2 → ∀ b, b < 2 → a ≠ b → (TX17 a).2.1 ≠ (TX17 b).2.1 := by decide +kernel
theorem tyX17_ok : ∀ k, k < 2 → parseFieldDescriptor (TX17 k).2.2.1 = some (tyX17 k) := by decide +kernel
theorem in_X17 : ∀ w ∈ wsX170, w ∈ lw_all := lw_in wsX170 [923, 925] (by decide +kernel) (by decide +kernel)
/-! LandMap$Layer -/
def RX18 : String := "LandMap$Layer"
def TX18 : u_T := fun k => match k with
  | 0 => ("LandMap$Layer", "items", "[LLandMap$Feature;", false)
  | _ => ("LandMap$Layer", "size", "I", false)
def tyX18 : Nat → FieldType := fun k => match k with
  | 0 => .array (.object "LandMap$Feature")
  | _ => .int
abbrev wsX180 : List Cond := u_ws RX18 TX18 2
theorem nmX18 : ∀ a, a < 2 → ∀ b, b < 2 → a ≠ b → (TX18 a).2.1 ≠ (TX18 b).2.1 := by decide +kernel
theorem tyX18_ok : ∀ k, k < 2 → parseFieldDescriptor (TX18 k).2.2.1 = some (tyX18 k) := by decide +kernel
theorem in_X18 : ∀ w ∈ wsX180, w ∈ lw_all := lw_in wsX180 [937, 939] (by decide +kernel) (by decide +kernel)
/-! LandMap$Algebra -/
def RX19 : String := "LandMap$Algebra"
def TX19 : u_T := fun k => match k with
  | 0 => ("LandMap$Algebra", "scan", "LLandMap$Scan;", true)
  | 1 => ("LandMap$Algebra", "rasters", "Ljava/util/ArrayList;", true)
  | 2 => ("LandMap$Algebra", "steps", "[I", false)
  | 3 => ("LandMap$Algebra", "size", "I", false)
  | 4 => ("LandMap$Algebra", "first", "LLandMap$Raster;", false)
  | 5 => ("LandMap$Algebra", "stack", "Ljava/util/ArrayList;", true)
  | 6 => ("LandMap$Algebra", "height", "I", false)
  | 7 => ("LandMap$Algebra", "w", "I", false)
  | _ => ("LandMap$Algebra", "h", "I", false)
def tyX19 : Nat → FieldType := fun k => match k with
  | 0 => .object "LandMap$Scan"
  | 1 => .object "java/util/ArrayList"
  | 2 => .array .int
  | 3 => .int
  | 4 => .object "LandMap$Raster"
  | 5 => .object "java/util/ArrayList"
  | 6 => .int
  | 7 => .int
  | _ => .int
abbrev wsX190 : List Cond := u_ws RX19 TX19 9
theorem nmX19 : ∀ a, a < 9 → ∀ b, b < 9 → a ≠ b → (TX19 a).2.1 ≠ (TX19 b).2.1 := by decide +kernel
theorem tyX19_ok : ∀ k, k < 9 → parseFieldDescriptor (TX19 k).2.2.1 = some (tyX19 k) := by decide +kernel
theorem in_X19 : ∀ w ∈ wsX190, w ∈ lw_all := lw_in wsX190 [959, 961, 963, 965, 967, 969, 971, 973, 975] (by decide +kernel) (by decide +kernel)
/-! LandMap$Spread -/
def RX20 : String := "LandMap$Spread"
def TX20 : u_T := fun k => match k with
  | 0 => ("LandMap$Spread", "heap", "LLandMap$Heap;", true)
  | _ => ("LandMap$Spread", "costs", "LLandMap$Raster;", false)
def tyX20 : Nat → FieldType := fun k => match k with
  | 0 => .object "LandMap$Heap"
  | _ => .object "LandMap$Raster"
abbrev wsX200 : List Cond := u_ws RX20 TX20 2
theorem nmX20 : ∀ a, a < 2 → ∀ b, b < 2 → a ≠ b → (TX20 a).2.1 ≠ (TX20 b).2.1 := by decide +kernel
theorem tyX20_ok : ∀ k, k < 2 → parseFieldDescriptor (TX20 k).2.2.1 = some (tyX20 k) := by decide +kernel
theorem in_X20 : ∀ w ∈ wsX200, w ∈ lw_all := lw_in wsX200 [988, 990] (by decide +kernel) (by decide +kernel)
/-! LandMapModel -/
def RX21 : String := "LandMapModel"
def TX21 : u_T := fun k => match k with
  | 0 => ("LandMapModel", "tray", "[B", true)
  | 1 => ("LandMapModel", "trayed", "I", false)
  | 2 => ("LandMapModel", "fed", "I", false)
  | 3 => ("LandMapModel", "trouble", "LLandMapModel$Trouble;", true)
  | 4 => ("LandMapModel", "placesRead", "[I", true)
  | 5 => ("LandMapModel", "rules", "LLandMapModel$Rules;", true)
  | 6 => ("LandMapModel", "place", "I", false)
  | 7 => ("LandMapModel", "rule", "I", false)
  | 8 => ("LandMapModel", "broken", "I", false)
  | 9 => ("LandMapModel", "before", "Ljava/util/ArrayList;", true)
  | 10 => ("LandMapModel", "now", "LLandMapModel$State;", false)
  | 11 => ("LandMapModel", "made", "I", false)
  | 12 => ("LandMapModel", "spots", "[I", true)
  | 13 => ("LandMapModel", "spotCount", "I", false)
  | 14 => ("LandMapModel", "laid", "LLandMapModel$Laid;", false)
  | 15 => ("LandMapModel", "laying", "LLandMapModel$Laid;", false)
  | 16 => ("LandMapModel", "isLaid", "Z", false)
  | 17 => ("LandMapModel", "overlays", "LLandMapModel$Overlay;", true)
  | 18 => ("LandMapModel", "relation", "LLandMapModel$Relation;", true)
  | 19 => ("LandMapModel", "otherLayer", "I", false)
  | 20 => ("LandMapModel", "otherFeature", "I", false)
  | 21 => ("LandMapModel", "bars", "[I", true)
  | 22 => ("LandMapModel", "barCount", "I", false)
  | 23 => ("LandMapModel", "roads", "LLandMapModel$Roads;", true)
  | 24 => ("LandMapModel", "way", "LLandMapModel$Ints;", true)
  | 25 => ("LandMapModel", "cornerX", "I", false)
  | 26 => ("LandMapModel", "cornerY", "I", false)
  | 27 => ("LandMapModel", "rasters", "[LLandMapModel$Raster;", true)
  | 28 => ("LandMapModel", "rasterCount", "I", false)
  | 29 => ("LandMapModel", "worker", "LLandMapModel$Worker;", true)
  | _ => ("LandMapModel", "spreading", "LLandMapModel$Spread;", true)
def tyX21 : Nat → FieldType := fun k => match k with
  | 0 => .array .byte
  | 1 => .int
  | 2 => .int
  | 3 => .object "LandMapModel$Trouble"
  | 4 => .array .int
  | 5 => .object "LandMapModel$Rules"
  | 6 => .int
  | 7 => .int
  | 8 => .int
  | 9 => .object "java/util/ArrayList"
  | 10 => .object "LandMapModel$State"
  | 11 => .int
  | 12 => .array .int
  | 13 => .int
  | 14 => .object "LandMapModel$Laid"
  | 15 => .object "LandMapModel$Laid"
  | 16 => .boolean
  | 17 => .object "LandMapModel$Overlay"
  | 18 => .object "LandMapModel$Relation"
  | 19 => .int
  | 20 => .int
  | 21 => .array .int
  | 22 => .int
  | 23 => .object "LandMapModel$Roads"
  | 24 => .object "LandMapModel$Ints"
  | 25 => .int
  | 26 => .int
  | 27 => .array (.object "LandMapModel$Raster")
  | 28 => .int
  | 29 => .object "LandMapModel$Worker"
  | _ => .object "LandMapModel$Spread"
abbrev wsX210 : List Cond := u_ws RX21 TX21 31
theorem nmX21 : ∀ a, a < 31 → ∀ b, b < 31 → a ≠ b → (TX21 a).2.1 ≠ (TX21 b).2.1 := by decide +kernel
theorem tyX21_ok : ∀ k, k < 31 → parseFieldDescriptor (TX21 k).2.2.1 = some (tyX21 k) := by decide +kernel
theorem in_X21 : ∀ w ∈ wsX210, w ∈ lw_all := lw_in wsX210 [3147, 3149, 3151, 3153, 3155, 3157, 3159, 3161, 3163, 3165, 3167, 3169, 3171, 3173, 3175, 3177, 3179, 3181, 3183, 3185, 3187, 3189, 3191, 3193, 3195, 3197, 3199, 3201, 3203, 3205, 3207] (by decide +kernel) (by decide +kernel)
/-! LandMapModel$Trouble -/
def RX22 : String := "LandMapModel$Trouble"
def TX22 : u_T := fun k => match k with
  | _ => ("LandMapModel$Trouble", "place", "I", false)
def tyX22 : Nat → FieldType := fun k => match k with
  | _ => .int
abbrev wsX220 : List Cond := u_ws RX22 TX22 1
theorem nmX22 : ∀ a, a < 1 → ∀ b, b < 1 → a ≠ b → (TX22 a).2.1 ≠ (TX22 b).2.1 := by decide +kernel
theorem tyX22_ok : ∀ k, k < 1 → parseFieldDescriptor (TX22 k).2.2.1 = some (tyX22 k) := by decide +kernel
theorem in_X22 : ∀ w ∈ wsX220, w ∈ lw_all := lw_in wsX220 [2624] (by decide +kernel) (by decide +kernel)
/-! LandMapModel$Rules -/
def RX23 : String := "LandMapModel$Rules"
def TX23 : u_T := fun k => match k with
  | 0 => ("LandMapModel$Rules", "net", "LLandMapModel$Net;", true)
  | 1 => ("LandMapModel$Rules", "nodes", "LLandMapModel$Places;", true)
  | 2 => ("LandMapModel$Rules", "steps", "LLandMapModel$Steps;", true)
  | 3 => ("LandMapModel$Rules", "times", "[I", false)
  | 4 => ("LandMapModel$Rules", "covered", "[Z", false)
  | 5 => ("LandMapModel$Rules", "first", "[Z", false)
  | 6 => ("LandMapModel$Rules", "holes", "[I", false)
  | _ => ("LandMapModel$Rules", "on", "LLandMapModel$Ints;", true)
def tyX23 : Nat → FieldType := fun k => match k with
  | 0 => .object "LandMapModel$Net"
  | 1 => .object "LandMapModel$Places"
  | 2 => .object "LandMapModel$Steps"
  | 3 => .array .int
  | 4 => .array .boolean
  | 5 => .array .boolean
  | 6 => .array .int
  | _ => .object "LandMapModel$Ints"
abbrev wsX230 : List Cond := u_ws RX23 TX23 8
theorem nmX23 : ∀ a, a < 8 → ∀ b, b < 8 → a ≠ b → (TX23 a).2.1 ≠ (TX23 b).2.1 := by decide +kernel
theorem tyX23_ok : ∀ k, k < 8 → parseFieldDescriptor (TX23 k).2.2.1 = some (tyX23 k) := by decide +kernel
theorem in_X23 : ∀ w ∈ wsX230, w ∈ lw_all := lw_in wsX230 [2827, 2829, 2831, 2833, 2835, 2837, 2839, 2841] (by decide +kernel) (by decide +kernel)
/-! LandMapModel$Net -/
def RX24 : String := "LandMapModel$Net"
def TX24 : u_T := fun k => match k with
  | 0 => ("LandMapModel$Net", "x", "[I", false)
  | 1 => ("LandMapModel$Net", "y", "[I", false)
  | 2 => ("LandMapModel$Net", "nodes", "I", false)
  | 3 => ("LandMapModel$Net", "low", "[I", false)
  | 4 => ("LandMapModel$Net", "high", "[I", false)
  | 5 => ("LandMapModel$Net", "pieces", "I", false)
  | 6 => ("LandMapModel$Net", "begins", "[I", false)
  | 7 => ("LandMapModel$Net", "out", "[I", false)
  | 8 => ("LandMapModel$Net", "rank", "[I", false)
  | 9 => ("LandMapModel$Net", "round", "[I", false)
  | 10 => ("LandMapModel$Net", "area", "[J", false)
  | 11 => ("LandMapModel$Net", "least", "[I", false)
  | 12 => ("LandMapModel$Net", "faceOf", "[I", false)
  | 13 => ("LandMapModel$Net", "rounds", "I", false)
  | 14 => ("LandMapModel$Net", "part", "[I", false)
  | 15 => ("LandMapModel$Net", "faces", "I", false)
  | 16 => ("LandMapModel$Net", "order", "[I", false)
  | 17 => ("LandMapModel$Net", "over", "[I", false)
  | 18 => ("LandMapModel$Net", "from", "[I", false)
  | 19 => ("LandMapModel$Net", "odd", "[Z", false)
  | 20 => ("LandMapModel$Net", "firstOf", "[I", false)
  | _ => ("LandMapModel$Net", "nextOf", "[I", false)
def tyX24 : Nat → FieldType := fun k => match k with
  | 0 => .array .int
  | 1 => .array .int
  | 2 => .int
  | 3 => .array .int
  | 4 => .array .int
  | 5 => .int
  | 6 => .array .int
  | 7 => .array .int
  | 8 => .array .int
  | 9 => .array .int
  | 10 => .array .long
  | 11 => .array .int
  | 12 => .array .int
  | 13 => .int
  | 14 => .array .int
  | 15 => .int
  | 16 => .array .int
  | 17 => .array .int
  | 18 => .array .int
  | 19 => .array .boolean
  | 20 => .array .int
  | _ => .array .int
abbrev wsX240 : List Cond := u_ws RX24 TX24 22
theorem nmX24 : ∀ a, a < 22 → ∀ b, b < 22 → a ≠ b → (TX24 a).2.1 ≠ (TX24 b).2.1 := by decide +kernel
theorem tyX24_ok : ∀ k, k < 22 → parseFieldDescriptor (TX24 k).2.2.1 = some (tyX24 k) := by decide +kernel
theorem in_X24 : ∀ w ∈ wsX240, w ∈ lw_all := lw_in wsX240 [2697, 2699, 2701, 2703, 2705, 2707, 2709, 2711, 2713, 2715, 2717, 2719, 2721, 2723, 2725, 2727, 2729, 2731, 2733, 2735, 2737, 2739] (by decide +kernel) (by decide +kernel)
/-! LandMapModel$Places -/
def RX25 : String := "LandMapModel$Places"
def TX25 : u_T := fun k => match k with
  | 0 => ("LandMapModel$Places", "row", "[J", false)
  | _ => ("LandMapModel$Places", "size", "I", false)
def tyX25 : Nat → FieldType := fun k => match k with
  | 0 => .array .long
  | _ => .int
abbrev wsX250 : List Cond := u_ws RX25 TX25 2
theorem nmX25 : ∀ a, a < 2 → ∀ b, b < 2 → a ≠ b → (TX25 a).2.1 ≠ (TX25 b).2.1 := by decide +kernel
theorem tyX25_ok : ∀ k, k < 2 → parseFieldDescriptor (TX25 k).2.2.1 = some (tyX25 k) := by decide +kernel
theorem in_X25 : ∀ w ∈ wsX250, w ∈ lw_all := lw_in wsX250 [2754, 2756] (by decide +kernel) (by decide +kernel)
/-! LandMapModel$Steps -/
def RX26 : String := "LandMapModel$Steps"
def TX26 : u_T := fun k => match k with
  | 0 => ("LandMapModel$Steps", "who", "LLandMapModel$Ints;", true)
  | 1 => ("LandMapModel$Steps", "one", "LLandMapModel$Ints;", true)
  | 2 => ("LandMapModel$Steps", "two", "LLandMapModel$Ints;", true)
  | 3 => ("LandMapModel$Steps", "piece", "[I", false)
  | _ => ("LandMapModel$Steps", "pairs", "LLandMapModel$Places;", true)
def tyX26 : Nat → FieldType := fun k => match k with
  | 0 => .object "LandMapModel$Ints"
  | 1 => .object "LandMapModel$Ints"
  | 2 => .object "LandMapModel$Ints"
  | 3 => .array .int
  | _ => .object "LandMapModel$Places"
abbrev wsX260 : List Cond := u_ws RX26 TX26 5
theorem nmX26 : ∀ a, a < 5 → ∀ b, b < 5 → a ≠ b → (TX26 a).2.1 ≠ (TX26 b).2.1 := by decide +kernel
theorem tyX26_ok : ∀ k, k < 5 → parseFieldDescriptor (TX26 k).2.2.1 = some (tyX26 k) := by decide +kernel
theorem in_X26 : ∀ w ∈ wsX260, w ∈ lw_all := lw_in wsX260 [2806, 2808, 2810, 2812, 2814] (by decide +kernel) (by decide +kernel)
/-! LandMapModel$Ints -/
def RX27 : String := "LandMapModel$Ints"
def TX27 : u_T := fun k => match k with
  | 0 => ("LandMapModel$Ints", "row", "[I", false)
  | _ => ("LandMapModel$Ints", "size", "I", false)
def tyX27 : Nat → FieldType := fun k => match k with
  | 0 => .array .int
  | _ => .int
abbrev wsX270 : List Cond := u_ws RX27 TX27 2
theorem nmX27 : ∀ a, a < 2 → ∀ b, b < 2 → a ≠ b → (TX27 a).2.1 ≠ (TX27 b).2.1 := by decide +kernel
theorem tyX27_ok : ∀ k, k < 2 → parseFieldDescriptor (TX27 k).2.2.1 = some (tyX27 k) := by decide +kernel
theorem in_X27 : ∀ w ∈ wsX270, w ∈ lw_all := lw_in wsX270 [2788, 2790] (by decide +kernel) (by decide +kernel)
/-! LandMapModel$Laid -/
def RX28 : String := "LandMapModel$Laid"
def TX28 : u_T := fun k => match k with
  | 0 => ("LandMapModel$Laid", "net", "LLandMapModel$Net;", true)
  | 1 => ("LandMapModel$Laid", "hot", "LLandMapModel$Places;", true)
  | 2 => ("LandMapModel$Laid", "steps", "LLandMapModel$Steps;", true)
  | 3 => ("LandMapModel$Laid", "features", "[LLandMapModel$Feature;", true)
  | 4 => ("LandMapModel$Laid", "numbers", "[I", true)
  | 5 => ("LandMapModel$Laid", "isSecond", "[Z", true)
  | 6 => ("LandMapModel$Laid", "many", "I", false)
  | 7 => ("LandMapModel$Laid", "times", "[I", false)
  | 8 => ("LandMapModel$Laid", "edges", "[[I", false)
  | 9 => ("LandMapModel$Laid", "counts", "[[I", false)
  | 10 => ("LandMapModel$Laid", "leasts", "[[I", false)
  | 11 => ("LandMapModel$Laid", "covered", "[Z", false)
  | 12 => ("LandMapModel$Laid", "whose", "LLandMapModel$Ints;", true)
  | 13 => ("LandMapModel$Laid", "ends", "LLandMapModel$Ints;", true)
  | 14 => ("LandMapModel$Laid", "along", "LLandMapModel$Ints;", true)
  | 15 => ("LandMapModel$Laid", "fromOver", "J", false)
  | 16 => ("LandMapModel$Laid", "fromUnder", "J", false)
  | 17 => ("LandMapModel$Laid", "toOver", "J", false)
  | 18 => ("LandMapModel$Laid", "toUnder", "J", false)
  | 19 => ("LandMapModel$Laid", "hasFrom", "Z", false)
  | _ => ("LandMapModel$Laid", "hasTo", "Z", false)
def tyX28 : Nat → FieldType := fun k => match k with
  | 0 => .object "LandMapModel$Net"
  | 1 => .object "LandMapModel$Places"
  | 2 => .object "LandMapModel$Steps"
  | 3 => .array (.object "LandMapModel$Feature")
  | 4 => .array .int
  | 5 => .array .boolean
  | 6 => .int
  | 7 => .array .int
  | 8 => .array (.array .int)
  | 9 => .array (.array .int)
  | 10 => .array (.array .int)
  | 11 => .array .boolean
  | 12 => .object "LandMapModel$Ints"
  | 13 => .object "LandMapModel$Ints"
  | 14 => .object "LandMapModel$Ints"
  | 15 => .long
  | 16 => .long
  | 17 => .long
  | 18 => .long
  | 19 => .boolean
  | _ => .boolean
abbrev wsX280 : List Cond := u_ws RX28 TX28 21
theorem nmX28 : ∀ a, a < 21 → ∀ b, b < 21 → a ≠ b → (TX28 a).2.1 ≠ (TX28 b).2.1 := by decide +kernel
theorem tyX28_ok : ∀ k, k < 21 → parseFieldDescriptor (TX28 k).2.2.1 = some (tyX28 k) := by decide +kernel
theorem in_X28 : ∀ w ∈ wsX280, w ∈ lw_all := lw_in wsX280 [2907, 2909, 2911, 2913, 2915, 2917, 2919, 2921, 2923, 2925, 2927, 2929, 2931, 2933, 2935, 2937, 2939, 2941, 2943, 2945, 2947] (by decide +kernel) (by decide +kernel)
/-! LandMapModel$Overlay -/
def RX29 : String := "LandMapModel$Overlay"
def TX29 : u_T := fun k => match k with
  | 0 => ("LandMapModel$Overlay", "laid", "LLandMapModel$Laid;", false)
  | 1 => ("LandMapModel$Overlay", "net", "LLandMapModel$Net;", false)
  | 2 => ("LandMapModel$Overlay", "whole", "[I", false)
  | 3 => ("LandMapModel$Overlay", "done", "[Z", false)
  | 4 => ("LandMapModel$Overlay", "stands", "[I", false)
  | 5 => ("LandMapModel$Overlay", "pile", "LLandMapModel$Ints;", true)
  | 6 => ("LandMapModel$Overlay", "row", "LLandMapModel$Ints;", true)
  | 7 => ("LandMapModel$Overlay", "rings", "LLandMapModel$Ints;", true)
  | 8 => ("LandMapModel$Overlay", "begins", "LLandMapModel$Ints;", true)
  | 9 => ("LandMapModel$Overlay", "faces", "LLandMapModel$Ints;", true)
  | _ => ("LandMapModel$Overlay", "firsts", "LLandMapModel$Ints;", true)
def tyX29 : Nat → FieldType := fun k => match k with
  | 0 => .object "LandMapModel$Laid"
  | 1 => .object "LandMapModel$Net"
  | 2 => .array .int
  | 3 => .array .boolean
  | 4 => .array .int
  | 5 => .object "LandMapModel$Ints"
  | 6 => .object "LandMapModel$Ints"
  | 7 => .object "LandMapModel$Ints"
  | 8 => .object "LandMapModel$Ints"
  | 9 => .object "LandMapModel$Ints"
  | _ => .object "LandMapModel$Ints"
abbrev wsX290 : List Cond := u_ws RX29 TX29 11
theorem nmX29 : ∀ a, a < 11 → ∀ b, b < 11 → a ≠ b → (TX29 a).2.1 ≠ (TX29 b).2.1 := by decide +kernel
theorem tyX29_ok : ∀ k, k < 11 → parseFieldDescriptor (TX29 k).2.2.1 = some (tyX29 k) := by decide +kernel
theorem in_X29 : ∀ w ∈ wsX290, w ∈ lw_all := lw_in wsX290 [2969, 2971, 2973, 2975, 2977, 2979, 2981, 2983, 2985, 2987, 2989] (by decide +kernel) (by decide +kernel)
/-! LandMapModel$Relation -/
def RX30 : String := "LandMapModel$Relation"
def TX30 : u_T := fun k => match k with
  | 0 => ("LandMapModel$Relation", "laid", "LLandMapModel$Laid;", true)
  | 1 => ("LandMapModel$Relation", "entries", "[I", true)
  | 2 => ("LandMapModel$Relation", "faces", "[[I", false)
  | 3 => ("LandMapModel$Relation", "pieces", "[[I", false)
  | 4 => ("LandMapModel$Relation", "nodes", "[[I", false)
  | 5 => ("LandMapModel$Relation", "covered", "[Z", false)
  | _ => ("LandMapModel$Relation", "aroundNode", "[I", false)
def tyX30 : Nat → FieldType := fun k => match k with
  | 0 => .object "LandMapModel$Laid"
  | 1 => .array .int
  | 2 => .array (.array .int)
  | 3 => .array (.array .int)
  | 4 => .array (.array .int)
  | 5 => .array .boolean
  | _ => .array .int
abbrev wsX300 : List Cond := u_ws RX30 TX30 7
theorem nmX30 : ∀ a, a < 7 → ∀ b, b < 7 → a ≠ b → (TX30 a).2.1 ≠ (TX30 b).2.1 := by decide +kernel
theorem tyX30_ok : ∀ k, k < 7 → parseFieldDescriptor (TX30 k).2.2.1 = some (tyX30 k) := by decide +kernel
theorem in_X30 : ∀ w ∈ wsX300, w ∈ lw_all := lw_in wsX300 [3009, 3011, 3013, 3015, 3017, 3019, 3021] (by decide +kernel) (by decide +kernel)
/-! LandMapModel$Roads -/
def RX31 : String := "LandMapModel$Roads"
def TX31 : u_T := fun k => match k with
  | 0 => ("LandMapModel$Roads", "laid", "LLandMapModel$Laid;", false)
  | 1 => ("LandMapModel$Roads", "net", "LLandMapModel$Net;", false)
  | 2 => ("LandMapModel$Roads", "isRoad", "[Z", false)
  | 3 => ("LandMapModel$Roads", "costs", "[J", false)
  | 4 => ("LandMapModel$Roads", "totals", "[J", false)
  | 5 => ("LandMapModel$Roads", "roads", "[I", false)
  | 6 => ("LandMapModel$Roads", "isDone", "[Z", false)
  | 7 => ("LandMapModel$Roads", "heap", "[I", false)
  | 8 => ("LandMapModel$Roads", "size", "I", false)
  | 9 => ("LandMapModel$Roads", "bars", "LLandMapModel$Ints;", true)
  | _ => ("LandMapModel$Roads", "row", "LLandMapModel$Ints;", true)
def tyX31 : Nat → FieldType := fun k => match k with
  | 0 => .object "LandMapModel$Laid"
  | 1 => .object "LandMapModel$Net"
  | 2 => .array .boolean
  | 3 => .array .long
  | 4 => .array .long
  | 5 => .array .int
  | 6 => .array .boolean
  | 7 => .array .int
  | 8 => .int
  | 9 => .object "LandMapModel$Ints"
  | _ => .object "LandMapModel$Ints"
abbrev wsX310 : List Cond := u_ws RX31 TX31 11
theorem nmX31 : ∀ a, a < 11 → ∀ b, b < 11 → a ≠ b → (TX31 a).2.1 ≠ (TX31 b).2.1 := by decide +kernel
theorem tyX31_ok : ∀ k, k < 11 → parseFieldDescriptor (TX31 k).2.2.1 = some (tyX31 k) := by decide +kernel
theorem in_X31 : ∀ w ∈ wsX310, w ∈ lw_all := lw_in wsX310 [3044, 3046, 3048, 3050, 3052, 3054, 3056, 3058, 3060, 3062, 3064] (by decide +kernel) (by decide +kernel)
/-! LandMapModel$Worker -/
def RX32 : String := "LandMapModel$Worker"
def TX32 : u_T := fun k => match k with
  | 0 => ("LandMapModel$Worker", "pile", "Ljava/util/ArrayList;", true)
  | 1 => ("LandMapModel$Worker", "top", "I", false)
  | _ => ("LandMapModel$Worker", "told", "LLandMapModel$Algebra;", false)
def tyX32 : Nat → FieldType := fun k => match k with
  | 0 => .object "java/util/ArrayList"
  | 1 => .int
  | _ => .object "LandMapModel$Algebra"
abbrev wsX320 : List Cond := u_ws RX32 TX32 3
theorem nmX32 : ∀ a, a < 3 → ∀ b, b < 3 → a ≠ b → (TX32 a).2.1 ≠ (TX32 b).2.1 := by decide +kernel
theorem tyX32_ok : ∀ k, k < 3 → parseFieldDescriptor (TX32 k).2.2.1 = some (tyX32 k) := by decide +kernel
theorem in_X32 : ∀ w ∈ wsX320, w ∈ lw_all := lw_in wsX320 [3082, 3084, 3086] (by decide +kernel) (by decide +kernel)
/-! LandMapModel$Spread -/
def RX33 : String := "LandMapModel$Spread"
def TX33 : u_T := fun k => match k with
  | _ => ("LandMapModel$Spread", "isDone", "[Z", true)
def tyX33 : Nat → FieldType := fun k => match k with
  | _ => .array .boolean
abbrev wsX330 : List Cond := u_ws RX33 TX33 1
theorem nmX33 : ∀ a, a < 1 → ∀ b, b < 1 → a ≠ b → (TX33 a).2.1 ≠ (TX33 b).2.1 := by decide +kernel
theorem tyX33_ok : ∀ k, k < 1 → parseFieldDescriptor (TX33 k).2.2.1 = some (tyX33 k) := by decide +kernel
theorem in_X33 : ∀ w ∈ wsX330, w ∈ lw_all := lw_in wsX330 [3096] (by decide +kernel) (by decide +kernel)
/-! LandMapModel$State -/
def RX34 : String := "LandMapModel$State"
def TX34 : u_T := fun k => match k with
  | 0 => ("LandMapModel$State", "features", "[[LLandMapModel$Feature;", true)
  | _ => ("LandMapModel$State", "counts", "[I", true)
def tyX34 : Nat → FieldType := fun k => match k with
  | 0 => .array (.array (.object "LandMapModel$Feature"))
  | _ => .array .int
abbrev wsX340 : List Cond := u_ws RX34 TX34 2
theorem nmX34 : ∀ a, a < 2 → ∀ b, b < 2 → a ≠ b → (TX34 a).2.1 ≠ (TX34 b).2.1 := by decide +kernel
theorem tyX34_ok : ∀ k, k < 2 → parseFieldDescriptor (TX34 k).2.2.1 = some (tyX34 k) := by decide +kernel
theorem in_X34 : ∀ w ∈ wsX340, w ∈ lw_all := lw_in wsX340 [3111, 3113] (by decide +kernel) (by decide +kernel)
/-! LandMap$Feature -/
def RX35 : String := "LandMap$Feature"
def TX35 : u_T := fun k => match k with
  | 0 => ("LandMap$Feature", "kind", "I", true)
  | 1 => ("LandMap$Feature", "value", "I", true)
  | 2 => ("LandMap$Feature", "starts", "[I", true)
  | 3 => ("LandMap$Feature", "xs", "[I", true)
  | _ => ("LandMap$Feature", "ys", "[I", true)
def tyX35 : Nat → FieldType := fun k => match k with
  | 0 => .int
  | 1 => .int
  | 2 => .array .int
  | 3 => .array .int
  | _ => .array .int
abbrev wsX350 : List Cond := u_ws RX35 TX35 5
theorem nmX35 : ∀ a, a < 5 → ∀ b, b < 5 → a ≠ b → (TX35 a).2.1 ≠ (TX35 b).2.1 := by decide +kernel
theorem tyX35_ok : ∀ k, k < 5 → parseFieldDescriptor (TX35 k).2.2.1 = some (tyX35 k) := by decide +kernel
theorem in_X35 : ∀ w ∈ wsX350, w ∈ lw_all := lw_in wsX350 [1231, 1233, 1235, 1237, 1239] (by decide +kernel) (by decide +kernel)
/-! jdk/internal/util/ArraysSupport -/
def RJ7 : String := "jdk/internal/util/ArraysSupport"
/-! java/lang/Math -/
def RJ8 : String := "java/lang/Math"
/-! java/util/Arrays -/
def RJ9 : String := "java/util/Arrays"
/-! java/util/Objects -/
def RJ10 : String := "java/util/Objects"
/-! jdk/internal/util/Preconditions -/
def RJ11 : String := "jdk/internal/util/Preconditions"
/-! LandMap$Exact -/
def RX36 : String := "LandMap$Exact"
/-! LandMapModel$Text -/
def RX37 : String := "LandMapModel$Text"
/-! LandMapModel$FeatureText -/
def RX38 : String := "LandMapModel$FeatureText"
def TX38 : u_T := fun k => match k with
  | 0 => ("LandMapModel$Text", "trouble", "LLandMapModel$Trouble;", true)
  | 1 => ("LandMapModel$Text", "bytes", "[B", true)
  | 2 => ("LandMapModel$Text", "size", "I", true)
  | 3 => ("LandMapModel$Text", "at", "I", false)
  | 4 => ("LandMapModel$FeatureText", "features", "Ljava/util/ArrayList;", true)
  | 5 => ("LandMapModel$FeatureText", "places", "[I", true)
  | _ => ("LandMapModel$FeatureText", "count", "I", false)
def tyX38 : Nat → FieldType := fun k => match k with
  | 0 => .object "LandMapModel$Trouble"
  | 1 => .array .byte
  | 2 => .int
  | 3 => .int
  | 4 => .object "java/util/ArrayList"
  | 5 => .array .int
  | _ => .int
abbrev wsX380 : List Cond := u_ws RX38 TX38 7
theorem nmX38 : ∀ a, a < 7 → ∀ b, b < 7 → a ≠ b → (TX38 a).2.1 ≠ (TX38 b).2.1 := by decide +kernel
theorem tyX38_ok : ∀ k, k < 7 → parseFieldDescriptor (TX38 k).2.2.1 = some (tyX38 k) := by decide +kernel
theorem in_X38 : ∀ w ∈ wsX380, w ∈ lw_all := lw_in wsX380 [3270, 3272, 3274, 3276, 3264, 3266, 3268] (by decide +kernel) (by decide +kernel)
/-! java/lang/Number -/
def RJ12 : String := "java/lang/Number"
/-! java/lang/Integer -/
def RJ13 : String := "java/lang/Integer"
def TJ13 : u_T := fun k => match k with
  | _ => ("java/lang/Integer", "value", "I", true)
def tyJ13 : Nat → FieldType := fun k => match k with
  | _ => .int
abbrev wsJ130 : List Cond := u_ws RJ13 TJ13 1
theorem nmJ13 : ∀ a, a < 1 → ∀ b, b < 1 → a ≠ b → (TJ13 a).2.1 ≠ (TJ13 b).2.1 := by decide +kernel
theorem tyJ13_ok : ∀ k, k < 1 → parseFieldDescriptor (TJ13 k).2.2.1 = some (tyJ13 k) := by decide +kernel
theorem in_J13 : ∀ w ∈ wsJ130, w ∈ lw_all := lw_in wsJ130 [3383] (by decide +kernel) (by decide +kernel)
/-! LandMapModel$Feature -/
def RX39 : String := "LandMapModel$Feature"
def TX39 : u_T := fun k => match k with
  | 0 => ("LandMapModel$Feature", "kind", "I", true)
  | 1 => ("LandMapModel$Feature", "value", "I", true)
  | _ => ("LandMapModel$Feature", "rows", "[[I", true)
def tyX39 : Nat → FieldType := fun k => match k with
  | 0 => .int
  | 1 => .int
  | _ => .array (.array .int)
abbrev wsX390 : List Cond := u_ws RX39 TX39 3
theorem nmX39 : ∀ a, a < 3 → ∀ b, b < 3 → a ≠ b → (TX39 a).2.1 ≠ (TX39 b).2.1 := by decide +kernel
theorem tyX39_ok : ∀ k, k < 3 → parseFieldDescriptor (TX39 k).2.2.1 = some (tyX39 k) := by decide +kernel
theorem in_X39 : ∀ w ∈ wsX390, w ∈ lw_all := lw_in wsX390 [3417, 3419, 3421] (by decide +kernel) (by decide +kernel)
/-! LandMap$Raster -/
def RX40 : String := "LandMap$Raster"
def TX40 : u_T := fun k => match k with
  | 0 => ("LandMap$Raster", "w", "I", true)
  | 1 => ("LandMap$Raster", "h", "I", true)
  | _ => ("LandMap$Raster", "cells", "[J", true)
def tyX40 : Nat → FieldType := fun k => match k with
  | 0 => .int
  | 1 => .int
  | _ => .array .long
abbrev wsX400 : List Cond := u_ws RX40 TX40 3
theorem nmX40 : ∀ a, a < 3 → ∀ b, b < 3 → a ≠ b → (TX40 a).2.1 ≠ (TX40 b).2.1 := by decide +kernel
theorem tyX40_ok : ∀ k, k < 3 → parseFieldDescriptor (TX40 k).2.2.1 = some (tyX40 k) := by decide +kernel
theorem in_X40 : ∀ w ∈ wsX400, w ∈ lw_all := lw_in wsX400 [2175, 2177, 2179] (by decide +kernel) (by decide +kernel)
/-! LandMapModel$Raster -/
def RX41 : String := "LandMapModel$Raster"
def TX41 : u_T := fun k => match k with
  | 0 => ("LandMapModel$Raster", "w", "I", true)
  | 1 => ("LandMapModel$Raster", "h", "I", true)
  | 2 => ("LandMapModel$Raster", "cells", "[I", true)
  | _ => ("LandMapModel$Raster", "isBlank", "[Z", true)
def tyX41 : Nat → FieldType := fun k => match k with
  | 0 => .int
  | 1 => .int
  | 2 => .array .int
  | _ => .array .boolean
abbrev wsX410 : List Cond := u_ws RX41 TX41 4
theorem nmX41 : ∀ a, a < 4 → ∀ b, b < 4 → a ≠ b → (TX41 a).2.1 ≠ (TX41 b).2.1 := by decide +kernel
theorem tyX41_ok : ∀ k, k < 4 → parseFieldDescriptor (TX41 k).2.2.1 = some (tyX41 k) := by decide +kernel
theorem in_X41 : ∀ w ∈ wsX410, w ∈ lw_all := lw_in wsX410 [4184, 4186, 4188, 4190] (by decide +kernel) (by decide +kernel)
/-! java/lang/AbstractStringBuilder -/
def RJ14 : String := "java/lang/AbstractStringBuilder"
/-! java/lang/StringBuilder -/
def RJ15 : String := "java/lang/StringBuilder"
def TJ15 : u_T := fun k => match k with
  | 0 => ("java/lang/AbstractStringBuilder", "value", "[B", false)
  | 1 => ("java/lang/AbstractStringBuilder", "coder", "B", false)
  | 2 => ("java/lang/AbstractStringBuilder", "maybeLatin1", "Z", false)
  | _ => ("java/lang/AbstractStringBuilder", "count", "I", false)
def tyJ15 : Nat → FieldType := fun k => match k with
  | 0 => .array .byte
  | 1 => .byte
  | 2 => .boolean
  | _ => .int
abbrev wsJ150 : List Cond := u_ws RJ15 TJ15 4
theorem nmJ15 : ∀ a, a < 4 → ∀ b, b < 4 → a ≠ b → (TJ15 a).2.1 ≠ (TJ15 b).2.1 := by decide +kernel
theorem tyJ15_ok : ∀ k, k < 4 → parseFieldDescriptor (TJ15 k).2.2.1 = some (tyJ15 k) := by decide +kernel
theorem in_J15 : ∀ w ∈ wsJ150, w ∈ lw_all := lw_in wsJ150 [2279, 2281, 2283, 2285] (by decide +kernel) (by decide +kernel)
/-! java/lang/String -/
def RJ16 : String := "java/lang/String"
def TJ16 : u_T := fun k => match k with
  | 0 => ("java/lang/String", "value", "[B", true)
  | 1 => ("java/lang/String", "coder", "B", true)
  | 2 => ("java/lang/String", "hash", "I", false)
  | _ => ("java/lang/String", "hashIsZero", "Z", false)
def tyJ16 : Nat → FieldType := fun k => match k with
  | 0 => .array .byte
  | 1 => .byte
  | 2 => .int
  | _ => .boolean
abbrev wsJ160 : List Cond := u_ws RJ16 TJ16 4
theorem nmJ16 : ∀ a, a < 4 → ∀ b, b < 4 → a ≠ b → (TJ16 a).2.1 ≠ (TJ16 b).2.1 := by decide +kernel
theorem tyJ16_ok : ∀ k, k < 4 → parseFieldDescriptor (TJ16 k).2.2.1 = some (tyJ16 k) := by decide +kernel
theorem in_J16 : ∀ w ∈ wsJ160, w ∈ lw_all := lw_in wsJ160 [2420, 2422, 2424, 2426] (by decide +kernel) (by decide +kernel)
/-! java/lang/StringUTF16 -/
def RJ17 : String := "java/lang/StringUTF16"
/-! java/lang/StringLatin1 -/
def RJ18 : String := "java/lang/StringLatin1"
/-! LandMapModel$Algebra -/
def RX42 : String := "LandMapModel$Algebra"
def TX42 : u_T := fun k => match k with
  | 0 => ("LandMapModel$Text", "trouble", "LLandMapModel$Trouble;", true)
  | 1 => ("LandMapModel$Text", "bytes", "[B", true)
  | 2 => ("LandMapModel$Text", "size", "I", true)
  | 3 => ("LandMapModel$Text", "at", "I", false)
  | 4 => ("LandMapModel$Algebra", "rasters", "[LLandMapModel$Raster;", true)
  | 5 => ("LandMapModel$Algebra", "count", "I", true)
  | 6 => ("LandMapModel$Algebra", "todo", "LLandMapModel$Ints;", true)
  | _ => ("LandMapModel$Algebra", "first", "LLandMapModel$Raster;", false)
def tyX42 : Nat → FieldType := fun k => match k with
  | 0 => .object "LandMapModel$Trouble"
  | 1 => .array .byte
  | 2 => .int
  | 3 => .int
  | 4 => .array (.object "LandMapModel$Raster")
  | 5 => .int
  | 6 => .object "LandMapModel$Ints"
  | _ => .object "LandMapModel$Raster"
abbrev wsX420 : List Cond := u_ws RX42 TX42 8
theorem nmX42 : ∀ a, a < 8 → ∀ b, b < 8 → a ≠ b → (TX42 a).2.1 ≠ (TX42 b).2.1 := by decide +kernel
theorem tyX42_ok : ∀ k, k < 8 → parseFieldDescriptor (TX42 k).2.2.1 = some (tyX42 k) := by decide +kernel
theorem in_X42 : ∀ w ∈ wsX420, w ∈ lw_all := lw_in wsX420 [4238, 4239, 4240, 4241, 4230, 4232, 4234, 4236] (by decide +kernel) (by decide +kernel)
/-! java/lang/Object -/
def RJ19 : String := "java/lang/Object"
/-! java/lang/System$2 -/
def RJ20 : String := "java/lang/System$2"
/-! the classes by their numbers; the kinds of their fields; the kinds of arrays -/
def xcl : Nat → Option vw_C := fun c => match c with
  | 0 => some (RX0, TX0, 31)
  | 1 => some (RX1, TX1, 3)
  | 2 => some (RX2, TX2, 4)
  | 3 => some (RX3, TX3, 2)
  | 4 => some (RX4, TX4, 5)
  | 5 => some (RX5, TX5, 3)
  | 6 => some (RX6, TX6, 9)
  | 7 => some (RX7, TX7, 1)
  | 8 => some (RX8, TX8, 3)
  | 9 => some (RX9, TX9, 20)
  | 10 => some (RX10, TX10, 11)
  | 11 => some (RX11, TX11, 5)
  | 12 => some (RX12, TX12, 2)
  | 13 => some (RX13, TX13, 23)
  | 14 => some (RX14, TX14, 3)
  | 15 => some (RX15, TX15, 6)
  | 16 => some (RX16, TX16, 22)
  | 17 => some (RX17, TX17, 2)
  | 18 => some (RX18, TX18, 2)
  | 19 => some (RX19, TX19, 9)
  | 20 => some (RX20, TX20, 2)
  | 21 => some (RX21, TX21, 31)
  | 22 => some (RX22, TX22, 1)
  | 23 => some (RX23, TX23, 8)
  | 24 => some (RX24, TX24, 22)
  | 25 => some (RX25, TX25, 2)
  | 26 => some (RX26, TX26, 5)
  | 27 => some (RX27, TX27, 2)
  | 28 => some (RX28, TX28, 21)
  | 29 => some (RX29, TX29, 11)
  | 30 => some (RX30, TX30, 7)
  | 31 => some (RX31, TX31, 11)
  | 32 => some (RX32, TX32, 3)
  | 33 => some (RX33, TX33, 1)
  | 34 => some (RX34, TX34, 2)
  | 35 => some (RX35, TX35, 5)
  | 38 => some (RX38, TX38, 7)
  | 39 => some (RX39, TX39, 3)
  | 40 => some (RX40, TX40, 3)
  | 41 => some (RX41, TX41, 4)
  | 42 => some (RX42, TX42, 8)
  | 43 => some (RJ6, TJ6, 3)
  | 44 => some (RJ3, TJ3, 6)
  | 45 => some (RJ15, TJ15, 4)
  | 46 => some (RJ16, TJ16, 4)
  | 47 => some (RJ13, TJ13, 1)
  | 2046 => some (RJ16, TJ16, 4)
  | 2047 => some (RJ13, TJ13, 1)
  | _ => none
def xty : Nat → Nat → FieldType := fun c => match c with
  | 0 => tyX0
  | 1 => tyX1
  | 2 => tyX2
  | 3 => tyX3
  | 4 => tyX4
  | 5 => tyX5
  | 6 => tyX6
  | 7 => tyX7
  | 8 => tyX8
  | 9 => tyX9
  | 10 => tyX10
  | 11 => tyX11
  | 12 => tyX12
  | 13 => tyX13
  | 14 => tyX14
  | 15 => tyX15
  | 16 => tyX16
  | 17 => tyX17
  | 18 => tyX18
  | 19 => tyX19
  | 20 => tyX20
  | 21 => tyX21
  | 22 => tyX22
  | 23 => tyX23
  | 24 => tyX24
  | 25 => tyX25
  | 26 => tyX26
  | 27 => tyX27
  | 28 => tyX28
  | 29 => tyX29
  | 30 => tyX30
  | 31 => tyX31
  | 32 => tyX32
  | 33 => tyX33
  | 34 => tyX34
  | 35 => tyX35
  | 38 => tyX38
  | 39 => tyX39
  | 40 => tyX40
  | 41 => tyX41
  | 42 => tyX42
  | 43 => tyJ6
  | 44 => tyJ3
  | 45 => tyJ15
  | 46 => tyJ16
  | 47 => tyJ13
  | 2046 => tyJ16
  | 2047 => tyJ13
  | _ => fun _ => .int
def xar : Nat → Option FieldType := fun k => match k with
  | 0 => some (.int)
  | 1 => some (.long)
  | 2 => some (.boolean)
  | 3 => some (.byte)
  | 4 => some (.array .int)
  | 5 => some (.object "LandMap$Feature")
  | 6 => some (.object "LandMap$Layer")
  | 7 => some (.object "LandMapModel$Feature")
  | 8 => some (.array (.object "LandMapModel$Feature"))
  | 9 => some (.object "LandMapModel$Raster")
  | 10 => some (.object "java/lang/Object")
  | 1000 => some (.int)
  | 1003 => some (.byte)
  | 1010 => some (.object "java/lang/Object")
  | _ => none
theorem xcl_ok : ∀ (c : Nat) (q : vw_C), xcl c = some q → (∀ w ∈ u_ws q.1 q.2.1 q.2.2, w ∈ lw_all) ∧ (∀ a, a < q.2.2 → ∀ b, b < q.2.2 → a ≠ b → (q.2.1 a).2.1 ≠ (q.2.1 b).2.1) ∧ (∀ k, k < q.2.2 → parseFieldDescriptor (q.2.1 k).2.2.1 = some (xty c k)) := by
  intro c q h
  unfold xcl at h
  split at h
  · cases h; exact ⟨in_X0, nmX0, tyX0_ok⟩
  · cases h; exact ⟨in_X1, nmX1, tyX1_ok⟩
  · cases h; exact ⟨in_X2, nmX2, tyX2_ok⟩
  · cases h; exact ⟨in_X3, nmX3, tyX3_ok⟩
  · cases h; exact ⟨in_X4, nmX4, tyX4_ok⟩
  · cases h; exact ⟨in_X5, nmX5, tyX5_ok⟩
  · cases h; exact ⟨in_X6, nmX6, tyX6_ok⟩
  · cases h; exact ⟨in_X7, nmX7, tyX7_ok⟩
  · cases h; exact ⟨in_X8, nmX8, tyX8_ok⟩
  · cases h; exact ⟨in_X9, nmX9, tyX9_ok⟩
  · cases h; exact ⟨in_X10, nmX10, tyX10_ok⟩
  · cases h; exact ⟨in_X11, nmX11, tyX11_ok⟩
  · cases h; exact ⟨in_X12, nmX12, tyX12_ok⟩
  · cases h; exact ⟨in_X13, nmX13, tyX13_ok⟩
  · cases h; exact ⟨in_X14, nmX14, tyX14_ok⟩
  · cases h; exact ⟨in_X15, nmX15, tyX15_ok⟩
  · cases h; exact ⟨in_X16, nmX16, tyX16_ok⟩
  · cases h; exact ⟨in_X17, nmX17, tyX17_ok⟩
  · cases h; exact ⟨in_X18, nmX18, tyX18_ok⟩
  · cases h; exact ⟨in_X19, nmX19, tyX19_ok⟩
  · cases h; exact ⟨in_X20, nmX20, tyX20_ok⟩
  · cases h; exact ⟨in_X21, nmX21, tyX21_ok⟩
  · cases h; exact ⟨in_X22, nmX22, tyX22_ok⟩
  · cases h; exact ⟨in_X23, nmX23, tyX23_ok⟩
  · cases h; exact ⟨in_X24, nmX24, tyX24_ok⟩
  · cases h; exact ⟨in_X25, nmX25, tyX25_ok⟩
  · cases h; exact ⟨in_X26, nmX26, tyX26_ok⟩
  · cases h; exact ⟨in_X27, nmX27, tyX27_ok⟩
  · cases h; exact ⟨in_X28, nmX28, tyX28_ok⟩
  · cases h; exact ⟨in_X29, nmX29, tyX29_ok⟩
  · cases h; exact ⟨in_X30, nmX30, tyX30_ok⟩
  · cases h; exact ⟨in_X31, nmX31, tyX31_ok⟩
  · cases h; exact ⟨in_X32, nmX32, tyX32_ok⟩
  · cases h; exact ⟨in_X33, nmX33, tyX33_ok⟩
  · cases h; exact ⟨in_X34, nmX34, tyX34_ok⟩
  · cases h; exact ⟨in_X35, nmX35, tyX35_ok⟩
  · cases h; exact ⟨in_X38, nmX38, tyX38_ok⟩
  · cases h; exact ⟨in_X39, nmX39, tyX39_ok⟩
  · cases h; exact ⟨in_X40, nmX40, tyX40_ok⟩
  · cases h; exact ⟨in_X41, nmX41, tyX41_ok⟩
  · cases h; exact ⟨in_X42, nmX42, tyX42_ok⟩
  · cases h; exact ⟨in_J6, nmJ6, tyJ6_ok⟩
  · cases h; exact ⟨in_J3, nmJ3, tyJ3_ok⟩
  · cases h; exact ⟨in_J15, nmJ15, tyJ15_ok⟩
  · cases h; exact ⟨in_J16, nmJ16, tyJ16_ok⟩
  · cases h; exact ⟨in_J13, nmJ13, tyJ13_ok⟩
  · cases h; exact ⟨in_J16, nmJ16, tyJ16_ok⟩
  · cases h; exact ⟨in_J13, nmJ13, tyJ13_ok⟩
  · cases h
