/-! the classes' field tables (out of claim/names), the list of classes, the array types -/
set_option maxRecDepth 100000
def RX0 : String := "QuotientRows"
def TX0 : u_T := fun k => match k with
  | 0 => ("QuotientRows", "tape", "[B", true)
  | 1 => ("QuotientRows", "taped", "I", false)
  | 2 => ("QuotientRows", "refusals", "[I", true)
  | 3 => ("QuotientRows", "now", "LQuotientRows$State;", false)
  | 4 => ("QuotientRows", "faultKind", "I", false)
  | 5 => ("QuotientRows", "faultPlace", "I", false)
  | 6 => ("QuotientRows", "acts", "Ljava/util/List;", true)
  | 7 => ("QuotientRows", "gone", "I", false)
  | 8 => ("QuotientRows", "corners", "I", false)
  | 9 => ("QuotientRows", "found", "I", false)
  | 10 => ("QuotientRows", "part", "[I", true)
  | 11 => ("QuotientRows", "parts", "I", false)
  | 12 => ("QuotientRows", "in", "[Z", false)
  | 13 => ("QuotientRows", "degree", "I", false)
  | 14 => ("QuotientRows", "laid", "[I", false)
  | 15 => ("QuotientRows", "one", "[I", true)
  | 16 => ("QuotientRows", "letters", "[I", true)
  | 17 => ("QuotientRows", "came", "[I", true)
  | 18 => ("QuotientRows", "changed", "I", false)
  | _ => ("QuotientRows", "kept", "[LQuotientRows$State;", true)
def tyX0 : Nat → FieldType := fun k => match k with
  | 0 => .array .byte
  | 1 => .int
  | 2 => .array .int
  | 3 => .object "QuotientRows$State"
  | 4 => .int
  | 5 => .int
  | 6 => .object "java/util/List"
  | 7 => .int
  | 8 => .int
  | 9 => .int
  | 10 => .array .int
  | 11 => .int
  | 12 => .array .boolean
  | 13 => .int
  | 14 => .array .int
  | 15 => .array .int
  | 16 => .array .int
  | 17 => .array .int
  | 18 => .int
  | _ => .array (.object "QuotientRows$State")
abbrev wsX00 : List Cond := u_ws RX0 TX0 20
theorem nmX0 : ∀ a, a < 20 → ∀ b, b < 20 → a ≠ b → (TX0 a).2.1 ≠ (TX0 b).2.1 := by decide +kernel
theorem tyX0_ok : ∀ k, k < 20 → parseFieldDescriptor (TX0 k).2.2.1 = some (tyX0 k) := by decide +kernel
theorem in_X0 : ∀ w ∈ wsX00, w ∈ lw_all := lw_in wsX00 [251, 253, 255, 257, 259, 261, 263, 265, 267, 269, 271, 273, 275, 277, 279, 281, 283, 285, 287, 289] (by decide +kernel) (by decide +kernel)
def RX1 : String := "QuotientRows$State"
def TX1 : u_T := fun k => match k with
  | 0 => ("QuotientRows$State", "vars", "I", true)
  | 1 => ("QuotientRows$State", "generators", "Ljava/util/List;", true)
  | 2 => ("QuotientRows$State", "row", "[I", true)
  | 3 => ("QuotientRows$State", "sizes", "[I", false)
  | 4 => ("QuotientRows$State", "numerator", "[J", false)
  | _ => ("QuotientRows$State", "powers", "[I", true)
def tyX1 : Nat → FieldType := fun k => match k with
  | 0 => .int
  | 1 => .object "java/util/List"
  | 2 => .array .int
  | 3 => .array .int
  | 4 => .array .long
  | _ => .array .int
abbrev wsX10 : List Cond := u_ws RX1 TX1 6
theorem nmX1 : ∀ a, a < 6 → ∀ b, b < 6 → a ≠ b → (TX1 a).2.1 ≠ (TX1 b).2.1 := by decide +kernel
theorem tyX1_ok : ∀ k, k < 6 → parseFieldDescriptor (TX1 k).2.2.1 = some (tyX1 k) := by decide +kernel
theorem in_X1 : ∀ w ∈ wsX10, w ∈ lw_all := lw_in wsX10 [214, 216, 218, 220, 222, 224] (by decide +kernel) (by decide +kernel)
def RX2 : String := "QuotientRowsModel"
def TX2 : u_T := fun k => match k with
  | 0 => ("QuotientRowsModel", "tape", "[I", true)
  | 1 => ("QuotientRowsModel", "taped", "I", false)
  | 2 => ("QuotientRowsModel", "refused", "[I", true)
  | 3 => ("QuotientRowsModel", "faultKind", "I", false)
  | 4 => ("QuotientRowsModel", "faultPlace", "I", false)
  | 5 => ("QuotientRowsModel", "state", "[I", true)
  | 6 => ("QuotientRowsModel", "isKept", "[Z", true)
  | 7 => ("QuotientRowsModel", "undos", "I", false)
  | 8 => ("QuotientRowsModel", "size", "I", false)
  | 9 => ("QuotientRowsModel", "at", "I", false)
  | 10 => ("QuotientRowsModel", "begun", "I", false)
  | 11 => ("QuotientRowsModel", "wrong", "I", false)
  | 12 => ("QuotientRowsModel", "wrongAt", "I", false)
  | 13 => ("QuotientRowsModel", "told", "I", false)
  | 14 => ("QuotientRowsModel", "monos", "[I", true)
  | 15 => ("QuotientRowsModel", "made", "[I", true)
  | 16 => ("QuotientRowsModel", "madeMany", "I", false)
  | 17 => ("QuotientRowsModel", "p", "[I", true)
  | 18 => ("QuotientRowsModel", "sizes", "[I", true)
  | 19 => ("QuotientRowsModel", "apart", "[J", true)
  | 20 => ("QuotientRowsModel", "q", "[I", true)
  | 21 => ("QuotientRowsModel", "left", "[J", true)
  | 22 => ("QuotientRowsModel", "terms", "[J", true)
  | 23 => ("QuotientRowsModel", "expanded", "[J", true)
  | 24 => ("QuotientRowsModel", "hasSet", "Z", false)
  | 25 => ("QuotientRowsModel", "setDegree", "I", false)
  | 26 => ("QuotientRowsModel", "held", "[Z", true)
  | 27 => ("QuotientRowsModel", "was", "[Z", true)
  | 28 => ("QuotientRowsModel", "read", "[Z", true)
  | 29 => ("QuotientRowsModel", "logLetter", "[I", true)
  | 30 => ("QuotientRowsModel", "logCame", "[I", true)
  | 31 => ("QuotientRowsModel", "logged", "I", false)
  | _ => ("QuotientRowsModel", "pressings", "I", false)
def tyX2 : Nat → FieldType := fun k => match k with
  | 0 => .array .int
  | 1 => .int
  | 2 => .array .int
  | 3 => .int
  | 4 => .int
  | 5 => .array .int
  | 6 => .array .boolean
  | 7 => .int
  | 8 => .int
  | 9 => .int
  | 10 => .int
  | 11 => .int
  | 12 => .int
  | 13 => .int
  | 14 => .array .int
  | 15 => .array .int
  | 16 => .int
  | 17 => .array .int
  | 18 => .array .int
  | 19 => .array .long
  | 20 => .array .int
  | 21 => .array .long
  | 22 => .array .long
  | 23 => .array .long
  | 24 => .boolean
  | 25 => .int
  | 26 => .array .boolean
  | 27 => .array .boolean
  | 28 => .array .boolean
  | 29 => .array .int
  | 30 => .array .int
  | 31 => .int
  | _ => .int
abbrev wsX20 : List Cond := u_ws RX2 TX2 33
theorem nmX2 : ∀ a, a < 33 → ∀ b, b < 33 → a ≠ b → (TX2 a).2.1 ≠ (TX2 b).2.1 := by decide +kernel
theorem tyX2_ok : ∀ k, k < 33 → parseFieldDescriptor (TX2 k).2.2.1 = some (tyX2 k) := by decide +kernel
theorem in_X2 : ∀ w ∈ wsX20, w ∈ lw_all := lw_in wsX20 [1476, 1478, 1480, 1482, 1484, 1486, 1488, 1490, 1492, 1494, 1496, 1498, 1500, 1502, 1504, 1506, 1508, 1510, 1512, 1514, 1516, 1518, 1520, 1522, 1524, 1526, 1528, 1530, 1532, 1534, 1536, 1538, 1540] (by decide +kernel) (by decide +kernel)
def RX3 : String := "QuotientRows$Scan"
def TX3 : u_T := fun k => match k with
  | 0 => ("QuotientRows$Scan", "size", "I", true)
  | 1 => ("QuotientRows$Scan", "at", "I", false)
  | 2 => ("QuotientRows$Scan", "ended", "I", false)
  | 3 => ("QuotientRows$Scan", "vars", "I", false)
  | 4 => ("QuotientRows$Scan", "monos", "Ljava/util/List;", true)
  | 5 => ("QuotientRows$Scan", "row", "[I", true)
  | 6 => ("QuotientRows$Scan", "rowMany", "I", false)
  | _ => ("QuotientRows$Scan", "this$0", "LQuotientRows;", true)
def tyX3 : Nat → FieldType := fun k => match k with
  | 0 => .int
  | 1 => .int
  | 2 => .int
  | 3 => .int
  | 4 => .object "java/util/List"
  | 5 => .array .int
  | 6 => .int
  | _ => .object "QuotientRows"
abbrev wsX30 : List Cond := u_ws RX3 TX3 8
theorem nmX3 : ∀ a, a < 8 → ∀ b, b < 8 → a ≠ b → (TX3 a).2.1 ≠ (TX3 b).2.1 := by decide +kernel
theorem tyX3_ok : ∀ k, k < 8 → parseFieldDescriptor (TX3 k).2.2.1 = some (tyX3 k) := by decide +kernel
theorem in_X3 : ∀ w ∈ wsX30, w ∈ lw_all := lw_in wsX30 [345, 347, 349, 351, 353, 355, 357, 359] (by decide +kernel) (by decide +kernel)
def RX4 : String := "QuotientRows$Fault"
def TX4 : u_T := fun k => match k with
  | 0 => ("java/lang/Throwable", "cause", "Ljava/lang/Throwable;", false)
  | 1 => ("java/lang/Throwable", "stackTrace", "[Ljava/lang/StackTraceElement;", false)
  | 2 => ("java/lang/Throwable", "suppressedExceptions", "Ljava/util/List;", false)
  | 3 => ("java/lang/Throwable", "detailMessage", "Ljava/lang/String;", false)
  | 4 => ("java/lang/Throwable", "backtrace", "Ljava/lang/Object;", false)
  | 5 => ("java/lang/Throwable", "depth", "I", false)
  | 6 => ("QuotientRows$Fault", "kind", "I", true)
  | _ => ("QuotientRows$Fault", "place", "I", true)
def tyX4 : Nat → FieldType := fun k => match k with
  | 0 => .object "java/lang/Throwable"
  | 1 => .array (.object "java/lang/StackTraceElement")
  | 2 => .object "java/util/List"
  | 3 => .object "java/lang/String"
  | 4 => .object "java/lang/Object"
  | 5 => .int
  | 6 => .int
  | _ => .int
abbrev wsX40 : List Cond := u_ws RX4 TX4 8
theorem nmX4 : ∀ a, a < 8 → ∀ b, b < 8 → a ≠ b → (TX4 a).2.1 ≠ (TX4 b).2.1 := by decide +kernel
theorem tyX4_ok : ∀ k, k < 8 → parseFieldDescriptor (TX4 k).2.2.1 = some (tyX4 k) := by decide +kernel
theorem in_X4 : ∀ w ∈ wsX40, w ∈ lw_all := lw_in wsX40 [617, 619, 621, 623, 625, 672, 664, 666] (by decide +kernel) (by decide +kernel)
def RX5 : String := "QuotientRows$Mono"
def TX5 : u_T := fun k => match k with
  | 0 => ("QuotientRows$Mono", "power", "[I", true)
  | _ => ("QuotientRows$Mono", "degree", "I", false)
def tyX5 : Nat → FieldType := fun k => match k with
  | 0 => .array .int
  | _ => .int
abbrev wsX50 : List Cond := u_ws RX5 TX5 2
theorem nmX5 : ∀ a, a < 2 → ∀ b, b < 2 → a ≠ b → (TX5 a).2.1 ≠ (TX5 b).2.1 := by decide +kernel
theorem tyX5_ok : ∀ k, k < 2 → parseFieldDescriptor (TX5 k).2.2.1 = some (tyX5 k) := by decide +kernel
theorem in_X5 : ∀ w ∈ wsX50, w ∈ lw_all := lw_in wsX50 [712, 714] (by decide +kernel) (by decide +kernel)
def RX6 : String := "QuotientRows$Expansion"
def TX6 : u_T := fun k => match k with
  | 0 => ("QuotientRows$Expansion", "tops", "[J", true)
  | 1 => ("QuotientRows$Expansion", "degree", "I", true)
  | _ => ("QuotientRows$Expansion", "least", "I", false)
def tyX6 : Nat → FieldType := fun k => match k with
  | 0 => .array .long
  | 1 => .int
  | _ => .int
abbrev wsX60 : List Cond := u_ws RX6 TX6 3
theorem nmX6 : ∀ a, a < 3 → ∀ b, b < 3 → a ≠ b → (TX6 a).2.1 ≠ (TX6 b).2.1 := by decide +kernel
theorem tyX6_ok : ∀ k, k < 3 → parseFieldDescriptor (TX6 k).2.2.1 = some (tyX6 k) := by decide +kernel
theorem in_X6 : ∀ w ∈ wsX60, w ∈ lw_all := lw_in wsX60 [1088, 1090, 1092] (by decide +kernel) (by decide +kernel)
def RJ2 : String := "java/util/ArrayList"
def TJ2 : u_T := fun k => match k with
  | 0 => ("java/util/AbstractList", "modCount", "I", false)
  | 1 => ("java/util/ArrayList", "elementData", "[Ljava/lang/Object;", false)
  | _ => ("java/util/ArrayList", "size", "I", false)
def tyJ2 : Nat → FieldType := fun k => match k with
  | 0 => .int
  | 1 => .array (.object "java/lang/Object")
  | _ => .int
abbrev wsJ20 : List Cond := u_ws RJ2 TJ2 3
theorem nmJ2 : ∀ a, a < 3 → ∀ b, b < 3 → a ≠ b → (TJ2 a).2.1 ≠ (TJ2 b).2.1 := by decide +kernel
theorem tyJ2_ok : ∀ k, k < 3 → parseFieldDescriptor (TJ2 k).2.2.1 = some (tyJ2 k) := by decide +kernel
theorem in_J2 : ∀ w ∈ wsJ20, w ∈ lw_all := lw_in wsJ20 [200, 196, 198] (by decide +kernel) (by decide +kernel)
def RJ14 : String := "java/util/ArrayList$Itr"
def TJ14 : u_T := fun k => match k with
  | 0 => ("java/util/ArrayList$Itr", "cursor", "I", false)
  | 1 => ("java/util/ArrayList$Itr", "lastRet", "I", false)
  | 2 => ("java/util/ArrayList$Itr", "expectedModCount", "I", false)
  | _ => ("java/util/ArrayList$Itr", "this$0", "Ljava/util/ArrayList;", true)
def tyJ14 : Nat → FieldType := fun k => match k with
  | 0 => .int
  | 1 => .int
  | 2 => .int
  | _ => .object "java/util/ArrayList"
abbrev wsJ140 : List Cond := u_ws RJ14 TJ14 4
theorem nmJ14 : ∀ a, a < 4 → ∀ b, b < 4 → a ≠ b → (TJ14 a).2.1 ≠ (TJ14 b).2.1 := by decide +kernel
theorem tyJ14_ok : ∀ k, k < 4 → parseFieldDescriptor (TJ14 k).2.2.1 = some (tyJ14 k) := by decide +kernel
theorem in_J14 : ∀ w ∈ wsJ140, w ∈ lw_all := lw_in wsJ140 [797, 799, 801, 803] (by decide +kernel) (by decide +kernel)
def RJ4 : String := "java/lang/StringBuilder"
def TJ4 : u_T := fun k => match k with
  | 0 => ("java/lang/AbstractStringBuilder", "value", "[B", false)
  | 1 => ("java/lang/AbstractStringBuilder", "coder", "B", false)
  | 2 => ("java/lang/AbstractStringBuilder", "maybeLatin1", "Z", false)
  | _ => ("java/lang/AbstractStringBuilder", "count", "I", false)
def tyJ4 : Nat → FieldType := fun k => match k with
  | 0 => .array .byte
  | 1 => .byte
  | 2 => .boolean
  | _ => .int
abbrev wsJ40 : List Cond := u_ws RJ4 TJ4 4
theorem nmJ4 : ∀ a, a < 4 → ∀ b, b < 4 → a ≠ b → (TJ4 a).2.1 ≠ (TJ4 b).2.1 := by decide +kernel
theorem tyJ4_ok : ∀ k, k < 4 → parseFieldDescriptor (TJ4 k).2.2.1 = some (tyJ4 k) := by decide +kernel
theorem in_J4 : ∀ w ∈ wsJ40, w ∈ lw_all := lw_in wsJ40 [409, 411, 413, 415] (by decide +kernel) (by decide +kernel)
def RJ5 : String := "java/lang/String"
def TJ5 : u_T := fun k => match k with
  | 0 => ("java/lang/String", "value", "[B", true)
  | 1 => ("java/lang/String", "coder", "B", true)
  | 2 => ("java/lang/String", "hash", "I", false)
  | _ => ("java/lang/String", "hashIsZero", "Z", false)
def tyJ5 : Nat → FieldType := fun k => match k with
  | 0 => .array .byte
  | 1 => .byte
  | 2 => .int
  | _ => .boolean
abbrev wsJ50 : List Cond := u_ws RJ5 TJ5 2
theorem nmJ5 : ∀ a, a < 2 → ∀ b, b < 2 → a ≠ b → (TJ5 a).2.1 ≠ (TJ5 b).2.1 := by decide +kernel
theorem tyJ5_ok : ∀ k, k < 2 → parseFieldDescriptor (TJ5 k).2.2.1 = some (tyJ5 k) := by decide +kernel
theorem in_J5 : ∀ w ∈ wsJ50, w ∈ lw_all := lw_in wsJ50 [565, 567] (by decide +kernel) (by decide +kernel)
def RJ17 : String := "java/lang/ArithmeticException"
def TJ17 : u_T := fun k => match k with
  | 0 => ("java/lang/Throwable", "backtrace", "Ljava/lang/Object;", false)
  | 1 => ("java/lang/Throwable", "detailMessage", "Ljava/lang/String;", false)
  | 2 => ("java/lang/Throwable", "cause", "Ljava/lang/Throwable;", false)
  | 3 => ("java/lang/Throwable", "stackTrace", "[Ljava/lang/StackTraceElement;", false)
  | 4 => ("java/lang/Throwable", "depth", "I", false)
  | _ => ("java/lang/Throwable", "suppressedExceptions", "Ljava/util/List;", false)
def tyJ17 : Nat → FieldType := fun k => match k with
  | 0 => .object "java/lang/Object"
  | 1 => .object "java/lang/String"
  | 2 => .object "java/lang/Throwable"
  | 3 => .array (.object "java/lang/StackTraceElement")
  | 4 => .int
  | _ => .object "java/util/List"
abbrev wsJ170 : List Cond := u_ws RJ17 TJ17 6
theorem nmJ17 : ∀ a, a < 6 → ∀ b, b < 6 → a ≠ b → (TJ17 a).2.1 ≠ (TJ17 b).2.1 := by decide +kernel
theorem tyJ17_ok : ∀ k, k < 6 → parseFieldDescriptor (TJ17 k).2.2.1 = some (tyJ17 k) := by decide +kernel
theorem in_J17 : ∀ w ∈ wsJ170, w ∈ lw_all := lw_in wsJ170 [1054, 1055, 1056, 1057, 1058, 1059] (by decide +kernel) (by decide +kernel)
abbrev xcl : List vw_C := [(RX0, TX0, 20), (RX1, TX1, 6), (RX2, TX2, 33), (RX3, TX3, 8), (RX4, TX4, 8), (RX5, TX5, 2), (RX6, TX6, 3), (RJ2, TJ2, 3), (RJ14, TJ14, 4), (RJ4, TJ4, 4), (RJ5, TJ5, 2), (RJ17, TJ17, 6)]
abbrev xty : List FieldType := [.int, .long, .byte, .boolean, .object "java/lang/Object", .object "QuotientRows$State", .array .int]
