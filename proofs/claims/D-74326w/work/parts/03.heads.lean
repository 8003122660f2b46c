set_option maxRecDepth 100000
def RX1 : String := "ToldPowersModel"
def TX1 : u_T := fun k => match k with
  | 0 => ("ToldPowersModel", "many", "[I", true)
  | 1 => ("ToldPowersModel", "terms", "[I", true)
  | 2 => ("ToldPowersModel", "tape", "[I", true)
  | 3 => ("ToldPowersModel", "taped", "I", false)
  | 4 => ("ToldPowersModel", "fault", "I", false)
  | 5 => ("ToldPowersModel", "faultPlace", "I", false)
  | 6 => ("ToldPowersModel", "faultOuter", "I", false)
  | 7 => ("ToldPowersModel", "faultInner", "I", false)
  | 8 => ("ToldPowersModel", "bad", "I", false)
  | 9 => ("ToldPowersModel", "badPlace", "I", false)
  | 10 => ("ToldPowersModel", "badOuter", "I", false)
  | 11 => ("ToldPowersModel", "badInner", "I", false)
  | 12 => ("ToldPowersModel", "sort", "I", false)
  | 13 => ("ToldPowersModel", "from", "I", false)
  | 14 => ("ToldPowersModel", "to", "I", false)
  | 15 => ("ToldPowersModel", "word", "J", false)
  | 16 => ("ToldPowersModel", "number", "I", false)
  | 17 => ("ToldPowersModel", "sign", "I", false)
  | 18 => ("ToldPowersModel", "outer", "I", false)
  | 19 => ("ToldPowersModel", "inner", "I", false)
  | 20 => ("ToldPowersModel", "isLess", "Z", false)
  | 21 => ("ToldPowersModel", "laid", "I", false)
  | 22 => ("ToldPowersModel", "ways", "[J", true)
  | 23 => ("ToldPowersModel", "unlikeLaid", "I", false)
  | 24 => ("ToldPowersModel", "unlike", "[J", true)
  | 25 => ("ToldPowersModel", "round", "[I", true)
  | 26 => ("ToldPowersModel", "length", "[I", true)
  | 27 => ("ToldPowersModel", "begun", "[I", true)
  | 28 => ("ToldPowersModel", "oftens", "[J", true)
  | 29 => ("ToldPowersModel", "kinds", "I", false)
  | 30 => ("ToldPowersModel", "found", "[I", true)
  | 31 => ("ToldPowersModel", "proved", "[I", true)
  | 32 => ("ToldPowersModel", "lines", "I", false)
  | 33 => ("ToldPowersModel", "code", "[I", true)
  | 34 => ("ToldPowersModel", "codeSign", "[I", true)
  | 35 => ("ToldPowersModel", "sideTo", "[I", true)
  | 36 => ("ToldPowersModel", "codes", "I", false)
  | 37 => ("ToldPowersModel", "parts", "I", false)
  | 38 => ("ToldPowersModel", "partsRead", "I", false)
  | 39 => ("ToldPowersModel", "letters", "I", false)
  | 40 => ("ToldPowersModel", "lettersRead", "I", false)
  | 41 => ("ToldPowersModel", "hasIdentity", "Z", false)
  | 42 => ("ToldPowersModel", "lettered", "[I", true)
  | 43 => ("ToldPowersModel", "pile", "[J", true)
  | 44 => ("ToldPowersModel", "isBeyond", "Z", false)
  | 45 => ("ToldPowersModel", "first", "[I", true)
  | 46 => ("ToldPowersModel", "classes", "[J", true)
  | 47 => ("ToldPowersModel", "isSum", "[Z", true)
  | 48 => ("ToldPowersModel", "shown", "[I", true)
  | _ => ("ToldPowersModel", "showns", "I", false)
def tyX1 : Nat → FieldType := fun k => match k with
  | 0 => .array .int
  | 1 => .array .int
  | 2 => .array .int
  | 3 => .int
  | 4 => .int
  | 5 => .int
  | 6 => .int
  | 7 => .int
  | 8 => .int
  | 9 => .int
  | 10 => .int
  | 11 => .int
  | 12 => .int
  | 13 => .int
  | 14 => .int
  | 15 => .long
  | 16 => .int
  | 17 => .int
  | 18 => .int
  | 19 => .int
  | 20 => .boolean
  | 21 => .int
  | 22 => .array .long
  | 23 => .int
  | 24 => .array .long
  | 25 => .array .int
  | 26 => .array .int
  | 27 => .array .int
  | 28 => .array .long
  | 29 => .int
  | 30 => .array .int
  | 31 => .array .int
  | 32 => .int
  | 33 => .array .int
  | 34 => .array .int
  | 35 => .array .int
  | 36 => .int
  | 37 => .int
  | 38 => .int
  | 39 => .int
  | 40 => .int
  | 41 => .boolean
  | 42 => .array .int
  | 43 => .array .long
  | 44 => .boolean
  | 45 => .array .int
  | 46 => .array .long
  | 47 => .array .boolean
  | 48 => .array .int
  | _ => .int
abbrev wsX10 : List Cond := u_ws RX1 TX1 50
theorem nmX1 : ∀ a, a < 50 → ∀ b, b < 50 → a ≠ b → (TX1 a).2.1 ≠ (TX1 b).2.1 := by decide +kernel
theorem tyX1_ok : ∀ k, k < 50 → parseFieldDescriptor (TX1 k).2.2.1 = some (tyX1 k) := by decide +kernel
theorem in_X1 : ∀ w ∈ wsX10, w ∈ lw_all := lw_in wsX10 [2007, 2009, 2011, 2013, 2015, 2017, 2019, 2021, 2023, 2025, 2027, 2029, 2031, 2033, 2035, 2037, 2039, 2041, 2043, 2045, 2047, 2049, 2051, 2053, 2055, 2057, 2059, 2061, 2063, 2065, 2067, 2069, 2071, 2073, 2075, 2077, 2079, 2081, 2083, 2085, 2087, 2089, 2091, 2093, 2095, 2097, 2099, 2101, 2103, 2105] (by decide +kernel) (by decide +kernel)
def RX0 : String := "ToldPowers"
def TX0 : u_T := fun k => match k with
  | 0 => ("ToldPowers", "kinds", "[LToldPowers$Kind;", true)
  | 1 => ("ToldPowers", "kindWords", "[Ljava/lang/String;", true)
  | 2 => ("ToldPowers", "slots", "[LToldPowers$Form;", true)
  | 3 => ("ToldPowers", "from", "[[J", true)
  | 4 => ("ToldPowers", "layers", "[[J", true)
  | 5 => ("ToldPowers", "laid", "LToldPowers$Form;", false)
  | 6 => ("ToldPowers", "laidUnlike", "LToldPowers$Form;", false)
  | 7 => ("ToldPowers", "left", "LToldPowers$Sum;", false)
  | 8 => ("ToldPowers", "right", "LToldPowers$Sum;", false)
  | 9 => ("ToldPowers", "letters", "I", false)
  | 10 => ("ToldPowers", "parts", "I", false)
  | 11 => ("ToldPowers", "latest", "LToldPowers$Outer;", false)
  | 12 => ("ToldPowers", "tape", "[B", true)
  | 13 => ("ToldPowers", "taped", "I", false)
  | 14 => ("ToldPowers", "classes", "[J", true)
  | 15 => ("ToldPowers", "next", "[J", true)
  | 16 => ("ToldPowers", "can", "[[Z", true)
  | 17 => ("ToldPowers", "shown", "Ljava/lang/String;", false)
  | _ => ("ToldPowers", "rankedLatest", "LToldPowers$Ranked;", false)
def tyX0 : Nat → FieldType := fun k => match k with
  | 0 => .array (.object "ToldPowers$Kind")
  | 1 => .array (.object "java/lang/String")
  | 2 => .array (.object "ToldPowers$Form")
  | 3 => .array (.array .long)
  | 4 => .array (.array .long)
  | 5 => .object "ToldPowers$Form"
  | 6 => .object "ToldPowers$Form"
  | 7 => .object "ToldPowers$Sum"
  | 8 => .object "ToldPowers$Sum"
  | 9 => .int
  | 10 => .int
  | 11 => .object "ToldPowers$Outer"
  | 12 => .array .byte
  | 13 => .int
  | 14 => .array .long
  | 15 => .array .long
  | 16 => .array (.array .boolean)
  | 17 => .object "java/lang/String"
  | _ => .object "ToldPowers$Ranked"
abbrev wsX00 : List Cond := u_ws RX0 TX0 19
theorem nmX0 : ∀ a, a < 19 → ∀ b, b < 19 → a ≠ b → (TX0 a).2.1 ≠ (TX0 b).2.1 := by decide +kernel
theorem tyX0_ok : ∀ k, k < 19 → parseFieldDescriptor (TX0 k).2.2.1 = some (tyX0 k) := by decide +kernel
theorem in_X0 : ∀ w ∈ wsX00, w ∈ lw_all := lw_in wsX00 [236, 238, 240, 242, 244, 246, 248, 250, 252, 254, 256, 258, 260, 262, 264, 266, 268, 270, 272] (by decide +kernel) (by decide +kernel)
def RX2 : String := "ToldPowers$Reader"
def TX2 : u_T := fun k => match k with
  | 0 => ("ToldPowers$Reader", "at", "I", false)
  | 1 => ("ToldPowers$Reader", "from", "I", false)
  | 2 => ("ToldPowers$Reader", "open", "I", false)
  | _ => ("ToldPowers$Reader", "this$0", "LToldPowers;", true)
def tyX2 : Nat → FieldType := fun k => match k with
  | 0 => .int
  | 1 => .int
  | 2 => .int
  | _ => .object "ToldPowers"
abbrev wsX20 : List Cond := u_ws RX2 TX2 4
theorem nmX2 : ∀ a, a < 4 → ∀ b, b < 4 → a ≠ b → (TX2 a).2.1 ≠ (TX2 b).2.1 := by decide +kernel
theorem tyX2_ok : ∀ k, k < 4 → parseFieldDescriptor (TX2 k).2.2.1 = some (tyX2 k) := by decide +kernel
theorem in_X2 : ∀ w ∈ wsX20, w ∈ lw_all := lw_in wsX20 [410, 412, 414, 416] (by decide +kernel) (by decide +kernel)
def RX3 : String := "ToldPowers$Wrong"
def TX3 : u_T := fun k => match k with
  | 0 => ("java/lang/Throwable", "cause", "Ljava/lang/Throwable;", false)
  | 1 => ("java/lang/Throwable", "stackTrace", "[Ljava/lang/StackTraceElement;", false)
  | 2 => ("java/lang/Throwable", "suppressedExceptions", "Ljava/util/List;", false)
  | 3 => ("java/lang/Throwable", "detailMessage", "Ljava/lang/String;", false)
  | 4 => ("java/lang/Throwable", "backtrace", "Ljava/lang/Object;", false)
  | 5 => ("java/lang/Throwable", "depth", "I", false)
  | 6 => ("ToldPowers$Wrong", "kind", "I", true)
  | _ => ("ToldPowers$Wrong", "place", "I", true)
def tyX3 : Nat → FieldType := fun k => match k with
  | 0 => .object "java/lang/Throwable"
  | 1 => .array (.object "java/lang/StackTraceElement")
  | 2 => .object "java/util/List"
  | 3 => .object "java/lang/String"
  | 4 => .object "java/lang/Object"
  | 5 => .int
  | 6 => .int
  | _ => .int
abbrev wsX30 : List Cond := u_ws RX3 TX3 8
theorem nmX3 : ∀ a, a < 8 → ∀ b, b < 8 → a ≠ b → (TX3 a).2.1 ≠ (TX3 b).2.1 := by decide +kernel
theorem tyX3_ok : ∀ k, k < 8 → parseFieldDescriptor (TX3 k).2.2.1 = some (tyX3 k) := by decide +kernel
theorem in_X3 : ∀ w ∈ wsX30, w ∈ lw_all := lw_in wsX30 [666, 667, 668, 669, 670, 688, 684, 686] (by decide +kernel) (by decide +kernel)
def RX8 : String := "ToldPowers$Inner"
def TX8 : u_T := fun k => match k with
  | 0 => ("java/lang/Throwable", "cause", "Ljava/lang/Throwable;", false)
  | 1 => ("java/lang/Throwable", "stackTrace", "[Ljava/lang/StackTraceElement;", false)
  | 2 => ("java/lang/Throwable", "suppressedExceptions", "Ljava/util/List;", false)
  | 3 => ("java/lang/Throwable", "detailMessage", "Ljava/lang/String;", false)
  | 4 => ("java/lang/Throwable", "backtrace", "Ljava/lang/Object;", false)
  | 5 => ("java/lang/Throwable", "depth", "I", false)
  | _ => ("ToldPowers$Inner", "which", "I", true)
def tyX8 : Nat → FieldType := fun k => match k with
  | 0 => .object "java/lang/Throwable"
  | 1 => .array (.object "java/lang/StackTraceElement")
  | 2 => .object "java/util/List"
  | 3 => .object "java/lang/String"
  | 4 => .object "java/lang/Object"
  | 5 => .int
  | _ => .int
abbrev wsX80 : List Cond := u_ws RX8 TX8 7
theorem nmX8 : ∀ a, a < 7 → ∀ b, b < 7 → a ≠ b → (TX8 a).2.1 ≠ (TX8 b).2.1 := by decide +kernel
theorem tyX8_ok : ∀ k, k < 7 → parseFieldDescriptor (TX8 k).2.2.1 = some (tyX8 k) := by decide +kernel
theorem in_X8 : ∀ w ∈ wsX80, w ∈ lw_all := lw_in wsX80 [1396, 1397, 1398, 1399, 1400, 1409, 1407] (by decide +kernel) (by decide +kernel)
def RX5 : String := "ToldPowers$Outer"
def TX5 : u_T := fun k => match k with
  | 0 => ("java/lang/Throwable", "cause", "Ljava/lang/Throwable;", false)
  | 1 => ("java/lang/Throwable", "stackTrace", "[Ljava/lang/StackTraceElement;", false)
  | 2 => ("java/lang/Throwable", "suppressedExceptions", "Ljava/util/List;", false)
  | 3 => ("java/lang/Throwable", "detailMessage", "Ljava/lang/String;", false)
  | 4 => ("java/lang/Throwable", "backtrace", "Ljava/lang/Object;", false)
  | 5 => ("java/lang/Throwable", "depth", "I", false)
  | _ => ("ToldPowers$Outer", "which", "I", true)
def tyX5 : Nat → FieldType := fun k => match k with
  | 0 => .object "java/lang/Throwable"
  | 1 => .array (.object "java/lang/StackTraceElement")
  | 2 => .object "java/util/List"
  | 3 => .object "java/lang/String"
  | 4 => .object "java/lang/Object"
  | 5 => .int
  | _ => .int
abbrev wsX50 : List Cond := u_ws RX5 TX5 7
theorem nmX5 : ∀ a, a < 7 → ∀ b, b < 7 → a ≠ b → (TX5 a).2.1 ≠ (TX5 b).2.1 := by decide +kernel
theorem tyX5_ok : ∀ k, k < 7 → parseFieldDescriptor (TX5 k).2.2.1 = some (tyX5 k) := by decide +kernel
theorem in_X5 : ∀ w ∈ wsX50, w ∈ lw_all := lw_in wsX50 [846, 847, 848, 849, 850, 859, 857] (by decide +kernel) (by decide +kernel)
def RX4 : String := "ToldPowers$Term"
def TX4 : u_T := fun k => match k with
  | 0 => ("ToldPowers$Term", "factor", "I", true)
  | 1 => ("ToldPowers$Term", "low", "I", true)
  | 2 => ("ToldPowers$Term", "high", "I", true)
  | _ => ("ToldPowers$Term", "kind", "LToldPowers$Kind;", true)
def tyX4 : Nat → FieldType := fun k => match k with
  | 0 => .int
  | 1 => .int
  | 2 => .int
  | _ => .object "ToldPowers$Kind"
abbrev wsX40 : List Cond := u_ws RX4 TX4 4
theorem nmX4 : ∀ a, a < 4 → ∀ b, b < 4 → a ≠ b → (TX4 a).2.1 ≠ (TX4 b).2.1 := by decide +kernel
theorem tyX4_ok : ∀ k, k < 4 → parseFieldDescriptor (TX4 k).2.2.1 = some (tyX4 k) := by decide +kernel
theorem in_X4 : ∀ w ∈ wsX40, w ∈ lw_all := lw_in wsX40 [719, 721, 723, 725] (by decide +kernel) (by decide +kernel)
def RX6 : String := "ToldPowers$Form"
def TX6 : u_T := fun k => match k with
  | _ => ("ToldPowers$Form", "terms", "[LToldPowers$Term;", true)
def tyX6 : Nat → FieldType := fun k => match k with
  | _ => .array (.object "ToldPowers$Term")
abbrev wsX60 : List Cond := u_ws RX6 TX6 1
theorem nmX6 : ∀ a, a < 1 → ∀ b, b < 1 → a ≠ b → (TX6 a).2.1 ≠ (TX6 b).2.1 := by decide +kernel
theorem tyX6_ok : ∀ k, k < 1 → parseFieldDescriptor (TX6 k).2.2.1 = some (tyX6 k) := by decide +kernel
theorem in_X6 : ∀ w ∈ wsX60, w ∈ lw_all := lw_in wsX60 [887] (by decide +kernel) (by decide +kernel)
def RX11 : String := "ToldPowers$1"
def TX11 : u_T := fun k => match k with
  | _ => ("ToldPowers$1", "val$v", "J", true)
def tyX11 : Nat → FieldType := fun k => match k with
  | _ => .long
abbrev wsX110 : List Cond := u_ws RX11 TX11 1
theorem nmX11 : ∀ a, a < 1 → ∀ b, b < 1 → a ≠ b → (TX11 a).2.1 ≠ (TX11 b).2.1 := by decide +kernel
theorem tyX11_ok : ∀ k, k < 1 → parseFieldDescriptor (TX11 k).2.2.1 = some (tyX11 k) := by decide +kernel
theorem in_X11 : ∀ w ∈ wsX110, w ∈ lw_all := lw_in wsX110 [1479] (by decide +kernel) (by decide +kernel)
def RX12 : String := "ToldPowers$2"
def TX12 : u_T := fun k => match k with
  | _ => ("ToldPowers$2", "val$which", "I", true)
def tyX12 : Nat → FieldType := fun k => match k with
  | _ => .int
abbrev wsX120 : List Cond := u_ws RX12 TX12 1
theorem nmX12 : ∀ a, a < 1 → ∀ b, b < 1 → a ≠ b → (TX12 a).2.1 ≠ (TX12 b).2.1 := by decide +kernel
theorem tyX12_ok : ∀ k, k < 1 → parseFieldDescriptor (TX12 k).2.2.1 = some (tyX12 k) := by decide +kernel
theorem in_X12 : ∀ w ∈ wsX120, w ∈ lw_all := lw_in wsX120 [1492] (by decide +kernel) (by decide +kernel)
def RX14 : String := "ToldPowers$3"
def TX14 : u_T := fun k => match k with
  | 0 => ("ToldPowers$3", "val$a", "LToldPowers$Sum;", true)
  | 1 => ("ToldPowers$3", "val$b", "LToldPowers$Sum;", true)
  | _ => ("ToldPowers$3", "val$sign", "I", true)
def tyX14 : Nat → FieldType := fun k => match k with
  | 0 => .object "ToldPowers$Sum"
  | 1 => .object "ToldPowers$Sum"
  | _ => .int
abbrev wsX140 : List Cond := u_ws RX14 TX14 3
theorem nmX14 : ∀ a, a < 3 → ∀ b, b < 3 → a ≠ b → (TX14 a).2.1 ≠ (TX14 b).2.1 := by decide +kernel
theorem tyX14_ok : ∀ k, k < 3 → parseFieldDescriptor (TX14 k).2.2.1 = some (tyX14 k) := by decide +kernel
theorem in_X14 : ∀ w ∈ wsX140, w ∈ lw_all := lw_in wsX140 [1523, 1525, 1527] (by decide +kernel) (by decide +kernel)
def RX13 : String := "ToldPowers$4"
def TX13 : u_T := fun k => match k with
  | 0 => ("ToldPowers$4", "val$a", "LToldPowers$Sum;", true)
  | _ => ("ToldPowers$4", "val$by", "I", true)
def tyX13 : Nat → FieldType := fun k => match k with
  | 0 => .object "ToldPowers$Sum"
  | _ => .int
abbrev wsX130 : List Cond := u_ws RX13 TX13 2
theorem nmX13 : ∀ a, a < 2 → ∀ b, b < 2 → a ≠ b → (TX13 a).2.1 ≠ (TX13 b).2.1 := by decide +kernel
theorem tyX13_ok : ∀ k, k < 2 → parseFieldDescriptor (TX13 k).2.2.1 = some (tyX13 k) := by decide +kernel
theorem in_X13 : ∀ w ∈ wsX130, w ∈ lw_all := lw_in wsX130 [1506, 1508] (by decide +kernel) (by decide +kernel)
def RX9 : String := "ToldPowers$ReadParts"
def TX9 : u_T := fun k => match k with
  | 0 => ("ToldPowers$ReadParts", "many", "I", false)
  | _ => ("ToldPowers$ReadParts", "letters", "I", false)
def tyX9 : Nat → FieldType := fun k => match k with
  | 0 => .int
  | _ => .int
abbrev wsX90 : List Cond := u_ws RX9 TX9 2
theorem nmX9 : ∀ a, a < 2 → ∀ b, b < 2 → a ≠ b → (TX9 a).2.1 ≠ (TX9 b).2.1 := by decide +kernel
theorem tyX9_ok : ∀ k, k < 2 → parseFieldDescriptor (TX9 k).2.2.1 = some (tyX9 k) := by decide +kernel
theorem in_X9 : ∀ w ∈ wsX90, w ∈ lw_all := lw_in wsX90 [1429, 1431] (by decide +kernel) (by decide +kernel)
def RX7 : String := "ToldPowers$Falling"
def RX15 : String := "ToldPowers$Near"
def TX15 : u_T := fun k => match k with
  | 0 => ("ToldPowers$Near", "sum", "I", true)
  | _ => ("ToldPowers$Near", "off", "I", true)
def tyX15 : Nat → FieldType := fun k => match k with
  | 0 => .int
  | _ => .int
abbrev wsX150 : List Cond := u_ws RX15 TX15 2
theorem nmX15 : ∀ a, a < 2 → ∀ b, b < 2 → a ≠ b → (TX15 a).2.1 ≠ (TX15 b).2.1 := by decide +kernel
theorem tyX15_ok : ∀ k, k < 2 → parseFieldDescriptor (TX15 k).2.2.1 = some (tyX15 k) := by decide +kernel
theorem in_X15 : ∀ w ∈ wsX150, w ∈ lw_all := lw_in wsX150 [1697, 1699] (by decide +kernel) (by decide +kernel)
def RX16 : String := "ToldPowers$Ranked"
def TX16 : u_T := fun k => match k with
  | 0 => ("ToldPowers$Ranked", "n", "I", true)
  | _ => ("ToldPowers$Ranked", "ways", "J", true)
def tyX16 : Nat → FieldType := fun k => match k with
  | 0 => .int
  | _ => .long
abbrev wsX160 : List Cond := u_ws RX16 TX16 2
theorem nmX16 : ∀ a, a < 2 → ∀ b, b < 2 → a ≠ b → (TX16 a).2.1 ≠ (TX16 b).2.1 := by decide +kernel
theorem tyX16_ok : ∀ k, k < 2 → parseFieldDescriptor (TX16 k).2.2.1 = some (tyX16 k) := by decide +kernel
theorem in_X16 : ∀ w ∈ wsX160, w ∈ lw_all := lw_in wsX160 [1885, 1887] (by decide +kernel) (by decide +kernel)
def RJ6 : String := "java/lang/String"
def TJ6 : u_T := fun k => match k with
  | 0 => ("java/lang/String", "value", "[B", true)
  | 1 => ("java/lang/String", "coder", "B", true)
  | 2 => ("java/lang/String", "hash", "I", false)
  | _ => ("java/lang/String", "hashIsZero", "Z", false)
def tyJ6 : Nat → FieldType := fun k => match k with
  | 0 => .array .byte
  | 1 => .byte
  | 2 => .int
  | _ => .boolean
abbrev wsJ60 : List Cond := u_ws RJ6 TJ6 4
theorem nmJ6 : ∀ a, a < 4 → ∀ b, b < 4 → a ≠ b → (TJ6 a).2.1 ≠ (TJ6 b).2.1 := by decide +kernel
theorem tyJ6_ok : ∀ k, k < 4 → parseFieldDescriptor (TJ6 k).2.2.1 = some (tyJ6 k) := by decide +kernel
theorem in_J6 : ∀ w ∈ wsJ60, w ∈ lw_all := lw_in wsJ60 [368, 370, 646, 648] (by decide +kernel) (by decide +kernel)
def RJ11 : String := "java/lang/StringBuilder"
def TJ11 : u_T := fun k => match k with
  | 0 => ("java/lang/AbstractStringBuilder", "value", "[B", false)
  | 1 => ("java/lang/AbstractStringBuilder", "coder", "B", false)
  | 2 => ("java/lang/AbstractStringBuilder", "maybeLatin1", "Z", false)
  | _ => ("java/lang/AbstractStringBuilder", "count", "I", false)
def tyJ11 : Nat → FieldType := fun k => match k with
  | 0 => .array .byte
  | 1 => .byte
  | 2 => .boolean
  | _ => .int
abbrev wsJ110 : List Cond := u_ws RJ11 TJ11 4
theorem nmJ11 : ∀ a, a < 4 → ∀ b, b < 4 → a ≠ b → (TJ11 a).2.1 ≠ (TJ11 b).2.1 := by decide +kernel
theorem tyJ11_ok : ∀ k, k < 4 → parseFieldDescriptor (TJ11 k).2.2.1 = some (tyJ11 k) := by decide +kernel
theorem in_J11 : ∀ w ∈ wsJ110, w ∈ lw_all := lw_in wsJ110 [491, 493, 495, 497] (by decide +kernel) (by decide +kernel)
def RJ9 : String := "java/util/ArrayList"
def TJ9 : u_T := fun k => match k with
  | 0 => ("java/util/AbstractList", "modCount", "I", false)
  | 1 => ("java/util/ArrayList", "elementData", "[Ljava/lang/Object;", false)
  | _ => ("java/util/ArrayList", "size", "I", false)
def tyJ9 : Nat → FieldType := fun k => match k with
  | 0 => .int
  | 1 => .array (.object "java/lang/Object")
  | _ => .int
abbrev wsJ90 : List Cond := u_ws RJ9 TJ9 3
theorem nmJ9 : ∀ a, a < 3 → ∀ b, b < 3 → a ≠ b → (TJ9 a).2.1 ≠ (TJ9 b).2.1 := by decide +kernel
theorem tyJ9_ok : ∀ k, k < 3 → parseFieldDescriptor (TJ9 k).2.2.1 = some (tyJ9 k) := by decide +kernel
theorem in_J9 : ∀ w ∈ wsJ90, w ∈ lw_all := lw_in wsJ90 [447, 443, 445] (by decide +kernel) (by decide +kernel)
def RJ21 : String := "java/util/TreeMap"
def TJ21 : u_T := fun k => match k with
  | 0 => ("java/util/AbstractMap", "keySet", "Ljava/util/Set;", false)
  | 1 => ("java/util/AbstractMap", "values", "Ljava/util/Collection;", false)
  | 2 => ("java/util/TreeMap", "comparator", "Ljava/util/Comparator;", true)
  | 3 => ("java/util/TreeMap", "root", "Ljava/util/TreeMap$Entry;", false)
  | 4 => ("java/util/TreeMap", "size", "I", false)
  | 5 => ("java/util/TreeMap", "modCount", "I", false)
  | 6 => ("java/util/TreeMap", "entrySet", "Ljava/util/TreeMap$EntrySet;", false)
  | 7 => ("java/util/TreeMap", "navigableKeySet", "Ljava/util/TreeMap$KeySet;", false)
  | _ => ("java/util/TreeMap", "descendingMap", "Ljava/util/NavigableMap;", false)
def tyJ21 : Nat → FieldType := fun k => match k with
  | 0 => .object "java/util/Set"
  | 1 => .object "java/util/Collection"
  | 2 => .object "java/util/Comparator"
  | 3 => .object "java/util/TreeMap$Entry"
  | 4 => .int
  | 5 => .int
  | 6 => .object "java/util/TreeMap$EntrySet"
  | 7 => .object "java/util/TreeMap$KeySet"
  | _ => .object "java/util/NavigableMap"
abbrev wsJ210 : List Cond := u_ws RJ21 TJ21 9
theorem nmJ21 : ∀ a, a < 9 → ∀ b, b < 9 → a ≠ b → (TJ21 a).2.1 ≠ (TJ21 b).2.1 := by decide +kernel
theorem tyJ21_ok : ∀ k, k < 9 → parseFieldDescriptor (TJ21 k).2.2.1 = some (tyJ21 k) := by decide +kernel
theorem in_J21 : ∀ w ∈ wsJ210, w ∈ lw_all := lw_in wsJ210 [966, 968, 952, 954, 956, 958, 960, 962, 964] (by decide +kernel) (by decide +kernel)
def RJ26 : String := "java/util/TreeMap$Entry"
def TJ26 : u_T := fun k => match k with
  | 0 => ("java/util/TreeMap$Entry", "key", "Ljava/lang/Object;", false)
  | 1 => ("java/util/TreeMap$Entry", "value", "Ljava/lang/Object;", false)
  | 2 => ("java/util/TreeMap$Entry", "left", "Ljava/util/TreeMap$Entry;", false)
  | 3 => ("java/util/TreeMap$Entry", "right", "Ljava/util/TreeMap$Entry;", false)
  | 4 => ("java/util/TreeMap$Entry", "parent", "Ljava/util/TreeMap$Entry;", false)
  | _ => ("java/util/TreeMap$Entry", "color", "Z", false)
def tyJ26 : Nat → FieldType := fun k => match k with
  | 0 => .object "java/lang/Object"
  | 1 => .object "java/lang/Object"
  | 2 => .object "java/util/TreeMap$Entry"
  | 3 => .object "java/util/TreeMap$Entry"
  | 4 => .object "java/util/TreeMap$Entry"
  | _ => .boolean
abbrev wsJ260 : List Cond := u_ws RJ26 TJ26 6
theorem nmJ26 : ∀ a, a < 6 → ∀ b, b < 6 → a ≠ b → (TJ26 a).2.1 ≠ (TJ26 b).2.1 := by decide +kernel
theorem tyJ26_ok : ∀ k, k < 6 → parseFieldDescriptor (TJ26 k).2.2.1 = some (tyJ26 k) := by decide +kernel
theorem in_J26 : ∀ w ∈ wsJ260, w ∈ lw_all := lw_in wsJ260 [1327, 1329, 1331, 1333, 1335, 1337] (by decide +kernel) (by decide +kernel)
def RJ28 : String := "java/util/PriorityQueue"
def TJ28 : u_T := fun k => match k with
  | 0 => ("java/util/PriorityQueue", "queue", "[Ljava/lang/Object;", false)
  | 1 => ("java/util/PriorityQueue", "size", "I", false)
  | 2 => ("java/util/PriorityQueue", "comparator", "Ljava/util/Comparator;", true)
  | _ => ("java/util/PriorityQueue", "modCount", "I", false)
def tyJ28 : Nat → FieldType := fun k => match k with
  | 0 => .array (.object "java/lang/Object")
  | 1 => .int
  | 2 => .object "java/util/Comparator"
  | _ => .int
abbrev wsJ280 : List Cond := u_ws RJ28 TJ28 4
theorem nmJ28 : ∀ a, a < 4 → ∀ b, b < 4 → a ≠ b → (TJ28 a).2.1 ≠ (TJ28 b).2.1 := by decide +kernel
theorem tyJ28_ok : ∀ k, k < 4 → parseFieldDescriptor (TJ28 k).2.2.1 = some (tyJ28 k) := by decide +kernel
theorem in_J28 : ∀ w ∈ wsJ280, w ∈ lw_all := lw_in wsJ280 [1676, 1678, 1680, 1682] (by decide +kernel) (by decide +kernel)
def RJ23 : String := "java/lang/Integer"
def TJ23 : u_T := fun k => match k with
  | _ => ("java/lang/Integer", "value", "I", true)
def tyJ23 : Nat → FieldType := fun k => match k with
  | _ => .int
abbrev wsJ230 : List Cond := u_ws RJ23 TJ23 1
theorem nmJ23 : ∀ a, a < 1 → ∀ b, b < 1 → a ≠ b → (TJ23 a).2.1 ≠ (TJ23 b).2.1 := by decide +kernel
theorem tyJ23_ok : ∀ k, k < 1 → parseFieldDescriptor (TJ23 k).2.2.1 = some (tyJ23 k) := by decide +kernel
theorem in_J23 : ∀ w ∈ wsJ230, w ∈ lw_all := lw_in wsJ230 [997] (by decide +kernel) (by decide +kernel)
/-- the classes whose objects we hold -/
abbrev vwCl : List vw_C := [(RX1, TX1, 50), (RX0, TX0, 19), (RX2, TX2, 4), (RX3, TX3, 8), (RX8, TX8, 7), (RX5, TX5, 7), (RX4, TX4, 4), (RX6, TX6, 1), (RX11, TX11, 1), (RX12, TX12, 1), (RX14, TX14, 3), (RX13, TX13, 2), (RX9, TX9, 2), (RX7, fun _ => ("", "", "", false), 0), (RX15, TX15, 2), (RX16, TX16, 2), (RJ6, TJ6, 4), (RJ11, TJ11, 4), (RJ9, TJ9, 3), (RJ21, TJ21, 9), (RJ26, TJ26, 6), (RJ28, TJ28, 4), (RJ23, TJ23, 1)]
/-- what is known all through a run: the law's start (state, script), classes, slots, array classes, constants' addresses -/
abbrev gG : Type := State × Nat × (Nat → ClassId) × (Nat → Nat → Nat) × (Nat → ClassId) × (Nat → Nat → Nat)
abbrev g0 (G : gG) : State := G.1
abbrev gb (G : gG) : Nat := G.2.1
abbrev gD (G : gG) : va_G := (G.2.2.1, G.2.2.2.1)
abbrev gA (G : gG) : Nat → ClassId := G.2.2.2.2.1
abbrev gC (G : gG) : Nat → Nat → Nat := G.2.2.2.2.2
abbrev gZ (G : gG) : Nat := (g0 G).heap.size
abbrev gT (G : gG) : List (ClassId × FieldType) := [(gA G 0, .int), (gA G 1, .long), (gA G 2, .boolean), (gA G 3, .byte), (gA G 4, .object "ToldPowers$Form"), (gA G 5, .object "ToldPowers$Term"), (gA G 6, .array .long), (gA G 7, .array .boolean), (gA G 8, .object "java/lang/Object"), (gA G 9, .object "ToldPowers$Kind"), (gA G 10, .object "java/lang/String"), (gA G 11, .object "ToldPowers$Sum")]
/-- the String constants: texts, lengths, bytes; who names them -/
abbrev sN : Nat := 12
abbrev sLen : List Nat := [4, 6, 4, 6, 5, 0, 6, 4, 4, 4, 2, 3]
abbrev sByt : List (List Int32) := [[108, 105, 110, 101], [115, 113, 117, 97, 114, 101], [99, 117, 98, 101], [102, 111, 117, 114, 116, 104], [116, 104, 114, 101, 101], [], [32, 102, 114, 111, 109, 32], [32, 116, 111, 32], [32, 110, 111, 116], [102, 114, 111, 109], [116, 111], [110, 111, 116]]
def sRefs : List (String × Nat × String × Nat) := [("ToldPowers", 186, "line", 0), ("ToldPowers", 188, "square", 1), ("ToldPowers", 190, "cube", 2), ("ToldPowers", 192, "fourth", 3), ("ToldPowers", 194, "three", 4), ("ToldPowers", 217, "", 5), ("ToldPowers", 367, " from ", 6), ("ToldPowers", 369, " to ", 7), ("ToldPowers", 375, " not", 8), ("ToldPowers$Reader", 144, "from", 9), ("ToldPowers$Reader", 163, "to", 10), ("ToldPowers$Reader", 196, "not", 11), ("ToldPowersModel", 196, "line", 0), ("ToldPowersModel", 202, "square", 1), ("ToldPowersModel", 204, "cube", 2), ("ToldPowersModel", 206, "fourth", 3), ("ToldPowersModel", 208, "three", 4), ("ToldPowersModel", 227, "from", 9), ("ToldPowersModel", 242, "to", 10), ("ToldPowersModel", 330, "not", 11), ("ToldPowersModel", 458, " from ", 6), ("ToldPowersModel", 460, " to ", 7), ("ToldPowersModel", 462, " not", 8)]
abbrev gAz (G : gG) : Nat → Prop := fun q => gZ G ≤ q
def kNm : List String := ["LINE", "SQUARE", "CUBE", "FOURTH", "THREE"]
def kCl : List String := ["ToldPowers$Kind$1", "ToldPowers$Kind$2", "ToldPowers$Kind$3", "ToldPowers$Kind$4", "ToldPowers$Kind$5"]
/-- the run's constants: small Integers (3), the enum's (2), arrays (4: Integer cache, ArrayList's empty one, digits) -/
def gCs (G : gG) : Prop := vb_C (gC G 3) (gAz G) (g0 G) (g0 G).heap ∧
  (va_Z "java/lang/Integer$IntegerCache" "high" "I" (.int 127) (gAz G) (g0 G) (g0 G).heap ∧ va_Z "java/lang/Integer$IntegerCache" "cache" "[Ljava/lang/Integer;" (.ref (gC G 4 0)) (gAz G) (g0 G) (g0 G).heap ∧ va_T (.object "java/lang/Integer") (gC G 4 0) 256 (fun j => .ref (gC G 3 j)) (gAz G) (g0 G) (g0 G).heap) ∧
  ((∀ k : Nat, k < 5 → va_Z "ToldPowers$Kind" (kNm.getD k "") "LToldPowers$Kind;" (.ref (gC G 2 k)) (gAz G) (g0 G) (g0 G).heap ∧ va_O (kCl.getD k "") (gC G 2 k) (gAz G) (g0 G) (g0 G).heap ∧ va_OF "java/lang/Enum" "ordinal" "I" (.int (nI k)) (gC G 2 k) (gAz G) (g0 G) (g0 G).heap) ∧ ∀ i j : Nat, i < 5 → j < 5 → gC G 2 i = gC G 2 j → i = j) ∧
  (va_Z "java/util/ArrayList" "DEFAULTCAPACITY_EMPTY_ELEMENTDATA" "[Ljava/lang/Object;" (.ref (gC G 4 1)) (gAz G) (g0 G) (g0 G).heap ∧ va_T (.object "java/lang/Object") (gC G 4 1) 0 (fun _ => .null) (gAz G) (g0 G) (g0 G).heap) ∧
  (va_Z "java/lang/Integer" "DigitOnes" "[B" (.ref (gC G 4 2)) (gAz G) (g0 G) (g0 G).heap ∧ va_T .byte (gC G 4 2) 100 (fun j => .int (nI (48 + j % 10))) (gAz G) (g0 G) (g0 G).heap) ∧
  (va_Z "java/lang/Integer" "DigitTens" "[B" (.ref (gC G 4 3)) (gAz G) (g0 G) (g0 G).heap ∧ va_T .byte (gC G 4 3) 100 (fun j => .int (nI (48 + j / 10))) (gAz G) (g0 G) (g0 G).heap) ∧
  (va_Mi "[Ljava/lang/Object;" (gC G 4 4) (g0 G) ∧ vx_Zq Bundle.tN "UNASSIGNED_STACK" Bundle.steD (gAz G) (g0 G) (g0 G).heap ∧ vx_Zq Bundle.tN "SUPPRESSED_SENTINEL" Bundle.listD (gAz G) (g0 G) (g0 G).heap)
def gOk (G : gG) : Prop := (∀ w ∈ lw_tbl, w.before #[Value.ref (gb G)] (g0 G) = true) ∧ (Jvm.Cond.and given_1 narrow_1).before #[Value.ref (gb G)] (g0 G) = true ∧ va_K (gD G) vwCl (gT G) (g0 G) ∧ vk_S sN sLen sByt (gC G 0) (gC G 1) (fun q => gZ G ≤ q) (g0 G) (g0 G).heap ∧ (∀ r ∈ sRefs, vk_R r.1 r.2.1 r.2.2.1 (gC G 0 r.2.2.2) (g0 G)) ∧ gCs G
/-- a state of the run: its tables come from the start's, the start's cells are as they were -/
def gK (G : gG) (U : State) : Prop := (g0 G).WarmedH U.vm ∧ ∀ q : Nat, q < gZ G → U.heap[q]? = (g0 G).heap[q]?
theorem gK.lt {G : gG} {U : State} (h : gK G U) {q : Nat} (hq : q < gZ G) : q < U.heap.size := by
  have h1 := h.2 q hq
  rw [Array.getElem?_eq_getElem hq] at h1
  exact (Array.getElem?_eq_some_iff.mp h1).1
theorem gK.va {G : gG} {U : State} (hO : gOk G) (h : gK G U) : va_K (gD G) vwCl (gT G) U := va_K.moved h.1.alike hO.2.2.1
theorem gK.go {G : gG} {s U : State} {A : Nat → Prop} {H : Heap} {locs : List Loc} (h : gK G s) (hS : va_S A s.heap H locs) (hA : ∀ q, A q → gZ G ≤ q) (hU : U.heap = H) (hW : s.WarmedH U.vm) : gK G U :=
  ⟨State.WarmedH.trans h.1 hW, fun q hq => by
    rw [hU, hS.2.1 q (h.lt hq) (fun z => Nat.not_le_of_lt hq (hA q z))]
    exact h.2 q hq⟩
theorem gK.call {G : gG} {U : State} {g : JFrame} {mk : MethodId} {a : Array Value} (h : gK G U) : gK G (U.calling g mk a) := h
/-- the ends of contracts: an answer of any kind -/
abbrev vI (r : Int32) : Option Value := some (.int r)
abbrev vL (r : Int64) : Option Value := some (.long r)
abbrev vV (_ : Unit) : Option Value := none
abbrev vQ (r : Option Nat) : Option Value := some (va_rf r)
abbrev vR (r : Nat) : Option Value := some (.ref r)
def gQ {ρ σ : Type} (val : ρ → Option Value) (post : ρ → σ → Prop) (B : σ → Heap → Prop) (A : Nat → Prop) : Array Value → State → Outcome → State → Prop :=
  fun _ st oc t => (∃ (r : ρ) (u : σ), oc = .returned (val r) ∧ post r u ∧ B u t.heap) ∧ va_F A st t
def pQ {ρ : Type} (val : ρ → Option Value) (post : ρ → Prop) : Array Value → State → Outcome → State → Prop :=
  fun _ st oc t => ∃ r : ρ, oc = .returned (val r) ∧ post r ∧ t.heap = st.heap
def isB (v : Int32) : Prop := v = 0 ∨ v = 1
theorem isB_0 : isB 0 := Or.inl rfl
theorem isB_1 : isB 1 := Or.inr rfl
theorem isB_n {v : Int32} (h : isB v) : narrow .boolean (.int v) = .int v := by
  rcases h with h | h <;> subst h <;> rfl
theorem isB_f {v : Int32} (h : isB v) : fits .boolean (.int v) = true := by
  rcases h with h | h <;> subst h <;> rfl
theorem isB_v {v : Int32} (h : isB v) : vp_nar .boolean v = v := by
  rcases h with h | h <;> subst h <;> rfl
section GW
variable {p : Program} {l : Launch} {e : Env} {R : Room} {s : State} {m : MethodId} {args : Array Value} {below : List Frame} {meth : Method} {c : Code} {H : Heap} {locs : List Loc} {cells slots : Nat} {Q : State → Prop} {cc : ByteArray} {pc : Nat} {ls : Array Slot} {rest : List Value}
/-- a call of a method that touches no heap -/
theorem p_call {ρ : Type} {val : ρ → Option Value} {post : ρ → Prop} {a : Array Value} {st0 : List Value} (hr : CallRun p l e R s m args below meth c H locs cells slots 0 0 (F0 m pc ls st0) rest (pQ val post a) (fun _ => False))
    (kk : ∀ r : ρ, post r → W p l e R s m args below meth c H locs cells slots Q (F0 m (pc + 3) ls ((val r).toList ++ rest))) : W p l e R s m args below meth c H locs cells slots Q (F0 m pc ls st0) := by
  intro T hT X
  obtain ⟨v, st₀, t, T', L, h0, X', hL, e1, ⟨r, hv, hp, hh⟩, st⟩ := hr T hT X
  cases hv
  obtain ⟨t2, a1, b1⟩ := kk r hp T' (by rw [e1, hh, h0]) (Stand.forget X' (fun q h => (hL q h).elim))
  exact ⟨t2, st t2 a1, b1⟩
theorem pc_blind {As : List Value} : FrameBlind (va_Pc As (fun _ => True)) := fun _ _ _ _ q => q
theorem s_call {ρ : Type} {val : ρ → Option Value} {post : ρ → Prop} {own : String} {index maxL nL : Nat} {y : MethodName} {bytes : ByteArray} {ret : Option FieldType} {As : List Value} {fr lo : Nat} (S : CallFix p m c cc nL s args lw_all own)
    (hM : Met l y (ws_ y bytes maxL ret) ⟨fr, 0, 0, lo⟩ (va_Pc As (fun _ => True)) (pQ val post) 0 0 (fun _ => False))
    (hq : GoodIn lw_all (va_wsS own index y (ws_ y bytes maxL ret))) (hd : y.cls ≠ "java/lang/invoke/MethodHandle" ∧ y.cls ≠ "java/lang/invoke/VarHandle" ∧ (parseMethodDescriptor y.desc).map (fun d => d.parameters.length) = some As.length)
    (hR : fr + 1 ≤ R.frames ∧ 8 + (maxL + 11) + lo ≤ R.locals) (hsz : ls.size = nL) (hr : (rest.map fun v => v.category).sum ≤ 8) (hc : cells ≤ R.cells ∧ slots ≤ R.slots)
    (d : decode cc pc = .ok (.invokestatic index, 3)) {st0 : List Value} (hst : st0 = As.reverse ++ rest)
    (kk : ∀ r : ρ, post r → W p l e R s m args below meth c H locs cells slots Q (F0 m (pc + 3) ls ((val r).toList ++ rest))) : W p l e R s m args below meth c H locs cells slots Q (F0 m pc ls st0) :=
  p_call (W.runS S hM (va_cwS As.length S.2.2.2.2 hq rfl rfl rfl hd hR) ⟨pc_blind, fun U _ _ => ⟨rfl, trivial⟩⟩ rfl rfl hsz hst (lv_room hr) d hc) kk
theorem s_ret {ρ : Type} {val : ρ → Option Value} {post : ρ → Prop} {v : ρ} {t : State} (hp : post v) (ht : t.heap = s.heap) : pQ val post args s (.returned (val v)) t := ⟨v, rfl, hp, ht⟩
end GW
