/-! the heads of the classes (out of claim/names), and their table -/
set_option maxRecDepth 100000
/-! BeastsChoose -/
def RX0 : String := "BeastsChoose"
def TX0 : u_T := fun k => match k with
  | 0 => ("BeastsChoose", "tape", "[C", true)
  | 1 => ("BeastsChoose", "taped", "I", false)
  | 2 => ("BeastsChoose", "refusals", "[I", true)
  | 3 => ("BeastsChoose", "park", "LBeastsChoose$Zoo;", false)
  | 4 => ("BeastsChoose", "fault", "I", false)
  | 5 => ("BeastsChoose", "faultPlace", "I", false)
  | 6 => ("BeastsChoose", "dayNow", "I", false)
  | 7 => ("BeastsChoose", "hourNow", "I", false)
  | 8 => ("BeastsChoose", "fees", "I", false)
  | 9 => ("BeastsChoose", "told", "Ljava/util/ArrayList;", true)
  | 10 => ("BeastsChoose", "asking", "LBeastsChoose$Asking;", true)
  | 11 => ("BeastsChoose", "askedFor", "[LBeastsChoose$Guest;", true)
  | 12 => ("BeastsChoose", "became", "[I", true)
  | 13 => ("BeastsChoose", "isThought", "Z", false)
  | 14 => ("BeastsChoose", "acts", "Ljava/util/ArrayList;", true)
  | 15 => ("BeastsChoose", "seeded", "J", false)
  | 16 => ("BeastsChoose", "bringing", "LBeastsChoose$Bringing;", true)
  | 17 => ("BeastsChoose", "rows", "[I", true)
  | 18 => ("BeastsChoose", "rowMany", "I", false)
  | 19 => ("BeastsChoose", "image", "[C", true)
  | _ => ("BeastsChoose", "imaged", "I", false)
def tyX0 : Nat → FieldType := fun k => match k with
  | 0 => .array .char
  | 1 => .int
  | 2 => .array .int
  | 3 => .object "BeastsChoose$Zoo"
  | 4 => .int
  | 5 => .int
  | 6 => .int
  | 7 => .int
  | 8 => .int
  | 9 => .object "java/util/ArrayList"
  | 10 => .object "BeastsChoose$Asking"
  | 11 => .array (.object "BeastsChoose$Guest")
  | 12 => .array .int
  | 13 => .boolean
  | 14 => .object "java/util/ArrayList"
  | 15 => .long
  | 16 => .object "BeastsChoose$Bringing"
  | 17 => .array .int
  | 18 => .int
  | 19 => .array .char
  | _ => .int
abbrev wsX00 : List Cond := u_ws RX0 TX0 21
set_option maxRecDepth 100000 in
theorem nmX0 : ∀ a, a < 21 → ∀ b, b < 21 → a ≠ b → (TX0 a).2.1 ≠ (TX0 b).2.1 := by decide +kernel
set_option maxRecDepth 100000 in
theorem tyX0_ok : ∀ k, k < 21 → parseFieldDescriptor (TX0 k).2.2.1 = some (tyX0 k) := by decide +kernel
theorem in_X0 : ∀ w ∈ wsX00, w ∈ lw_all := lw_in wsX00 [356, 358, 360, 362, 364, 366, 368, 370, 372, 374, 376, 378, 380, 382, 384, 386, 388, 390, 392, 394, 396] (by decide +kernel) (by decide +kernel)
/-! BeastsChoose$Zoo -/
def RX1 : String := "BeastsChoose$Zoo"
def TX1 : u_T := fun k => match k with
  | 0 => ("BeastsChoose$Zoo", "ushers", "I", false)
  | 1 => ("BeastsChoose$Zoo", "bores", "I", false)
  | 2 => ("BeastsChoose$Zoo", "keeps", "I", false)
  | 3 => ("BeastsChoose$Zoo", "fee", "I", false)
  | 4 => ("BeastsChoose$Zoo", "rain", "I", false)
  | 5 => ("BeastsChoose$Zoo", "statements", "I", false)
  | 6 => ("BeastsChoose$Zoo", "likes", "LBeastsChoose$Sum;", false)
  | 7 => ("BeastsChoose$Zoo", "may", "LBeastsChoose$Test;", false)
  | 8 => ("BeastsChoose$Zoo", "beasts", "Ljava/util/ArrayList;", true)
  | _ => ("BeastsChoose$Zoo", "guests", "Ljava/util/ArrayList;", true)
def tyX1 : Nat → FieldType := fun k => match k with
  | 0 => .int
  | 1 => .int
  | 2 => .int
  | 3 => .int
  | 4 => .int
  | 5 => .int
  | 6 => .object "BeastsChoose$Sum"
  | 7 => .object "BeastsChoose$Test"
  | 8 => .object "java/util/ArrayList"
  | _ => .object "java/util/ArrayList"
abbrev wsX10 : List Cond := u_ws RX1 TX1 10
theorem nmX1 : ∀ a, a < 10 → ∀ b, b < 10 → a ≠ b → (TX1 a).2.1 ≠ (TX1 b).2.1 := by decide +kernel
theorem tyX1_ok : ∀ k, k < 10 → parseFieldDescriptor (TX1 k).2.2.1 = some (tyX1 k) := by decide +kernel
theorem in_X1 : ∀ w ∈ wsX10, w ∈ lw_all := lw_in wsX10 [273, 275, 277, 279, 281, 283, 285, 287, 289, 291] (by decide +kernel) (by decide +kernel)
/-! BeastsChoose$Asking -/
def RX2 : String := "BeastsChoose$Asking"
def TX2 : u_T := fun k => match k with
  | _ => ("BeastsChoose$Asking", "told", "[J", true)
def tyX2 : Nat → FieldType := fun k => match k with
  | _ => .array .long
abbrev wsX20 : List Cond := u_ws RX2 TX2 1
theorem nmX2 : ∀ a, a < 1 → ∀ b, b < 1 → a ≠ b → (TX2 a).2.1 ≠ (TX2 b).2.1 := by decide +kernel
theorem tyX2_ok : ∀ k, k < 1 → parseFieldDescriptor (TX2 k).2.2.1 = some (tyX2 k) := by decide +kernel
theorem in_X2 : ∀ w ∈ wsX20, w ∈ lw_all := lw_in wsX20 [305] (by decide +kernel) (by decide +kernel)
/-! BeastsChoose$Bringing -/
def RX3 : String := "BeastsChoose$Bringing"
def TX3 : u_T := fun k => match k with
  | 0 => ("BeastsChoose$Bringing", "most", "[[I", true)
  | 1 => ("BeastsChoose$Bringing", "liked", "[[I", true)
  | _ => ("BeastsChoose$Bringing", "this$0", "LBeastsChoose;", true)
def tyX3 : Nat → FieldType := fun k => match k with
  | 0 => .array (.array .int)
  | 1 => .array (.array .int)
  | _ => .object "BeastsChoose"
abbrev wsX30 : List Cond := u_ws RX3 TX3 3
theorem nmX3 : ∀ a, a < 3 → ∀ b, b < 3 → a ≠ b → (TX3 a).2.1 ≠ (TX3 b).2.1 := by decide +kernel
theorem tyX3_ok : ∀ k, k < 3 → parseFieldDescriptor (TX3 k).2.2.1 = some (tyX3 k) := by decide +kernel
theorem in_X3 : ∀ w ∈ wsX30, w ∈ lw_all := lw_in wsX30 [323, 325, 327] (by decide +kernel) (by decide +kernel)
/-! BeastsChooseModel -/
def RX4 : String := "BeastsChooseModel"
def TX4 : u_T := fun k => match k with
  | 0 => ("BeastsChooseModel", "tape", "[I", true)
  | 1 => ("BeastsChooseModel", "taped", "I", false)
  | 2 => ("BeastsChooseModel", "size", "I", false)
  | 3 => ("BeastsChooseModel", "sign", "I", false)
  | 4 => ("BeastsChooseModel", "signAt", "I", false)
  | 5 => ("BeastsChooseModel", "signEnd", "I", false)
  | 6 => ("BeastsChooseModel", "value", "I", false)
  | 7 => ("BeastsChooseModel", "word", "J", false)
  | 8 => ("BeastsChooseModel", "faultKind", "I", false)
  | 9 => ("BeastsChooseModel", "faultPlace", "I", false)
  | 10 => ("BeastsChooseModel", "toldKind", "I", false)
  | 11 => ("BeastsChooseModel", "toldPlace", "I", false)
  | 12 => ("BeastsChooseModel", "lexAt", "I", false)
  | 13 => ("BeastsChooseModel", "bank", "I", false)
  | 14 => ("BeastsChooseModel", "beasts", "[I", true)
  | 15 => ("BeastsChooseModel", "wakesAt", "[I", true)
  | 16 => ("BeastsChooseModel", "sleepsAt", "[I", true)
  | 17 => ("BeastsChooseModel", "placeOf", "[I", true)
  | 18 => ("BeastsChooseModel", "tasteTold", "[I", true)
  | 19 => ("BeastsChooseModel", "guests", "[I", true)
  | 20 => ("BeastsChooseModel", "lookTold", "[I", true)
  | 21 => ("BeastsChooseModel", "comesAt", "[I", true)
  | 22 => ("BeastsChooseModel", "goesAt", "[I", true)
  | 23 => ("BeastsChooseModel", "fearsTold", "[I", true)
  | 24 => ("BeastsChooseModel", "told", "[I", true)
  | 25 => ("BeastsChooseModel", "sumFrom", "[I", true)
  | 26 => ("BeastsChooseModel", "sumBehind", "[I", true)
  | 27 => ("BeastsChooseModel", "codeSort", "[I", true)
  | 28 => ("BeastsChooseModel", "codeValue", "[I", true)
  | 29 => ("BeastsChooseModel", "beastName", "[J", true)
  | 30 => ("BeastsChooseModel", "guestName", "[J", true)
  | 31 => ("BeastsChooseModel", "codes", "I", false)
  | 32 => ("BeastsChooseModel", "in", "I", false)
  | 33 => ("BeastsChooseModel", "isMay", "Z", false)
  | 34 => ("BeastsChooseModel", "frame", "[I", true)
  | 35 => ("BeastsChooseModel", "phase", "[I", true)
  | 36 => ("BeastsChooseModel", "begins", "[Z", true)
  | 37 => ("BeastsChooseModel", "pair", "[I", true)
  | 38 => ("BeastsChooseModel", "base", "[I", true)
  | 39 => ("BeastsChooseModel", "deep", "I", false)
  | 40 => ("BeastsChooseModel", "open", "I", false)
  | 41 => ("BeastsChooseModel", "ops", "[I", true)
  | 42 => ("BeastsChooseModel", "opMany", "I", false)
  | 43 => ("BeastsChooseModel", "operand", "Z", false)
  | 44 => ("BeastsChooseModel", "three", "[I", true)
  | 45 => ("BeastsChooseModel", "refused", "[I", true)
  | 46 => ("BeastsChooseModel", "hourOf", "[I", true)
  | 47 => ("BeastsChooseModel", "feesOf", "[I", true)
  | 48 => ("BeastsChooseModel", "lookOf", "[I", true)
  | 49 => ("BeastsChooseModel", "keptBy", "[I", true)
  | 50 => ("BeastsChooseModel", "sentBy", "[I", true)
  | 51 => ("BeastsChooseModel", "tasteOf", "[I", true)
  | 52 => ("BeastsChooseModel", "sawOf", "[I", true)
  | 53 => ("BeastsChooseModel", "todayOf", "[I", true)
  | 54 => ("BeastsChooseModel", "keptMany", "[I", true)
  | 55 => ("BeastsChooseModel", "keptRow", "[I", true)
  | 56 => ("BeastsChooseModel", "undoFirst", "I", false)
  | 57 => ("BeastsChooseModel", "undos", "I", false)
  | 58 => ("BeastsChooseModel", "seeds", "J", false)
  | 59 => ("BeastsChooseModel", "stack", "[J", true)
  | 60 => ("BeastsChooseModel", "asked", "[I", true)
  | 61 => ("BeastsChooseModel", "askedFor", "[I", true)
  | 62 => ("BeastsChooseModel", "became", "[I", true)
  | 63 => ("BeastsChooseModel", "mostLiked", "[I", true)
  | 64 => ("BeastsChooseModel", "likedBy", "[I", true)
  | 65 => ("BeastsChooseModel", "rows", "I", false)
  | 66 => ("BeastsChooseModel", "rather", "[I", true)
  | 67 => ("BeastsChooseModel", "other", "[I", true)
  | 68 => ("BeastsChooseModel", "waysOf", "[I", true)
  | 69 => ("BeastsChooseModel", "holds", "[I", true)
  | 70 => ("BeastsChooseModel", "points", "[I", true)
  | 71 => ("BeastsChooseModel", "gets", "[I", true)
  | 72 => ("BeastsChooseModel", "leaves", "[I", true)
  | 73 => ("BeastsChooseModel", "walkOf", "[I", true)
  | 74 => ("BeastsChooseModel", "stepsOf", "[I", true)
  | 75 => ("BeastsChooseModel", "out", "[I", true)
  | _ => ("BeastsChooseModel", "outs", "I", false)
def tyX4 : Nat → FieldType := fun k => match k with
  | 0 => .array .int
  | 1 => .int
  | 2 => .int
  | 3 => .int
  | 4 => .int
  | 5 => .int
  | 6 => .int
  | 7 => .long
  | 8 => .int
  | 9 => .int
  | 10 => .int
  | 11 => .int
  | 12 => .int
  | 13 => .int
  | 14 => .array .int
  | 15 => .array .int
  | 16 => .array .int
  | 17 => .array .int
  | 18 => .array .int
  | 19 => .array .int
  | 20 => .array .int
  | 21 => .array .int
  | 22 => .array .int
  | 23 => .array .int
  | 24 => .array .int
  | 25 => .array .int
  | 26 => .array .int
  | 27 => .array .int
  | 28 => .array .int
  | 29 => .array .long
  | 30 => .array .long
  | 31 => .int
  | 32 => .int
  | 33 => .boolean
  | 34 => .array .int
  | 35 => .array .int
  | 36 => .array .boolean
  | 37 => .array .int
  | 38 => .array .int
  | 39 => .int
  | 40 => .int
  | 41 => .array .int
  | 42 => .int
  | 43 => .boolean
  | 44 => .array .int
  | 45 => .array .int
  | 46 => .array .int
  | 47 => .array .int
  | 48 => .array .int
  | 49 => .array .int
  | 50 => .array .int
  | 51 => .array .int
  | 52 => .array .int
  | 53 => .array .int
  | 54 => .array .int
  | 55 => .array .int
  | 56 => .int
  | 57 => .int
  | 58 => .long
  | 59 => .array .long
  | 60 => .array .int
  | 61 => .array .int
  | 62 => .array .int
  | 63 => .array .int
  | 64 => .array .int
  | 65 => .int
  | 66 => .array .int
  | 67 => .array .int
  | 68 => .array .int
  | 69 => .array .int
  | 70 => .array .int
  | 71 => .array .int
  | 72 => .array .int
  | 73 => .array .int
  | 74 => .array .int
  | 75 => .array .int
  | _ => .int
abbrev wsX40 : List Cond := u_ws RX4 TX4 77
set_option maxRecDepth 100000 in
theorem nmX4 : ∀ a, a < 77 → ∀ b, b < 77 → a ≠ b → (TX4 a).2.1 ≠ (TX4 b).2.1 := by decide +kernel
set_option maxRecDepth 100000 in
theorem tyX4_ok : ∀ k, k < 77 → parseFieldDescriptor (TX4 k).2.2.1 = some (tyX4 k) := by decide +kernel
theorem in_X4 : ∀ w ∈ wsX40, w ∈ lw_all := lw_in wsX40 [1905, 1907, 1909, 1911, 1913, 1915, 1917, 1919, 1921, 1923, 1925, 1927, 1929, 1931, 1933, 1935, 1937, 1939, 1941, 1943, 1945, 1947, 1949, 1951, 1953, 1955, 1957, 1959, 1961, 1963, 1965, 1967, 1969, 1971, 1973, 1975, 1977, 1979, 1981, 1983, 1985, 1987, 1989, 1991, 1993, 1995, 1997, 1999, 2001, 2003, 2005, 2007, 2009, 2011, 2013, 2015, 2017, 2019, 2021, 2023, 2025, 2027, 2029, 2031, 2033, 2035, 2037, 2039, 2041, 2043, 2045, 2047, 2049, 2051, 2053, 2055, 2057] (by decide +kernel) (by decide +kernel)
/-! BeastsChoose$Scan -/
def RX5 : String := "BeastsChoose$Scan"
def TX5 : u_T := fun k => match k with
  | 0 => ("BeastsChoose$Scan", "size", "I", true)
  | 1 => ("BeastsChoose$Scan", "h", "LBeastsChoose$Zoo;", true)
  | 2 => ("BeastsChoose$Scan", "inMay", "Z", false)
  | 3 => ("BeastsChoose$Scan", "at", "I", false)
  | 4 => ("BeastsChoose$Scan", "behind", "I", false)
  | 5 => ("BeastsChoose$Scan", "place", "I", false)
  | 6 => ("BeastsChoose$Scan", "number", "I", false)
  | 7 => ("BeastsChoose$Scan", "what", "I", false)
  | 8 => ("BeastsChoose$Scan", "open", "I", false)
  | 9 => ("BeastsChoose$Scan", "isSeen", "Z", false)
  | 10 => ("BeastsChoose$Scan", "sign", "C", false)
  | 11 => ("BeastsChoose$Scan", "word", "Ljava/lang/String;", false)
  | _ => ("BeastsChoose$Scan", "this$0", "LBeastsChoose;", true)
def tyX5 : Nat → FieldType := fun k => match k with
  | 0 => .int
  | 1 => .object "BeastsChoose$Zoo"
  | 2 => .boolean
  | 3 => .int
  | 4 => .int
  | 5 => .int
  | 6 => .int
  | 7 => .int
  | 8 => .int
  | 9 => .boolean
  | 10 => .char
  | 11 => .object "java/lang/String"
  | _ => .object "BeastsChoose"
abbrev wsX50 : List Cond := u_ws RX5 TX5 13
set_option maxRecDepth 100000 in
theorem nmX5 : ∀ a, a < 13 → ∀ b, b < 13 → a ≠ b → (TX5 a).2.1 ≠ (TX5 b).2.1 := by decide +kernel
set_option maxRecDepth 100000 in
theorem tyX5_ok : ∀ k, k < 13 → parseFieldDescriptor (TX5 k).2.2.1 = some (tyX5 k) := by decide +kernel
theorem in_X5 : ∀ w ∈ wsX50, w ∈ lw_all := lw_in wsX50 [453, 455, 457, 459, 461, 463, 465, 467, 469, 471, 473, 475, 477] (by decide +kernel) (by decide +kernel)
/-! BeastsChoose$Fault -/
def RX6 : String := "BeastsChoose$Fault"
def TX6 : u_T := fun k => match k with
  | 0 => ("java/lang/Throwable", "cause", "Ljava/lang/Throwable;", false)
  | 1 => ("java/lang/Throwable", "stackTrace", "[Ljava/lang/StackTraceElement;", false)
  | 2 => ("java/lang/Throwable", "suppressedExceptions", "Ljava/util/List;", false)
  | 3 => ("java/lang/Throwable", "detailMessage", "Ljava/lang/String;", false)
  | 4 => ("java/lang/Throwable", "backtrace", "Ljava/lang/Object;", false)
  | 5 => ("java/lang/Throwable", "depth", "I", false)
  | 6 => ("BeastsChoose$Fault", "kind", "I", true)
  | _ => ("BeastsChoose$Fault", "place", "I", true)
def tyX6 : Nat → FieldType := fun k => match k with
  | 0 => .object "java/lang/Throwable"
  | 1 => .array (.object "java/lang/StackTraceElement")
  | 2 => .object "java/util/List"
  | 3 => .object "java/lang/String"
  | 4 => .object "java/lang/Object"
  | 5 => .int
  | 6 => .int
  | _ => .int
abbrev wsX60 : List Cond := u_ws RX6 TX6 8
theorem nmX6 : ∀ a, a < 8 → ∀ b, b < 8 → a ≠ b → (TX6 a).2.1 ≠ (TX6 b).2.1 := by decide +kernel
theorem tyX6_ok : ∀ k, k < 8 → parseFieldDescriptor (TX6 k).2.2.1 = some (tyX6 k) := by decide +kernel
theorem in_X6 : ∀ w ∈ wsX60, w ∈ lw_all := lw_in wsX60 [509, 511, 513, 515, 517, 563, 555, 557] (by decide +kernel) (by decide +kernel)
/-! BeastsChoose$Named -/
def RX7 : String := "BeastsChoose$Named"
/-! BeastsChoose$Beast -/
def RX8 : String := "BeastsChoose$Beast"
def TX8 : u_T := fun k => match k with
  | 0 => ("BeastsChoose$Named", "name", "Ljava/lang/String;", true)
  | 1 => ("BeastsChoose$Named", "number", "I", true)
  | 2 => ("BeastsChoose$Named", "from", "I", false)
  | 3 => ("BeastsChoose$Named", "to", "I", false)
  | 4 => ("BeastsChoose$Beast", "at", "I", false)
  | 5 => ("BeastsChoose$Beast", "taste", "[I", false)
  | 6 => ("BeastsChoose$Beast", "saw", "[I", false)
  | _ => ("BeastsChoose$Beast", "today", "[I", false)
def tyX8 : Nat → FieldType := fun k => match k with
  | 0 => .object "java/lang/String"
  | 1 => .int
  | 2 => .int
  | 3 => .int
  | 4 => .int
  | 5 => .array .int
  | 6 => .array .int
  | _ => .array .int
abbrev wsX80 : List Cond := u_ws RX8 TX8 8
theorem nmX8 : ∀ a, a < 8 → ∀ b, b < 8 → a ≠ b → (TX8 a).2.1 ≠ (TX8 b).2.1 := by decide +kernel
theorem tyX8_ok : ∀ k, k < 8 → parseFieldDescriptor (TX8 k).2.2.1 = some (tyX8 k) := by decide +kernel
theorem in_X8 : ∀ w ∈ wsX80, w ∈ lw_all := lw_in wsX80 [800, 802, 804, 806, 792, 794, 796, 798] (by decide +kernel) (by decide +kernel)
/-! BeastsChoose$Guest -/
def RX9 : String := "BeastsChoose$Guest"
def TX9 : u_T := fun k => match k with
  | 0 => ("BeastsChoose$Named", "name", "Ljava/lang/String;", true)
  | 1 => ("BeastsChoose$Named", "number", "I", true)
  | 2 => ("BeastsChoose$Named", "from", "I", false)
  | 3 => ("BeastsChoose$Named", "to", "I", false)
  | 4 => ("BeastsChoose$Guest", "traits", "[I", true)
  | 5 => ("BeastsChoose$Guest", "fears", "I", false)
  | 6 => ("BeastsChoose$Guest", "back", "I", false)
  | _ => ("BeastsChoose$Guest", "by", "LBeastsChoose$Beast;", false)
def tyX9 : Nat → FieldType := fun k => match k with
  | 0 => .object "java/lang/String"
  | 1 => .int
  | 2 => .int
  | 3 => .int
  | 4 => .array .int
  | 5 => .int
  | 6 => .int
  | _ => .object "BeastsChoose$Beast"
abbrev wsX90 : List Cond := u_ws RX9 TX9 8
theorem nmX9 : ∀ a, a < 8 → ∀ b, b < 8 → a ≠ b → (TX9 a).2.1 ≠ (TX9 b).2.1 := by decide +kernel
theorem tyX9_ok : ∀ k, k < 8 → parseFieldDescriptor (TX9 k).2.2.1 = some (tyX9 k) := by decide +kernel
theorem in_X9 : ∀ w ∈ wsX90, w ∈ lw_all := lw_in wsX90 [924, 925, 926, 927, 916, 918, 920, 922] (by decide +kernel) (by decide +kernel)
/-! BeastsChoose$Plain -/
def RX10 : String := "BeastsChoose$Plain"
def TX10 : u_T := fun k => match k with
  | _ => ("BeastsChoose$Plain", "v", "I", true)
def tyX10 : Nat → FieldType := fun k => match k with
  | _ => .int
abbrev wsX100 : List Cond := u_ws RX10 TX10 1
theorem nmX10 : ∀ a, a < 1 → ∀ b, b < 1 → a ≠ b → (TX10 a).2.1 ≠ (TX10 b).2.1 := by decide +kernel
theorem tyX10_ok : ∀ k, k < 1 → parseFieldDescriptor (TX10 k).2.2.1 = some (tyX10 k) := by decide +kernel
theorem in_X10 : ∀ w ∈ wsX100, w ∈ lw_all := lw_in wsX100 [969] (by decide +kernel) (by decide +kernel)
/-! BeastsChoose$Asked -/
def RX11 : String := "BeastsChoose$Asked"
def TX11 : u_T := fun k => match k with
  | _ => ("BeastsChoose$Asked", "which", "I", true)
def tyX11 : Nat → FieldType := fun k => match k with
  | _ => .int
abbrev wsX110 : List Cond := u_ws RX11 TX11 1
theorem nmX11 : ∀ a, a < 1 → ∀ b, b < 1 → a ≠ b → (TX11 a).2.1 ≠ (TX11 b).2.1 := by decide +kernel
theorem tyX11_ok : ∀ k, k < 1 → parseFieldDescriptor (TX11 k).2.2.1 = some (tyX11 k) := by decide +kernel
theorem in_X11 : ∀ w ∈ wsX110, w ∈ lw_all := lw_in wsX110 [985] (by decide +kernel) (by decide +kernel)
/-! BeastsChoose$Always -/
def RX12 : String := "BeastsChoose$Always"
def TX12 : u_T := fun _ => ("", "", "", false)
/-! BeastsChoose$Against -/
def RX13 : String := "BeastsChoose$Against"
def TX13 : u_T := fun k => match k with
  | 0 => ("BeastsChoose$Against", "sign", "C", true)
  | 1 => ("BeastsChoose$Against", "a", "LBeastsChoose$Sum;", true)
  | _ => ("BeastsChoose$Against", "b", "LBeastsChoose$Sum;", true)
def tyX13 : Nat → FieldType := fun k => match k with
  | 0 => .char
  | 1 => .object "BeastsChoose$Sum"
  | _ => .object "BeastsChoose$Sum"
abbrev wsX130 : List Cond := u_ws RX13 TX13 3
theorem nmX13 : ∀ a, a < 3 → ∀ b, b < 3 → a ≠ b → (TX13 a).2.1 ≠ (TX13 b).2.1 := by decide +kernel
theorem tyX13_ok : ∀ k, k < 3 → parseFieldDescriptor (TX13 k).2.2.1 = some (tyX13 k) := by decide +kernel
theorem in_X13 : ∀ w ∈ wsX130, w ∈ lw_all := lw_in wsX130 [1055, 1057, 1059] (by decide +kernel) (by decide +kernel)
/-! BeastsChoose$Not -/
def RX14 : String := "BeastsChoose$Not"
def TX14 : u_T := fun k => match k with
  | _ => ("BeastsChoose$Not", "test", "LBeastsChoose$Test;", true)
def tyX14 : Nat → FieldType := fun k => match k with
  | _ => .object "BeastsChoose$Test"
abbrev wsX140 : List Cond := u_ws RX14 TX14 1
theorem nmX14 : ∀ a, a < 1 → ∀ b, b < 1 → a ≠ b → (TX14 a).2.1 ≠ (TX14 b).2.1 := by decide +kernel
theorem tyX14_ok : ∀ k, k < 1 → parseFieldDescriptor (TX14 k).2.2.1 = some (tyX14 k) := by decide +kernel
theorem in_X14 : ∀ w ∈ wsX140, w ∈ lw_all := lw_in wsX140 [1078] (by decide +kernel) (by decide +kernel)
/-! BeastsChoose$Several -/
def RX15 : String := "BeastsChoose$Several"
def TX15 : u_T := fun k => match k with
  | 0 => ("BeastsChoose$Several", "all", "Z", true)
  | _ => ("BeastsChoose$Several", "tests", "Ljava/util/ArrayList;", true)
def tyX15 : Nat → FieldType := fun k => match k with
  | 0 => .boolean
  | _ => .object "java/util/ArrayList"
abbrev wsX150 : List Cond := u_ws RX15 TX15 2
theorem nmX15 : ∀ a, a < 2 → ∀ b, b < 2 → a ≠ b → (TX15 a).2.1 ≠ (TX15 b).2.1 := by decide +kernel
theorem tyX15_ok : ∀ k, k < 2 → parseFieldDescriptor (TX15 k).2.2.1 = some (tyX15 k) := by decide +kernel
theorem in_X15 : ∀ w ∈ wsX150, w ∈ lw_all := lw_in wsX150 [1104, 1106] (by decide +kernel) (by decide +kernel)
/-! BeastsChoose$Chosen -/
def RX16 : String := "BeastsChoose$Chosen"
def TX16 : u_T := fun k => match k with
  | 0 => ("BeastsChoose$Chosen", "when", "LBeastsChoose$Test;", true)
  | 1 => ("BeastsChoose$Chosen", "a", "LBeastsChoose$Sum;", true)
  | _ => ("BeastsChoose$Chosen", "b", "LBeastsChoose$Sum;", true)
def tyX16 : Nat → FieldType := fun k => match k with
  | 0 => .object "BeastsChoose$Test"
  | 1 => .object "BeastsChoose$Sum"
  | _ => .object "BeastsChoose$Sum"
abbrev wsX160 : List Cond := u_ws RX16 TX16 3
theorem nmX16 : ∀ a, a < 3 → ∀ b, b < 3 → a ≠ b → (TX16 a).2.1 ≠ (TX16 b).2.1 := by decide +kernel
theorem tyX16_ok : ∀ k, k < 3 → parseFieldDescriptor (TX16 k).2.2.1 = some (tyX16 k) := by decide +kernel
theorem in_X16 : ∀ w ∈ wsX160, w ∈ lw_all := lw_in wsX160 [1119, 1121, 1123] (by decide +kernel) (by decide +kernel)
/-! BeastsChoose$Ends -/
def RX17 : String := "BeastsChoose$Ends"
def TX17 : u_T := fun k => match k with
  | 0 => ("BeastsChoose$Ends", "least", "Z", true)
  | 1 => ("BeastsChoose$Ends", "a", "LBeastsChoose$Sum;", true)
  | _ => ("BeastsChoose$Ends", "b", "LBeastsChoose$Sum;", true)
def tyX17 : Nat → FieldType := fun k => match k with
  | 0 => .boolean
  | 1 => .object "BeastsChoose$Sum"
  | _ => .object "BeastsChoose$Sum"
abbrev wsX170 : List Cond := u_ws RX17 TX17 3
theorem nmX17 : ∀ a, a < 3 → ∀ b, b < 3 → a ≠ b → (TX17 a).2.1 ≠ (TX17 b).2.1 := by decide +kernel
theorem tyX17_ok : ∀ k, k < 3 → parseFieldDescriptor (TX17 k).2.2.1 = some (tyX17 k) := by decide +kernel
theorem in_X17 : ∀ w ∈ wsX170, w ∈ lw_all := lw_in wsX170 [1137, 1139, 1141] (by decide +kernel) (by decide +kernel)
/-! BeastsChoose$Chain -/
def RX18 : String := "BeastsChoose$Chain"
def TX18 : u_T := fun k => match k with
  | 0 => ("BeastsChoose$Chain", "parts", "Ljava/util/ArrayList;", true)
  | _ => ("BeastsChoose$Chain", "signs", "Ljava/lang/StringBuilder;", true)
def tyX18 : Nat → FieldType := fun k => match k with
  | 0 => .object "java/util/ArrayList"
  | _ => .object "java/lang/StringBuilder"
abbrev wsX180 : List Cond := u_ws RX18 TX18 2
theorem nmX18 : ∀ a, a < 2 → ∀ b, b < 2 → a ≠ b → (TX18 a).2.1 ≠ (TX18 b).2.1 := by decide +kernel
theorem tyX18_ok : ∀ k, k < 2 → parseFieldDescriptor (TX18 k).2.2.1 = some (tyX18 k) := by decide +kernel
theorem in_X18 : ∀ w ∈ wsX180, w ∈ lw_all := lw_in wsX180 [1181, 1183] (by decide +kernel) (by decide +kernel)
/-! BeastsChoose$Rounds -/
def RX19 : String := "BeastsChoose$Rounds"
def TX19 : u_T := fun k => match k with
  | 0 => ("BeastsChoose$Rounds", "holds", "[LBeastsChoose$Guest;", true)
  | 1 => ("BeastsChoose$Rounds", "gets", "[LBeastsChoose$Guest;", true)
  | 2 => ("BeastsChoose$Rounds", "left", "[I", true)
  | 3 => ("BeastsChoose$Rounds", "to", "[I", true)
  | _ => ("BeastsChoose$Rounds", "this$0", "LBeastsChoose;", true)
def tyX19 : Nat → FieldType := fun k => match k with
  | 0 => .array (.object "BeastsChoose$Guest")
  | 1 => .array (.object "BeastsChoose$Guest")
  | 2 => .array .int
  | 3 => .array .int
  | _ => .object "BeastsChoose"
abbrev wsX190 : List Cond := u_ws RX19 TX19 5
theorem nmX19 : ∀ a, a < 5 → ∀ b, b < 5 → a ≠ b → (TX19 a).2.1 ≠ (TX19 b).2.1 := by decide +kernel
theorem tyX19_ok : ∀ k, k < 5 → parseFieldDescriptor (TX19 k).2.2.1 = some (tyX19 k) := by decide +kernel
theorem in_X19 : ∀ w ∈ wsX190, w ∈ lw_all := lw_in wsX190 [1754, 1756, 1758, 1760, 1762] (by decide +kernel) (by decide +kernel)
/-! BeastsChoose$Act -/
def RX20 : String := "BeastsChoose$Act"
def TX20 : u_T := fun k => match k with
  | 0 => ("BeastsChoose$Act", "spot", "[I", true)
  | 1 => ("BeastsChoose$Act", "rows", "Ljava/util/ArrayList;", true)
  | _ => ("BeastsChoose$Act", "this$0", "LBeastsChoose;", true)
def tyX20 : Nat → FieldType := fun k => match k with
  | 0 => .array .int
  | 1 => .object "java/util/ArrayList"
  | _ => .object "BeastsChoose"
abbrev wsX200 : List Cond := u_ws RX20 TX20 3
theorem nmX20 : ∀ a, a < 3 → ∀ b, b < 3 → a ≠ b → (TX20 a).2.1 ≠ (TX20 b).2.1 := by decide +kernel
theorem tyX20_ok : ∀ k, k < 3 → parseFieldDescriptor (TX20 k).2.2.1 = some (tyX20 k) := by decide +kernel
theorem in_X20 : ∀ w ∈ wsX200, w ∈ lw_all := lw_in wsX200 [1325, 1327, 1329] (by decide +kernel) (by decide +kernel)
/-! BeastsChoose$Test -/
def RX21 : String := "BeastsChoose$Test"
/-! java/util/AbstractCollection -/
def RJ0 : String := "java/util/AbstractCollection"
/-! java/util/AbstractList -/
def RJ1 : String := "java/util/AbstractList"
/-! java/util/ArrayList -/
def RJ2 : String := "java/util/ArrayList"
def TJ2 : u_T := fun k => match k with
  | 0 => ("java/util/AbstractList", "modCount", "I", false)
  | 1 => ("java/util/ArrayList", "elementData", "[Ljava/lang/Object;", false)
  | _ => ("java/util/ArrayList", "size", "I", false)
def tyJ2 : Nat → FieldType := fun k => match k with
  | 0 => .int
  | 1 => .array (.object "java/lang/Object")
  | _ => .int
abbrev wsJ20 : List Cond := u_ws RJ2 TJ2 3
theorem nmJ2 : ∀ a, a < 3 → ∀ b, b < 3 → a ≠ b → (TJ2 a).2.1 ≠ (TJ2 b).2.1 := by decide +kernel
theorem tyJ2_ok : ∀ k, k < 3 → parseFieldDescriptor (TJ2 k).2.2.1 = some (tyJ2 k) := by decide +kernel
theorem in_J2 : ∀ w ∈ wsJ20, w ∈ lw_all := lw_in wsJ20 [237, 233, 235] (by decide +kernel) (by decide +kernel)
/-! java/lang/Throwable -/
def RJ3 : String := "java/lang/Throwable"
def TJ3 : u_T := fun k => match k with
  | 0 => ("java/lang/Throwable", "cause", "Ljava/lang/Throwable;", false)
  | 1 => ("java/lang/Throwable", "stackTrace", "[Ljava/lang/StackTraceElement;", false)
  | 2 => ("java/lang/Throwable", "suppressedExceptions", "Ljava/util/List;", false)
  | 3 => ("java/lang/Throwable", "detailMessage", "Ljava/lang/String;", false)
  | _ => ("java/lang/Throwable", "backtrace", "Ljava/lang/Object;", false)
def tyJ3 : Nat → FieldType := fun k => match k with
  | 0 => .object "java/lang/Throwable"
  | 1 => .array (.object "java/lang/StackTraceElement")
  | 2 => .object "java/util/List"
  | 3 => .object "java/lang/String"
  | _ => .object "java/lang/Object"
abbrev wsJ30 : List Cond := u_ws RJ3 TJ3 5
theorem nmJ3 : ∀ a, a < 5 → ∀ b, b < 5 → a ≠ b → (TJ3 a).2.1 ≠ (TJ3 b).2.1 := by decide +kernel
theorem tyJ3_ok : ∀ k, k < 5 → parseFieldDescriptor (TJ3 k).2.2.1 = some (tyJ3 k) := by decide +kernel
theorem in_J3 : ∀ w ∈ wsJ30, w ∈ lw_all := lw_in wsJ30 [510, 512, 514, 516, 518] (by decide +kernel) (by decide +kernel)
/-! java/lang/Exception -/
def RJ4 : String := "java/lang/Exception"
/-! java/lang/String -/
def RJ5 : String := "java/lang/String"
def TJ5 : u_T := fun k => match k with
  | 0 => ("java/lang/String", "value", "[B", true)
  | 1 => ("java/lang/String", "coder", "B", true)
  | 2 => ("java/lang/String", "hash", "I", false)
  | _ => ("java/lang/String", "hashIsZero", "Z", false)
def tyJ5 : Nat → FieldType := fun k => match k with
  | 0 => .array .byte
  | 1 => .byte
  | 2 => .int
  | _ => .boolean
abbrev wsJ50 : List Cond := u_ws RJ5 TJ5 4
theorem nmJ5 : ∀ a, a < 4 → ∀ b, b < 4 → a ≠ b → (TJ5 a).2.1 ≠ (TJ5 b).2.1 := by decide +kernel
theorem tyJ5_ok : ∀ k, k < 4 → parseFieldDescriptor (TJ5 k).2.2.1 = some (tyJ5 k) := by decide +kernel
theorem in_J5 : ∀ w ∈ wsJ50, w ∈ lw_all := lw_in wsJ50 [634, 636, 638, 640] (by decide +kernel) (by decide +kernel)
/-! jdk/internal/util/Preconditions -/
def RJ6 : String := "jdk/internal/util/Preconditions"
/-! java/lang/StringUTF16 -/
def RJ7 : String := "java/lang/StringUTF16"
/-! java/lang/StringLatin1 -/
def RJ8 : String := "java/lang/StringLatin1"
/-! java/util/Objects -/
def RJ9 : String := "java/util/Objects"
/-! jdk/internal/util/ArraysSupport -/
def RJ10 : String := "jdk/internal/util/ArraysSupport"
/-! java/lang/Math -/
def RJ11 : String := "java/lang/Math"
/-! java/util/Arrays -/
def RJ12 : String := "java/util/Arrays"
/-! java/lang/AbstractStringBuilder -/
def RJ13 : String := "java/lang/AbstractStringBuilder"
/-! java/lang/StringBuilder -/
def RJ14 : String := "java/lang/StringBuilder"
def TJ14 : u_T := fun k => match k with
  | 0 => ("java/lang/AbstractStringBuilder", "value", "[B", false)
  | 1 => ("java/lang/AbstractStringBuilder", "coder", "B", false)
  | 2 => ("java/lang/AbstractStringBuilder", "maybeLatin1", "Z", false)
  | _ => ("java/lang/AbstractStringBuilder", "count", "I", false)
def tyJ14 : Nat → FieldType := fun k => match k with
  | 0 => .array .byte
  | 1 => .byte
  | 2 => .boolean
  | _ => .int
abbrev wsJ140 : List Cond := u_ws RJ14 TJ14 4
theorem nmJ14 : ∀ a, a < 4 → ∀ b, b < 4 → a ≠ b → (TJ14 a).2.1 ≠ (TJ14 b).2.1 := by decide +kernel
theorem tyJ14_ok : ∀ k, k < 4 → parseFieldDescriptor (TJ14 k).2.2.1 = some (tyJ14 k) := by decide +kernel
theorem in_J14 : ∀ w ∈ wsJ140, w ∈ lw_all := lw_in wsJ140 [1170, 1172, 1174, 1176] (by decide +kernel) (by decide +kernel)
/-! java/lang/Integer -/
def RJ15 : String := "java/lang/Integer"
/-! java/lang/Object -/
def RJ16 : String := "java/lang/Object"
/-- the classes that are made, by number: name, fields, how many -/
def hx_cls : Nat → Option vw_C := fun k => match k with
  | 0 => some (RX0, TX0, 21)
  | 1 => some (RX1, TX1, 10)
  | 2 => some (RX2, TX2, 1)
  | 3 => some (RX3, TX3, 3)
  | 4 => some (RX4, TX4, 77)
  | 5 => some (RX5, TX5, 13)
  | 6 => some (RX6, TX6, 8)
  | 8 => some (RX8, TX8, 8)
  | 9 => some (RX9, TX9, 8)
  | 10 => some (RX10, TX10, 1)
  | 11 => some (RX11, TX11, 1)
  | 12 => some (RX12, TX12, 0)
  | 13 => some (RX13, TX13, 3)
  | 14 => some (RX14, TX14, 1)
  | 15 => some (RX15, TX15, 2)
  | 16 => some (RX16, TX16, 3)
  | 17 => some (RX17, TX17, 3)
  | 18 => some (RX18, TX18, 2)
  | 19 => some (RX19, TX19, 5)
  | 20 => some (RX20, TX20, 3)
  | 24 => some (RJ2, TJ2, 3)
  | 25 => some (RJ3, TJ3, 5)
  | 27 => some (RJ5, TJ5, 4)
  | 36 => some (RJ14, TJ14, 4)
  | _ => none
/-- how many slots an object of a class has -/
def hx_ns : Nat → Nat := fun k => match k with
  | 0 => 21
  | 1 => 10
  | 2 => 1
  | 3 => 3
  | 4 => 77
  | 5 => 13
  | 6 => 8
  | 8 => 8
  | 9 => 8
  | 10 => 1
  | 11 => 1
  | 12 => 0
  | 13 => 3
  | 14 => 1
  | 15 => 2
  | 16 => 3
  | 17 => 3
  | 18 => 2
  | 19 => 5
  | 20 => 3
  | 24 => 3
  | 25 => 6
  | 27 => 4
  | 36 => 4
  | _ => 0
