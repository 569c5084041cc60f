/-! the classes' tables -/
set_option maxRecDepth 100000
def RJ0 : String := "java/util/AbstractCollection"
def RJ1 : String := "java/util/AbstractList"
def RJ2 : String := "java/util/ArrayList"
def TJ2 : u_T := fun k => match k with
  | 0 => ("java/util/AbstractList", "modCount", "I", false)
  | 1 => ("java/util/ArrayList", "elementData", "[Ljava/lang/Object;", false)
  | _ => ("java/util/ArrayList", "size", "I", false)
def tyJ2 : Nat → FieldType := fun k => match k with
  | 0 => .int
  | 1 => .array (.object "java/lang/Object")
  | _ => .int
abbrev wsJ20 : List Cond := u_ws RJ2 TJ2 3
theorem nmJ2 : ∀ a, a < 3 → ∀ b, b < 3 → a ≠ b → (TJ2 a).2.1 ≠ (TJ2 b).2.1 := by decide +kernel
theorem tyJ2_ok : ∀ k, k < 3 → parseFieldDescriptor (TJ2 k).2.2.1 = some (tyJ2 k) := by decide +kernel
theorem in_J2 : ∀ w ∈ wsJ20, w ∈ lw_all := lw_in wsJ20 [190, 186, 188] (by decide +kernel) (by decide +kernel)
def RJ3 : String := "java/util/Objects"
def RJ4 : String := "jdk/internal/util/Preconditions"
def RJ5 : String := "java/util/Arrays"
def RJ6 : String := "java/lang/AbstractStringBuilder"
def RJ7 : String := "java/lang/StringBuilder"
def TJ7 : u_T := fun k => match k with
  | 0 => ("java/lang/AbstractStringBuilder", "value", "[B", false)
  | 1 => ("java/lang/AbstractStringBuilder", "coder", "B", false)
  | 2 => ("java/lang/AbstractStringBuilder", "maybeLatin1", "Z", false)
  | _ => ("java/lang/AbstractStringBuilder", "count", "I", false)
def tyJ7 : Nat → FieldType := fun k => match k with
  | 0 => .array .byte
  | 1 => .byte
  | 2 => .boolean
  | _ => .int
abbrev wsJ70 : List Cond := u_ws RJ7 TJ7 4
theorem nmJ7 : ∀ a, a < 4 → ∀ b, b < 4 → a ≠ b → (TJ7 a).2.1 ≠ (TJ7 b).2.1 := by decide +kernel
theorem tyJ7_ok : ∀ k, k < 4 → parseFieldDescriptor (TJ7 k).2.2.1 = some (tyJ7 k) := by decide +kernel
theorem in_J7 : ∀ w ∈ wsJ70, w ∈ lw_all := lw_in wsJ70 [570, 572, 574, 576] (by decide +kernel) (by decide +kernel)
def RJ8 : String := "java/lang/String"
def TJ8 : u_T := fun k => match k with
  | 0 => ("java/lang/String", "value", "[B", true)
  | 1 => ("java/lang/String", "coder", "B", true)
  | 2 => ("java/lang/String", "hash", "I", false)
  | _ => ("java/lang/String", "hashIsZero", "Z", false)
def tyJ8 : Nat → FieldType := fun k => match k with
  | 0 => .array .byte
  | 1 => .byte
  | 2 => .int
  | _ => .boolean
abbrev wsJ80 : List Cond := u_ws RJ8 TJ8 4
theorem nmJ8 : ∀ a, a < 4 → ∀ b, b < 4 → a ≠ b → (TJ8 a).2.1 ≠ (TJ8 b).2.1 := by decide +kernel
theorem tyJ8_ok : ∀ k, k < 4 → parseFieldDescriptor (TJ8 k).2.2.1 = some (tyJ8 k) := by decide +kernel
theorem in_J8 : ∀ w ∈ wsJ80, w ∈ lw_all := lw_in wsJ80 [724, 726, 728, 730] (by decide +kernel) (by decide +kernel)
def RJ9 : String := "java/lang/StringUTF16"
def RJ10 : String := "jdk/internal/util/ArraysSupport"
def RJ11 : String := "java/lang/Math"
def RJ12 : String := "java/lang/StringLatin1"
def RJ13 : String := "java/lang/Throwable"
def TJ13 : u_T := fun k => match k with
  | 0 => ("java/lang/Throwable", "cause", "Ljava/lang/Throwable;", false)
  | 1 => ("java/lang/Throwable", "stackTrace", "[Ljava/lang/StackTraceElement;", false)
  | 2 => ("java/lang/Throwable", "suppressedExceptions", "Ljava/util/List;", false)
  | 3 => ("java/lang/Throwable", "detailMessage", "Ljava/lang/String;", false)
  | _ => ("java/lang/Throwable", "backtrace", "Ljava/lang/Object;", false)
def tyJ13 : Nat → FieldType := fun k => match k with
  | 0 => .object "java/lang/Throwable"
  | 1 => .array (.object "java/lang/StackTraceElement")
  | 2 => .object "java/util/List"
  | 3 => .object "java/lang/String"
  | _ => .object "java/lang/Object"
abbrev wsJ130 : List Cond := u_ws RJ13 TJ13 5
theorem nmJ13 : ∀ a, a < 5 → ∀ b, b < 5 → a ≠ b → (TJ13 a).2.1 ≠ (TJ13 b).2.1 := by decide +kernel
theorem tyJ13_ok : ∀ k, k < 5 → parseFieldDescriptor (TJ13 k).2.2.1 = some (tyJ13 k) := by decide +kernel
theorem in_J13 : ∀ w ∈ wsJ130, w ∈ lw_all := lw_in wsJ130 [772, 774, 776, 778, 780] (by decide +kernel) (by decide +kernel)
def RJ14 : String := "java/lang/Exception"
def RJ15 : String := "java/lang/RuntimeException"
def RJ16 : String := "java/util/NoSuchElementException"
def TJ16 : u_T := fun k => match k with
  | 0 => ("java/lang/Throwable", "cause", "Ljava/lang/Throwable;", false)
  | 1 => ("java/lang/Throwable", "stackTrace", "[Ljava/lang/StackTraceElement;", false)
  | 2 => ("java/lang/Throwable", "suppressedExceptions", "Ljava/util/List;", false)
  | 3 => ("java/lang/Throwable", "detailMessage", "Ljava/lang/String;", false)
  | 4 => ("java/lang/Throwable", "backtrace", "Ljava/lang/Object;", false)
  | _ => ("java/lang/Throwable", "depth", "I", false)
def tyJ16 : Nat → FieldType := fun k => match k with
  | 0 => .object "java/lang/Throwable"
  | 1 => .array (.object "java/lang/StackTraceElement")
  | 2 => .object "java/util/List"
  | 3 => .object "java/lang/String"
  | 4 => .object "java/lang/Object"
  | _ => .int
abbrev wsJ160 : List Cond := u_ws RJ16 TJ16 6
theorem nmJ16 : ∀ a, a < 6 → ∀ b, b < 6 → a ≠ b → (TJ16 a).2.1 ≠ (TJ16 b).2.1 := by decide +kernel
theorem tyJ16_ok : ∀ k, k < 6 → parseFieldDescriptor (TJ16 k).2.2.1 = some (tyJ16 k) := by decide +kernel
theorem in_J16 : ∀ w ∈ wsJ160, w ∈ lw_all := lw_in wsJ160 [1862, 1863, 1864, 1865, 1866, 1874] (by decide +kernel) (by decide +kernel)
def RJ17 : String := "java/lang/Integer"
def RJ18 : String := "java/lang/Object"
def RX0 : String := "WellPromisesLaw"
def RX1 : String := "WellPromises"
def TX1 : u_T := fun k => match k with
  | 0 => ("WellPromises", "tape", "[B", true)
  | 1 => ("WellPromises", "taped", "I", false)
  | 2 => ("WellPromises", "fault", "I", false)
  | 3 => ("WellPromises", "house", "LWellPromises$House;", false)
  | 4 => ("WellPromises", "now", "LWellPromises$Stay;", true)
  | 5 => ("WellPromises", "trial", "LWellPromises$Stay;", true)
  | 6 => ("WellPromises", "sentence", "LWellPromises$Cond;", false)
  | 7 => ("WellPromises", "before", "[LWellPromises$Stay;", true)
  | 8 => ("WellPromises", "befores", "I", false)
  | 9 => ("WellPromises", "far", "[I", true)
  | 10 => ("WellPromises", "queue", "[I", true)
  | 11 => ("WellPromises", "due", "[I", true)
  | 12 => ("WellPromises", "fewest", "[I", true)
  | 13 => ("WellPromises", "steps", "[I", true)
  | 14 => ("WellPromises", "dueMany", "I", false)
  | 15 => ("WellPromises", "planFrom", "I", false)
  | 16 => ("WellPromises", "planTo", "I", false)
  | 17 => ("WellPromises", "booked", "[I", true)
  | _ => ("WellPromises", "images", "[LWellPromises$Image;", true)
def tyX1 : Nat → FieldType := fun k => match k with
  | 0 => .array .byte
  | 1 => .int
  | 2 => .int
  | 3 => .object "WellPromises$House"
  | 4 => .object "WellPromises$Stay"
  | 5 => .object "WellPromises$Stay"
  | 6 => .object "WellPromises$Cond"
  | 7 => .array (.object "WellPromises$Stay")
  | 8 => .int
  | 9 => .array .int
  | 10 => .array .int
  | 11 => .array .int
  | 12 => .array .int
  | 13 => .array .int
  | 14 => .int
  | 15 => .int
  | 16 => .int
  | 17 => .array .int
  | _ => .array (.object "WellPromises$Image")
abbrev wsX10 : List Cond := u_ws RX1 TX1 19
theorem nmX1 : ∀ a, a < 19 → ∀ b, b < 19 → a ≠ b → (TX1 a).2.1 ≠ (TX1 b).2.1 := by decide +kernel
theorem tyX1_ok : ∀ k, k < 19 → parseFieldDescriptor (TX1 k).2.2.1 = some (tyX1 k) := by decide +kernel
theorem in_X1 : ∀ w ∈ wsX10, w ∈ lw_all := lw_in wsX10 [412, 414, 416, 418, 420, 422, 424, 426, 428, 430, 432, 434, 436, 438, 440, 442, 444, 446, 448] (by decide +kernel) (by decide +kernel)
def RX2 : String := "WellPromises$House"
def TX2 : u_T := fun k => match k with
  | 0 => ("WellPromises$House", "hours", "I", false)
  | 1 => ("WellPromises$House", "lines", "I", false)
  | 2 => ("WellPromises$House", "ways", "I", false)
  | 3 => ("WellPromises$House", "places", "Ljava/util/ArrayList;", true)
  | 4 => ("WellPromises$House", "deeds", "Ljava/util/ArrayList;", true)
  | 5 => ("WellPromises$House", "persons", "Ljava/util/ArrayList;", true)
  | 6 => ("WellPromises$House", "promises", "Ljava/util/ArrayList;", true)
  | 7 => ("WellPromises$House", "way", "[[Z", true)
  | 8 => ("WellPromises$House", "vow", "[[Z", true)
  | 9 => ("WellPromises$House", "frog", "[I", true)
  | 10 => ("WellPromises$House", "frogs", "I", false)
  | _ => ("WellPromises$House", "vows", "I", false)
def tyX2 : Nat → FieldType := fun k => match k with
  | 0 => .int
  | 1 => .int
  | 2 => .int
  | 3 => .object "java/util/ArrayList"
  | 4 => .object "java/util/ArrayList"
  | 5 => .object "java/util/ArrayList"
  | 6 => .object "java/util/ArrayList"
  | 7 => .array (.array .boolean)
  | 8 => .array (.array .boolean)
  | 9 => .array .int
  | 10 => .int
  | _ => .int
abbrev wsX20 : List Cond := u_ws RX2 TX2 12
theorem nmX2 : ∀ a, a < 12 → ∀ b, b < 12 → a ≠ b → (TX2 a).2.1 ≠ (TX2 b).2.1 := by decide +kernel
theorem tyX2_ok : ∀ k, k < 12 → parseFieldDescriptor (TX2 k).2.2.1 = some (tyX2 k) := by decide +kernel
theorem in_X2 : ∀ w ∈ wsX20, w ∈ lw_all := lw_in wsX20 [243, 245, 247, 249, 251, 253, 255, 257, 259, 261, 263, 265] (by decide +kernel) (by decide +kernel)
def RX3 : String := "WellPromises$Stay"
def TX3 : u_T := fun k => match k with
  | 0 => ("WellPromises$Stay", "h", "LWellPromises$House;", false)
  | 1 => ("WellPromises$Stay", "day", "I", false)
  | 2 => ("WellPromises$Stay", "hour", "I", false)
  | 3 => ("WellPromises$Stay", "many", "I", false)
  | 4 => ("WellPromises$Stay", "place", "[I", true)
  | 5 => ("WellPromises$Stay", "deeds", "[I", true)
  | 6 => ("WellPromises$Stay", "goings", "[I", true)
  | 7 => ("WellPromises$Stay", "said", "[I", true)
  | 8 => ("WellPromises$Stay", "saidAt", "[I", true)
  | 9 => ("WellPromises$Stay", "busy", "[Z", true)
  | 10 => ("WellPromises$Stay", "when", "[I", true)
  | 11 => ("WellPromises$Stay", "who", "[I", true)
  | 12 => ("WellPromises$Stay", "what", "[I", true)
  | 13 => ("WellPromises$Stay", "where", "[I", true)
  | _ => ("WellPromises$Stay", "seed", "I", false)
def tyX3 : Nat → FieldType := fun k => match k with
  | 0 => .object "WellPromises$House"
  | 1 => .int
  | 2 => .int
  | 3 => .int
  | 4 => .array .int
  | 5 => .array .int
  | 6 => .array .int
  | 7 => .array .int
  | 8 => .array .int
  | 9 => .array .boolean
  | 10 => .array .int
  | 11 => .array .int
  | 12 => .array .int
  | 13 => .array .int
  | _ => .int
abbrev wsX30 : List Cond := u_ws RX3 TX3 15
theorem nmX3 : ∀ a, a < 15 → ∀ b, b < 15 → a ≠ b → (TX3 a).2.1 ≠ (TX3 b).2.1 := by decide +kernel
theorem tyX3_ok : ∀ k, k < 15 → parseFieldDescriptor (TX3 k).2.2.1 = some (tyX3 k) := by decide +kernel
theorem in_X3 : ∀ w ∈ wsX30, w ∈ lw_all := lw_in wsX30 [307, 309, 311, 313, 315, 317, 319, 321, 323, 325, 327, 329, 331, 333, 335] (by decide +kernel) (by decide +kernel)
def RX4 : String := "WellPromises$Image"
def TX4 : u_T := fun k => match k with
  | 0 => ("WellPromises$Image", "house", "LWellPromises$House;", false)
  | 1 => ("WellPromises$Image", "sentence", "LWellPromises$Cond;", false)
  | _ => ("WellPromises$Image", "stay", "LWellPromises$Stay;", true)
def tyX4 : Nat → FieldType := fun k => match k with
  | 0 => .object "WellPromises$House"
  | 1 => .object "WellPromises$Cond"
  | _ => .object "WellPromises$Stay"
abbrev wsX40 : List Cond := u_ws RX4 TX4 3
theorem nmX4 : ∀ a, a < 3 → ∀ b, b < 3 → a ≠ b → (TX4 a).2.1 ≠ (TX4 b).2.1 := by decide +kernel
theorem tyX4_ok : ∀ k, k < 3 → parseFieldDescriptor (TX4 k).2.2.1 = some (tyX4 k) := by decide +kernel
theorem in_X4 : ∀ w ∈ wsX40, w ∈ lw_all := lw_in wsX40 [386, 388, 390] (by decide +kernel) (by decide +kernel)
def RX5 : String := "WellPromisesModel"
def TX5 : u_T := fun k => match k with
  | 0 => ("WellPromisesModel", "thrown", "I", false)
  | 1 => ("WellPromisesModel", "tape", "[B", true)
  | 2 => ("WellPromisesModel", "length", "I", false)
  | 3 => ("WellPromisesModel", "size", "I", false)
  | 4 => ("WellPromisesModel", "p", "I", false)
  | 5 => ("WellPromisesModel", "limit", "I", false)
  | 6 => ("WellPromisesModel", "s", "[I", true)
  | 7 => ("WellPromisesModel", "h", "[I", true)
  | 8 => ("WellPromisesModel", "read", "[I", true)
  | 9 => ("WellPromisesModel", "names", "[J", true)
  | 10 => ("WellPromisesModel", "reserved", "[J", true)
  | 11 => ("WellPromisesModel", "token", "I", false)
  | 12 => ("WellPromisesModel", "at", "I", false)
  | 13 => ("WellPromisesModel", "span", "I", false)
  | 14 => ("WellPromisesModel", "number", "I", false)
  | 15 => ("WellPromisesModel", "fault", "I", false)
  | 16 => ("WellPromisesModel", "faultAt", "I", false)
  | 17 => ("WellPromisesModel", "word", "J", false)
  | 18 => ("WellPromisesModel", "got", "I", false)
  | 19 => ("WellPromisesModel", "lines", "I", false)
  | 20 => ("WellPromisesModel", "hasHours", "Z", false)
  | 21 => ("WellPromisesModel", "far", "[I", true)
  | 22 => ("WellPromisesModel", "undone", "[I", true)
  | 23 => ("WellPromisesModel", "before", "[I", true)
  | 24 => ("WellPromisesModel", "undoMany", "I", false)
  | 25 => ("WellPromisesModel", "goings", "[I", true)
  | 26 => ("WellPromisesModel", "due", "[I", true)
  | 27 => ("WellPromisesModel", "planRow", "[I", true)
  | 28 => ("WellPromisesModel", "dueMany", "I", false)
  | 29 => ("WellPromisesModel", "planFrom", "I", false)
  | 30 => ("WellPromisesModel", "planTill", "I", false)
  | 31 => ("WellPromisesModel", "hears", "[I", true)
  | 32 => ("WellPromisesModel", "fitMany", "I", false)
  | 33 => ("WellPromisesModel", "fitBest", "I", false)
  | 34 => ("WellPromisesModel", "seed", "I", false)
  | 35 => ("WellPromisesModel", "told", "I", false)
  | 36 => ("WellPromisesModel", "bookedAt", "[I", true)
  | 37 => ("WellPromisesModel", "hasBooked", "Z", false)
  | 38 => ("WellPromisesModel", "stack", "[I", true)
  | 39 => ("WellPromisesModel", "codes", "I", false)
  | 40 => ("WellPromisesModel", "ones", "I", false)
  | 41 => ("WellPromisesModel", "top", "I", false)
  | 42 => ("WellPromisesModel", "deep", "I", false)
  | 43 => ("WellPromisesModel", "isWhole", "Z", false)
  | 44 => ("WellPromisesModel", "truths", "[Z", true)
  | 45 => ("WellPromisesModel", "kept", "[I", true)
  | 46 => ("WellPromisesModel", "namesKept", "[J", true)
  | _ => ("WellPromisesModel", "areKept", "[Z", true)
def tyX5 : Nat → FieldType := fun k => match k with
  | 0 => .int
  | 1 => .array .byte
  | 2 => .int
  | 3 => .int
  | 4 => .int
  | 5 => .int
  | 6 => .array .int
  | 7 => .array .int
  | 8 => .array .int
  | 9 => .array .long
  | 10 => .array .long
  | 11 => .int
  | 12 => .int
  | 13 => .int
  | 14 => .int
  | 15 => .int
  | 16 => .int
  | 17 => .long
  | 18 => .int
  | 19 => .int
  | 20 => .boolean
  | 21 => .array .int
  | 22 => .array .int
  | 23 => .array .int
  | 24 => .int
  | 25 => .array .int
  | 26 => .array .int
  | 27 => .array .int
  | 28 => .int
  | 29 => .int
  | 30 => .int
  | 31 => .array .int
  | 32 => .int
  | 33 => .int
  | 34 => .int
  | 35 => .int
  | 36 => .array .int
  | 37 => .boolean
  | 38 => .array .int
  | 39 => .int
  | 40 => .int
  | 41 => .int
  | 42 => .int
  | 43 => .boolean
  | 44 => .array .boolean
  | 45 => .array .int
  | 46 => .array .long
  | _ => .array .boolean
abbrev wsX50 : List Cond := u_ws RX5 TX5 48
theorem nmX5 : ∀ a, a < 48 → ∀ b, b < 48 → a ≠ b → (TX5 a).2.1 ≠ (TX5 b).2.1 := by decide +kernel
theorem tyX5_ok : ∀ k, k < 48 → parseFieldDescriptor (TX5 k).2.2.1 = some (tyX5 k) := by decide +kernel
theorem in_X5 : ∀ w ∈ wsX50, w ∈ lw_all := lw_in wsX50 [1974, 1976, 1978, 1980, 1982, 1984, 1986, 1988, 1990, 1992, 1994, 1996, 1998, 2000, 2002, 2004, 2006, 2008, 2010, 2012, 2014, 2016, 2018, 2020, 2022, 2024, 2026, 2028, 2030, 2032, 2034, 2036, 2038, 2040, 2042, 2044, 2046, 2048, 2050, 2052, 2054, 2056, 2058, 2060, 2062, 2064, 2066, 2068] (by decide +kernel) (by decide +kernel)
def RX6 : String := "WellPromises$Reader"
def RX7 : String := "WellPromises$HouseReader"
def TX7 : u_T := fun k => match k with
  | 0 => ("WellPromises$Reader", "tape", "[B", true)
  | 1 => ("WellPromises$Reader", "size", "I", true)
  | 2 => ("WellPromises$Reader", "limit", "I", true)
  | 3 => ("WellPromises$Reader", "to", "I", false)
  | 4 => ("WellPromises$Reader", "kind", "I", false)
  | 5 => ("WellPromises$Reader", "from", "I", false)
  | 6 => ("WellPromises$Reader", "number", "I", false)
  | 7 => ("WellPromises$Reader", "sign", "I", false)
  | 8 => ("WellPromises$Reader", "word", "Ljava/lang/String;", false)
  | 9 => ("WellPromises$HouseReader", "h", "LWellPromises$House;", true)
  | _ => ("WellPromises$HouseReader", "hasHours", "Z", false)
def tyX7 : Nat → FieldType := fun k => match k with
  | 0 => .array .byte
  | 1 => .int
  | 2 => .int
  | 3 => .int
  | 4 => .int
  | 5 => .int
  | 6 => .int
  | 7 => .int
  | 8 => .object "java/lang/String"
  | 9 => .object "WellPromises$House"
  | _ => .boolean
abbrev wsX70 : List Cond := u_ws RX7 TX7 11
theorem nmX7 : ∀ a, a < 11 → ∀ b, b < 11 → a ≠ b → (TX7 a).2.1 ≠ (TX7 b).2.1 := by decide +kernel
theorem tyX7_ok : ∀ k, k < 11 → parseFieldDescriptor (TX7 k).2.2.1 = some (tyX7 k) := by decide +kernel
theorem in_X7 : ∀ w ∈ wsX70, w ∈ lw_all := lw_in wsX70 [509, 511, 513, 515, 517, 519, 521, 523, 525, 505, 507] (by decide +kernel) (by decide +kernel)
def RX8 : String := "WellPromises$Fault"
def TX8 : u_T := fun k => match k with
  | 0 => ("java/lang/Throwable", "cause", "Ljava/lang/Throwable;", false)
  | 1 => ("java/lang/Throwable", "stackTrace", "[Ljava/lang/StackTraceElement;", false)
  | 2 => ("java/lang/Throwable", "suppressedExceptions", "Ljava/util/List;", false)
  | 3 => ("java/lang/Throwable", "detailMessage", "Ljava/lang/String;", false)
  | 4 => ("java/lang/Throwable", "backtrace", "Ljava/lang/Object;", false)
  | 5 => ("java/lang/Throwable", "depth", "I", false)
  | 6 => ("WellPromises$Fault", "kind", "I", true)
  | _ => ("WellPromises$Fault", "place", "I", true)
def tyX8 : Nat → FieldType := fun k => match k with
  | 0 => .object "java/lang/Throwable"
  | 1 => .array (.object "java/lang/StackTraceElement")
  | 2 => .object "java/util/List"
  | 3 => .object "java/lang/String"
  | 4 => .object "java/lang/Object"
  | 5 => .int
  | 6 => .int
  | _ => .int
abbrev wsX80 : List Cond := u_ws RX8 TX8 8
theorem nmX8 : ∀ a, a < 8 → ∀ b, b < 8 → a ≠ b → (TX8 a).2.1 ≠ (TX8 b).2.1 := by decide +kernel
theorem tyX8_ok : ∀ k, k < 8 → parseFieldDescriptor (TX8 k).2.2.1 = some (tyX8 k) := by decide +kernel
theorem in_X8 : ∀ w ∈ wsX80, w ∈ lw_all := lw_in wsX80 [771, 773, 775, 777, 779, 823, 815, 817] (by decide +kernel) (by decide +kernel)
def RX9 : String := "WellPromises$Named"
def TX9 : u_T := fun k => match k with
  | _ => ("WellPromises$Named", "name", "Ljava/lang/String;", true)
def tyX9 : Nat → FieldType := fun k => match k with
  | _ => .object "java/lang/String"
abbrev wsX90 : List Cond := u_ws RX9 TX9 1
theorem nmX9 : ∀ a, a < 1 → ∀ b, b < 1 → a ≠ b → (TX9 a).2.1 ≠ (TX9 b).2.1 := by decide +kernel
theorem tyX9_ok : ∀ k, k < 1 → parseFieldDescriptor (TX9 k).2.2.1 = some (tyX9 k) := by decide +kernel
theorem in_X9 : ∀ w ∈ wsX90, w ∈ lw_all := lw_in wsX90 [947] (by decide +kernel) (by decide +kernel)
def RX10 : String := "WellPromises$Person"
def TX10 : u_T := fun k => match k with
  | 0 => ("WellPromises$Named", "name", "Ljava/lang/String;", true)
  | _ => ("WellPromises$Person", "place", "I", true)
def tyX10 : Nat → FieldType := fun k => match k with
  | 0 => .object "java/lang/String"
  | _ => .int
abbrev wsX100 : List Cond := u_ws RX10 TX10 2
theorem nmX10 : ∀ a, a < 2 → ∀ b, b < 2 → a ≠ b → (TX10 a).2.1 ≠ (TX10 b).2.1 := by decide +kernel
theorem tyX10_ok : ∀ k, k < 2 → parseFieldDescriptor (TX10 k).2.2.1 = some (tyX10 k) := by decide +kernel
theorem in_X10 : ∀ w ∈ wsX100, w ∈ lw_all := lw_in wsX100 [1052, 1050] (by decide +kernel) (by decide +kernel)
def RX11 : String := "WellPromises$Promise"
def TX11 : u_T := fun k => match k with
  | 0 => ("WellPromises$Named", "name", "Ljava/lang/String;", true)
  | 1 => ("WellPromises$Promise", "person", "I", true)
  | 2 => ("WellPromises$Promise", "deed", "I", true)
  | 3 => ("WellPromises$Promise", "place", "I", true)
  | 4 => ("WellPromises$Promise", "from", "I", true)
  | 5 => ("WellPromises$Promise", "till", "I", true)
  | 6 => ("WellPromises$Promise", "times", "I", true)
  | 7 => ("WellPromises$Promise", "each", "Z", false)
  | _ => ("WellPromises$Promise", "unless", "I", false)
def tyX11 : Nat → FieldType := fun k => match k with
  | 0 => .object "java/lang/String"
  | 1 => .int
  | 2 => .int
  | 3 => .int
  | 4 => .int
  | 5 => .int
  | 6 => .int
  | 7 => .boolean
  | _ => .int
abbrev wsX110 : List Cond := u_ws RX11 TX11 9
theorem nmX11 : ∀ a, a < 9 → ∀ b, b < 9 → a ≠ b → (TX11 a).2.1 ≠ (TX11 b).2.1 := by decide +kernel
theorem tyX11_ok : ∀ k, k < 9 → parseFieldDescriptor (TX11 k).2.2.1 = some (tyX11 k) := by decide +kernel
theorem in_X11 : ∀ w ∈ wsX110, w ∈ lw_all := lw_in wsX110 [1111, 1095, 1097, 1099, 1101, 1103, 1105, 1107, 1109] (by decide +kernel) (by decide +kernel)
def RX12 : String := "WellPromises$Act"
def RX13 : String := "WellPromises$OfPerson"
def RX14 : String := "WellPromises$Goes"
def TX14 : u_T := fun k => match k with
  | 0 => ("WellPromises$OfPerson", "person", "I", true)
  | _ => ("WellPromises$OfPerson", "what", "I", true)
def tyX14 : Nat → FieldType := fun k => match k with
  | 0 => .int
  | _ => .int
abbrev wsX140 : List Cond := u_ws RX14 TX14 2
theorem nmX14 : ∀ a, a < 2 → ∀ b, b < 2 → a ≠ b → (TX14 a).2.1 ≠ (TX14 b).2.1 := by decide +kernel
theorem tyX14_ok : ∀ k, k < 2 → parseFieldDescriptor (TX14 k).2.2.1 = some (tyX14 k) := by decide +kernel
theorem in_X14 : ∀ w ∈ wsX140, w ∈ lw_all := lw_in wsX140 [1267, 1269] (by decide +kernel) (by decide +kernel)
def RX15 : String := "WellPromises$Does"
def TX15 : u_T := fun k => match k with
  | 0 => ("WellPromises$OfPerson", "person", "I", true)
  | _ => ("WellPromises$OfPerson", "what", "I", true)
def tyX15 : Nat → FieldType := fun k => match k with
  | 0 => .int
  | _ => .int
abbrev wsX150 : List Cond := u_ws RX15 TX15 2
theorem nmX15 : ∀ a, a < 2 → ∀ b, b < 2 → a ≠ b → (TX15 a).2.1 ≠ (TX15 b).2.1 := by decide +kernel
theorem tyX15_ok : ∀ k, k < 2 → parseFieldDescriptor (TX15 k).2.2.1 = some (tyX15 k) := by decide +kernel
theorem in_X15 : ∀ w ∈ wsX150, w ∈ lw_all := lw_in wsX150 [1354, 1355] (by decide +kernel) (by decide +kernel)
def RX16 : String := "WellPromises$Says"
def TX16 : u_T := fun k => match k with
  | 0 => ("WellPromises$OfPerson", "person", "I", true)
  | _ => ("WellPromises$OfPerson", "what", "I", true)
def tyX16 : Nat → FieldType := fun k => match k with
  | 0 => .int
  | _ => .int
abbrev wsX160 : List Cond := u_ws RX16 TX16 2
theorem nmX16 : ∀ a, a < 2 → ∀ b, b < 2 → a ≠ b → (TX16 a).2.1 ≠ (TX16 b).2.1 := by decide +kernel
theorem tyX16_ok : ∀ k, k < 2 → parseFieldDescriptor (TX16 k).2.2.1 = some (tyX16 k) := by decide +kernel
theorem in_X16 : ∀ w ∈ wsX160, w ∈ lw_all := lw_in wsX160 [1375, 1376] (by decide +kernel) (by decide +kernel)
def RX17 : String := "WellPromises$BookReader"
def TX17 : u_T := fun k => match k with
  | 0 => ("WellPromises$Reader", "tape", "[B", true)
  | 1 => ("WellPromises$Reader", "size", "I", true)
  | 2 => ("WellPromises$Reader", "limit", "I", true)
  | 3 => ("WellPromises$Reader", "to", "I", false)
  | 4 => ("WellPromises$Reader", "kind", "I", false)
  | 5 => ("WellPromises$Reader", "from", "I", false)
  | 6 => ("WellPromises$Reader", "number", "I", false)
  | 7 => ("WellPromises$Reader", "sign", "I", false)
  | 8 => ("WellPromises$Reader", "word", "Ljava/lang/String;", false)
  | 9 => ("WellPromises$BookReader", "h", "LWellPromises$House;", true)
  | _ => ("WellPromises$BookReader", "acts", "Ljava/util/ArrayList;", true)
def tyX17 : Nat → FieldType := fun k => match k with
  | 0 => .array .byte
  | 1 => .int
  | 2 => .int
  | 3 => .int
  | 4 => .int
  | 5 => .int
  | 6 => .int
  | 7 => .int
  | 8 => .object "java/lang/String"
  | 9 => .object "WellPromises$House"
  | _ => .object "java/util/ArrayList"
abbrev wsX170 : List Cond := u_ws RX17 TX17 11
theorem nmX17 : ∀ a, a < 11 → ∀ b, b < 11 → a ≠ b → (TX17 a).2.1 ≠ (TX17 b).2.1 := by decide +kernel
theorem tyX17_ok : ∀ k, k < 11 → parseFieldDescriptor (TX17 k).2.2.1 = some (tyX17 k) := by decide +kernel
theorem in_X17 : ∀ w ∈ wsX170, w ∈ lw_all := lw_in wsX170 [1578, 1579, 1580, 1581, 1582, 1583, 1584, 1585, 1586, 1574, 1576] (by decide +kernel) (by decide +kernel)
def RX18 : String := "WellPromises$Hours"
def TX18 : u_T := fun k => match k with
  | _ => ("WellPromises$Hours", "many", "I", true)
def tyX18 : Nat → FieldType := fun k => match k with
  | _ => .int
abbrev wsX180 : List Cond := u_ws RX18 TX18 1
theorem nmX18 : ∀ a, a < 1 → ∀ b, b < 1 → a ≠ b → (TX18 a).2.1 ≠ (TX18 b).2.1 := by decide +kernel
theorem tyX18_ok : ∀ k, k < 1 → parseFieldDescriptor (TX18 k).2.2.1 = some (tyX18 k) := by decide +kernel
theorem in_X18 : ∀ w ∈ wsX180, w ∈ lw_all := lw_in wsX180 [1620] (by decide +kernel) (by decide +kernel)
def RX19 : String := "WellPromises$SentenceReader"
def TX19 : u_T := fun k => match k with
  | 0 => ("WellPromises$Reader", "tape", "[B", true)
  | 1 => ("WellPromises$Reader", "size", "I", true)
  | 2 => ("WellPromises$Reader", "limit", "I", true)
  | 3 => ("WellPromises$Reader", "to", "I", false)
  | 4 => ("WellPromises$Reader", "kind", "I", false)
  | 5 => ("WellPromises$Reader", "from", "I", false)
  | 6 => ("WellPromises$Reader", "number", "I", false)
  | 7 => ("WellPromises$Reader", "sign", "I", false)
  | 8 => ("WellPromises$Reader", "word", "Ljava/lang/String;", false)
  | 9 => ("WellPromises$SentenceReader", "h", "LWellPromises$House;", true)
  | 10 => ("WellPromises$SentenceReader", "ones", "I", false)
  | _ => ("WellPromises$SentenceReader", "within", "I", false)
def tyX19 : Nat → FieldType := fun k => match k with
  | 0 => .array .byte
  | 1 => .int
  | 2 => .int
  | 3 => .int
  | 4 => .int
  | 5 => .int
  | 6 => .int
  | 7 => .int
  | 8 => .object "java/lang/String"
  | 9 => .object "WellPromises$House"
  | 10 => .int
  | _ => .int
abbrev wsX190 : List Cond := u_ws RX19 TX19 12
theorem nmX19 : ∀ a, a < 12 → ∀ b, b < 12 → a ≠ b → (TX19 a).2.1 ≠ (TX19 b).2.1 := by decide +kernel
theorem tyX19_ok : ∀ k, k < 12 → parseFieldDescriptor (TX19 k).2.2.1 = some (tyX19 k) := by decide +kernel
theorem in_X19 : ∀ w ∈ wsX190, w ∈ lw_all := lw_in wsX190 [1668, 1669, 1670, 1671, 1672, 1673, 1674, 1675, 1676, 1662, 1664, 1666] (by decide +kernel) (by decide +kernel)
def RX20 : String := "WellPromises$Cond"
def RX21 : String := "WellPromises$Not"
def TX21 : u_T := fun k => match k with
  | _ => ("WellPromises$Not", "c", "LWellPromises$Cond;", true)
def tyX21 : Nat → FieldType := fun k => match k with
  | _ => .object "WellPromises$Cond"
abbrev wsX210 : List Cond := u_ws RX21 TX21 1
theorem nmX21 : ∀ a, a < 1 → ∀ b, b < 1 → a ≠ b → (TX21 a).2.1 ≠ (TX21 b).2.1 := by decide +kernel
theorem tyX21_ok : ∀ k, k < 1 → parseFieldDescriptor (TX21 k).2.2.1 = some (tyX21 k) := by decide +kernel
theorem in_X21 : ∀ w ∈ wsX210, w ∈ lw_all := lw_in wsX210 [1736] (by decide +kernel) (by decide +kernel)
def RX22 : String := "WellPromises$Of"
def TX22 : u_T := fun k => match k with
  | _ => ("WellPromises$Of", "person", "I", true)
def tyX22 : Nat → FieldType := fun k => match k with
  | _ => .int
abbrev wsX220 : List Cond := u_ws RX22 TX22 1
theorem nmX22 : ∀ a, a < 1 → ∀ b, b < 1 → a ≠ b → (TX22 a).2.1 ≠ (TX22 b).2.1 := by decide +kernel
theorem tyX22_ok : ∀ k, k < 1 → parseFieldDescriptor (TX22 k).2.2.1 = some (tyX22 k) := by decide +kernel
theorem in_X22 : ∀ w ∈ wsX220, w ∈ lw_all := lw_in wsX220 [1749] (by decide +kernel) (by decide +kernel)
def RX23 : String := "WellPromises$IsSo"
def TX23 : u_T := fun k => match k with
  | _ => ("WellPromises$IsSo", "status", "I", true)
def tyX23 : Nat → FieldType := fun k => match k with
  | _ => .int
abbrev wsX230 : List Cond := u_ws RX23 TX23 1
theorem nmX23 : ∀ a, a < 1 → ∀ b, b < 1 → a ≠ b → (TX23 a).2.1 ≠ (TX23 b).2.1 := by decide +kernel
theorem tyX23_ok : ∀ k, k < 1 → parseFieldDescriptor (TX23 k).2.2.1 = some (tyX23 k) := by decide +kernel
theorem in_X23 : ∀ w ∈ wsX230, w ∈ lw_all := lw_in wsX230 [1759] (by decide +kernel) (by decide +kernel)
def RX24 : String := "WellPromises$Than"
def TX24 : u_T := fun k => match k with
  | 0 => ("WellPromises$Than", "what", "I", true)
  | 1 => ("WellPromises$Than", "sign", "I", true)
  | _ => ("WellPromises$Than", "number", "I", true)
def tyX24 : Nat → FieldType := fun k => match k with
  | 0 => .int
  | 1 => .int
  | _ => .int
abbrev wsX240 : List Cond := u_ws RX24 TX24 3
theorem nmX24 : ∀ a, a < 3 → ∀ b, b < 3 → a ≠ b → (TX24 a).2.1 ≠ (TX24 b).2.1 := by decide +kernel
theorem tyX24_ok : ∀ k, k < 3 → parseFieldDescriptor (TX24 k).2.2.1 = some (tyX24 k) := by decide +kernel
theorem in_X24 : ∀ w ∈ wsX240, w ∈ lw_all := lw_in wsX240 [1778, 1780, 1782] (by decide +kernel) (by decide +kernel)
def RX25 : String := "WellPromises$Two"
def TX25 : u_T := fun k => match k with
  | 0 => ("WellPromises$Two", "a", "LWellPromises$Cond;", true)
  | 1 => ("WellPromises$Two", "b", "LWellPromises$Cond;", true)
  | _ => ("WellPromises$Two", "both", "Z", true)
def tyX25 : Nat → FieldType := fun k => match k with
  | 0 => .object "WellPromises$Cond"
  | 1 => .object "WellPromises$Cond"
  | _ => .boolean
abbrev wsX250 : List Cond := u_ws RX25 TX25 3
theorem nmX25 : ∀ a, a < 3 → ∀ b, b < 3 → a ≠ b → (TX25 a).2.1 ≠ (TX25 b).2.1 := by decide +kernel
theorem tyX25_ok : ∀ k, k < 3 → parseFieldDescriptor (TX25 k).2.2.1 = some (tyX25 k) := by decide +kernel
theorem in_X25 : ∀ w ∈ wsX250, w ∈ lw_all := lw_in wsX250 [1795, 1797, 1799] (by decide +kernel) (by decide +kernel)
