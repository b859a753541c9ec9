set_option maxRecDepth 100000
def RX0 : String := "TaxmazeLaw"
def RX1 : String := "Taxmaze"
def TX1 : u_T := fun k => match k with
  | 0 => ("Taxmaze", "contracts", "Ljava/util/List;", true)
  | 1 => ("Taxmaze", "shifts", "I", false)
  | 2 => ("Taxmaze", "leaves", "Ljava/util/List;", true)
  | 3 => ("Taxmaze", "leaveRate", "I", false)
  | 4 => ("Taxmaze", "leaveCarry", "I", false)
  | 5 => ("Taxmaze", "leaveTerm", "I", false)
  | 6 => ("Taxmaze", "draft", "Ljava/util/List;", false)
  | 7 => ("Taxmaze", "elements", "Ljava/util/List;", false)
  | 8 => ("Taxmaze", "bonuses", "[[[I", true)
  | 9 => ("Taxmaze", "contributions", "Ljava/util/List;", true)
  | 10 => ("Taxmaze", "brackets", "Ljava/util/List;", true)
  | 11 => ("Taxmaze", "states", "Ljava/util/List;", true)
  | 12 => ("Taxmaze", "pensions", "Ljava/util/List;", true)
  | 13 => ("Taxmaze", "garnishments", "Ljava/util/List;", true)
  | 14 => ("Taxmaze", "byRank", "Ljava/util/List;", true)
  | 15 => ("Taxmaze", "advances", "Ljava/util/List;", true)
  | 16 => ("Taxmaze", "payments", "Ljava/util/List;", true)
  | 17 => ("Taxmaze", "open", "I", false)
  | 18 => ("Taxmaze", "filed", "[[[J", true)
  | _ => ("Taxmaze", "corrections", "[[I", true)
def tyX1 : Nat → FieldType := fun k => match k with
  | 0 => .object "java/util/List"
  | 1 => .int
  | 2 => .object "java/util/List"
  | 3 => .int
  | 4 => .int
  | 5 => .int
  | 6 => .object "java/util/List"
  | 7 => .object "java/util/List"
  | 8 => .array (.array (.array .int))
  | 9 => .object "java/util/List"
  | 10 => .object "java/util/List"
  | 11 => .object "java/util/List"
  | 12 => .object "java/util/List"
  | 13 => .object "java/util/List"
  | 14 => .object "java/util/List"
  | 15 => .object "java/util/List"
  | 16 => .object "java/util/List"
  | 17 => .int
  | 18 => .array (.array (.array .long))
  | _ => .array (.array .int)
abbrev wsX10 : List Cond := u_ws RX1 TX1 20
theorem nmX1 : ∀ a, a < 20 → ∀ b, b < 20 → a ≠ b → (TX1 a).2.1 ≠ (TX1 b).2.1 := by decide +kernel
theorem tyX1_ok : ∀ k, k < 20 → parseFieldDescriptor (TX1 k).2.2.1 = some (tyX1 k) := by decide +kernel
def RJ0 : String := "java/util/AbstractCollection"
def RJ1 : String := "java/util/AbstractList"
def RJ2 : String := "java/util/ArrayList"
def TJ2 : u_T := fun k => match k with
  | 0 => ("java/util/AbstractList", "modCount", "I", false)
  | 1 => ("java/util/ArrayList", "elementData", "[Ljava/lang/Object;", false)
  | _ => ("java/util/ArrayList", "size", "I", false)
def tyJ2 : Nat → FieldType := fun k => match k with
  | 0 => .int
  | 1 => .array (.object "java/lang/Object")
  | _ => .int
abbrev wsJ20 : List Cond := u_ws RJ2 TJ2 3
theorem nmJ2 : ∀ a, a < 3 → ∀ b, b < 3 → a ≠ b → (TJ2 a).2.1 ≠ (TJ2 b).2.1 := by decide +kernel
theorem tyJ2_ok : ∀ k, k < 3 → parseFieldDescriptor (TJ2 k).2.2.1 = some (tyJ2 k) := by decide +kernel
def RX2 : String := "Taxmaze$Dated"
def TX2 : u_T := fun k => match k with
  | 0 => ("Taxmaze$Dated", "told", "Ljava/util/TreeMap;", true)
  | _ => ("Taxmaze$Dated", "first", "Ljava/lang/Object;", true)
def tyX2 : Nat → FieldType := fun k => match k with
  | 0 => .object "java/util/TreeMap"
  | _ => .object "java/lang/Object"
abbrev wsX20 : List Cond := u_ws RX2 TX2 2
theorem nmX2 : ∀ a, a < 2 → ∀ b, b < 2 → a ≠ b → (TX2 a).2.1 ≠ (TX2 b).2.1 := by decide +kernel
theorem tyX2_ok : ∀ k, k < 2 → parseFieldDescriptor (TX2 k).2.2.1 = some (tyX2 k) := by decide +kernel
def RJ3 : String := "java/lang/Record"
def RX3 : String := "Taxmaze$Contribution"
def TX3 : u_T := fun k => match k with
  | 0 => ("Taxmaze$Contribution", "thousandths", "I", true)
  | _ => ("Taxmaze$Contribution", "ceiling", "I", true)
def tyX3 : Nat → FieldType := fun k => match k with
  | 0 => .int
  | _ => .int
abbrev wsX30 : List Cond := u_ws RX3 TX3 2
theorem nmX3 : ∀ a, a < 2 → ∀ b, b < 2 → a ≠ b → (TX3 a).2.1 ≠ (TX3 b).2.1 := by decide +kernel
theorem tyX3_ok : ∀ k, k < 2 → parseFieldDescriptor (TX3 k).2.2.1 = some (tyX3 k) := by decide +kernel
def RJ4 : String := "java/util/AbstractMap"
def RJ5 : String := "java/util/TreeMap"
def TJ5 : u_T := fun k => match k with
  | 0 => ("java/util/AbstractMap", "keySet", "Ljava/util/Set;", false)
  | 1 => ("java/util/AbstractMap", "values", "Ljava/util/Collection;", false)
  | 2 => ("java/util/TreeMap", "comparator", "Ljava/util/Comparator;", true)
  | 3 => ("java/util/TreeMap", "root", "Ljava/util/TreeMap$Entry;", false)
  | 4 => ("java/util/TreeMap", "size", "I", false)
  | 5 => ("java/util/TreeMap", "modCount", "I", false)
  | 6 => ("java/util/TreeMap", "entrySet", "Ljava/util/TreeMap$EntrySet;", false)
  | 7 => ("java/util/TreeMap", "navigableKeySet", "Ljava/util/TreeMap$KeySet;", false)
  | _ => ("java/util/TreeMap", "descendingMap", "Ljava/util/NavigableMap;", false)
def tyJ5 : Nat → FieldType := fun k => match k with
  | 0 => .object "java/util/Set"
  | 1 => .object "java/util/Collection"
  | 2 => .object "java/util/Comparator"
  | 3 => .object "java/util/TreeMap$Entry"
  | 4 => .int
  | 5 => .int
  | 6 => .object "java/util/TreeMap$EntrySet"
  | 7 => .object "java/util/TreeMap$KeySet"
  | _ => .object "java/util/NavigableMap"
abbrev wsJ50 : List Cond := u_ws RJ5 TJ5 9
theorem nmJ5 : ∀ a, a < 9 → ∀ b, b < 9 → a ≠ b → (TJ5 a).2.1 ≠ (TJ5 b).2.1 := by decide +kernel
theorem tyJ5_ok : ∀ k, k < 9 → parseFieldDescriptor (TJ5 k).2.2.1 = some (tyJ5 k) := by decide +kernel
def RJ6 : String := "jdk/internal/util/ArraysSupport"
def RJ7 : String := "java/lang/Math"
def RJ8 : String := "java/util/Arrays"
def RJ9 : String := "java/lang/Number"
def RJ10 : String := "java/lang/Integer"
def TJ10 : u_T := fun k => match k with
  | _ => ("java/lang/Integer", "value", "I", true)
def tyJ10 : Nat → FieldType := fun k => match k with
  | _ => .int
abbrev wsJ100 : List Cond := u_ws RJ10 TJ10 1
theorem nmJ10 : ∀ a, a < 1 → ∀ b, b < 1 → a ≠ b → (TJ10 a).2.1 ≠ (TJ10 b).2.1 := by decide +kernel
theorem tyJ10_ok : ∀ k, k < 1 → parseFieldDescriptor (TJ10 k).2.2.1 = some (tyJ10 k) := by decide +kernel
def RX4 : String := "TaxmazeModel"
def TX4 : u_T := fun k => match k with
  | 0 => ("TaxmazeModel", "cw", "[I", true)
  | 1 => ("TaxmazeModel", "cp", "[I", true)
  | 2 => ("TaxmazeModel", "cf", "[I", true)
  | 3 => ("TaxmazeModel", "ct", "[I", true)
  | 4 => ("TaxmazeModel", "ch", "[I", true)
  | 5 => ("TaxmazeModel", "cn", "[I", true)
  | 6 => ("TaxmazeModel", "told", "[I", true)
  | 7 => ("TaxmazeModel", "pays", "[I", true)
  | 8 => ("TaxmazeModel", "mins", "[I", true)
  | 9 => ("TaxmazeModel", "contracts", "I", false)
  | 10 => ("TaxmazeModel", "sc", "[I", true)
  | 11 => ("TaxmazeModel", "sb", "[I", true)
  | 12 => ("TaxmazeModel", "sl", "[I", true)
  | 13 => ("TaxmazeModel", "shifts", "I", false)
  | 14 => ("TaxmazeModel", "lc", "[I", true)
  | 15 => ("TaxmazeModel", "ld", "[I", true)
  | 16 => ("TaxmazeModel", "lt", "[I", true)
  | 17 => ("TaxmazeModel", "leaves", "I", false)
  | 18 => ("TaxmazeModel", "rate", "I", false)
  | 19 => ("TaxmazeModel", "carry", "I", false)
  | 20 => ("TaxmazeModel", "term", "I", false)
  | 21 => ("TaxmazeModel", "leftNow", "I", false)
  | 22 => ("TaxmazeModel", "ew", "[I", true)
  | 23 => ("TaxmazeModel", "en", "[I", true)
  | 24 => ("TaxmazeModel", "el", "[I", true)
  | 25 => ("TaxmazeModel", "ep", "[I", true)
  | 26 => ("TaxmazeModel", "elements", "I", false)
  | 27 => ("TaxmazeModel", "order", "[I", true)
  | 28 => ("TaxmazeModel", "pile", "[J", true)
  | 29 => ("TaxmazeModel", "comes", "[J", true)
  | 30 => ("TaxmazeModel", "bonus", "[I", true)
  | 31 => ("TaxmazeModel", "cr", "[I", true)
  | 32 => ("TaxmazeModel", "cc", "[I", true)
  | 33 => ("TaxmazeModel", "bn", "[I", true)
  | 34 => ("TaxmazeModel", "be", "[I", true)
  | 35 => ("TaxmazeModel", "bt", "[I", true)
  | 36 => ("TaxmazeModel", "st", "[I", true)
  | 37 => ("TaxmazeModel", "pt", "[I", true)
  | 38 => ("TaxmazeModel", "gw", "[I", true)
  | 39 => ("TaxmazeModel", "gm", "[I", true)
  | 40 => ("TaxmazeModel", "gr", "[I", true)
  | 41 => ("TaxmazeModel", "gt", "[I", true)
  | 42 => ("TaxmazeModel", "gp", "[I", true)
  | 43 => ("TaxmazeModel", "gk", "[I", true)
  | 44 => ("TaxmazeModel", "garnishments", "I", false)
  | 45 => ("TaxmazeModel", "adv", "[J", true)
  | 46 => ("TaxmazeModel", "open", "I", false)
  | 47 => ("TaxmazeModel", "pw", "[I", true)
  | 48 => ("TaxmazeModel", "pm", "[I", true)
  | 49 => ("TaxmazeModel", "pc", "[J", true)
  | 50 => ("TaxmazeModel", "pb", "[I", true)
  | 51 => ("TaxmazeModel", "payments", "I", false)
  | 52 => ("TaxmazeModel", "ft", "[J", true)
  | 53 => ("TaxmazeModel", "fc", "[J", true)
  | 54 => ("TaxmazeModel", "corrected", "[I", true)
  | 55 => ("TaxmazeModel", "gross", "[J", true)
  | 56 => ("TaxmazeModel", "counted", "[J", true)
  | 57 => ("TaxmazeModel", "contr", "[J", true)
  | 58 => ("TaxmazeModel", "taxed", "[J", true)
  | 59 => ("TaxmazeModel", "tax", "[J", true)
  | 60 => ("TaxmazeModel", "pens", "[J", true)
  | 61 => ("TaxmazeModel", "match", "[J", true)
  | 62 => ("TaxmazeModel", "net", "[J", true)
  | 63 => ("TaxmazeModel", "taken", "[J", true)
  | 64 => ("TaxmazeModel", "payout", "[J", true)
  | 65 => ("TaxmazeModel", "elems", "[J", true)
  | 66 => ("TaxmazeModel", "gone", "[J", true)
  | 67 => ("TaxmazeModel", "thrown", "I", false)
  | 68 => ("TaxmazeModel", "dues", "[J", true)
  | _ => ("TaxmazeModel", "parts", "[J", true)
def tyX4 : Nat → FieldType := fun k => match k with
  | 0 => .array .int
  | 1 => .array .int
  | 2 => .array .int
  | 3 => .array .int
  | 4 => .array .int
  | 5 => .array .int
  | 6 => .array .int
  | 7 => .array .int
  | 8 => .array .int
  | 9 => .int
  | 10 => .array .int
  | 11 => .array .int
  | 12 => .array .int
  | 13 => .int
  | 14 => .array .int
  | 15 => .array .int
  | 16 => .array .int
  | 17 => .int
  | 18 => .int
  | 19 => .int
  | 20 => .int
  | 21 => .int
  | 22 => .array .int
  | 23 => .array .int
  | 24 => .array .int
  | 25 => .array .int
  | 26 => .int
  | 27 => .array .int
  | 28 => .array .long
  | 29 => .array .long
  | 30 => .array .int
  | 31 => .array .int
  | 32 => .array .int
  | 33 => .array .int
  | 34 => .array .int
  | 35 => .array .int
  | 36 => .array .int
  | 37 => .array .int
  | 38 => .array .int
  | 39 => .array .int
  | 40 => .array .int
  | 41 => .array .int
  | 42 => .array .int
  | 43 => .array .int
  | 44 => .int
  | 45 => .array .long
  | 46 => .int
  | 47 => .array .int
  | 48 => .array .int
  | 49 => .array .long
  | 50 => .array .int
  | 51 => .int
  | 52 => .array .long
  | 53 => .array .long
  | 54 => .array .int
  | 55 => .array .long
  | 56 => .array .long
  | 57 => .array .long
  | 58 => .array .long
  | 59 => .array .long
  | 60 => .array .long
  | 61 => .array .long
  | 62 => .array .long
  | 63 => .array .long
  | 64 => .array .long
  | 65 => .array .long
  | 66 => .array .long
  | 67 => .int
  | 68 => .array .long
  | _ => .array .long
abbrev wsX40 : List Cond := u_ws RX4 TX4 70
theorem nmX4 : ∀ a, a < 70 → ∀ b, b < 70 → a ≠ b → (TX4 a).2.1 ≠ (TX4 b).2.1 := by decide +kernel
theorem tyX4_ok : ∀ k, k < 70 → parseFieldDescriptor (TX4 k).2.2.1 = some (tyX4 k) := by decide +kernel
def RJ11 : String := "java/lang/Throwable"
def TJ11 : u_T := fun k => match k with
  | 0 => ("java/lang/Throwable", "cause", "Ljava/lang/Throwable;", false)
  | 1 => ("java/lang/Throwable", "stackTrace", "[Ljava/lang/StackTraceElement;", false)
  | 2 => ("java/lang/Throwable", "suppressedExceptions", "Ljava/util/List;", false)
  | 3 => ("java/lang/Throwable", "detailMessage", "Ljava/lang/String;", false)
  | _ => ("java/lang/Throwable", "backtrace", "Ljava/lang/Object;", false)
def tyJ11 : Nat → FieldType := fun k => match k with
  | 0 => .object "java/lang/Throwable"
  | 1 => .array (.object "java/lang/StackTraceElement")
  | 2 => .object "java/util/List"
  | 3 => .object "java/lang/String"
  | _ => .object "java/lang/Object"
abbrev wsJ110 : List Cond := u_ws RJ11 TJ11 5
theorem nmJ11 : ∀ a, a < 5 → ∀ b, b < 5 → a ≠ b → (TJ11 a).2.1 ≠ (TJ11 b).2.1 := by decide +kernel
theorem tyJ11_ok : ∀ k, k < 5 → parseFieldDescriptor (TJ11 k).2.2.1 = some (tyJ11 k) := by decide +kernel
def RJ12 : String := "java/lang/Exception"
def RJ13 : String := "java/lang/RuntimeException"
def RJ14 : String := "java/lang/IndexOutOfBoundsException"
def TJ14 : u_T := fun k => match k with
  | 0 => ("java/lang/Throwable", "cause", "Ljava/lang/Throwable;", false)
  | 1 => ("java/lang/Throwable", "stackTrace", "[Ljava/lang/StackTraceElement;", false)
  | 2 => ("java/lang/Throwable", "suppressedExceptions", "Ljava/util/List;", false)
  | 3 => ("java/lang/Throwable", "detailMessage", "Ljava/lang/String;", false)
  | 4 => ("java/lang/Throwable", "backtrace", "Ljava/lang/Object;", false)
  | _ => ("java/lang/Throwable", "depth", "I", false)
def tyJ14 : Nat → FieldType := fun k => match k with
  | 0 => .object "java/lang/Throwable"
  | 1 => .array (.object "java/lang/StackTraceElement")
  | 2 => .object "java/util/List"
  | 3 => .object "java/lang/String"
  | 4 => .object "java/lang/Object"
  | _ => .int
abbrev wsJ140 : List Cond := u_ws RJ14 TJ14 6
theorem nmJ14 : ∀ a, a < 6 → ∀ b, b < 6 → a ≠ b → (TJ14 a).2.1 ≠ (TJ14 b).2.1 := by decide +kernel
theorem tyJ14_ok : ∀ k, k < 6 → parseFieldDescriptor (TJ14 k).2.2.1 = some (tyJ14 k) := by decide +kernel
def RJ15 : String := "java/lang/ArrayIndexOutOfBoundsException"
def TJ15 : u_T := fun k => match k with
  | 0 => ("java/lang/Throwable", "backtrace", "Ljava/lang/Object;", false)
  | 1 => ("java/lang/Throwable", "detailMessage", "Ljava/lang/String;", false)
  | 2 => ("java/lang/Throwable", "cause", "Ljava/lang/Throwable;", false)
  | 3 => ("java/lang/Throwable", "stackTrace", "[Ljava/lang/StackTraceElement;", false)
  | 4 => ("java/lang/Throwable", "depth", "I", false)
  | _ => ("java/lang/Throwable", "suppressedExceptions", "Ljava/util/List;", false)
def tyJ15 : Nat → FieldType := fun k => match k with
  | 0 => .object "java/lang/Object"
  | 1 => .object "java/lang/String"
  | 2 => .object "java/lang/Throwable"
  | 3 => .array (.object "java/lang/StackTraceElement")
  | 4 => .int
  | _ => .object "java/util/List"
abbrev wsJ150 : List Cond := u_ws RJ15 TJ15 6
theorem nmJ15 : ∀ a, a < 6 → ∀ b, b < 6 → a ≠ b → (TJ15 a).2.1 ≠ (TJ15 b).2.1 := by decide +kernel
theorem tyJ15_ok : ∀ k, k < 6 → parseFieldDescriptor (TJ15 k).2.2.1 = some (tyJ15 k) := by decide +kernel
def RJ16 : String := "java/lang/String"
def TJ16 : u_T := fun k => match k with
  | 0 => ("java/lang/String", "value", "[B", true)
  | 1 => ("java/lang/String", "coder", "B", true)
  | 2 => ("java/lang/String", "hash", "I", false)
  | _ => ("java/lang/String", "hashIsZero", "Z", false)
def tyJ16 : Nat → FieldType := fun k => match k with
  | 0 => .array .byte
  | 1 => .byte
  | 2 => .int
  | _ => .boolean
abbrev wsJ160 : List Cond := u_ws RJ16 TJ16 4
theorem nmJ16 : ∀ a, a < 4 → ∀ b, b < 4 → a ≠ b → (TJ16 a).2.1 ≠ (TJ16 b).2.1 := by decide +kernel
theorem tyJ16_ok : ∀ k, k < 4 → parseFieldDescriptor (TJ16 k).2.2.1 = some (tyJ16 k) := by decide +kernel
def RJ17 : String := "java/lang/IllegalArgumentException"
def TJ17 : u_T := fun k => match k with
  | 0 => ("java/lang/Throwable", "cause", "Ljava/lang/Throwable;", false)
  | 1 => ("java/lang/Throwable", "stackTrace", "[Ljava/lang/StackTraceElement;", false)
  | 2 => ("java/lang/Throwable", "suppressedExceptions", "Ljava/util/List;", false)
  | 3 => ("java/lang/Throwable", "detailMessage", "Ljava/lang/String;", false)
  | 4 => ("java/lang/Throwable", "backtrace", "Ljava/lang/Object;", false)
  | _ => ("java/lang/Throwable", "depth", "I", false)
def tyJ17 : Nat → FieldType := fun k => match k with
  | 0 => .object "java/lang/Throwable"
  | 1 => .array (.object "java/lang/StackTraceElement")
  | 2 => .object "java/util/List"
  | 3 => .object "java/lang/String"
  | 4 => .object "java/lang/Object"
  | _ => .int
abbrev wsJ170 : List Cond := u_ws RJ17 TJ17 6
theorem nmJ17 : ∀ a, a < 6 → ∀ b, b < 6 → a ≠ b → (TJ17 a).2.1 ≠ (TJ17 b).2.1 := by decide +kernel
theorem tyJ17_ok : ∀ k, k < 6 → parseFieldDescriptor (TJ17 k).2.2.1 = some (tyJ17 k) := by decide +kernel
def RJ18 : String := "java/lang/IllegalStateException"
def TJ18 : u_T := fun k => match k with
  | 0 => ("java/lang/Throwable", "cause", "Ljava/lang/Throwable;", false)
  | 1 => ("java/lang/Throwable", "stackTrace", "[Ljava/lang/StackTraceElement;", false)
  | 2 => ("java/lang/Throwable", "suppressedExceptions", "Ljava/util/List;", false)
  | 3 => ("java/lang/Throwable", "detailMessage", "Ljava/lang/String;", false)
  | 4 => ("java/lang/Throwable", "backtrace", "Ljava/lang/Object;", false)
  | _ => ("java/lang/Throwable", "depth", "I", false)
def tyJ18 : Nat → FieldType := fun k => match k with
  | 0 => .object "java/lang/Throwable"
  | 1 => .array (.object "java/lang/StackTraceElement")
  | 2 => .object "java/util/List"
  | 3 => .object "java/lang/String"
  | 4 => .object "java/lang/Object"
  | _ => .int
abbrev wsJ180 : List Cond := u_ws RJ18 TJ18 6
theorem nmJ18 : ∀ a, a < 6 → ∀ b, b < 6 → a ≠ b → (TJ18 a).2.1 ≠ (TJ18 b).2.1 := by decide +kernel
theorem tyJ18_ok : ∀ k, k < 6 → parseFieldDescriptor (TJ18 k).2.2.1 = some (tyJ18 k) := by decide +kernel
def RX5 : String := "Taxmaze$Contract"
def TX5 : u_T := fun k => match k with
  | 0 => ("Taxmaze$Contract", "person", "I", true)
  | 1 => ("Taxmaze$Contract", "place", "I", true)
  | 2 => ("Taxmaze$Contract", "from", "I", true)
  | 3 => ("Taxmaze$Contract", "to", "I", true)
  | 4 => ("Taxmaze$Contract", "byHours", "Z", true)
  | 5 => ("Taxmaze$Contract", "norm", "I", true)
  | 6 => ("Taxmaze$Contract", "told", "Ljava/util/TreeMap;", true)
  | 7 => ("Taxmaze$Contract", "shifts", "Ljava/util/List;", true)
  | 8 => ("Taxmaze$Contract", "pays", "[I", true)
  | _ => ("Taxmaze$Contract", "minutes", "[I", true)
def tyX5 : Nat → FieldType := fun k => match k with
  | 0 => .int
  | 1 => .int
  | 2 => .int
  | 3 => .int
  | 4 => .boolean
  | 5 => .int
  | 6 => .object "java/util/TreeMap"
  | 7 => .object "java/util/List"
  | 8 => .array .int
  | _ => .array .int
abbrev wsX50 : List Cond := u_ws RX5 TX5 10
theorem nmX5 : ∀ a, a < 10 → ∀ b, b < 10 → a ≠ b → (TX5 a).2.1 ≠ (TX5 b).2.1 := by decide +kernel
theorem tyX5_ok : ∀ k, k < 10 → parseFieldDescriptor (TX5 k).2.2.1 = some (tyX5 k) := by decide +kernel
def RJ19 : String := "java/lang/StringLatin1"
def RJ20 : String := "jdk/internal/misc/Unsafe"
def RJ21 : String := "java/lang/Long"
def RJ22 : String := "java/lang/StringUTF16"
def RJ23 : String := "jdk/internal/util/Preconditions"
def RJ24 : String := "java/util/TreeMap$Entry"
def TJ24 : u_T := fun k => match k with
  | 0 => ("java/util/TreeMap$Entry", "key", "Ljava/lang/Object;", false)
  | 1 => ("java/util/TreeMap$Entry", "value", "Ljava/lang/Object;", false)
  | 2 => ("java/util/TreeMap$Entry", "left", "Ljava/util/TreeMap$Entry;", false)
  | 3 => ("java/util/TreeMap$Entry", "right", "Ljava/util/TreeMap$Entry;", false)
  | 4 => ("java/util/TreeMap$Entry", "parent", "Ljava/util/TreeMap$Entry;", false)
  | _ => ("java/util/TreeMap$Entry", "color", "Z", false)
def tyJ24 : Nat → FieldType := fun k => match k with
  | 0 => .object "java/lang/Object"
  | 1 => .object "java/lang/Object"
  | 2 => .object "java/util/TreeMap$Entry"
  | 3 => .object "java/util/TreeMap$Entry"
  | 4 => .object "java/util/TreeMap$Entry"
  | _ => .boolean
abbrev wsJ240 : List Cond := u_ws RJ24 TJ24 6
theorem nmJ24 : ∀ a, a < 6 → ∀ b, b < 6 → a ≠ b → (TJ24 a).2.1 ≠ (TJ24 b).2.1 := by decide +kernel
theorem tyJ24_ok : ∀ k, k < 6 → parseFieldDescriptor (TJ24 k).2.2.1 = some (tyJ24 k) := by decide +kernel
def RJ25 : String := "java/util/Objects"
def RX6 : String := "Taxmaze$Shift"
def TX6 : u_T := fun k => match k with
  | 0 => ("Taxmaze$Shift", "from", "J", true)
  | _ => ("Taxmaze$Shift", "to", "J", true)
def tyX6 : Nat → FieldType := fun k => match k with
  | 0 => .long
  | _ => .long
abbrev wsX60 : List Cond := u_ws RX6 TX6 2
theorem nmX6 : ∀ a, a < 2 → ∀ b, b < 2 → a ≠ b → (TX6 a).2.1 ≠ (TX6 b).2.1 := by decide +kernel
theorem tyX6_ok : ∀ k, k < 2 → parseFieldDescriptor (TX6 k).2.2.1 = some (tyX6 k) := by decide +kernel
def RJ26 : String := "java/util/ArrayList$Itr"
def TJ26 : u_T := fun k => match k with
  | 0 => ("java/util/ArrayList$Itr", "cursor", "I", false)
  | 1 => ("java/util/ArrayList$Itr", "lastRet", "I", false)
  | 2 => ("java/util/ArrayList$Itr", "expectedModCount", "I", false)
  | _ => ("java/util/ArrayList$Itr", "this$0", "Ljava/util/ArrayList;", true)
def tyJ26 : Nat → FieldType := fun k => match k with
  | 0 => .int
  | 1 => .int
  | 2 => .int
  | _ => .object "java/util/ArrayList"
abbrev wsJ260 : List Cond := u_ws RJ26 TJ26 4
theorem nmJ26 : ∀ a, a < 4 → ∀ b, b < 4 → a ≠ b → (TJ26 a).2.1 ≠ (TJ26 b).2.1 := by decide +kernel
theorem tyJ26_ok : ∀ k, k < 4 → parseFieldDescriptor (TJ26 k).2.2.1 = some (tyJ26 k) := by decide +kernel
def RX7 : String := "Taxmaze$Account"
def TX7 : u_T := fun k => match k with
  | 0 => ("Taxmaze$Account", "person", "I", true)
  | 1 => ("Taxmaze$Account", "carried", "I", false)
  | 2 => ("Taxmaze$Account", "fresh", "I", false)
  | _ => ("Taxmaze$Account", "this$0", "LTaxmaze;", true)
def tyX7 : Nat → FieldType := fun k => match k with
  | 0 => .int
  | 1 => .int
  | 2 => .int
  | _ => .object "Taxmaze"
abbrev wsX70 : List Cond := u_ws RX7 TX7 4
theorem nmX7 : ∀ a, a < 4 → ∀ b, b < 4 → a ≠ b → (TX7 a).2.1 ≠ (TX7 b).2.1 := by decide +kernel
theorem tyX7_ok : ∀ k, k < 4 → parseFieldDescriptor (TX7 k).2.2.1 = some (tyX7 k) := by decide +kernel
def RX8 : String := "Taxmaze$Leave"
def TX8 : u_T := fun k => match k with
  | 0 => ("Taxmaze$Leave", "contract", "LTaxmaze$Contract;", true)
  | 1 => ("Taxmaze$Leave", "day", "I", true)
  | _ => ("Taxmaze$Leave", "paid", "Z", false)
def tyX8 : Nat → FieldType := fun k => match k with
  | 0 => .object "Taxmaze$Contract"
  | 1 => .int
  | _ => .boolean
abbrev wsX80 : List Cond := u_ws RX8 TX8 3
theorem nmX8 : ∀ a, a < 3 → ∀ b, b < 3 → a ≠ b → (TX8 a).2.1 ≠ (TX8 b).2.1 := by decide +kernel
theorem tyX8_ok : ∀ k, k < 3 → parseFieldDescriptor (TX8 k).2.2.1 = some (tyX8 k) := by decide +kernel
def RX9 : String := "Taxmaze$Plain"
def TX9 : u_T := fun k => match k with
  | _ => ("Taxmaze$Plain", "what", "I", true)
def tyX9 : Nat → FieldType := fun k => match k with
  | _ => .int
abbrev wsX90 : List Cond := u_ws RX9 TX9 1
theorem nmX9 : ∀ a, a < 1 → ∀ b, b < 1 → a ≠ b → (TX9 a).2.1 ≠ (TX9 b).2.1 := by decide +kernel
theorem tyX9_ok : ∀ k, k < 1 → parseFieldDescriptor (TX9 k).2.2.1 = some (tyX9 k) := by decide +kernel
def RX10 : String := "Taxmaze$Asking"
def TX10 : u_T := fun k => match k with
  | _ => ("Taxmaze$Asking", "element", "I", true)
def tyX10 : Nat → FieldType := fun k => match k with
  | _ => .int
abbrev wsX100 : List Cond := u_ws RX10 TX10 1
theorem nmX10 : ∀ a, a < 1 → ∀ b, b < 1 → a ≠ b → (TX10 a).2.1 ≠ (TX10 b).2.1 := by decide +kernel
theorem tyX10_ok : ∀ k, k < 1 → parseFieldDescriptor (TX10 k).2.2.1 = some (tyX10 k) := by decide +kernel
def RX11 : String := "Taxmaze$Whole"
def TX11 : u_T := fun k => match k with
  | _ => ("Taxmaze$Whole", "number", "I", true)
def tyX11 : Nat → FieldType := fun k => match k with
  | _ => .int
abbrev wsX110 : List Cond := u_ws RX11 TX11 1
theorem nmX11 : ∀ a, a < 1 → ∀ b, b < 1 → a ≠ b → (TX11 a).2.1 ≠ (TX11 b).2.1 := by decide +kernel
theorem tyX11_ok : ∀ k, k < 1 → parseFieldDescriptor (TX11 k).2.2.1 = some (tyX11 k) := by decide +kernel
def RX12 : String := "Taxmaze$Element"
def TX12 : u_T := fun k => match k with
  | 0 => ("Taxmaze$Element", "words", "Ljava/util/List;", true)
  | _ => ("Taxmaze$Element", "people", "I", true)
def tyX12 : Nat → FieldType := fun k => match k with
  | 0 => .object "java/util/List"
  | _ => .int
abbrev wsX120 : List Cond := u_ws RX12 TX12 2
theorem nmX12 : ∀ a, a < 2 → ∀ b, b < 2 → a ≠ b → (TX12 a).2.1 ≠ (TX12 b).2.1 := by decide +kernel
theorem tyX12_ok : ∀ k, k < 2 → parseFieldDescriptor (TX12 k).2.2.1 = some (tyX12 k) := by decide +kernel
def RJ27 : String := "java/util/AbstractQueue"
def RJ28 : String := "java/util/PriorityQueue"
def TJ28 : u_T := fun k => match k with
  | 0 => ("java/util/PriorityQueue", "queue", "[Ljava/lang/Object;", false)
  | 1 => ("java/util/PriorityQueue", "size", "I", false)
  | 2 => ("java/util/PriorityQueue", "comparator", "Ljava/util/Comparator;", true)
  | _ => ("java/util/PriorityQueue", "modCount", "I", false)
def tyJ28 : Nat → FieldType := fun k => match k with
  | 0 => .array (.object "java/lang/Object")
  | 1 => .int
  | 2 => .object "java/util/Comparator"
  | _ => .int
abbrev wsJ280 : List Cond := u_ws RJ28 TJ28 4
theorem nmJ28 : ∀ a, a < 4 → ∀ b, b < 4 → a ≠ b → (TJ28 a).2.1 ≠ (TJ28 b).2.1 := by decide +kernel
theorem tyJ28_ok : ∀ k, k < 4 → parseFieldDescriptor (TJ28 k).2.2.1 = some (tyJ28 k) := by decide +kernel
def RX13 : String := "Taxmaze$Bracket"
def TX13 : u_T := fun k => match k with
  | 0 => ("Taxmaze$Bracket", "end", "I", true)
  | _ => ("Taxmaze$Bracket", "thousandths", "I", true)
def tyX13 : Nat → FieldType := fun k => match k with
  | 0 => .int
  | _ => .int
abbrev wsX130 : List Cond := u_ws RX13 TX13 2
theorem nmX13 : ∀ a, a < 2 → ∀ b, b < 2 → a ≠ b → (TX13 a).2.1 ≠ (TX13 b).2.1 := by decide +kernel
theorem tyX13_ok : ∀ k, k < 2 → parseFieldDescriptor (TX13 k).2.2.1 = some (tyX13 k) := by decide +kernel
def RX14 : String := "Taxmaze$Ledger"
def TX14 : u_T := fun k => match k with
  | 0 => ("Taxmaze$Ledger", "person", "I", true)
  | 1 => ("Taxmaze$Ledger", "plain", "[J", true)
  | 2 => ("Taxmaze$Ledger", "values", "[J", true)
  | 3 => ("Taxmaze$Ledger", "homes", "[I", true)
  | 4 => ("Taxmaze$Ledger", "gross", "[J", true)
  | 5 => ("Taxmaze$Ledger", "contribution", "[J", true)
  | 6 => ("Taxmaze$Ledger", "tax", "[J", true)
  | 7 => ("Taxmaze$Ledger", "counted", "[J", true)
  | 8 => ("Taxmaze$Ledger", "grossSoFar", "[J", true)
  | 9 => ("Taxmaze$Ledger", "taxedSoFar", "[J", true)
  | 10 => ("Taxmaze$Ledger", "taxSoFar", "[J", true)
  | 11 => ("Taxmaze$Ledger", "pension", "[J", true)
  | 12 => ("Taxmaze$Ledger", "match", "[J", true)
  | 13 => ("Taxmaze$Ledger", "net", "[J", true)
  | 14 => ("Taxmaze$Ledger", "payout", "[J", true)
  | 15 => ("Taxmaze$Ledger", "taken", "[J", true)
  | 16 => ("Taxmaze$Ledger", "back", "[J", true)
  | _ => ("Taxmaze$Ledger", "this$0", "LTaxmaze;", true)
def tyX14 : Nat → FieldType := fun k => match k with
  | 0 => .int
  | 1 => .array .long
  | 2 => .array .long
  | 3 => .array .int
  | 4 => .array .long
  | 5 => .array .long
  | 6 => .array .long
  | 7 => .array .long
  | 8 => .array .long
  | 9 => .array .long
  | 10 => .array .long
  | 11 => .array .long
  | 12 => .array .long
  | 13 => .array .long
  | 14 => .array .long
  | 15 => .array .long
  | 16 => .array .long
  | _ => .object "Taxmaze"
abbrev wsX140 : List Cond := u_ws RX14 TX14 18
theorem nmX14 : ∀ a, a < 18 → ∀ b, b < 18 → a ≠ b → (TX14 a).2.1 ≠ (TX14 b).2.1 := by decide +kernel
theorem tyX14_ok : ∀ k, k < 18 → parseFieldDescriptor (TX14 k).2.2.1 = some (tyX14 k) := by decide +kernel
def RJ29 : String := "java/lang/AbstractStringBuilder"
def RJ30 : String := "java/lang/StringBuilder"
def TJ30 : u_T := fun k => match k with
  | 0 => ("java/lang/AbstractStringBuilder", "value", "[B", false)
  | 1 => ("java/lang/AbstractStringBuilder", "coder", "B", false)
  | 2 => ("java/lang/AbstractStringBuilder", "maybeLatin1", "Z", false)
  | _ => ("java/lang/AbstractStringBuilder", "count", "I", false)
def tyJ30 : Nat → FieldType := fun k => match k with
  | 0 => .array .byte
  | 1 => .byte
  | 2 => .boolean
  | _ => .int
abbrev wsJ300 : List Cond := u_ws RJ30 TJ30 4
theorem nmJ30 : ∀ a, a < 4 → ∀ b, b < 4 → a ≠ b → (TJ30 a).2.1 ≠ (TJ30 b).2.1 := by decide +kernel
theorem tyJ30_ok : ∀ k, k < 4 → parseFieldDescriptor (TJ30 k).2.2.1 = some (tyJ30 k) := by decide +kernel
def RX15 : String := "Taxmaze$Garnishment"
def TX15 : u_T := fun k => match k with
  | 0 => ("Taxmaze$Garnishment", "number", "I", true)
  | 1 => ("Taxmaze$Garnishment", "person", "I", true)
  | 2 => ("Taxmaze$Garnishment", "month", "I", true)
  | 3 => ("Taxmaze$Garnishment", "rank", "I", true)
  | 4 => ("Taxmaze$Garnishment", "total", "I", true)
  | 5 => ("Taxmaze$Garnishment", "thousandths", "I", true)
  | _ => ("Taxmaze$Garnishment", "kept", "I", true)
def tyX15 : Nat → FieldType := fun k => match k with
  | 0 => .int
  | 1 => .int
  | 2 => .int
  | 3 => .int
  | 4 => .int
  | 5 => .int
  | _ => .int
abbrev wsX150 : List Cond := u_ws RX15 TX15 7
theorem nmX15 : ∀ a, a < 7 → ∀ b, b < 7 → a ≠ b → (TX15 a).2.1 ≠ (TX15 b).2.1 := by decide +kernel
theorem tyX15_ok : ∀ k, k < 7 → parseFieldDescriptor (TX15 k).2.2.1 = some (tyX15 k) := by decide +kernel
def RX16 : String := "Taxmaze$ByRank"
def RX17 : String := "Taxmaze$Advance"
def TX17 : u_T := fun k => match k with
  | 0 => ("Taxmaze$Advance", "person", "I", true)
  | 1 => ("Taxmaze$Advance", "month", "I", true)
  | _ => ("Taxmaze$Advance", "cents", "I", true)
def tyX17 : Nat → FieldType := fun k => match k with
  | 0 => .int
  | 1 => .int
  | _ => .int
abbrev wsX170 : List Cond := u_ws RX17 TX17 3
theorem nmX17 : ∀ a, a < 3 → ∀ b, b < 3 → a ≠ b → (TX17 a).2.1 ≠ (TX17 b).2.1 := by decide +kernel
theorem tyX17_ok : ∀ k, k < 3 → parseFieldDescriptor (TX17 k).2.2.1 = some (tyX17 k) := by decide +kernel
def RX18 : String := "Taxmaze$Payment"
def TX18 : u_T := fun k => match k with
  | 0 => ("Taxmaze$Payment", "person", "I", true)
  | 1 => ("Taxmaze$Payment", "month", "I", true)
  | 2 => ("Taxmaze$Payment", "cents", "J", true)
  | _ => ("Taxmaze$Payment", "cameBack", "Z", false)
def tyX18 : Nat → FieldType := fun k => match k with
  | 0 => .int
  | 1 => .int
  | 2 => .long
  | _ => .boolean
abbrev wsX180 : List Cond := u_ws RX18 TX18 4
theorem nmX18 : ∀ a, a < 4 → ∀ b, b < 4 → a ≠ b → (TX18 a).2.1 ≠ (TX18 b).2.1 := by decide +kernel
theorem tyX18_ok : ∀ k, k < 4 → parseFieldDescriptor (TX18 k).2.2.1 = some (tyX18 k) := by decide +kernel
def RJ31 : String := "java/lang/Object"
def RJ32 : String := "java/lang/System$2"
theorem q65 : (Jvm.Cond.initialized "TaxmazeLaw") ∈ lw_all := lw_g (lw_at lw_m1 0 rfl) rfl
theorem q118 : (Jvm.Cond.classLink "TaxmazeLaw" (8 : Nat) "Taxmaze") ∈ lw_all := lw_g (lw_at lw_m1 53 rfl) rfl
theorem q120 : (Jvm.Cond.methodLink "TaxmazeLaw" (128 : Nat) ({ cls := "Taxmaze", name := "<init>", desc := "()V" } : Jvm.MethodName)) ∈ lw_all := lw_g (lw_at lw_m1 55 rfl) rfl
theorem q404 : (Jvm.Cond.methodLink "TaxmazeLaw" (227 : Nat) ({ cls := "Taxmaze", name := "open", desc := "()I" } : Jvm.MethodName)) ∈ lw_all := lw_g (lw_at lw_m2 99 rfl) rfl
theorem q408 : (Jvm.Cond.methodLink "TaxmazeLaw" (235 : Nat) ({ cls := "Taxmaze", name := "payments", desc := "()I" } : Jvm.MethodName)) ∈ lw_all := lw_g (lw_at lw_m2 103 rfl) rfl
theorem q421 : (Jvm.Cond.methodLink "TaxmazeLaw" (132 : Nat) ({ cls := "TaxmazeLaw", name := "contract", desc := "(LTaxmaze;IIIIZII[J)I" } : Jvm.MethodName)) ∈ lw_all := lw_g (lw_at lw_m2 116 rfl) rfl
theorem q422 : (Jvm.Cond.static ({ cls := "TaxmazeLaw", name := "contract", desc := "(LTaxmaze;IIIIZII[J)I" } : Jvm.MethodName)) ∈ lw_all := lw_g (lw_at lw_m2 117 rfl) rfl
theorem q423 : (Jvm.Cond.codeWith ({ cls := "TaxmazeLaw", name := "contract", desc := "(LTaxmaze;IIIIZII[J)I" } : Jvm.MethodName) method_3_code (10 : Nat) (Option.some Jvm.ClassFile.FieldType.int) [((0 : Nat), (20 : Nat), (23 : Nat), (13 : Nat)), ((0 : Nat), (20 : Nat), (27 : Nat), (15 : Nat)), ((0 : Nat), (20 : Nat), (31 : Nat), (17 : Nat))]) ∈ lw_all := lw_g (lw_at lw_m2 118 rfl) rfl
theorem q424 : (Jvm.Cond.classLink "TaxmazeLaw" (13 : Nat) "java/lang/IndexOutOfBoundsException") ∈ lw_all := lw_g (lw_at lw_m2 119 rfl) rfl
theorem q501 : (Jvm.Cond.classLink "TaxmazeLaw" (15 : Nat) "java/lang/IllegalArgumentException") ∈ lw_all := lw_g (lw_at lw_m2 196 rfl) rfl
theorem q502 : (Jvm.Cond.classLink "TaxmazeLaw" (17 : Nat) "java/lang/IllegalStateException") ∈ lw_all := lw_g (lw_at lw_m2 197 rfl) rfl
theorem q503 : (Jvm.Cond.methodLink "TaxmazeLaw" (7 : Nat) ({ cls := "Taxmaze", name := "contract", desc := "(IIIIZII)I" } : Jvm.MethodName)) ∈ lw_all := lw_g (lw_at lw_m2 198 rfl) rfl
theorem q953 : (Jvm.Cond.methodLink "TaxmazeLaw" (141 : Nat) ({ cls := "TaxmazeLaw", name := "pay", desc := "(LTaxmaze;III[J)I" } : Jvm.MethodName)) ∈ lw_all := lw_g (lw_at lw_m4 168 rfl) rfl
theorem q954 : (Jvm.Cond.static ({ cls := "TaxmazeLaw", name := "pay", desc := "(LTaxmaze;III[J)I" } : Jvm.MethodName)) ∈ lw_all := lw_g (lw_at lw_m4 169 rfl) rfl
theorem q955 : (Jvm.Cond.codeWith ({ cls := "TaxmazeLaw", name := "pay", desc := "(LTaxmaze;III[J)I" } : Jvm.MethodName) method_4_code (6 : Nat) (Option.some Jvm.ClassFile.FieldType.int) [((0 : Nat), (12 : Nat), (15 : Nat), (13 : Nat)), ((0 : Nat), (12 : Nat), (19 : Nat), (15 : Nat))]) ∈ lw_all := lw_g (lw_at lw_m4 170 rfl) rfl
theorem q956 : (Jvm.Cond.methodLink "TaxmazeLaw" (19 : Nat) ({ cls := "Taxmaze", name := "pay", desc := "(III)I" } : Jvm.MethodName)) ∈ lw_all := lw_g (lw_at lw_m4 171 rfl) rfl
theorem q988 : (Jvm.Cond.methodLink "TaxmazeLaw" (145 : Nat) ({ cls := "TaxmazeLaw", name := "shift", desc := "(LTaxmaze;IIII[J)I" } : Jvm.MethodName)) ∈ lw_all := lw_g (lw_at lw_m4 203 rfl) rfl
theorem q989 : (Jvm.Cond.static ({ cls := "TaxmazeLaw", name := "shift", desc := "(LTaxmaze;IIII[J)I" } : Jvm.MethodName)) ∈ lw_all := lw_g (lw_at lw_m4 204 rfl) rfl
theorem q990 : (Jvm.Cond.codeWith ({ cls := "TaxmazeLaw", name := "shift", desc := "(LTaxmaze;IIII[J)I" } : Jvm.MethodName) method_5_code (7 : Nat) (Option.some Jvm.ClassFile.FieldType.int) [((0 : Nat), (14 : Nat), (17 : Nat), (13 : Nat)), ((0 : Nat), (14 : Nat), (21 : Nat), (15 : Nat)), ((0 : Nat), (14 : Nat), (25 : Nat), (17 : Nat))]) ∈ lw_all := lw_g (lw_at lw_m4 205 rfl) rfl
theorem q991 : (Jvm.Cond.methodLink "TaxmazeLaw" (23 : Nat) ({ cls := "Taxmaze", name := "shift", desc := "(IIII)I" } : Jvm.MethodName)) ∈ lw_all := lw_g (lw_at lw_m4 206 rfl) rfl
theorem q1100 : (Jvm.Cond.methodLink "TaxmazeLaw" (149 : Nat) ({ cls := "TaxmazeLaw", name := "minutes", desc := "(LTaxmaze;II[J)I" } : Jvm.MethodName)) ∈ lw_all := lw_g (lw_at lw_m5 75 rfl) rfl
theorem q1101 : (Jvm.Cond.static ({ cls := "TaxmazeLaw", name := "minutes", desc := "(LTaxmaze;II[J)I" } : Jvm.MethodName)) ∈ lw_all := lw_g (lw_at lw_m5 76 rfl) rfl
theorem q1102 : (Jvm.Cond.codeWith ({ cls := "TaxmazeLaw", name := "minutes", desc := "(LTaxmaze;II[J)I" } : Jvm.MethodName) method_6_code (5 : Nat) (Option.some Jvm.ClassFile.FieldType.int) [((0 : Nat), (10 : Nat), (13 : Nat), (13 : Nat))]) ∈ lw_all := lw_g (lw_at lw_m5 77 rfl) rfl
theorem q1103 : (Jvm.Cond.methodLink "TaxmazeLaw" (27 : Nat) ({ cls := "Taxmaze", name := "minutes", desc := "(II)I" } : Jvm.MethodName)) ∈ lw_all := lw_g (lw_at lw_m5 78 rfl) rfl
theorem q1107 : (Jvm.Cond.methodLink "TaxmazeLaw" (153 : Nat) ({ cls := "TaxmazeLaw", name := "overtime", desc := "(LTaxmaze;II[J)I" } : Jvm.MethodName)) ∈ lw_all := lw_g (lw_at lw_m5 82 rfl) rfl
theorem q1108 : (Jvm.Cond.static ({ cls := "TaxmazeLaw", name := "overtime", desc := "(LTaxmaze;II[J)I" } : Jvm.MethodName)) ∈ lw_all := lw_g (lw_at lw_m5 83 rfl) rfl
theorem q1109 : (Jvm.Cond.codeWith ({ cls := "TaxmazeLaw", name := "overtime", desc := "(LTaxmaze;II[J)I" } : Jvm.MethodName) method_7_code (5 : Nat) (Option.some Jvm.ClassFile.FieldType.int) [((0 : Nat), (10 : Nat), (13 : Nat), (13 : Nat))]) ∈ lw_all := lw_g (lw_at lw_m5 84 rfl) rfl
theorem q1110 : (Jvm.Cond.methodLink "TaxmazeLaw" (31 : Nat) ({ cls := "Taxmaze", name := "overtime", desc := "(II)I" } : Jvm.MethodName)) ∈ lw_all := lw_g (lw_at lw_m5 85 rfl) rfl
theorem q1119 : (Jvm.Cond.methodLink "TaxmazeLaw" (156 : Nat) ({ cls := "TaxmazeLaw", name := "base", desc := "(LTaxmaze;II[J)I" } : Jvm.MethodName)) ∈ lw_all := lw_g (lw_at lw_m5 94 rfl) rfl
theorem q1120 : (Jvm.Cond.static ({ cls := "TaxmazeLaw", name := "base", desc := "(LTaxmaze;II[J)I" } : Jvm.MethodName)) ∈ lw_all := lw_g (lw_at lw_m5 95 rfl) rfl
theorem q1121 : (Jvm.Cond.codeWith ({ cls := "TaxmazeLaw", name := "base", desc := "(LTaxmaze;II[J)I" } : Jvm.MethodName) method_8_code (5 : Nat) (Option.some Jvm.ClassFile.FieldType.int) [((0 : Nat), (9 : Nat), (12 : Nat), (13 : Nat))]) ∈ lw_all := lw_g (lw_at lw_m5 96 rfl) rfl
theorem q1122 : (Jvm.Cond.methodLink "TaxmazeLaw" (34 : Nat) ({ cls := "Taxmaze", name := "base", desc := "(II)J" } : Jvm.MethodName)) ∈ lw_all := lw_g (lw_at lw_m5 97 rfl) rfl
theorem q1203 : (Jvm.Cond.methodLink "TaxmazeLaw" (159 : Nat) ({ cls := "TaxmazeLaw", name := "leaveRule", desc := "(LTaxmaze;III)I" } : Jvm.MethodName)) ∈ lw_all := lw_g (lw_at lw_m5 178 rfl) rfl
theorem q1204 : (Jvm.Cond.static ({ cls := "TaxmazeLaw", name := "leaveRule", desc := "(LTaxmaze;III)I" } : Jvm.MethodName)) ∈ lw_all := lw_g (lw_at lw_m5 179 rfl) rfl
theorem q1205 : (Jvm.Cond.codeWith ({ cls := "TaxmazeLaw", name := "leaveRule", desc := "(LTaxmaze;III)I" } : Jvm.MethodName) method_9_code (5 : Nat) (Option.some Jvm.ClassFile.FieldType.int) [((0 : Nat), (7 : Nat), (10 : Nat), (15 : Nat))]) ∈ lw_all := lw_g (lw_at lw_m5 180 rfl) rfl
theorem q1206 : (Jvm.Cond.methodLink "TaxmazeLaw" (38 : Nat) ({ cls := "Taxmaze", name := "leaveRule", desc := "(III)V" } : Jvm.MethodName)) ∈ lw_all := lw_g (lw_at lw_m5 181 rfl) rfl
theorem q1210 : (Jvm.Cond.methodLink "TaxmazeLaw" (163 : Nat) ({ cls := "TaxmazeLaw", name := "leave", desc := "(LTaxmaze;II[J)I" } : Jvm.MethodName)) ∈ lw_all := lw_g (lw_at lw_m5 185 rfl) rfl
theorem q1211 : (Jvm.Cond.static ({ cls := "TaxmazeLaw", name := "leave", desc := "(LTaxmaze;II[J)I" } : Jvm.MethodName)) ∈ lw_all := lw_g (lw_at lw_m5 186 rfl) rfl
theorem q1212 : (Jvm.Cond.codeWith ({ cls := "TaxmazeLaw", name := "leave", desc := "(LTaxmaze;II[J)I" } : Jvm.MethodName) method_10_code (5 : Nat) (Option.some Jvm.ClassFile.FieldType.int) [((0 : Nat), (17 : Nat), (20 : Nat), (13 : Nat)), ((0 : Nat), (17 : Nat), (24 : Nat), (17 : Nat))]) ∈ lw_all := lw_g (lw_at lw_m5 187 rfl) rfl
theorem q1213 : (Jvm.Cond.methodLink "TaxmazeLaw" (42 : Nat) ({ cls := "Taxmaze", name := "leave", desc := "(II)Z" } : Jvm.MethodName)) ∈ lw_all := lw_g (lw_at lw_m5 188 rfl) rfl
theorem q1237 : (Jvm.Cond.methodLink "TaxmazeLaw" (166 : Nat) ({ cls := "TaxmazeLaw", name := "leaveLeft", desc := "(LTaxmaze;II[J)I" } : Jvm.MethodName)) ∈ lw_all := lw_g (lw_at lw_m5 212 rfl) rfl
theorem q1238 : (Jvm.Cond.static ({ cls := "TaxmazeLaw", name := "leaveLeft", desc := "(LTaxmaze;II[J)I" } : Jvm.MethodName)) ∈ lw_all := lw_g (lw_at lw_m5 213 rfl) rfl
theorem q1239 : (Jvm.Cond.codeWith ({ cls := "TaxmazeLaw", name := "leaveLeft", desc := "(LTaxmaze;II[J)I" } : Jvm.MethodName) method_11_code (5 : Nat) (Option.some Jvm.ClassFile.FieldType.int) [((0 : Nat), (10 : Nat), (13 : Nat), (13 : Nat))]) ∈ lw_all := lw_g (lw_at lw_m5 214 rfl) rfl
theorem q1240 : (Jvm.Cond.methodLink "TaxmazeLaw" (46 : Nat) ({ cls := "Taxmaze", name := "leaveLeft", desc := "(II)I" } : Jvm.MethodName)) ∈ lw_all := lw_g (lw_at lw_m5 215 rfl) rfl
theorem q1244 : (Jvm.Cond.methodLink "TaxmazeLaw" (169 : Nat) ({ cls := "TaxmazeLaw", name := "word", desc := "(LTaxmaze;II[J)I" } : Jvm.MethodName)) ∈ lw_all := lw_g (lw_at lw_m5 219 rfl) rfl
theorem q1245 : (Jvm.Cond.static ({ cls := "TaxmazeLaw", name := "word", desc := "(LTaxmaze;II[J)I" } : Jvm.MethodName)) ∈ lw_all := lw_g (lw_at lw_m5 220 rfl) rfl
theorem q1246 : (Jvm.Cond.codeWith ({ cls := "TaxmazeLaw", name := "word", desc := "(LTaxmaze;II[J)I" } : Jvm.MethodName) method_12_code (5 : Nat) (Option.some Jvm.ClassFile.FieldType.int) [((0 : Nat), (10 : Nat), (13 : Nat), (15 : Nat)), ((0 : Nat), (10 : Nat), (17 : Nat), (17 : Nat))]) ∈ lw_all := lw_g (lw_at lw_m5 221 rfl) rfl
theorem q1247 : (Jvm.Cond.methodLink "TaxmazeLaw" (49 : Nat) ({ cls := "Taxmaze", name := "word", desc := "(II)I" } : Jvm.MethodName)) ∈ lw_all := lw_g (lw_at lw_m5 222 rfl) rfl
theorem q1300 : (Jvm.Cond.methodLink "TaxmazeLaw" (172 : Nat) ({ cls := "TaxmazeLaw", name := "element", desc := "(LTaxmaze;II[J)I" } : Jvm.MethodName)) ∈ lw_all := lw_g (lw_at lw_m6 35 rfl) rfl
theorem q1301 : (Jvm.Cond.static ({ cls := "TaxmazeLaw", name := "element", desc := "(LTaxmaze;II[J)I" } : Jvm.MethodName)) ∈ lw_all := lw_g (lw_at lw_m6 36 rfl) rfl
theorem q1302 : (Jvm.Cond.codeWith ({ cls := "TaxmazeLaw", name := "element", desc := "(LTaxmaze;II[J)I" } : Jvm.MethodName) method_13_code (5 : Nat) (Option.some Jvm.ClassFile.FieldType.int) [((0 : Nat), (10 : Nat), (13 : Nat), (13 : Nat)), ((0 : Nat), (10 : Nat), (17 : Nat), (15 : Nat)), ((0 : Nat), (10 : Nat), (21 : Nat), (17 : Nat))]) ∈ lw_all := lw_g (lw_at lw_m6 37 rfl) rfl
theorem q1303 : (Jvm.Cond.methodLink "TaxmazeLaw" (52 : Nat) ({ cls := "Taxmaze", name := "element", desc := "(II)I" } : Jvm.MethodName)) ∈ lw_all := lw_g (lw_at lw_m6 38 rfl) rfl
theorem q1463 : (Jvm.Cond.methodLink "TaxmazeLaw" (175 : Nat) ({ cls := "TaxmazeLaw", name := "order", desc := "(LTaxmaze;I[J)I" } : Jvm.MethodName)) ∈ lw_all := lw_g (lw_at lw_m6 198 rfl) rfl
theorem q1464 : (Jvm.Cond.static ({ cls := "TaxmazeLaw", name := "order", desc := "(LTaxmaze;I[J)I" } : Jvm.MethodName)) ∈ lw_all := lw_g (lw_at lw_m6 199 rfl) rfl
theorem q1465 : (Jvm.Cond.codeWith ({ cls := "TaxmazeLaw", name := "order", desc := "(LTaxmaze;I[J)I" } : Jvm.MethodName) method_14_code (4 : Nat) (Option.some Jvm.ClassFile.FieldType.int) [((0 : Nat), (9 : Nat), (12 : Nat), (13 : Nat))]) ∈ lw_all := lw_g (lw_at lw_m6 200 rfl) rfl
theorem q1466 : (Jvm.Cond.methodLink "TaxmazeLaw" (55 : Nat) ({ cls := "Taxmaze", name := "order", desc := "(I)I" } : Jvm.MethodName)) ∈ lw_all := lw_g (lw_at lw_m6 201 rfl) rfl
theorem q1470 : (Jvm.Cond.methodLink "TaxmazeLaw" (179 : Nat) ({ cls := "TaxmazeLaw", name := "bonus", desc := "(LTaxmaze;IIII[J)I" } : Jvm.MethodName)) ∈ lw_all := lw_g (lw_at lw_m6 205 rfl) rfl
theorem q1471 : (Jvm.Cond.static ({ cls := "TaxmazeLaw", name := "bonus", desc := "(LTaxmaze;IIII[J)I" } : Jvm.MethodName)) ∈ lw_all := lw_g (lw_at lw_m6 206 rfl) rfl
theorem q1472 : (Jvm.Cond.codeWith ({ cls := "TaxmazeLaw", name := "bonus", desc := "(LTaxmaze;IIII[J)I" } : Jvm.MethodName) method_15_code (7 : Nat) (Option.some Jvm.ClassFile.FieldType.int) [((0 : Nat), (14 : Nat), (17 : Nat), (13 : Nat)), ((0 : Nat), (14 : Nat), (21 : Nat), (15 : Nat))]) ∈ lw_all := lw_g (lw_at lw_m6 207 rfl) rfl
theorem q1473 : (Jvm.Cond.methodLink "TaxmazeLaw" (59 : Nat) ({ cls := "Taxmaze", name := "bonus", desc := "(IIII)I" } : Jvm.MethodName)) ∈ lw_all := lw_g (lw_at lw_m6 208 rfl) rfl
theorem q1479 : (Jvm.Cond.methodLink "TaxmazeLaw" (182 : Nat) ({ cls := "TaxmazeLaw", name := "contribution", desc := "(LTaxmaze;IIII)I" } : Jvm.MethodName)) ∈ lw_all := lw_g (lw_at lw_m6 214 rfl) rfl
theorem q1480 : (Jvm.Cond.static ({ cls := "TaxmazeLaw", name := "contribution", desc := "(LTaxmaze;IIII)I" } : Jvm.MethodName)) ∈ lw_all := lw_g (lw_at lw_m6 215 rfl) rfl
theorem q1481 : (Jvm.Cond.codeWith ({ cls := "TaxmazeLaw", name := "contribution", desc := "(LTaxmaze;IIII)I" } : Jvm.MethodName) method_16_code (6 : Nat) (Option.some Jvm.ClassFile.FieldType.int) [((0 : Nat), (9 : Nat), (12 : Nat), (13 : Nat)), ((0 : Nat), (9 : Nat), (16 : Nat), (15 : Nat))]) ∈ lw_all := lw_g (lw_at lw_m6 216 rfl) rfl
theorem q1482 : (Jvm.Cond.methodLink "TaxmazeLaw" (62 : Nat) ({ cls := "Taxmaze", name := "contribution", desc := "(IIII)V" } : Jvm.MethodName)) ∈ lw_all := lw_g (lw_at lw_m6 217 rfl) rfl
theorem q1493 : (Jvm.Cond.methodLink "TaxmazeLaw" (186 : Nat) ({ cls := "TaxmazeLaw", name := "bracket", desc := "(LTaxmaze;IIIII[J)I" } : Jvm.MethodName)) ∈ lw_all := lw_g (lw_at lw_m6 228 rfl) rfl
theorem q1494 : (Jvm.Cond.static ({ cls := "TaxmazeLaw", name := "bracket", desc := "(LTaxmaze;IIIII[J)I" } : Jvm.MethodName)) ∈ lw_all := lw_g (lw_at lw_m6 229 rfl) rfl
theorem q1495 : (Jvm.Cond.codeWith ({ cls := "TaxmazeLaw", name := "bracket", desc := "(LTaxmaze;IIIII[J)I" } : Jvm.MethodName) method_17_code (8 : Nat) (Option.some Jvm.ClassFile.FieldType.int) [((0 : Nat), (16 : Nat), (19 : Nat), (13 : Nat)), ((0 : Nat), (16 : Nat), (23 : Nat), (15 : Nat)), ((0 : Nat), (16 : Nat), (27 : Nat), (17 : Nat))]) ∈ lw_all := lw_g (lw_at lw_m6 230 rfl) rfl
theorem q1496 : (Jvm.Cond.methodLink "TaxmazeLaw" (66 : Nat) ({ cls := "Taxmaze", name := "bracket", desc := "(IIIII)I" } : Jvm.MethodName)) ∈ lw_all := lw_g (lw_at lw_m6 231 rfl) rfl
theorem q1524 : (Jvm.Cond.methodLink "TaxmazeLaw" (190 : Nat) ({ cls := "TaxmazeLaw", name := "state", desc := "(LTaxmaze;III)I" } : Jvm.MethodName)) ∈ lw_all := lw_g (lw_at lw_m7 19 rfl) rfl
theorem q1525 : (Jvm.Cond.static ({ cls := "TaxmazeLaw", name := "state", desc := "(LTaxmaze;III)I" } : Jvm.MethodName)) ∈ lw_all := lw_g (lw_at lw_m7 20 rfl) rfl
theorem q1526 : (Jvm.Cond.codeWith ({ cls := "TaxmazeLaw", name := "state", desc := "(LTaxmaze;III)I" } : Jvm.MethodName) method_18_code (5 : Nat) (Option.some Jvm.ClassFile.FieldType.int) [((0 : Nat), (7 : Nat), (10 : Nat), (13 : Nat)), ((0 : Nat), (7 : Nat), (14 : Nat), (15 : Nat))]) ∈ lw_all := lw_g (lw_at lw_m7 21 rfl) rfl
theorem q1527 : (Jvm.Cond.methodLink "TaxmazeLaw" (70 : Nat) ({ cls := "Taxmaze", name := "state", desc := "(III)V" } : Jvm.MethodName)) ∈ lw_all := lw_g (lw_at lw_m7 22 rfl) rfl
theorem q1531 : (Jvm.Cond.methodLink "TaxmazeLaw" (193 : Nat) ({ cls := "TaxmazeLaw", name := "pension", desc := "(LTaxmaze;III)I" } : Jvm.MethodName)) ∈ lw_all := lw_g (lw_at lw_m7 26 rfl) rfl
theorem q1532 : (Jvm.Cond.static ({ cls := "TaxmazeLaw", name := "pension", desc := "(LTaxmaze;III)I" } : Jvm.MethodName)) ∈ lw_all := lw_g (lw_at lw_m7 27 rfl) rfl
theorem q1533 : (Jvm.Cond.codeWith ({ cls := "TaxmazeLaw", name := "pension", desc := "(LTaxmaze;III)I" } : Jvm.MethodName) method_19_code (5 : Nat) (Option.some Jvm.ClassFile.FieldType.int) [((0 : Nat), (7 : Nat), (10 : Nat), (13 : Nat)), ((0 : Nat), (7 : Nat), (14 : Nat), (15 : Nat))]) ∈ lw_all := lw_g (lw_at lw_m7 28 rfl) rfl
theorem q1534 : (Jvm.Cond.methodLink "TaxmazeLaw" (73 : Nat) ({ cls := "Taxmaze", name := "pension", desc := "(III)V" } : Jvm.MethodName)) ∈ lw_all := lw_g (lw_at lw_m7 29 rfl) rfl
theorem q1538 : (Jvm.Cond.methodLink "TaxmazeLaw" (198 : Nat) ({ cls := "TaxmazeLaw", name := "yearTax", desc := "(LTaxmaze;IIIJ[J)I" } : Jvm.MethodName)) ∈ lw_all := lw_g (lw_at lw_m7 33 rfl) rfl
theorem q1539 : (Jvm.Cond.static ({ cls := "TaxmazeLaw", name := "yearTax", desc := "(LTaxmaze;IIIJ[J)I" } : Jvm.MethodName)) ∈ lw_all := lw_g (lw_at lw_m7 34 rfl) rfl
theorem q1540 : (Jvm.Cond.codeWith ({ cls := "TaxmazeLaw", name := "yearTax", desc := "(LTaxmaze;IIIJ[J)I" } : Jvm.MethodName) method_20_code (8 : Nat) (Option.some Jvm.ClassFile.FieldType.int) [((0 : Nat), (13 : Nat), (16 : Nat), (13 : Nat)), ((0 : Nat), (13 : Nat), (20 : Nat), (15 : Nat))]) ∈ lw_all := lw_g (lw_at lw_m7 35 rfl) rfl
theorem q1541 : (Jvm.Cond.methodLink "TaxmazeLaw" (76 : Nat) ({ cls := "Taxmaze", name := "yearTax", desc := "(IIIJ)J" } : Jvm.MethodName)) ∈ lw_all := lw_g (lw_at lw_m7 36 rfl) rfl
theorem q1573 : (Jvm.Cond.methodLink "TaxmazeLaw" (202 : Nat) ({ cls := "TaxmazeLaw", name := "slip", desc := "(LTaxmaze;III[J)I" } : Jvm.MethodName)) ∈ lw_all := lw_g (lw_at lw_m7 68 rfl) rfl
theorem q1574 : (Jvm.Cond.static ({ cls := "TaxmazeLaw", name := "slip", desc := "(LTaxmaze;III[J)I" } : Jvm.MethodName)) ∈ lw_all := lw_g (lw_at lw_m7 69 rfl) rfl
theorem q1575 : (Jvm.Cond.codeWith ({ cls := "TaxmazeLaw", name := "slip", desc := "(LTaxmaze;III[J)I" } : Jvm.MethodName) method_21_code (6 : Nat) (Option.some Jvm.ClassFile.FieldType.int) [((0 : Nat), (11 : Nat), (14 : Nat), (13 : Nat)), ((0 : Nat), (11 : Nat), (18 : Nat), (15 : Nat))]) ∈ lw_all := lw_g (lw_at lw_m7 70 rfl) rfl
theorem q1576 : (Jvm.Cond.methodLink "TaxmazeLaw" (80 : Nat) ({ cls := "Taxmaze", name := "slip", desc := "(III)J" } : Jvm.MethodName)) ∈ lw_all := lw_g (lw_at lw_m7 71 rfl) rfl
theorem q2024 : (Jvm.Cond.methodLink "TaxmazeLaw" (205 : Nat) ({ cls := "TaxmazeLaw", name := "slipIn", desc := "(LTaxmaze;IIII[J)I" } : Jvm.MethodName)) ∈ lw_all := lw_g (lw_at lw_m9 39 rfl) rfl
theorem q2025 : (Jvm.Cond.static ({ cls := "TaxmazeLaw", name := "slipIn", desc := "(LTaxmaze;IIII[J)I" } : Jvm.MethodName)) ∈ lw_all := lw_g (lw_at lw_m9 40 rfl) rfl
theorem q2026 : (Jvm.Cond.codeWith ({ cls := "TaxmazeLaw", name := "slipIn", desc := "(LTaxmaze;IIII[J)I" } : Jvm.MethodName) method_22_code (7 : Nat) (Option.some Jvm.ClassFile.FieldType.int) [((0 : Nat), (13 : Nat), (16 : Nat), (13 : Nat)), ((0 : Nat), (13 : Nat), (20 : Nat), (15 : Nat))]) ∈ lw_all := lw_g (lw_at lw_m9 41 rfl) rfl
theorem q2027 : (Jvm.Cond.methodLink "TaxmazeLaw" (84 : Nat) ({ cls := "Taxmaze", name := "slipIn", desc := "(IIII)J" } : Jvm.MethodName)) ∈ lw_all := lw_g (lw_at lw_m9 42 rfl) rfl
theorem q2032 : (Jvm.Cond.methodLink "TaxmazeLaw" (208 : Nat) ({ cls := "TaxmazeLaw", name := "elementOf", desc := "(LTaxmaze;III[J)I" } : Jvm.MethodName)) ∈ lw_all := lw_g (lw_at lw_m9 47 rfl) rfl
theorem q2033 : (Jvm.Cond.static ({ cls := "TaxmazeLaw", name := "elementOf", desc := "(LTaxmaze;III[J)I" } : Jvm.MethodName)) ∈ lw_all := lw_g (lw_at lw_m9 48 rfl) rfl
theorem q2034 : (Jvm.Cond.codeWith ({ cls := "TaxmazeLaw", name := "elementOf", desc := "(LTaxmaze;III[J)I" } : Jvm.MethodName) method_23_code (6 : Nat) (Option.some Jvm.ClassFile.FieldType.int) [((0 : Nat), (11 : Nat), (14 : Nat), (13 : Nat))]) ∈ lw_all := lw_g (lw_at lw_m9 49 rfl) rfl
theorem q2035 : (Jvm.Cond.methodLink "TaxmazeLaw" (88 : Nat) ({ cls := "Taxmaze", name := "elementOf", desc := "(III)J" } : Jvm.MethodName)) ∈ lw_all := lw_g (lw_at lw_m9 50 rfl) rfl
theorem q2039 : (Jvm.Cond.methodLink "TaxmazeLaw" (211 : Nat) ({ cls := "TaxmazeLaw", name := "pensionOf", desc := "(LTaxmaze;II[J)I" } : Jvm.MethodName)) ∈ lw_all := lw_g (lw_at lw_m9 54 rfl) rfl
theorem q2040 : (Jvm.Cond.static ({ cls := "TaxmazeLaw", name := "pensionOf", desc := "(LTaxmaze;II[J)I" } : Jvm.MethodName)) ∈ lw_all := lw_g (lw_at lw_m9 55 rfl) rfl
theorem q2041 : (Jvm.Cond.codeWith ({ cls := "TaxmazeLaw", name := "pensionOf", desc := "(LTaxmaze;II[J)I" } : Jvm.MethodName) method_24_code (5 : Nat) (Option.some Jvm.ClassFile.FieldType.int) [((0 : Nat), (9 : Nat), (12 : Nat), (13 : Nat))]) ∈ lw_all := lw_g (lw_at lw_m9 56 rfl) rfl
theorem q2042 : (Jvm.Cond.methodLink "TaxmazeLaw" (91 : Nat) ({ cls := "Taxmaze", name := "pensionOf", desc := "(II)J" } : Jvm.MethodName)) ∈ lw_all := lw_g (lw_at lw_m9 57 rfl) rfl
theorem q2046 : (Jvm.Cond.methodLink "TaxmazeLaw" (214 : Nat) ({ cls := "TaxmazeLaw", name := "grossFor", desc := "(LTaxmaze;IIII[J)I" } : Jvm.MethodName)) ∈ lw_all := lw_g (lw_at lw_m9 61 rfl) rfl
theorem q2047 : (Jvm.Cond.static ({ cls := "TaxmazeLaw", name := "grossFor", desc := "(LTaxmaze;IIII[J)I" } : Jvm.MethodName)) ∈ lw_all := lw_g (lw_at lw_m9 62 rfl) rfl
theorem q2048 : (Jvm.Cond.codeWith ({ cls := "TaxmazeLaw", name := "grossFor", desc := "(LTaxmaze;IIII[J)I" } : Jvm.MethodName) method_25_code (7 : Nat) (Option.some Jvm.ClassFile.FieldType.int) [((0 : Nat), (14 : Nat), (17 : Nat), (13 : Nat)), ((0 : Nat), (14 : Nat), (21 : Nat), (15 : Nat))]) ∈ lw_all := lw_g (lw_at lw_m9 63 rfl) rfl
theorem q2049 : (Jvm.Cond.methodLink "TaxmazeLaw" (94 : Nat) ({ cls := "Taxmaze", name := "grossFor", desc := "(IIII)I" } : Jvm.MethodName)) ∈ lw_all := lw_g (lw_at lw_m9 64 rfl) rfl
theorem q2054 : (Jvm.Cond.methodLink "TaxmazeLaw" (217 : Nat) ({ cls := "TaxmazeLaw", name := "garnish", desc := "(LTaxmaze;IIIIII[J)I" } : Jvm.MethodName)) ∈ lw_all := lw_g (lw_at lw_m9 69 rfl) rfl
theorem q2055 : (Jvm.Cond.static ({ cls := "TaxmazeLaw", name := "garnish", desc := "(LTaxmaze;IIIIII[J)I" } : Jvm.MethodName)) ∈ lw_all := lw_g (lw_at lw_m9 70 rfl) rfl
theorem q2056 : (Jvm.Cond.codeWith ({ cls := "TaxmazeLaw", name := "garnish", desc := "(LTaxmaze;IIIIII[J)I" } : Jvm.MethodName) method_26_code (9 : Nat) (Option.some Jvm.ClassFile.FieldType.int) [((0 : Nat), (18 : Nat), (21 : Nat), (13 : Nat)), ((0 : Nat), (18 : Nat), (25 : Nat), (15 : Nat)), ((0 : Nat), (18 : Nat), (29 : Nat), (17 : Nat))]) ∈ lw_all := lw_g (lw_at lw_m9 71 rfl) rfl
theorem q2057 : (Jvm.Cond.methodLink "TaxmazeLaw" (97 : Nat) ({ cls := "Taxmaze", name := "garnish", desc := "(IIIIII)I" } : Jvm.MethodName)) ∈ lw_all := lw_g (lw_at lw_m9 72 rfl) rfl
theorem q2134 : (Jvm.Cond.methodLink "TaxmazeLaw" (221 : Nat) ({ cls := "TaxmazeLaw", name := "takenBy", desc := "(LTaxmaze;II[J)I" } : Jvm.MethodName)) ∈ lw_all := lw_g (lw_at lw_m9 149 rfl) rfl
theorem q2135 : (Jvm.Cond.static ({ cls := "TaxmazeLaw", name := "takenBy", desc := "(LTaxmaze;II[J)I" } : Jvm.MethodName)) ∈ lw_all := lw_g (lw_at lw_m9 150 rfl) rfl
theorem q2136 : (Jvm.Cond.codeWith ({ cls := "TaxmazeLaw", name := "takenBy", desc := "(LTaxmaze;II[J)I" } : Jvm.MethodName) method_27_code (5 : Nat) (Option.some Jvm.ClassFile.FieldType.int) [((0 : Nat), (9 : Nat), (12 : Nat), (13 : Nat))]) ∈ lw_all := lw_g (lw_at lw_m9 151 rfl) rfl
theorem q2137 : (Jvm.Cond.methodLink "TaxmazeLaw" (101 : Nat) ({ cls := "Taxmaze", name := "takenBy", desc := "(II)J" } : Jvm.MethodName)) ∈ lw_all := lw_g (lw_at lw_m9 152 rfl) rfl
theorem q2142 : (Jvm.Cond.methodLink "TaxmazeLaw" (224 : Nat) ({ cls := "TaxmazeLaw", name := "advance", desc := "(LTaxmaze;II[J)I" } : Jvm.MethodName)) ∈ lw_all := lw_g (lw_at lw_m9 157 rfl) rfl
theorem q2143 : (Jvm.Cond.static ({ cls := "TaxmazeLaw", name := "advance", desc := "(LTaxmaze;II[J)I" } : Jvm.MethodName)) ∈ lw_all := lw_g (lw_at lw_m9 158 rfl) rfl
theorem q2144 : (Jvm.Cond.codeWith ({ cls := "TaxmazeLaw", name := "advance", desc := "(LTaxmaze;II[J)I" } : Jvm.MethodName) method_28_code (5 : Nat) (Option.some Jvm.ClassFile.FieldType.int) [((0 : Nat), (9 : Nat), (12 : Nat), (13 : Nat)), ((0 : Nat), (9 : Nat), (16 : Nat), (15 : Nat)), ((0 : Nat), (9 : Nat), (20 : Nat), (17 : Nat))]) ∈ lw_all := lw_g (lw_at lw_m9 159 rfl) rfl
theorem q2145 : (Jvm.Cond.methodLink "TaxmazeLaw" (104 : Nat) ({ cls := "Taxmaze", name := "advance", desc := "(II)J" } : Jvm.MethodName)) ∈ lw_all := lw_g (lw_at lw_m9 160 rfl) rfl
theorem q2167 : (Jvm.Cond.methodLink "TaxmazeLaw" (231 : Nat) ({ cls := "TaxmazeLaw", name := "close", desc := "(LTaxmaze;[J)I" } : Jvm.MethodName)) ∈ lw_all := lw_g (lw_at lw_m9 182 rfl) rfl
theorem q2168 : (Jvm.Cond.static ({ cls := "TaxmazeLaw", name := "close", desc := "(LTaxmaze;[J)I" } : Jvm.MethodName)) ∈ lw_all := lw_g (lw_at lw_m9 183 rfl) rfl
theorem q2169 : (Jvm.Cond.codeWith ({ cls := "TaxmazeLaw", name := "close", desc := "(LTaxmaze;[J)I" } : Jvm.MethodName) method_29_code (3 : Nat) (Option.some Jvm.ClassFile.FieldType.int) [((0 : Nat), (8 : Nat), (11 : Nat), (17 : Nat))]) ∈ lw_all := lw_g (lw_at lw_m9 184 rfl) rfl
theorem q2170 : (Jvm.Cond.methodLink "TaxmazeLaw" (107 : Nat) ({ cls := "Taxmaze", name := "close", desc := "()I" } : Jvm.MethodName)) ∈ lw_all := lw_g (lw_at lw_m9 185 rfl) rfl
theorem q2204 : (Jvm.Cond.methodLink "TaxmazeLaw" (239 : Nat) ({ cls := "TaxmazeLaw", name := "payment", desc := "(LTaxmaze;II[J)I" } : Jvm.MethodName)) ∈ lw_all := lw_g (lw_at lw_m9 219 rfl) rfl
theorem q2205 : (Jvm.Cond.static ({ cls := "TaxmazeLaw", name := "payment", desc := "(LTaxmaze;II[J)I" } : Jvm.MethodName)) ∈ lw_all := lw_g (lw_at lw_m9 220 rfl) rfl
theorem q2206 : (Jvm.Cond.codeWith ({ cls := "TaxmazeLaw", name := "payment", desc := "(LTaxmaze;II[J)I" } : Jvm.MethodName) method_30_code (5 : Nat) (Option.some Jvm.ClassFile.FieldType.int) [((0 : Nat), (9 : Nat), (12 : Nat), (13 : Nat)), ((0 : Nat), (9 : Nat), (16 : Nat), (15 : Nat))]) ∈ lw_all := lw_g (lw_at lw_m9 221 rfl) rfl
theorem q2207 : (Jvm.Cond.methodLink "TaxmazeLaw" (111 : Nat) ({ cls := "Taxmaze", name := "payment", desc := "(II)J" } : Jvm.MethodName)) ∈ lw_all := lw_g (lw_at lw_m9 222 rfl) rfl
theorem q2211 : (Jvm.Cond.methodLink "TaxmazeLaw" (242 : Nat) ({ cls := "TaxmazeLaw", name := "comeBack", desc := "(LTaxmaze;I[J)I" } : Jvm.MethodName)) ∈ lw_all := lw_g (lw_at lw_m9 226 rfl) rfl
theorem q2212 : (Jvm.Cond.static ({ cls := "TaxmazeLaw", name := "comeBack", desc := "(LTaxmaze;I[J)I" } : Jvm.MethodName)) ∈ lw_all := lw_g (lw_at lw_m9 227 rfl) rfl
theorem q2213 : (Jvm.Cond.codeWith ({ cls := "TaxmazeLaw", name := "comeBack", desc := "(LTaxmaze;I[J)I" } : Jvm.MethodName) method_31_code (4 : Nat) (Option.some Jvm.ClassFile.FieldType.int) [((0 : Nat), (8 : Nat), (11 : Nat), (13 : Nat)), ((0 : Nat), (8 : Nat), (14 : Nat), (17 : Nat))]) ∈ lw_all := lw_g (lw_at lw_m9 228 rfl) rfl
theorem q2214 : (Jvm.Cond.methodLink "TaxmazeLaw" (114 : Nat) ({ cls := "Taxmaze", name := "comeBack", desc := "(I)J" } : Jvm.MethodName)) ∈ lw_all := lw_g (lw_at lw_m9 229 rfl) rfl
theorem q2218 : (Jvm.Cond.methodLink "TaxmazeLaw" (245 : Nat) ({ cls := "TaxmazeLaw", name := "owed", desc := "(LTaxmaze;I[J)I" } : Jvm.MethodName)) ∈ lw_all := lw_g (lw_at lw_m9 233 rfl) rfl
theorem q2219 : (Jvm.Cond.static ({ cls := "TaxmazeLaw", name := "owed", desc := "(LTaxmaze;I[J)I" } : Jvm.MethodName)) ∈ lw_all := lw_g (lw_at lw_m9 234 rfl) rfl
theorem q2220 : (Jvm.Cond.codeWith ({ cls := "TaxmazeLaw", name := "owed", desc := "(LTaxmaze;I[J)I" } : Jvm.MethodName) method_32_code (4 : Nat) (Option.some Jvm.ClassFile.FieldType.int) [((0 : Nat), (8 : Nat), (11 : Nat), (13 : Nat))]) ∈ lw_all := lw_g (lw_at lw_m9 235 rfl) rfl
theorem q2221 : (Jvm.Cond.methodLink "TaxmazeLaw" (118 : Nat) ({ cls := "Taxmaze", name := "owed", desc := "(I)J" } : Jvm.MethodName)) ∈ lw_all := lw_g (lw_at lw_m9 236 rfl) rfl
theorem q2225 : (Jvm.Cond.methodLink "TaxmazeLaw" (248 : Nat) ({ cls := "TaxmazeLaw", name := "filed", desc := "(LTaxmaze;IIZ[J)I" } : Jvm.MethodName)) ∈ lw_all := lw_g (lw_at lw_m10 0 rfl) rfl
theorem q2226 : (Jvm.Cond.static ({ cls := "TaxmazeLaw", name := "filed", desc := "(LTaxmaze;IIZ[J)I" } : Jvm.MethodName)) ∈ lw_all := lw_g (lw_at lw_m10 1 rfl) rfl
theorem q2227 : (Jvm.Cond.codeWith ({ cls := "TaxmazeLaw", name := "filed", desc := "(LTaxmaze;IIZ[J)I" } : Jvm.MethodName) method_33_code (6 : Nat) (Option.some Jvm.ClassFile.FieldType.int) [((0 : Nat), (11 : Nat), (14 : Nat), (13 : Nat))]) ∈ lw_all := lw_g (lw_at lw_m10 2 rfl) rfl
theorem q2228 : (Jvm.Cond.methodLink "TaxmazeLaw" (121 : Nat) ({ cls := "Taxmaze", name := "filed", desc := "(IIZ)J" } : Jvm.MethodName)) ∈ lw_all := lw_g (lw_at lw_m10 3 rfl) rfl
theorem q2232 : (Jvm.Cond.methodLink "TaxmazeLaw" (252 : Nat) ({ cls := "TaxmazeLaw", name := "corrections", desc := "(LTaxmaze;II[J)I" } : Jvm.MethodName)) ∈ lw_all := lw_g (lw_at lw_m10 7 rfl) rfl
theorem q2233 : (Jvm.Cond.static ({ cls := "TaxmazeLaw", name := "corrections", desc := "(LTaxmaze;II[J)I" } : Jvm.MethodName)) ∈ lw_all := lw_g (lw_at lw_m10 8 rfl) rfl
theorem q2234 : (Jvm.Cond.codeWith ({ cls := "TaxmazeLaw", name := "corrections", desc := "(LTaxmaze;II[J)I" } : Jvm.MethodName) method_34_code (5 : Nat) (Option.some Jvm.ClassFile.FieldType.int) [((0 : Nat), (10 : Nat), (13 : Nat), (13 : Nat))]) ∈ lw_all := lw_g (lw_at lw_m10 9 rfl) rfl
theorem q2235 : (Jvm.Cond.methodLink "TaxmazeLaw" (125 : Nat) ({ cls := "Taxmaze", name := "corrections", desc := "(II)I" } : Jvm.MethodName)) ∈ lw_all := lw_g (lw_at lw_m10 10 rfl) rfl
theorem q2239 : (Jvm.Cond.classLink "TaxmazeLaw" (129 : Nat) "TaxmazeModel") ∈ lw_all := lw_g (lw_at lw_m10 14 rfl) rfl
theorem q2241 : (Jvm.Cond.methodLink "TaxmazeLaw" (131 : Nat) ({ cls := "TaxmazeModel", name := "<init>", desc := "()V" } : Jvm.MethodName)) ∈ lw_all := lw_g (lw_at lw_m10 16 rfl) rfl
theorem q2456 : (Jvm.Cond.methodLink "TaxmazeLaw" (138 : Nat) ({ cls := "TaxmazeModel", name := "thrown", desc := "()I" } : Jvm.MethodName)) ∈ lw_all := lw_g (lw_at lw_m10 231 rfl) rfl
theorem q2460 : (Jvm.Cond.methodLink "TaxmazeLaw" (137 : Nat) ({ cls := "TaxmazeModel", name := "contract", desc := "(IIIIZII)I" } : Jvm.MethodName)) ∈ lw_all := lw_g (lw_at lw_m10 235 rfl) rfl
theorem q2494 : (Jvm.Cond.methodLink "TaxmazeLaw" (144 : Nat) ({ cls := "TaxmazeModel", name := "pay", desc := "(III)I" } : Jvm.MethodName)) ∈ lw_all := lw_g (lw_at lw_m11 29 rfl) rfl
theorem q2506 : (Jvm.Cond.methodLink "TaxmazeLaw" (148 : Nat) ({ cls := "TaxmazeModel", name := "shift", desc := "(IIII)I" } : Jvm.MethodName)) ∈ lw_all := lw_g (lw_at lw_m11 41 rfl) rfl
theorem q2520 : (Jvm.Cond.methodLink "TaxmazeLaw" (152 : Nat) ({ cls := "TaxmazeModel", name := "minutes", desc := "(II)I" } : Jvm.MethodName)) ∈ lw_all := lw_g (lw_at lw_m11 55 rfl) rfl
theorem q2524 : (Jvm.Cond.methodLink "TaxmazeLaw" (155 : Nat) ({ cls := "TaxmazeModel", name := "overtime", desc := "(II)I" } : Jvm.MethodName)) ∈ lw_all := lw_g (lw_at lw_m11 59 rfl) rfl
theorem q2533 : (Jvm.Cond.methodLink "TaxmazeLaw" (158 : Nat) ({ cls := "TaxmazeModel", name := "base", desc := "(II)J" } : Jvm.MethodName)) ∈ lw_all := lw_g (lw_at lw_m11 68 rfl) rfl
theorem q2569 : (Jvm.Cond.methodLink "TaxmazeLaw" (162 : Nat) ({ cls := "TaxmazeModel", name := "leaveRule", desc := "(III)V" } : Jvm.MethodName)) ∈ lw_all := lw_g (lw_at lw_m11 104 rfl) rfl
theorem q2576 : (Jvm.Cond.methodLink "TaxmazeLaw" (165 : Nat) ({ cls := "TaxmazeModel", name := "leave", desc := "(II)Z" } : Jvm.MethodName)) ∈ lw_all := lw_g (lw_at lw_m11 111 rfl) rfl
theorem q2580 : (Jvm.Cond.methodLink "TaxmazeLaw" (168 : Nat) ({ cls := "TaxmazeModel", name := "leaveLeft", desc := "(II)I" } : Jvm.MethodName)) ∈ lw_all := lw_g (lw_at lw_m11 115 rfl) rfl
theorem q2584 : (Jvm.Cond.methodLink "TaxmazeLaw" (171 : Nat) ({ cls := "TaxmazeModel", name := "word", desc := "(II)I" } : Jvm.MethodName)) ∈ lw_all := lw_g (lw_at lw_m11 119 rfl) rfl
theorem q2594 : (Jvm.Cond.methodLink "TaxmazeLaw" (174 : Nat) ({ cls := "TaxmazeModel", name := "element", desc := "(II)I" } : Jvm.MethodName)) ∈ lw_all := lw_g (lw_at lw_m11 129 rfl) rfl
theorem q2611 : (Jvm.Cond.methodLink "TaxmazeLaw" (178 : Nat) ({ cls := "TaxmazeModel", name := "order", desc := "(I)I" } : Jvm.MethodName)) ∈ lw_all := lw_g (lw_at lw_m11 146 rfl) rfl
theorem q2615 : (Jvm.Cond.methodLink "TaxmazeLaw" (181 : Nat) ({ cls := "TaxmazeModel", name := "bonus", desc := "(IIII)I" } : Jvm.MethodName)) ∈ lw_all := lw_g (lw_at lw_m11 150 rfl) rfl
theorem q2621 : (Jvm.Cond.methodLink "TaxmazeLaw" (185 : Nat) ({ cls := "TaxmazeModel", name := "contribution", desc := "(IIII)V" } : Jvm.MethodName)) ∈ lw_all := lw_g (lw_at lw_m11 156 rfl) rfl
theorem q2626 : (Jvm.Cond.methodLink "TaxmazeLaw" (189 : Nat) ({ cls := "TaxmazeModel", name := "bracket", desc := "(IIIII)I" } : Jvm.MethodName)) ∈ lw_all := lw_g (lw_at lw_m11 161 rfl) rfl
theorem q2632 : (Jvm.Cond.methodLink "TaxmazeLaw" (192 : Nat) ({ cls := "TaxmazeModel", name := "state", desc := "(III)V" } : Jvm.MethodName)) ∈ lw_all := lw_g (lw_at lw_m11 167 rfl) rfl
theorem q2636 : (Jvm.Cond.methodLink "TaxmazeLaw" (195 : Nat) ({ cls := "TaxmazeModel", name := "pension", desc := "(III)V" } : Jvm.MethodName)) ∈ lw_all := lw_g (lw_at lw_m11 171 rfl) rfl
theorem q2641 : (Jvm.Cond.methodLink "TaxmazeLaw" (201 : Nat) ({ cls := "TaxmazeModel", name := "yearTax", desc := "(IIIJ)J" } : Jvm.MethodName)) ∈ lw_all := lw_g (lw_at lw_m11 176 rfl) rfl
theorem q2655 : (Jvm.Cond.methodLink "TaxmazeLaw" (204 : Nat) ({ cls := "TaxmazeModel", name := "slip", desc := "(III)J" } : Jvm.MethodName)) ∈ lw_all := lw_g (lw_at lw_m11 190 rfl) rfl
theorem q2705 : (Jvm.Cond.methodLink "TaxmazeLaw" (207 : Nat) ({ cls := "TaxmazeModel", name := "slipIn", desc := "(IIII)J" } : Jvm.MethodName)) ∈ lw_all := lw_g (lw_at lw_m12 0 rfl) rfl
theorem q2709 : (Jvm.Cond.methodLink "TaxmazeLaw" (210 : Nat) ({ cls := "TaxmazeModel", name := "elementOf", desc := "(III)J" } : Jvm.MethodName)) ∈ lw_all := lw_g (lw_at lw_m12 4 rfl) rfl
theorem q2713 : (Jvm.Cond.methodLink "TaxmazeLaw" (213 : Nat) ({ cls := "TaxmazeModel", name := "pensionOf", desc := "(II)J" } : Jvm.MethodName)) ∈ lw_all := lw_g (lw_at lw_m12 8 rfl) rfl
theorem q2717 : (Jvm.Cond.methodLink "TaxmazeLaw" (216 : Nat) ({ cls := "TaxmazeModel", name := "grossFor", desc := "(IIII)I" } : Jvm.MethodName)) ∈ lw_all := lw_g (lw_at lw_m12 12 rfl) rfl
theorem q2721 : (Jvm.Cond.methodLink "TaxmazeLaw" (220 : Nat) ({ cls := "TaxmazeModel", name := "garnish", desc := "(IIIIII)I" } : Jvm.MethodName)) ∈ lw_all := lw_g (lw_at lw_m12 16 rfl) rfl
theorem q2725 : (Jvm.Cond.methodLink "TaxmazeLaw" (223 : Nat) ({ cls := "TaxmazeModel", name := "takenBy", desc := "(II)J" } : Jvm.MethodName)) ∈ lw_all := lw_g (lw_at lw_m12 20 rfl) rfl
theorem q2729 : (Jvm.Cond.methodLink "TaxmazeLaw" (226 : Nat) ({ cls := "TaxmazeModel", name := "advance", desc := "(II)J" } : Jvm.MethodName)) ∈ lw_all := lw_g (lw_at lw_m12 24 rfl) rfl
theorem q2733 : (Jvm.Cond.methodLink "TaxmazeLaw" (230 : Nat) ({ cls := "TaxmazeModel", name := "open", desc := "()I" } : Jvm.MethodName)) ∈ lw_all := lw_g (lw_at lw_m12 28 rfl) rfl
theorem q2737 : (Jvm.Cond.methodLink "TaxmazeLaw" (234 : Nat) ({ cls := "TaxmazeModel", name := "close", desc := "()I" } : Jvm.MethodName)) ∈ lw_all := lw_g (lw_at lw_m12 32 rfl) rfl
theorem q2749 : (Jvm.Cond.methodLink "TaxmazeLaw" (238 : Nat) ({ cls := "TaxmazeModel", name := "payments", desc := "()I" } : Jvm.MethodName)) ∈ lw_all := lw_g (lw_at lw_m12 44 rfl) rfl
theorem q2753 : (Jvm.Cond.methodLink "TaxmazeLaw" (241 : Nat) ({ cls := "TaxmazeModel", name := "payment", desc := "(II)J" } : Jvm.MethodName)) ∈ lw_all := lw_g (lw_at lw_m12 48 rfl) rfl
theorem q2758 : (Jvm.Cond.methodLink "TaxmazeLaw" (244 : Nat) ({ cls := "TaxmazeModel", name := "comeBack", desc := "(I)J" } : Jvm.MethodName)) ∈ lw_all := lw_g (lw_at lw_m12 53 rfl) rfl
theorem q2762 : (Jvm.Cond.methodLink "TaxmazeLaw" (247 : Nat) ({ cls := "TaxmazeModel", name := "owed", desc := "(I)J" } : Jvm.MethodName)) ∈ lw_all := lw_g (lw_at lw_m12 57 rfl) rfl
theorem q2766 : (Jvm.Cond.methodLink "TaxmazeLaw" (251 : Nat) ({ cls := "TaxmazeModel", name := "filed", desc := "(IIZ)J" } : Jvm.MethodName)) ∈ lw_all := lw_g (lw_at lw_m12 61 rfl) rfl
theorem q2770 : (Jvm.Cond.methodLink "TaxmazeLaw" (254 : Nat) ({ cls := "TaxmazeModel", name := "corrections", desc := "(II)I" } : Jvm.MethodName)) ∈ lw_all := lw_g (lw_at lw_m12 65 rfl) rfl
theorem q2774 : (Jvm.Cond.constantLong "TaxmazeLaw" (196 : Nat) (4294967295 : Int64)) ∈ lw_all := lw_g (lw_at lw_m12 69 rfl) rfl
theorem q66 : (Jvm.Cond.initialized "Taxmaze") ∈ lw_all := lw_g (lw_at lw_m1 1 rfl) rfl
theorem q119 : (Jvm.Cond.instantiable "Taxmaze" (20 : Nat)) ∈ lw_all := lw_g (lw_at lw_m1 54 rfl) rfl
theorem q121 : (Jvm.Cond.instanceMethod ({ cls := "Taxmaze", name := "<init>", desc := "()V" } : Jvm.MethodName)) ∈ lw_all := lw_g (lw_at lw_m1 56 rfl) rfl
theorem q122 : (Jvm.Cond.code ({ cls := "Taxmaze", name := "<init>", desc := "()V" } : Jvm.MethodName) prog_1_method_7_code (3 : Nat) (Option.none : Option Jvm.ClassFile.FieldType)) ∈ lw_all := lw_g (lw_at lw_m1 57 rfl) rfl
theorem q123 : (Jvm.Cond.methodLink "Taxmaze" (98 : Nat) ({ cls := "java/lang/Object", name := "<init>", desc := "()V" } : Jvm.MethodName)) ∈ lw_all := lw_g (lw_at lw_m1 58 rfl) rfl
theorem q126 : (Jvm.Cond.classLink "Taxmaze" (53 : Nat) "java/util/ArrayList") ∈ lw_all := lw_g (lw_at lw_m1 61 rfl) rfl
theorem q128 : (Jvm.Cond.methodLink "Taxmaze" (55 : Nat) ({ cls := "java/util/ArrayList", name := "<init>", desc := "()V" } : Jvm.MethodName)) ∈ lw_all := lw_g (lw_at lw_m1 63 rfl) rfl
theorem q155 : (Jvm.Cond.classLink "Taxmaze" (114 : Nat) "[[[I") ∈ lw_all := lw_g (lw_at lw_m1 90 rfl) rfl
theorem q158 : (Jvm.Cond.classLink "Taxmaze" (143 : Nat) "[[[J") ∈ lw_all := lw_g (lw_at lw_m1 93 rfl) rfl
theorem q161 : (Jvm.Cond.classLink "Taxmaze" (148 : Nat) "[[I") ∈ lw_all := lw_g (lw_at lw_m1 96 rfl) rfl
theorem q162 : (Jvm.Cond.classLink "Taxmaze" (153 : Nat) "Taxmaze$Dated") ∈ lw_all := lw_g (lw_at lw_m1 97 rfl) rfl
theorem q164 : (Jvm.Cond.classLink "Taxmaze" (155 : Nat) "Taxmaze$Contribution") ∈ lw_all := lw_g (lw_at lw_m1 99 rfl) rfl
theorem q166 : (Jvm.Cond.methodLinkNest "Taxmaze" (157 : Nat) ({ cls := "Taxmaze$Contribution", name := "<init>", desc := "(II)V" } : Jvm.MethodName) "Taxmaze") ∈ lw_tbl := lw_at lw_m1 101 rfl
theorem q182 : (Jvm.Cond.methodLink "Taxmaze" (160 : Nat) ({ cls := "Taxmaze$Dated", name := "<init>", desc := "(Ljava/lang/Object;)V" } : Jvm.MethodName)) ∈ lw_all := lw_g (lw_at lw_m1 117 rfl) rfl
theorem q225 : (Jvm.Cond.interfaceEntry "Taxmaze" (97 : Nat)) ∈ lw_tbl := lw_at lw_m1 160 rfl
theorem q226 : (Jvm.Cond.methodLink "Taxmaze" (97 : Nat) ({ cls := "java/util/List", name := "add", desc := "(Ljava/lang/Object;)Z" } : Jvm.MethodName)) ∈ lw_all := lw_g (lw_at lw_m1 161 rfl) rfl
theorem q263 : (Jvm.Cond.selects "Taxmaze" ({ cls := "java/lang/Object", name := "getClass", desc := "()Ljava/lang/Class;" } : Jvm.MethodName) ({ cls := "java/lang/Object", name := "getClass", desc := "()Ljava/lang/Class;" } : Jvm.MethodName)) ∈ lw_all := lw_g (lw_at lw_m1 198 rfl) rfl
theorem q310 : (Jvm.Cond.methodLink "Taxmaze" (77 : Nat) ({ cls := "java/lang/Integer", name := "valueOf", desc := "(I)Ljava/lang/Integer;" } : Jvm.MethodName)) ∈ lw_all := lw_g (lw_at lw_m2 5 rfl) rfl
theorem q332 : (Jvm.Cond.fieldLink "Taxmaze" (101 : Nat) "Taxmaze" "contracts" "Ljava/util/List;") ∈ lw_all := lw_g (lw_at lw_m2 27 rfl) rfl
theorem q333 : (Jvm.Cond.fieldLink "Taxmaze" (292 : Nat) "Taxmaze" "shifts" "I") ∈ lw_all := lw_g (lw_at lw_m2 28 rfl) rfl
theorem q335 : (Jvm.Cond.fieldLink "Taxmaze" (105 : Nat) "Taxmaze" "leaves" "Ljava/util/List;") ∈ lw_all := lw_g (lw_at lw_m2 30 rfl) rfl
theorem q337 : (Jvm.Cond.fieldLink "Taxmaze" (317 : Nat) "Taxmaze" "leaveRate" "I") ∈ lw_all := lw_g (lw_at lw_m2 32 rfl) rfl
theorem q339 : (Jvm.Cond.fieldLink "Taxmaze" (320 : Nat) "Taxmaze" "leaveCarry" "I") ∈ lw_all := lw_g (lw_at lw_m2 34 rfl) rfl
theorem q341 : (Jvm.Cond.fieldLink "Taxmaze" (323 : Nat) "Taxmaze" "leaveTerm" "I") ∈ lw_all := lw_g (lw_at lw_m2 36 rfl) rfl
theorem q342 : (Jvm.Cond.fieldLink "Taxmaze" (108 : Nat) "Taxmaze" "draft" "Ljava/util/List;") ∈ lw_all := lw_g (lw_at lw_m2 37 rfl) rfl
theorem q344 : (Jvm.Cond.fieldLink "Taxmaze" (111 : Nat) "Taxmaze" "elements" "Ljava/util/List;") ∈ lw_all := lw_g (lw_at lw_m2 39 rfl) rfl
theorem q346 : (Jvm.Cond.fieldLink "Taxmaze" (116 : Nat) "Taxmaze" "bonuses" "[[[I") ∈ lw_all := lw_g (lw_at lw_m2 41 rfl) rfl
theorem q348 : (Jvm.Cond.fieldLink "Taxmaze" (119 : Nat) "Taxmaze" "contributions" "Ljava/util/List;") ∈ lw_all := lw_g (lw_at lw_m2 43 rfl) rfl
theorem q349 : (Jvm.Cond.fieldLink "Taxmaze" (122 : Nat) "Taxmaze" "brackets" "Ljava/util/List;") ∈ lw_all := lw_g (lw_at lw_m2 44 rfl) rfl
theorem q351 : (Jvm.Cond.fieldLink "Taxmaze" (125 : Nat) "Taxmaze" "states" "Ljava/util/List;") ∈ lw_all := lw_g (lw_at lw_m2 46 rfl) rfl
theorem q353 : (Jvm.Cond.fieldLink "Taxmaze" (128 : Nat) "Taxmaze" "pensions" "Ljava/util/List;") ∈ lw_all := lw_g (lw_at lw_m2 48 rfl) rfl
theorem q354 : (Jvm.Cond.fieldLink "Taxmaze" (131 : Nat) "Taxmaze" "garnishments" "Ljava/util/List;") ∈ lw_all := lw_g (lw_at lw_m2 49 rfl) rfl
theorem q356 : (Jvm.Cond.fieldLink "Taxmaze" (134 : Nat) "Taxmaze" "byRank" "Ljava/util/List;") ∈ lw_all := lw_g (lw_at lw_m2 51 rfl) rfl
theorem q357 : (Jvm.Cond.fieldLink "Taxmaze" (137 : Nat) "Taxmaze" "advances" "Ljava/util/List;") ∈ lw_all := lw_g (lw_at lw_m2 52 rfl) rfl
theorem q359 : (Jvm.Cond.fieldLink "Taxmaze" (140 : Nat) "Taxmaze" "payments" "Ljava/util/List;") ∈ lw_all := lw_g (lw_at lw_m2 54 rfl) rfl
theorem q360 : (Jvm.Cond.fieldLink "Taxmaze" (444 : Nat) "Taxmaze" "open" "I") ∈ lw_all := lw_g (lw_at lw_m2 55 rfl) rfl
theorem q361 : (Jvm.Cond.fieldLink "Taxmaze" (145 : Nat) "Taxmaze" "filed" "[[[J") ∈ lw_all := lw_g (lw_at lw_m2 56 rfl) rfl
theorem q362 : (Jvm.Cond.fieldLink "Taxmaze" (150 : Nat) "Taxmaze" "corrections" "[[I") ∈ lw_all := lw_g (lw_at lw_m2 57 rfl) rfl
theorem q363 : (Jvm.Cond.laysFinal "Taxmaze" "Taxmaze" "contracts" "Ljava/util/List;") ∈ lw_all := lw_g (lw_at lw_m2 58 rfl) rfl
theorem q364 : (Jvm.Cond.soleField "Taxmaze" "contracts") ∈ lw_all := lw_g (lw_at lw_m2 59 rfl) rfl
theorem q365 : (Jvm.Cond.lays "Taxmaze" "Taxmaze" "shifts" "I") ∈ lw_all := lw_g (lw_at lw_m2 60 rfl) rfl
theorem q366 : (Jvm.Cond.soleField "Taxmaze" "shifts") ∈ lw_all := lw_g (lw_at lw_m2 61 rfl) rfl
theorem q367 : (Jvm.Cond.laysFinal "Taxmaze" "Taxmaze" "leaves" "Ljava/util/List;") ∈ lw_all := lw_g (lw_at lw_m2 62 rfl) rfl
theorem q368 : (Jvm.Cond.soleField "Taxmaze" "leaves") ∈ lw_all := lw_g (lw_at lw_m2 63 rfl) rfl
theorem q369 : (Jvm.Cond.lays "Taxmaze" "Taxmaze" "leaveRate" "I") ∈ lw_all := lw_g (lw_at lw_m2 64 rfl) rfl
theorem q370 : (Jvm.Cond.soleField "Taxmaze" "leaveRate") ∈ lw_all := lw_g (lw_at lw_m2 65 rfl) rfl
theorem q371 : (Jvm.Cond.lays "Taxmaze" "Taxmaze" "leaveCarry" "I") ∈ lw_all := lw_g (lw_at lw_m2 66 rfl) rfl
theorem q372 : (Jvm.Cond.soleField "Taxmaze" "leaveCarry") ∈ lw_all := lw_g (lw_at lw_m2 67 rfl) rfl
theorem q373 : (Jvm.Cond.lays "Taxmaze" "Taxmaze" "leaveTerm" "I") ∈ lw_all := lw_g (lw_at lw_m2 68 rfl) rfl
theorem q374 : (Jvm.Cond.soleField "Taxmaze" "leaveTerm") ∈ lw_all := lw_g (lw_at lw_m2 69 rfl) rfl
theorem q375 : (Jvm.Cond.lays "Taxmaze" "Taxmaze" "draft" "Ljava/util/List;") ∈ lw_all := lw_g (lw_at lw_m2 70 rfl) rfl
theorem q376 : (Jvm.Cond.soleField "Taxmaze" "draft") ∈ lw_all := lw_g (lw_at lw_m2 71 rfl) rfl
theorem q377 : (Jvm.Cond.lays "Taxmaze" "Taxmaze" "elements" "Ljava/util/List;") ∈ lw_all := lw_g (lw_at lw_m2 72 rfl) rfl
theorem q378 : (Jvm.Cond.soleField "Taxmaze" "elements") ∈ lw_all := lw_g (lw_at lw_m2 73 rfl) rfl
theorem q379 : (Jvm.Cond.laysFinal "Taxmaze" "Taxmaze" "bonuses" "[[[I") ∈ lw_all := lw_g (lw_at lw_m2 74 rfl) rfl
theorem q380 : (Jvm.Cond.soleField "Taxmaze" "bonuses") ∈ lw_all := lw_g (lw_at lw_m2 75 rfl) rfl
theorem q381 : (Jvm.Cond.laysFinal "Taxmaze" "Taxmaze" "contributions" "Ljava/util/List;") ∈ lw_all := lw_g (lw_at lw_m2 76 rfl) rfl
theorem q382 : (Jvm.Cond.soleField "Taxmaze" "contributions") ∈ lw_all := lw_g (lw_at lw_m2 77 rfl) rfl
theorem q383 : (Jvm.Cond.laysFinal "Taxmaze" "Taxmaze" "brackets" "Ljava/util/List;") ∈ lw_all := lw_g (lw_at lw_m2 78 rfl) rfl
theorem q384 : (Jvm.Cond.soleField "Taxmaze" "brackets") ∈ lw_all := lw_g (lw_at lw_m2 79 rfl) rfl
theorem q385 : (Jvm.Cond.laysFinal "Taxmaze" "Taxmaze" "states" "Ljava/util/List;") ∈ lw_all := lw_g (lw_at lw_m2 80 rfl) rfl
theorem q386 : (Jvm.Cond.soleField "Taxmaze" "states") ∈ lw_all := lw_g (lw_at lw_m2 81 rfl) rfl
theorem q387 : (Jvm.Cond.laysFinal "Taxmaze" "Taxmaze" "pensions" "Ljava/util/List;") ∈ lw_all := lw_g (lw_at lw_m2 82 rfl) rfl
theorem q388 : (Jvm.Cond.soleField "Taxmaze" "pensions") ∈ lw_all := lw_g (lw_at lw_m2 83 rfl) rfl
theorem q389 : (Jvm.Cond.laysFinal "Taxmaze" "Taxmaze" "garnishments" "Ljava/util/List;") ∈ lw_all := lw_g (lw_at lw_m2 84 rfl) rfl
theorem q390 : (Jvm.Cond.soleField "Taxmaze" "garnishments") ∈ lw_all := lw_g (lw_at lw_m2 85 rfl) rfl
theorem q391 : (Jvm.Cond.laysFinal "Taxmaze" "Taxmaze" "byRank" "Ljava/util/List;") ∈ lw_all := lw_g (lw_at lw_m2 86 rfl) rfl
theorem q392 : (Jvm.Cond.soleField "Taxmaze" "byRank") ∈ lw_all := lw_g (lw_at lw_m2 87 rfl) rfl
theorem q393 : (Jvm.Cond.laysFinal "Taxmaze" "Taxmaze" "advances" "Ljava/util/List;") ∈ lw_all := lw_g (lw_at lw_m2 88 rfl) rfl
theorem q394 : (Jvm.Cond.soleField "Taxmaze" "advances") ∈ lw_all := lw_g (lw_at lw_m2 89 rfl) rfl
theorem q395 : (Jvm.Cond.laysFinal "Taxmaze" "Taxmaze" "payments" "Ljava/util/List;") ∈ lw_all := lw_g (lw_at lw_m2 90 rfl) rfl
theorem q396 : (Jvm.Cond.soleField "Taxmaze" "payments") ∈ lw_all := lw_g (lw_at lw_m2 91 rfl) rfl
theorem q397 : (Jvm.Cond.lays "Taxmaze" "Taxmaze" "open" "I") ∈ lw_all := lw_g (lw_at lw_m2 92 rfl) rfl
theorem q398 : (Jvm.Cond.soleField "Taxmaze" "open") ∈ lw_all := lw_g (lw_at lw_m2 93 rfl) rfl
theorem q399 : (Jvm.Cond.laysFinal "Taxmaze" "Taxmaze" "filed" "[[[J") ∈ lw_all := lw_g (lw_at lw_m2 94 rfl) rfl
theorem q400 : (Jvm.Cond.soleField "Taxmaze" "filed") ∈ lw_all := lw_g (lw_at lw_m2 95 rfl) rfl
theorem q401 : (Jvm.Cond.laysFinal "Taxmaze" "Taxmaze" "corrections" "[[I") ∈ lw_all := lw_g (lw_at lw_m2 96 rfl) rfl
theorem q402 : (Jvm.Cond.soleField "Taxmaze" "corrections") ∈ lw_all := lw_g (lw_at lw_m2 97 rfl) rfl
theorem q403 : (Jvm.Cond.superclass "Taxmaze" "java/lang/Object") ∈ lw_all := lw_g (lw_at lw_m2 98 rfl) rfl
theorem q405 : (Jvm.Cond.instanceMethod ({ cls := "Taxmaze", name := "open", desc := "()I" } : Jvm.MethodName)) ∈ lw_all := lw_g (lw_at lw_m2 100 rfl) rfl
theorem q406 : (Jvm.Cond.selects "Taxmaze" ({ cls := "Taxmaze", name := "open", desc := "()I" } : Jvm.MethodName) ({ cls := "Taxmaze", name := "open", desc := "()I" } : Jvm.MethodName)) ∈ lw_all := lw_g (lw_at lw_m2 101 rfl) rfl
theorem q407 : (Jvm.Cond.code ({ cls := "Taxmaze", name := "open", desc := "()I" } : Jvm.MethodName) prog_1_method_44_code (1 : Nat) (Option.some Jvm.ClassFile.FieldType.int)) ∈ lw_all := lw_g (lw_at lw_m2 102 rfl) rfl
theorem q409 : (Jvm.Cond.instanceMethod ({ cls := "Taxmaze", name := "payments", desc := "()I" } : Jvm.MethodName)) ∈ lw_all := lw_g (lw_at lw_m2 104 rfl) rfl
theorem q410 : (Jvm.Cond.selects "Taxmaze" ({ cls := "Taxmaze", name := "payments", desc := "()I" } : Jvm.MethodName) ({ cls := "Taxmaze", name := "payments", desc := "()I" } : Jvm.MethodName)) ∈ lw_all := lw_g (lw_at lw_m2 105 rfl) rfl
theorem q411 : (Jvm.Cond.code ({ cls := "Taxmaze", name := "payments", desc := "()I" } : Jvm.MethodName) prog_1_method_46_code (1 : Nat) (Option.some Jvm.ClassFile.FieldType.int)) ∈ lw_all := lw_g (lw_at lw_m2 106 rfl) rfl
theorem q412 : (Jvm.Cond.interfaceEntry "Taxmaze" (62 : Nat)) ∈ lw_tbl := lw_at lw_m2 107 rfl
theorem q413 : (Jvm.Cond.methodLink "Taxmaze" (62 : Nat) ({ cls := "java/util/List", name := "size", desc := "()I" } : Jvm.MethodName)) ∈ lw_all := lw_g (lw_at lw_m2 108 rfl) rfl
theorem q504 : (Jvm.Cond.instanceMethod ({ cls := "Taxmaze", name := "contract", desc := "(IIIIZII)I" } : Jvm.MethodName)) ∈ lw_all := lw_g (lw_at lw_m2 199 rfl) rfl
theorem q505 : (Jvm.Cond.selects "Taxmaze" ({ cls := "Taxmaze", name := "contract", desc := "(IIIIZII)I" } : Jvm.MethodName) ({ cls := "Taxmaze", name := "contract", desc := "(IIIIZII)I" } : Jvm.MethodName)) ∈ lw_all := lw_g (lw_at lw_m2 200 rfl) rfl
theorem q506 : (Jvm.Cond.code ({ cls := "Taxmaze", name := "contract", desc := "(IIIIZII)I" } : Jvm.MethodName) prog_1_method_17_code (8 : Nat) (Option.some Jvm.ClassFile.FieldType.int)) ∈ lw_all := lw_g (lw_at lw_m2 201 rfl) rfl
theorem q507 : (Jvm.Cond.methodLink "Taxmaze" (251 : Nat) ({ cls := "Taxmaze", name := "at", desc := "(II)I" } : Jvm.MethodName)) ∈ lw_all := lw_g (lw_at lw_m2 202 rfl) rfl
theorem q508 : (Jvm.Cond.static ({ cls := "Taxmaze", name := "at", desc := "(II)I" } : Jvm.MethodName)) ∈ lw_all := lw_g (lw_at lw_m2 203 rfl) rfl
theorem q509 : (Jvm.Cond.code ({ cls := "Taxmaze", name := "at", desc := "(II)I" } : Jvm.MethodName) prog_1_method_12_code (2 : Nat) (Option.some Jvm.ClassFile.FieldType.int)) ∈ lw_all := lw_g (lw_at lw_m2 204 rfl) rfl
theorem q510 : (Jvm.Cond.classLink "Taxmaze" (234 : Nat) "java/lang/IndexOutOfBoundsException") ∈ lw_all := lw_g (lw_at lw_m2 205 rfl) rfl
theorem q519 : (Jvm.Cond.stringRef "Taxmaze" (236 : Nat) "no such thing") ∈ lw_tbl := lw_at lw_m2 214 rfl
theorem q520 : (Jvm.Cond.methodLink "Taxmaze" (238 : Nat) ({ cls := "java/lang/IndexOutOfBoundsException", name := "<init>", desc := "(Ljava/lang/String;)V" } : Jvm.MethodName)) ∈ lw_all := lw_g (lw_at lw_m2 215 rfl) rfl
theorem q523 : (Jvm.Cond.methodLink "Taxmaze" (263 : Nat) ({ cls := "Taxmaze", name := "in", desc := "(III)I" } : Jvm.MethodName)) ∈ lw_all := lw_g (lw_at lw_m2 218 rfl) rfl
theorem q524 : (Jvm.Cond.static ({ cls := "Taxmaze", name := "in", desc := "(III)I" } : Jvm.MethodName)) ∈ lw_all := lw_g (lw_at lw_m2 219 rfl) rfl
theorem q525 : (Jvm.Cond.code ({ cls := "Taxmaze", name := "in", desc := "(III)I" } : Jvm.MethodName) prog_1_method_13_code (3 : Nat) (Option.some Jvm.ClassFile.FieldType.int)) ∈ lw_all := lw_g (lw_at lw_m2 220 rfl) rfl
theorem q526 : (Jvm.Cond.classLink "Taxmaze" (241 : Nat) "java/lang/IllegalArgumentException") ∈ lw_all := lw_g (lw_at lw_m2 221 rfl) rfl
theorem q535 : (Jvm.Cond.stringRef "Taxmaze" (243 : Nat) "out of range") ∈ lw_tbl := lw_at lw_m2 230 rfl
theorem q536 : (Jvm.Cond.methodLink "Taxmaze" (245 : Nat) ({ cls := "java/lang/IllegalArgumentException", name := "<init>", desc := "(Ljava/lang/String;)V" } : Jvm.MethodName)) ∈ lw_all := lw_g (lw_at lw_m2 231 rfl) rfl
theorem q542 : (Jvm.Cond.constant "Taxmaze" (267 : Nat) (1000000 : Int32)) ∈ lw_all := lw_g (lw_at lw_m2 237 rfl) rfl
theorem q543 : (Jvm.Cond.methodLink "Taxmaze" (268 : Nat) ({ cls := "Taxmaze", name := "must", desc := "(Z)V" } : Jvm.MethodName)) ∈ lw_all := lw_g (lw_at lw_m2 238 rfl) rfl
theorem q544 : (Jvm.Cond.static ({ cls := "Taxmaze", name := "must", desc := "(Z)V" } : Jvm.MethodName)) ∈ lw_all := lw_g (lw_at lw_m2 239 rfl) rfl
theorem q545 : (Jvm.Cond.code ({ cls := "Taxmaze", name := "must", desc := "(Z)V" } : Jvm.MethodName) prog_1_method_14_code (1 : Nat) (Option.none : Option Jvm.ClassFile.FieldType)) ∈ lw_all := lw_g (lw_at lw_m3 0 rfl) rfl
theorem q546 : (Jvm.Cond.classLink "Taxmaze" (246 : Nat) "java/lang/IllegalStateException") ∈ lw_all := lw_g (lw_at lw_m3 1 rfl) rfl
theorem q555 : (Jvm.Cond.stringRef "Taxmaze" (248 : Nat) "not now") ∈ lw_tbl := lw_at lw_m3 10 rfl
theorem q556 : (Jvm.Cond.methodLink "Taxmaze" (250 : Nat) ({ cls := "java/lang/IllegalStateException", name := "<init>", desc := "(Ljava/lang/String;)V" } : Jvm.MethodName)) ∈ lw_all := lw_g (lw_at lw_m3 11 rfl) rfl
theorem q562 : (Jvm.Cond.classLink "Taxmaze" (188 : Nat) "Taxmaze$Contract") ∈ lw_all := lw_g (lw_at lw_m3 17 rfl) rfl
theorem q564 : (Jvm.Cond.methodLink "Taxmaze" (272 : Nat) ({ cls := "Taxmaze$Contract", name := "<init>", desc := "(IIIIZII)V" } : Jvm.MethodName)) ∈ lw_all := lw_g (lw_at lw_m3 19 rfl) rfl
theorem q919 : (Jvm.Cond.fieldLinkNest "Taxmaze" (309 : Nat) "Taxmaze$Contract" "person" "I" "Taxmaze") ∈ lw_tbl := lw_at lw_m4 134 rfl
theorem q931 : (Jvm.Cond.fieldLinkNest "Taxmaze" (302 : Nat) "Taxmaze$Contract" "minutes" "[I" "Taxmaze") ∈ lw_tbl := lw_at lw_m4 146 rfl
theorem q957 : (Jvm.Cond.instanceMethod ({ cls := "Taxmaze", name := "pay", desc := "(III)I" } : Jvm.MethodName)) ∈ lw_all := lw_g (lw_at lw_m4 172 rfl) rfl
theorem q958 : (Jvm.Cond.selects "Taxmaze" ({ cls := "Taxmaze", name := "pay", desc := "(III)I" } : Jvm.MethodName) ({ cls := "Taxmaze", name := "pay", desc := "(III)I" } : Jvm.MethodName)) ∈ lw_all := lw_g (lw_at lw_m4 173 rfl) rfl
theorem q959 : (Jvm.Cond.code ({ cls := "Taxmaze", name := "pay", desc := "(III)I" } : Jvm.MethodName) prog_1_method_18_code (6 : Nat) (Option.some Jvm.ClassFile.FieldType.int)) ∈ lw_all := lw_g (lw_at lw_m4 174 rfl) rfl
theorem q960 : (Jvm.Cond.methodLink "Taxmaze" (254 : Nat) ({ cls := "Taxmaze", name := "contractAt", desc := "(I)LTaxmaze$Contract;" } : Jvm.MethodName)) ∈ lw_all := lw_g (lw_at lw_m4 175 rfl) rfl
theorem q961 : (Jvm.Cond.privateMethod ({ cls := "Taxmaze", name := "contractAt", desc := "(I)LTaxmaze$Contract;" } : Jvm.MethodName)) ∈ lw_tbl := lw_at lw_m4 176 rfl
theorem q962 : (Jvm.Cond.instanceMethod ({ cls := "Taxmaze", name := "contractAt", desc := "(I)LTaxmaze$Contract;" } : Jvm.MethodName)) ∈ lw_all := lw_g (lw_at lw_m4 177 rfl) rfl
theorem q963 : (Jvm.Cond.code ({ cls := "Taxmaze", name := "contractAt", desc := "(I)LTaxmaze$Contract;" } : Jvm.MethodName) prog_1_method_15_code (2 : Nat) (Option.some (Jvm.ClassFile.FieldType.object "Taxmaze$Contract"))) ∈ lw_all := lw_g (lw_at lw_m4 178 rfl) rfl
theorem q964 : (Jvm.Cond.interfaceEntry "Taxmaze" (67 : Nat)) ∈ lw_tbl := lw_at lw_m4 179 rfl
theorem q965 : (Jvm.Cond.methodLink "Taxmaze" (67 : Nat) ({ cls := "java/util/List", name := "get", desc := "(I)Ljava/lang/Object;" } : Jvm.MethodName)) ∈ lw_all := lw_g (lw_at lw_m4 180 rfl) rfl
theorem q983 : (Jvm.Cond.methodLink "Taxmaze" (275 : Nat) ({ cls := "Taxmaze$Contract", name := "payAt", desc := "(I)I" } : Jvm.MethodName)) ∈ lw_all := lw_g (lw_at lw_m4 198 rfl) rfl
theorem q987 : (Jvm.Cond.methodLink "Taxmaze" (278 : Nat) ({ cls := "Taxmaze$Contract", name := "tell", desc := "(II)V" } : Jvm.MethodName)) ∈ lw_all := lw_g (lw_at lw_m4 202 rfl) rfl
theorem q992 : (Jvm.Cond.instanceMethod ({ cls := "Taxmaze", name := "shift", desc := "(IIII)I" } : Jvm.MethodName)) ∈ lw_all := lw_g (lw_at lw_m4 207 rfl) rfl
theorem q993 : (Jvm.Cond.selects "Taxmaze" ({ cls := "Taxmaze", name := "shift", desc := "(IIII)I" } : Jvm.MethodName) ({ cls := "Taxmaze", name := "shift", desc := "(IIII)I" } : Jvm.MethodName)) ∈ lw_all := lw_g (lw_at lw_m4 208 rfl) rfl
theorem q994 : (Jvm.Cond.code ({ cls := "Taxmaze", name := "shift", desc := "(IIII)I" } : Jvm.MethodName) prog_1_method_19_code (9 : Nat) (Option.some Jvm.ClassFile.FieldType.int)) ∈ lw_all := lw_g (lw_at lw_m4 209 rfl) rfl
theorem q995 : (Jvm.Cond.methodLink "Taxmaze" (281 : Nat) ({ cls := "Taxmaze", name := "contractOn", desc := "(II)LTaxmaze$Contract;" } : Jvm.MethodName)) ∈ lw_all := lw_g (lw_at lw_m4 210 rfl) rfl
theorem q996 : (Jvm.Cond.privateMethod ({ cls := "Taxmaze", name := "contractOn", desc := "(II)LTaxmaze$Contract;" } : Jvm.MethodName)) ∈ lw_tbl := lw_at lw_m4 211 rfl
theorem q997 : (Jvm.Cond.instanceMethod ({ cls := "Taxmaze", name := "contractOn", desc := "(II)LTaxmaze$Contract;" } : Jvm.MethodName)) ∈ lw_all := lw_g (lw_at lw_m4 212 rfl) rfl
theorem q998 : (Jvm.Cond.code ({ cls := "Taxmaze", name := "contractOn", desc := "(II)LTaxmaze$Contract;" } : Jvm.MethodName) prog_1_method_16_code (4 : Nat) (Option.some (Jvm.ClassFile.FieldType.object "Taxmaze$Contract"))) ∈ lw_all := lw_g (lw_at lw_m4 213 rfl) rfl
theorem q999 : (Jvm.Cond.methodLink "Taxmaze" (258 : Nat) ({ cls := "Taxmaze$Contract", name := "has", desc := "(I)Z" } : Jvm.MethodName)) ∈ lw_all := lw_g (lw_at lw_m4 214 rfl) rfl
theorem q1003 : (Jvm.Cond.stringRef "Taxmaze" (261 : Nat) "no such day") ∈ lw_tbl := lw_at lw_m4 218 rfl
theorem q1004 : (Jvm.Cond.constantLong "Taxmaze" (285 : Nat) (1440 : Int64)) ∈ lw_all := lw_g (lw_at lw_m4 219 rfl) rfl
theorem q1005 : (Jvm.Cond.classLink "Taxmaze" (287 : Nat) "Taxmaze$Shift") ∈ lw_all := lw_g (lw_at lw_m4 220 rfl) rfl
theorem q1007 : (Jvm.Cond.methodLinkNest "Taxmaze" (289 : Nat) ({ cls := "Taxmaze$Shift", name := "<init>", desc := "(JJ)V" } : Jvm.MethodName) "Taxmaze") ∈ lw_tbl := lw_at lw_m4 222 rfl
theorem q1018 : (Jvm.Cond.methodLink "Taxmaze" (295 : Nat) ({ cls := "Taxmaze$Contract", name := "canAdd", desc := "(LTaxmaze$Shift;)Z" } : Jvm.MethodName)) ∈ lw_all := lw_g (lw_at lw_m4 233 rfl) rfl
theorem q1078 : (Jvm.Cond.methodLink "Taxmaze" (299 : Nat) ({ cls := "Taxmaze$Contract", name := "add", desc := "(LTaxmaze$Shift;)V" } : Jvm.MethodName)) ∈ lw_all := lw_g (lw_at lw_m5 53 rfl) rfl
theorem q1104 : (Jvm.Cond.instanceMethod ({ cls := "Taxmaze", name := "minutes", desc := "(II)I" } : Jvm.MethodName)) ∈ lw_all := lw_g (lw_at lw_m5 79 rfl) rfl
theorem q1105 : (Jvm.Cond.selects "Taxmaze" ({ cls := "Taxmaze", name := "minutes", desc := "(II)I" } : Jvm.MethodName) ({ cls := "Taxmaze", name := "minutes", desc := "(II)I" } : Jvm.MethodName)) ∈ lw_all := lw_g (lw_at lw_m5 80 rfl) rfl
theorem q1106 : (Jvm.Cond.code ({ cls := "Taxmaze", name := "minutes", desc := "(II)I" } : Jvm.MethodName) prog_1_method_20_code (4 : Nat) (Option.some Jvm.ClassFile.FieldType.int)) ∈ lw_all := lw_g (lw_at lw_m5 81 rfl) rfl
theorem q1111 : (Jvm.Cond.instanceMethod ({ cls := "Taxmaze", name := "overtime", desc := "(II)I" } : Jvm.MethodName)) ∈ lw_all := lw_g (lw_at lw_m5 86 rfl) rfl
theorem q1112 : (Jvm.Cond.selects "Taxmaze" ({ cls := "Taxmaze", name := "overtime", desc := "(II)I" } : Jvm.MethodName) ({ cls := "Taxmaze", name := "overtime", desc := "(II)I" } : Jvm.MethodName)) ∈ lw_all := lw_g (lw_at lw_m5 87 rfl) rfl
theorem q1113 : (Jvm.Cond.code ({ cls := "Taxmaze", name := "overtime", desc := "(II)I" } : Jvm.MethodName) prog_1_method_21_code (4 : Nat) (Option.some Jvm.ClassFile.FieldType.int)) ∈ lw_all := lw_g (lw_at lw_m5 88 rfl) rfl
theorem q1114 : (Jvm.Cond.methodLink "Taxmaze" (306 : Nat) ({ cls := "Taxmaze$Contract", name := "overtime", desc := "(I)I" } : Jvm.MethodName)) ∈ lw_all := lw_g (lw_at lw_m5 89 rfl) rfl
theorem q1123 : (Jvm.Cond.instanceMethod ({ cls := "Taxmaze", name := "base", desc := "(II)J" } : Jvm.MethodName)) ∈ lw_all := lw_g (lw_at lw_m5 98 rfl) rfl
theorem q1124 : (Jvm.Cond.selects "Taxmaze" ({ cls := "Taxmaze", name := "base", desc := "(II)J" } : Jvm.MethodName) ({ cls := "Taxmaze", name := "base", desc := "(II)J" } : Jvm.MethodName)) ∈ lw_all := lw_g (lw_at lw_m5 99 rfl) rfl
theorem q1125 : (Jvm.Cond.code ({ cls := "Taxmaze", name := "base", desc := "(II)J" } : Jvm.MethodName) prog_1_method_22_code (4 : Nat) (Option.some Jvm.ClassFile.FieldType.long)) ∈ lw_all := lw_g (lw_at lw_m5 100 rfl) rfl
theorem q1126 : (Jvm.Cond.methodLink "Taxmaze" (310 : Nat) ({ cls := "Taxmaze", name := "findLeave", desc := "(I)V" } : Jvm.MethodName)) ∈ lw_all := lw_g (lw_at lw_m5 101 rfl) rfl
theorem q1127 : (Jvm.Cond.privateMethod ({ cls := "Taxmaze", name := "findLeave", desc := "(I)V" } : Jvm.MethodName)) ∈ lw_tbl := lw_at lw_m5 102 rfl
theorem q1128 : (Jvm.Cond.instanceMethod ({ cls := "Taxmaze", name := "findLeave", desc := "(I)V" } : Jvm.MethodName)) ∈ lw_all := lw_g (lw_at lw_m5 103 rfl) rfl
theorem q1129 : (Jvm.Cond.code ({ cls := "Taxmaze", name := "findLeave", desc := "(I)V" } : Jvm.MethodName) prog_1_method_9_code (4 : Nat) (Option.none : Option Jvm.ClassFile.FieldType)) ∈ lw_all := lw_g (lw_at lw_m5 104 rfl) rfl
theorem q1130 : (Jvm.Cond.classLink "Taxmaze" (174 : Nat) "Taxmaze$Account") ∈ lw_all := lw_g (lw_at lw_m5 105 rfl) rfl
theorem q1132 : (Jvm.Cond.methodLink "Taxmaze" (176 : Nat) ({ cls := "Taxmaze$Account", name := "<init>", desc := "(LTaxmaze;I)V" } : Jvm.MethodName)) ∈ lw_all := lw_g (lw_at lw_m5 107 rfl) rfl
theorem q1149 : (Jvm.Cond.methodLink "Taxmaze" (179 : Nat) ({ cls := "Taxmaze$Account", name := "upTo", desc := "(I)I" } : Jvm.MethodName)) ∈ lw_all := lw_g (lw_at lw_m5 124 rfl) rfl
theorem q1173 : (Jvm.Cond.methodLink "Taxmaze" (183 : Nat) ({ cls := "Taxmaze$Account", name := "take", desc := "(I)V" } : Jvm.MethodName)) ∈ lw_all := lw_g (lw_at lw_m5 148 rfl) rfl
theorem q1174 : (Jvm.Cond.methodLink "Taxmaze" (313 : Nat) ({ cls := "Taxmaze", name := "baseOf", desc := "(LTaxmaze$Contract;I)J" } : Jvm.MethodName)) ∈ lw_all := lw_g (lw_at lw_m5 149 rfl) rfl
theorem q1175 : (Jvm.Cond.privateMethod ({ cls := "Taxmaze", name := "baseOf", desc := "(LTaxmaze$Contract;I)J" } : Jvm.MethodName)) ∈ lw_tbl := lw_at lw_m5 150 rfl
theorem q1176 : (Jvm.Cond.instanceMethod ({ cls := "Taxmaze", name := "baseOf", desc := "(LTaxmaze$Contract;I)J" } : Jvm.MethodName)) ∈ lw_all := lw_g (lw_at lw_m5 151 rfl) rfl
theorem q1177 : (Jvm.Cond.code ({ cls := "Taxmaze", name := "baseOf", desc := "(LTaxmaze$Contract;I)J" } : Jvm.MethodName) prog_1_method_10_code (7 : Nat) (Option.some Jvm.ClassFile.FieldType.long)) ∈ lw_all := lw_g (lw_at lw_m5 152 rfl) rfl
theorem q1178 : (Jvm.Cond.methodLink "Taxmaze" (187 : Nat) ({ cls := "Taxmaze$Contract", name := "base", desc := "(I)J" } : Jvm.MethodName)) ∈ lw_all := lw_g (lw_at lw_m5 153 rfl) rfl
theorem q1186 : (Jvm.Cond.static ({ cls := "Taxmaze", name := "rounded", desc := "(JJ)J" } : Jvm.MethodName)) ∈ lw_all := lw_g (lw_at lw_m5 161 rfl) rfl
theorem q1187 : (Jvm.Cond.code ({ cls := "Taxmaze", name := "rounded", desc := "(JJ)J" } : Jvm.MethodName) prog_1_method_1_code (4 : Nat) (Option.some Jvm.ClassFile.FieldType.long)) ∈ lw_all := lw_g (lw_at lw_m5 162 rfl) rfl
theorem q1188 : (Jvm.Cond.constantLong "Taxmaze" (3 : Nat) (2 : Int64)) ∈ lw_all := lw_g (lw_at lw_m5 163 rfl) rfl
theorem q1189 : (Jvm.Cond.methodLink "Taxmaze" (5 : Nat) ({ cls := "java/lang/Math", name := "floorDiv", desc := "(JJ)J" } : Jvm.MethodName)) ∈ lw_all := lw_g (lw_at lw_m5 164 rfl) rfl
theorem q1198 : (Jvm.Cond.classLink "Taxmaze" (193 : Nat) "Taxmaze$Leave") ∈ lw_all := lw_g (lw_at lw_m5 173 rfl) rfl
theorem q1199 : (Jvm.Cond.methodLink "Taxmaze" (207 : Nat) ({ cls := "Taxmaze$Contract", name := "leavePay", desc := "(I)J" } : Jvm.MethodName)) ∈ lw_all := lw_g (lw_at lw_m5 174 rfl) rfl
theorem q1207 : (Jvm.Cond.instanceMethod ({ cls := "Taxmaze", name := "leaveRule", desc := "(III)V" } : Jvm.MethodName)) ∈ lw_all := lw_g (lw_at lw_m5 182 rfl) rfl
theorem q1208 : (Jvm.Cond.selects "Taxmaze" ({ cls := "Taxmaze", name := "leaveRule", desc := "(III)V" } : Jvm.MethodName) ({ cls := "Taxmaze", name := "leaveRule", desc := "(III)V" } : Jvm.MethodName)) ∈ lw_all := lw_g (lw_at lw_m5 183 rfl) rfl
theorem q1209 : (Jvm.Cond.code ({ cls := "Taxmaze", name := "leaveRule", desc := "(III)V" } : Jvm.MethodName) prog_1_method_23_code (4 : Nat) (Option.none : Option Jvm.ClassFile.FieldType)) ∈ lw_all := lw_g (lw_at lw_m5 184 rfl) rfl
theorem q1214 : (Jvm.Cond.instanceMethod ({ cls := "Taxmaze", name := "leave", desc := "(II)Z" } : Jvm.MethodName)) ∈ lw_all := lw_g (lw_at lw_m5 189 rfl) rfl
theorem q1215 : (Jvm.Cond.selects "Taxmaze" ({ cls := "Taxmaze", name := "leave", desc := "(II)Z" } : Jvm.MethodName) ({ cls := "Taxmaze", name := "leave", desc := "(II)Z" } : Jvm.MethodName)) ∈ lw_all := lw_g (lw_at lw_m5 190 rfl) rfl
theorem q1216 : (Jvm.Cond.code ({ cls := "Taxmaze", name := "leave", desc := "(II)Z" } : Jvm.MethodName) prog_1_method_24_code (5 : Nat) (Option.some Jvm.ClassFile.FieldType.boolean)) ∈ lw_all := lw_g (lw_at lw_m5 191 rfl) rfl
theorem q1218 : (Jvm.Cond.methodLink "Taxmaze" (326 : Nat) ({ cls := "Taxmaze$Leave", name := "<init>", desc := "(LTaxmaze$Contract;I)V" } : Jvm.MethodName)) ∈ lw_all := lw_g (lw_at lw_m5 193 rfl) rfl
theorem q1224 : (Jvm.Cond.fieldLinkNest "Taxmaze" (195 : Nat) "Taxmaze$Leave" "contract" "LTaxmaze$Contract;" "Taxmaze") ∈ lw_tbl := lw_at lw_m5 199 rfl
theorem q1227 : (Jvm.Cond.fieldLinkNest "Taxmaze" (199 : Nat) "Taxmaze$Leave" "day" "I" "Taxmaze") ∈ lw_tbl := lw_at lw_m5 202 rfl
theorem q1229 : (Jvm.Cond.fieldLinkNest "Taxmaze" (203 : Nat) "Taxmaze$Leave" "paid" "Z" "Taxmaze") ∈ lw_tbl := lw_at lw_m5 204 rfl
theorem q1241 : (Jvm.Cond.instanceMethod ({ cls := "Taxmaze", name := "leaveLeft", desc := "(II)I" } : Jvm.MethodName)) ∈ lw_all := lw_g (lw_at lw_m5 216 rfl) rfl
theorem q1242 : (Jvm.Cond.selects "Taxmaze" ({ cls := "Taxmaze", name := "leaveLeft", desc := "(II)I" } : Jvm.MethodName) ({ cls := "Taxmaze", name := "leaveLeft", desc := "(II)I" } : Jvm.MethodName)) ∈ lw_all := lw_g (lw_at lw_m5 217 rfl) rfl
theorem q1243 : (Jvm.Cond.code ({ cls := "Taxmaze", name := "leaveLeft", desc := "(II)I" } : Jvm.MethodName) prog_1_method_25_code (3 : Nat) (Option.some Jvm.ClassFile.FieldType.int)) ∈ lw_all := lw_g (lw_at lw_m5 218 rfl) rfl
theorem q1248 : (Jvm.Cond.instanceMethod ({ cls := "Taxmaze", name := "word", desc := "(II)I" } : Jvm.MethodName)) ∈ lw_all := lw_g (lw_at lw_m5 223 rfl) rfl
theorem q1249 : (Jvm.Cond.selects "Taxmaze" ({ cls := "Taxmaze", name := "word", desc := "(II)I" } : Jvm.MethodName) ({ cls := "Taxmaze", name := "word", desc := "(II)I" } : Jvm.MethodName)) ∈ lw_all := lw_g (lw_at lw_m5 224 rfl) rfl
theorem q1250 : (Jvm.Cond.code ({ cls := "Taxmaze", name := "word", desc := "(II)I" } : Jvm.MethodName) prog_1_method_27_code (4 : Nat) (Option.some Jvm.ClassFile.FieldType.int)) ∈ lw_all := lw_g (lw_at lw_m5 225 rfl) rfl
theorem q1251 : (Jvm.Cond.classLink "Taxmaze" (11 : Nat) "Taxmaze$Plain") ∈ lw_all := lw_g (lw_at lw_m5 226 rfl) rfl
theorem q1253 : (Jvm.Cond.methodLinkNest "Taxmaze" (335 : Nat) ({ cls := "Taxmaze$Plain", name := "<init>", desc := "(I)V" } : Jvm.MethodName) "Taxmaze") ∈ lw_tbl := lw_at lw_m5 228 rfl
theorem q1261 : (Jvm.Cond.classLink "Taxmaze" (337 : Nat) "Taxmaze$Asking") ∈ lw_all := lw_g (lw_at lw_m5 236 rfl) rfl
theorem q1263 : (Jvm.Cond.methodLinkNest "Taxmaze" (339 : Nat) ({ cls := "Taxmaze$Asking", name := "<init>", desc := "(I)V" } : Jvm.MethodName) "Taxmaze") ∈ lw_tbl := lw_at lw_m5 238 rfl
theorem q1271 : (Jvm.Cond.classLink "Taxmaze" (340 : Nat) "Taxmaze$Whole") ∈ lw_all := lw_g (lw_at lw_m6 6 rfl) rfl
theorem q1273 : (Jvm.Cond.constant "Taxmaze" (342 : Nat) (-1000000 : Int32)) ∈ lw_all := lw_g (lw_at lw_m6 8 rfl) rfl
theorem q1274 : (Jvm.Cond.methodLinkNest "Taxmaze" (343 : Nat) ({ cls := "Taxmaze$Whole", name := "<init>", desc := "(I)V" } : Jvm.MethodName) "Taxmaze") ∈ lw_tbl := lw_at lw_m6 9 rfl
theorem q1282 : (Jvm.Cond.methodLink "Taxmaze" (344 : Nat) ({ cls := "Taxmaze", name := "high", desc := "()I" } : Jvm.MethodName)) ∈ lw_all := lw_g (lw_at lw_m6 17 rfl) rfl
theorem q1283 : (Jvm.Cond.privateMethod ({ cls := "Taxmaze", name := "high", desc := "()I" } : Jvm.MethodName)) ∈ lw_tbl := lw_at lw_m6 18 rfl
theorem q1284 : (Jvm.Cond.instanceMethod ({ cls := "Taxmaze", name := "high", desc := "()I" } : Jvm.MethodName)) ∈ lw_all := lw_g (lw_at lw_m6 19 rfl) rfl
theorem q1285 : (Jvm.Cond.code ({ cls := "Taxmaze", name := "high", desc := "()I" } : Jvm.MethodName) prog_1_method_26_code (4 : Nat) (Option.some Jvm.ClassFile.FieldType.int)) ∈ lw_all := lw_g (lw_at lw_m6 20 rfl) rfl
theorem q1286 : (Jvm.Cond.interfaceEntry "Taxmaze" (210 : Nat)) ∈ lw_tbl := lw_at lw_m6 21 rfl
theorem q1287 : (Jvm.Cond.methodLink "Taxmaze" (210 : Nat) ({ cls := "java/util/List", name := "iterator", desc := "()Ljava/util/Iterator;" } : Jvm.MethodName)) ∈ lw_all := lw_g (lw_at lw_m6 22 rfl) rfl
theorem q1288 : (Jvm.Cond.interfaceEntry "Taxmaze" (214 : Nat)) ∈ lw_tbl := lw_at lw_m6 23 rfl
theorem q1289 : (Jvm.Cond.methodLink "Taxmaze" (214 : Nat) ({ cls := "java/util/Iterator", name := "hasNext", desc := "()Z" } : Jvm.MethodName)) ∈ lw_all := lw_g (lw_at lw_m6 24 rfl) rfl
theorem q1290 : (Jvm.Cond.interfaceEntry "Taxmaze" (219 : Nat)) ∈ lw_tbl := lw_at lw_m6 25 rfl
theorem q1291 : (Jvm.Cond.methodLink "Taxmaze" (219 : Nat) ({ cls := "java/util/Iterator", name := "next", desc := "()Ljava/lang/Object;" } : Jvm.MethodName)) ∈ lw_all := lw_g (lw_at lw_m6 26 rfl) rfl
theorem q1292 : (Jvm.Cond.classLink "Taxmaze" (329 : Nat) "Taxmaze$Word") ∈ lw_all := lw_g (lw_at lw_m6 27 rfl) rfl
theorem q1293 : (Jvm.Cond.methodLink "Taxmaze" (331 : Nat) ({ cls := "Taxmaze", name := "takes", desc := "(LTaxmaze$Word;)I" } : Jvm.MethodName)) ∈ lw_all := lw_g (lw_at lw_m6 28 rfl) rfl
theorem q1294 : (Jvm.Cond.static ({ cls := "Taxmaze", name := "takes", desc := "(LTaxmaze$Word;)I" } : Jvm.MethodName)) ∈ lw_all := lw_g (lw_at lw_m6 29 rfl) rfl
theorem q1295 : (Jvm.Cond.code ({ cls := "Taxmaze", name := "takes", desc := "(LTaxmaze$Word;)I" } : Jvm.MethodName) prog_1_method_2_code (2 : Nat) (Option.some Jvm.ClassFile.FieldType.int)) ∈ lw_all := lw_g (lw_at lw_m6 30 rfl) rfl
theorem q1296 : (Jvm.Cond.methodLink "Taxmaze" (13 : Nat) ({ cls := "Taxmaze$Plain", name := "what", desc := "()I" } : Jvm.MethodName)) ∈ lw_all := lw_g (lw_at lw_m6 31 rfl) rfl
theorem q1304 : (Jvm.Cond.instanceMethod ({ cls := "Taxmaze", name := "element", desc := "(II)I" } : Jvm.MethodName)) ∈ lw_all := lw_g (lw_at lw_m6 39 rfl) rfl
theorem q1305 : (Jvm.Cond.selects "Taxmaze" ({ cls := "Taxmaze", name := "element", desc := "(II)I" } : Jvm.MethodName) ({ cls := "Taxmaze", name := "element", desc := "(II)I" } : Jvm.MethodName)) ∈ lw_all := lw_g (lw_at lw_m6 40 rfl) rfl
theorem q1306 : (Jvm.Cond.code ({ cls := "Taxmaze", name := "element", desc := "(II)I" } : Jvm.MethodName) prog_1_method_28_code (6 : Nat) (Option.some Jvm.ClassFile.FieldType.int)) ∈ lw_all := lw_g (lw_at lw_m6 41 rfl) rfl
theorem q1307 : (Jvm.Cond.methodLink "Taxmaze" (347 : Nat) ({ cls := "java/lang/Math", name := "min", desc := "(II)I" } : Jvm.MethodName)) ∈ lw_all := lw_g (lw_at lw_m6 42 rfl) rfl
theorem q1308 : (Jvm.Cond.interfaceEntry "Taxmaze" (349 : Nat)) ∈ lw_tbl := lw_at lw_m6 43 rfl
theorem q1309 : (Jvm.Cond.methodLink "Taxmaze" (349 : Nat) ({ cls := "java/util/List", name := "addAll", desc := "(Ljava/util/Collection;)Z" } : Jvm.MethodName)) ∈ lw_all := lw_g (lw_at lw_m6 44 rfl) rfl
theorem q1335 : (Jvm.Cond.classLink "Taxmaze" (71 : Nat) "Taxmaze$Element") ∈ lw_all := lw_g (lw_at lw_m6 70 rfl) rfl
theorem q1337 : (Jvm.Cond.methodLink "Taxmaze" (353 : Nat) ({ cls := "Taxmaze$Element", name := "<init>", desc := "(Ljava/util/List;I)V" } : Jvm.MethodName)) ∈ lw_all := lw_g (lw_at lw_m6 72 rfl) rfl
theorem q1348 : (Jvm.Cond.interfaceEntry "Taxmaze" (356 : Nat)) ∈ lw_tbl := lw_at lw_m6 83 rfl
theorem q1349 : (Jvm.Cond.methodLink "Taxmaze" (356 : Nat) ({ cls := "java/util/List", name := "set", desc := "(ILjava/lang/Object;)Ljava/lang/Object;" } : Jvm.MethodName)) ∈ lw_all := lw_g (lw_at lw_m6 84 rfl) rfl
theorem q1357 : (Jvm.Cond.methodLink "Taxmaze" (360 : Nat) ({ cls := "Taxmaze", name := "orderOf", desc := "(Ljava/util/List;)Ljava/util/List;" } : Jvm.MethodName)) ∈ lw_all := lw_g (lw_at lw_m6 92 rfl) rfl
theorem q1358 : (Jvm.Cond.static ({ cls := "Taxmaze", name := "orderOf", desc := "(Ljava/util/List;)Ljava/util/List;" } : Jvm.MethodName)) ∈ lw_all := lw_g (lw_at lw_m6 93 rfl) rfl
theorem q1359 : (Jvm.Cond.code ({ cls := "Taxmaze", name := "orderOf", desc := "(Ljava/util/List;)Ljava/util/List;" } : Jvm.MethodName) prog_1_method_6_code (6 : Nat) (Option.some (Jvm.ClassFile.FieldType.object "java/util/List"))) ∈ lw_all := lw_g (lw_at lw_m6 94 rfl) rfl
theorem q1360 : (Jvm.Cond.classLink "Taxmaze" (59 : Nat) "java/util/PriorityQueue") ∈ lw_all := lw_g (lw_at lw_m6 95 rfl) rfl
theorem q1362 : (Jvm.Cond.methodLink "Taxmaze" (61 : Nat) ({ cls := "java/util/PriorityQueue", name := "<init>", desc := "()V" } : Jvm.MethodName)) ∈ lw_all := lw_g (lw_at lw_m6 97 rfl) rfl
theorem q1397 : (Jvm.Cond.methodLink "Taxmaze" (73 : Nat) ({ cls := "Taxmaze$Element", name := "needs", desc := "(I)Z" } : Jvm.MethodName)) ∈ lw_all := lw_g (lw_at lw_m6 132 rfl) rfl
theorem q1410 : (Jvm.Cond.methodLink "Taxmaze" (83 : Nat) ({ cls := "java/util/PriorityQueue", name := "add", desc := "(Ljava/lang/Object;)Z" } : Jvm.MethodName)) ∈ lw_all := lw_g (lw_at lw_m6 145 rfl) rfl
theorem q1438 : (Jvm.Cond.methodLink "Taxmaze" (86 : Nat) ({ cls := "java/util/PriorityQueue", name := "isEmpty", desc := "()Z" } : Jvm.MethodName)) ∈ lw_all := lw_g (lw_at lw_m6 173 rfl) rfl
theorem q1451 : (Jvm.Cond.methodLink "Taxmaze" (90 : Nat) ({ cls := "java/util/PriorityQueue", name := "poll", desc := "()Ljava/lang/Object;" } : Jvm.MethodName)) ∈ lw_all := lw_g (lw_at lw_m6 186 rfl) rfl
theorem q1461 : (Jvm.Cond.classLink "Taxmaze" (78 : Nat) "java/lang/Integer") ∈ lw_all := lw_g (lw_at lw_m6 196 rfl) rfl
theorem q1462 : (Jvm.Cond.methodLink "Taxmaze" (94 : Nat) ({ cls := "java/lang/Integer", name := "intValue", desc := "()I" } : Jvm.MethodName)) ∈ lw_all := lw_g (lw_at lw_m6 197 rfl) rfl
theorem q1467 : (Jvm.Cond.instanceMethod ({ cls := "Taxmaze", name := "order", desc := "(I)I" } : Jvm.MethodName)) ∈ lw_all := lw_g (lw_at lw_m6 202 rfl) rfl
theorem q1468 : (Jvm.Cond.selects "Taxmaze" ({ cls := "Taxmaze", name := "order", desc := "(I)I" } : Jvm.MethodName) ({ cls := "Taxmaze", name := "order", desc := "(I)I" } : Jvm.MethodName)) ∈ lw_all := lw_g (lw_at lw_m6 203 rfl) rfl
theorem q1469 : (Jvm.Cond.code ({ cls := "Taxmaze", name := "order", desc := "(I)I" } : Jvm.MethodName) prog_1_method_29_code (3 : Nat) (Option.some Jvm.ClassFile.FieldType.int)) ∈ lw_all := lw_g (lw_at lw_m6 204 rfl) rfl
theorem q1474 : (Jvm.Cond.instanceMethod ({ cls := "Taxmaze", name := "bonus", desc := "(IIII)I" } : Jvm.MethodName)) ∈ lw_all := lw_g (lw_at lw_m6 209 rfl) rfl
theorem q1475 : (Jvm.Cond.selects "Taxmaze" ({ cls := "Taxmaze", name := "bonus", desc := "(IIII)I" } : Jvm.MethodName) ({ cls := "Taxmaze", name := "bonus", desc := "(IIII)I" } : Jvm.MethodName)) ∈ lw_all := lw_g (lw_at lw_m6 210 rfl) rfl
theorem q1476 : (Jvm.Cond.code ({ cls := "Taxmaze", name := "bonus", desc := "(IIII)I" } : Jvm.MethodName) prog_1_method_30_code (6 : Nat) (Option.some Jvm.ClassFile.FieldType.int)) ∈ lw_all := lw_g (lw_at lw_m6 211 rfl) rfl
theorem q1477 : (Jvm.Cond.constant "Taxmaze" (364 : Nat) (-10000000 : Int32)) ∈ lw_all := lw_g (lw_at lw_m6 212 rfl) rfl
theorem q1478 : (Jvm.Cond.constant "Taxmaze" (365 : Nat) (10000000 : Int32)) ∈ lw_all := lw_g (lw_at lw_m6 213 rfl) rfl
theorem q1483 : (Jvm.Cond.instanceMethod ({ cls := "Taxmaze", name := "contribution", desc := "(IIII)V" } : Jvm.MethodName)) ∈ lw_all := lw_g (lw_at lw_m6 218 rfl) rfl
theorem q1484 : (Jvm.Cond.selects "Taxmaze" ({ cls := "Taxmaze", name := "contribution", desc := "(IIII)V" } : Jvm.MethodName) ({ cls := "Taxmaze", name := "contribution", desc := "(IIII)V" } : Jvm.MethodName)) ∈ lw_all := lw_g (lw_at lw_m6 219 rfl) rfl
theorem q1485 : (Jvm.Cond.code ({ cls := "Taxmaze", name := "contribution", desc := "(IIII)V" } : Jvm.MethodName) prog_1_method_31_code (5 : Nat) (Option.none : Option Jvm.ClassFile.FieldType)) ∈ lw_all := lw_g (lw_at lw_m6 220 rfl) rfl
theorem q1486 : (Jvm.Cond.constant "Taxmaze" (366 : Nat) (100000000 : Int32)) ∈ lw_all := lw_g (lw_at lw_m6 221 rfl) rfl
theorem q1487 : (Jvm.Cond.methodLink "Taxmaze" (367 : Nat) ({ cls := "Taxmaze$Dated", name := "tell", desc := "(ILjava/lang/Object;)V" } : Jvm.MethodName)) ∈ lw_all := lw_g (lw_at lw_m6 222 rfl) rfl
theorem q1497 : (Jvm.Cond.instanceMethod ({ cls := "Taxmaze", name := "bracket", desc := "(IIIII)I" } : Jvm.MethodName)) ∈ lw_all := lw_g (lw_at lw_m6 232 rfl) rfl
theorem q1498 : (Jvm.Cond.selects "Taxmaze" ({ cls := "Taxmaze", name := "bracket", desc := "(IIIII)I" } : Jvm.MethodName) ({ cls := "Taxmaze", name := "bracket", desc := "(IIIII)I" } : Jvm.MethodName)) ∈ lw_all := lw_g (lw_at lw_m6 233 rfl) rfl
theorem q1499 : (Jvm.Cond.code ({ cls := "Taxmaze", name := "bracket", desc := "(IIIII)I" } : Jvm.MethodName) prog_1_method_32_code (9 : Nat) (Option.some Jvm.ClassFile.FieldType.int)) ∈ lw_all := lw_g (lw_at lw_m6 234 rfl) rfl
theorem q1500 : (Jvm.Cond.constant "Taxmaze" (370 : Nat) (1000000000 : Int32)) ∈ lw_all := lw_g (lw_at lw_m6 235 rfl) rfl
theorem q1501 : (Jvm.Cond.classLink "Taxmaze" (63 : Nat) "java/util/List") ∈ lw_all := lw_g (lw_at lw_m6 236 rfl) rfl
theorem q1502 : (Jvm.Cond.methodLink "Taxmaze" (371 : Nat) ({ cls := "Taxmaze$Dated", name := "from", desc := "(I)Ljava/lang/Object;" } : Jvm.MethodName)) ∈ lw_all := lw_g (lw_at lw_m6 237 rfl) rfl
theorem q1507 : (Jvm.Cond.classLink "Taxmaze" (166 : Nat) "Taxmaze$Bracket") ∈ lw_all := lw_g (lw_at lw_m7 2 rfl) rfl
theorem q1508 : (Jvm.Cond.methodLink "Taxmaze" (168 : Nat) ({ cls := "Taxmaze$Bracket", name := "end", desc := "()I" } : Jvm.MethodName)) ∈ lw_all := lw_g (lw_at lw_m7 3 rfl) rfl
theorem q1513 : (Jvm.Cond.methodLinkNest "Taxmaze" (374 : Nat) ({ cls := "Taxmaze$Bracket", name := "<init>", desc := "(II)V" } : Jvm.MethodName) "Taxmaze") ∈ lw_tbl := lw_at lw_m7 8 rfl
theorem q1528 : (Jvm.Cond.instanceMethod ({ cls := "Taxmaze", name := "state", desc := "(III)V" } : Jvm.MethodName)) ∈ lw_all := lw_g (lw_at lw_m7 23 rfl) rfl
theorem q1529 : (Jvm.Cond.selects "Taxmaze" ({ cls := "Taxmaze", name := "state", desc := "(III)V" } : Jvm.MethodName) ({ cls := "Taxmaze", name := "state", desc := "(III)V" } : Jvm.MethodName)) ∈ lw_all := lw_g (lw_at lw_m7 24 rfl) rfl
theorem q1530 : (Jvm.Cond.code ({ cls := "Taxmaze", name := "state", desc := "(III)V" } : Jvm.MethodName) prog_1_method_33_code (4 : Nat) (Option.none : Option Jvm.ClassFile.FieldType)) ∈ lw_all := lw_g (lw_at lw_m7 25 rfl) rfl
theorem q1535 : (Jvm.Cond.instanceMethod ({ cls := "Taxmaze", name := "pension", desc := "(III)V" } : Jvm.MethodName)) ∈ lw_all := lw_g (lw_at lw_m7 30 rfl) rfl
theorem q1536 : (Jvm.Cond.selects "Taxmaze" ({ cls := "Taxmaze", name := "pension", desc := "(III)V" } : Jvm.MethodName) ({ cls := "Taxmaze", name := "pension", desc := "(III)V" } : Jvm.MethodName)) ∈ lw_all := lw_g (lw_at lw_m7 31 rfl) rfl
theorem q1537 : (Jvm.Cond.code ({ cls := "Taxmaze", name := "pension", desc := "(III)V" } : Jvm.MethodName) prog_1_method_34_code (4 : Nat) (Option.none : Option Jvm.ClassFile.FieldType)) ∈ lw_all := lw_g (lw_at lw_m7 32 rfl) rfl
theorem q1542 : (Jvm.Cond.instanceMethod ({ cls := "Taxmaze", name := "yearTax", desc := "(IIIJ)J" } : Jvm.MethodName)) ∈ lw_all := lw_g (lw_at lw_m7 37 rfl) rfl
theorem q1543 : (Jvm.Cond.selects "Taxmaze" ({ cls := "Taxmaze", name := "yearTax", desc := "(IIIJ)J" } : Jvm.MethodName) ({ cls := "Taxmaze", name := "yearTax", desc := "(IIIJ)J" } : Jvm.MethodName)) ∈ lw_all := lw_g (lw_at lw_m7 38 rfl) rfl
theorem q1544 : (Jvm.Cond.code ({ cls := "Taxmaze", name := "yearTax", desc := "(IIIJ)J" } : Jvm.MethodName) prog_1_method_35_code (6 : Nat) (Option.some Jvm.ClassFile.FieldType.long)) ∈ lw_all := lw_g (lw_at lw_m7 39 rfl) rfl
theorem q1545 : (Jvm.Cond.constantLong "Taxmaze" (375 : Nat) (10000000000 : Int64)) ∈ lw_all := lw_g (lw_at lw_m7 40 rfl) rfl
theorem q1546 : (Jvm.Cond.methodLink "Taxmaze" (377 : Nat) ({ cls := "Taxmaze", name := "taxOf", desc := "(IIIJ)J" } : Jvm.MethodName)) ∈ lw_all := lw_g (lw_at lw_m7 41 rfl) rfl
theorem q1547 : (Jvm.Cond.privateMethod ({ cls := "Taxmaze", name := "taxOf", desc := "(IIIJ)J" } : Jvm.MethodName)) ∈ lw_tbl := lw_at lw_m7 42 rfl
theorem q1548 : (Jvm.Cond.instanceMethod ({ cls := "Taxmaze", name := "taxOf", desc := "(IIIJ)J" } : Jvm.MethodName)) ∈ lw_all := lw_g (lw_at lw_m7 43 rfl) rfl
theorem q1549 : (Jvm.Cond.code ({ cls := "Taxmaze", name := "taxOf", desc := "(IIIJ)J" } : Jvm.MethodName) prog_1_method_8_code (15 : Nat) (Option.some Jvm.ClassFile.FieldType.long)) ∈ lw_all := lw_g (lw_at lw_m7 44 rfl) rfl
theorem q1550 : (Jvm.Cond.methodLink "Taxmaze" (163 : Nat) ({ cls := "Taxmaze$Dated", name := "at", desc := "(I)Ljava/lang/Object;" } : Jvm.MethodName)) ∈ lw_all := lw_g (lw_at lw_m7 45 rfl) rfl
theorem q1566 : (Jvm.Cond.methodLink "Taxmaze" (43 : Nat) ({ cls := "java/lang/Math", name := "min", desc := "(JJ)J" } : Jvm.MethodName)) ∈ lw_all := lw_g (lw_at lw_m7 61 rfl) rfl
theorem q1567 : (Jvm.Cond.methodLink "Taxmaze" (46 : Nat) ({ cls := "java/lang/Math", name := "max", desc := "(JJ)J" } : Jvm.MethodName)) ∈ lw_all := lw_g (lw_at lw_m7 62 rfl) rfl
theorem q1568 : (Jvm.Cond.methodLink "Taxmaze" (171 : Nat) ({ cls := "Taxmaze$Bracket", name := "thousandths", desc := "()I" } : Jvm.MethodName)) ∈ lw_all := lw_g (lw_at lw_m7 63 rfl) rfl
theorem q1572 : (Jvm.Cond.constantLong "Taxmaze" (38 : Nat) (1000 : Int64)) ∈ lw_all := lw_g (lw_at lw_m7 67 rfl) rfl
theorem q1577 : (Jvm.Cond.instanceMethod ({ cls := "Taxmaze", name := "slip", desc := "(III)J" } : Jvm.MethodName)) ∈ lw_all := lw_g (lw_at lw_m7 72 rfl) rfl
theorem q1578 : (Jvm.Cond.selects "Taxmaze" ({ cls := "Taxmaze", name := "slip", desc := "(III)J" } : Jvm.MethodName) ({ cls := "Taxmaze", name := "slip", desc := "(III)J" } : Jvm.MethodName)) ∈ lw_all := lw_g (lw_at lw_m7 73 rfl) rfl
theorem q1579 : (Jvm.Cond.code ({ cls := "Taxmaze", name := "slip", desc := "(III)J" } : Jvm.MethodName) prog_1_method_36_code (5 : Nat) (Option.some Jvm.ClassFile.FieldType.long)) ∈ lw_all := lw_g (lw_at lw_m7 74 rfl) rfl
theorem q1580 : (Jvm.Cond.classLink "Taxmaze" (381 : Nat) "Taxmaze$Ledger") ∈ lw_all := lw_g (lw_at lw_m7 75 rfl) rfl
theorem q1582 : (Jvm.Cond.methodLink "Taxmaze" (383 : Nat) ({ cls := "Taxmaze$Ledger", name := "<init>", desc := "(LTaxmaze;I)V" } : Jvm.MethodName)) ∈ lw_all := lw_g (lw_at lw_m7 77 rfl) rfl
theorem q1622 : (Jvm.Cond.static ({ cls := "Taxmaze", name := "bounded", desc := "(J)J" } : Jvm.MethodName)) ∈ lw_all := lw_g (lw_at lw_m7 117 rfl) rfl
theorem q1623 : (Jvm.Cond.code ({ cls := "Taxmaze", name := "bounded", desc := "(J)J" } : Jvm.MethodName) prog_1_method_5_code (2 : Nat) (Option.some Jvm.ClassFile.FieldType.long)) ∈ lw_all := lw_g (lw_at lw_m7 118 rfl) rfl
theorem q1624 : (Jvm.Cond.constantLong "Taxmaze" (49 : Nat) (-100000000 : Int64)) ∈ lw_all := lw_g (lw_at lw_m7 119 rfl) rfl
theorem q1625 : (Jvm.Cond.constantLong "Taxmaze" (51 : Nat) (100000000 : Int64)) ∈ lw_all := lw_g (lw_at lw_m7 120 rfl) rfl
theorem q1629 : (Jvm.Cond.static ({ cls := "Taxmaze", name := "nameOf", desc := "(I)Ljava/lang/String;" } : Jvm.MethodName)) ∈ lw_all := lw_g (lw_at lw_m7 124 rfl) rfl
theorem q1630 : (Jvm.Cond.code ({ cls := "Taxmaze", name := "nameOf", desc := "(I)Ljava/lang/String;" } : Jvm.MethodName) prog_1_method_3_code (1 : Nat) (Option.some (Jvm.ClassFile.FieldType.object "java/lang/String"))) ∈ lw_all := lw_g (lw_at lw_m7 125 rfl) rfl
theorem q1631 : (Jvm.Cond.stringRef "Taxmaze" (17 : Nat) "plus") ∈ lw_tbl := lw_at lw_m7 126 rfl
theorem q1632 : (Jvm.Cond.stringRef "Taxmaze" (19 : Nat) "minus") ∈ lw_tbl := lw_at lw_m7 127 rfl
theorem q1633 : (Jvm.Cond.stringRef "Taxmaze" (21 : Nat) "times") ∈ lw_tbl := lw_at lw_m7 128 rfl
theorem q1634 : (Jvm.Cond.stringRef "Taxmaze" (23 : Nat) "permille") ∈ lw_tbl := lw_at lw_m7 129 rfl
theorem q1635 : (Jvm.Cond.stringRef "Taxmaze" (25 : Nat) "lesser") ∈ lw_tbl := lw_at lw_m7 130 rfl
theorem q1636 : (Jvm.Cond.stringRef "Taxmaze" (27 : Nat) "greater") ∈ lw_tbl := lw_at lw_m7 131 rfl
theorem q1638 : (Jvm.Cond.static ({ cls := "Taxmaze", name := "join", desc := "(Ljava/lang/String;JJ)J" } : Jvm.MethodName)) ∈ lw_all := lw_g (lw_at lw_m7 133 rfl) rfl
theorem q1639 : (Jvm.Cond.code ({ cls := "Taxmaze", name := "join", desc := "(Ljava/lang/String;JJ)J" } : Jvm.MethodName) prog_1_method_4_code (7 : Nat) (Option.some Jvm.ClassFile.FieldType.long)) ∈ lw_all := lw_g (lw_at lw_m7 134 rfl) rfl
theorem q1640 : (Jvm.Cond.methodLink "Taxmaze" (29 : Nat) ({ cls := "java/lang/String", name := "hashCode", desc := "()I" } : Jvm.MethodName)) ∈ lw_all := lw_g (lw_at lw_m7 135 rfl) rfl
theorem q1892 : (Jvm.Cond.methodLink "Taxmaze" (34 : Nat) ({ cls := "java/lang/String", name := "equals", desc := "(Ljava/lang/Object;)Z" } : Jvm.MethodName)) ∈ lw_all := lw_g (lw_at lw_m8 147 rfl) rfl
theorem q1899 : (Jvm.Cond.methodLink "Taxmaze" (40 : Nat) ({ cls := "Taxmaze", name := "rounded", desc := "(JJ)J" } : Jvm.MethodName)) ∈ lw_all := lw_g (lw_at lw_m8 154 rfl) rfl
theorem q1956 : (Jvm.Cond.fieldLinkNest "Taxmaze" (414 : Nat) "Taxmaze$Ledger" "values" "[J" "Taxmaze") ∈ lw_tbl := lw_at lw_m8 211 rfl
theorem q1959 : (Jvm.Cond.fieldLinkNest "Taxmaze" (384 : Nat) "Taxmaze$Ledger" "gross" "[J" "Taxmaze") ∈ lw_tbl := lw_at lw_m8 214 rfl
theorem q1961 : (Jvm.Cond.fieldLinkNest "Taxmaze" (391 : Nat) "Taxmaze$Ledger" "contribution" "[J" "Taxmaze") ∈ lw_tbl := lw_at lw_m8 216 rfl
theorem q1963 : (Jvm.Cond.fieldLinkNest "Taxmaze" (397 : Nat) "Taxmaze$Ledger" "tax" "[J" "Taxmaze") ∈ lw_tbl := lw_at lw_m8 218 rfl
theorem q1969 : (Jvm.Cond.fieldLinkNest "Taxmaze" (394 : Nat) "Taxmaze$Ledger" "pension" "[J" "Taxmaze") ∈ lw_tbl := lw_at lw_m8 224 rfl
theorem q1971 : (Jvm.Cond.fieldLinkNest "Taxmaze" (409 : Nat) "Taxmaze$Ledger" "match" "[J" "Taxmaze") ∈ lw_tbl := lw_at lw_m8 226 rfl
theorem q1973 : (Jvm.Cond.fieldLinkNest "Taxmaze" (400 : Nat) "Taxmaze$Ledger" "net" "[J" "Taxmaze") ∈ lw_tbl := lw_at lw_m8 228 rfl
theorem q1975 : (Jvm.Cond.fieldLinkNest "Taxmaze" (406 : Nat) "Taxmaze$Ledger" "payout" "[J" "Taxmaze") ∈ lw_tbl := lw_at lw_m8 230 rfl
theorem q2016 : (Jvm.Cond.methodLink "Taxmaze" (388 : Nat) ({ cls := "Taxmaze$Ledger", name := "in", desc := "(I[J)J" } : Jvm.MethodName)) ∈ lw_all := lw_g (lw_at lw_m9 31 rfl) rfl
theorem q2020 : (Jvm.Cond.methodLink "Taxmaze" (403 : Nat) ({ cls := "Taxmaze$Ledger", name := "allTaken", desc := "(I)J" } : Jvm.MethodName)) ∈ lw_all := lw_g (lw_at lw_m9 35 rfl) rfl
theorem q2028 : (Jvm.Cond.instanceMethod ({ cls := "Taxmaze", name := "slipIn", desc := "(IIII)J" } : Jvm.MethodName)) ∈ lw_all := lw_g (lw_at lw_m9 43 rfl) rfl
theorem q2029 : (Jvm.Cond.selects "Taxmaze" ({ cls := "Taxmaze", name := "slipIn", desc := "(IIII)J" } : Jvm.MethodName) ({ cls := "Taxmaze", name := "slipIn", desc := "(IIII)J" } : Jvm.MethodName)) ∈ lw_all := lw_g (lw_at lw_m9 44 rfl) rfl
theorem q2030 : (Jvm.Cond.code ({ cls := "Taxmaze", name := "slipIn", desc := "(IIII)J" } : Jvm.MethodName) prog_1_method_37_code (7 : Nat) (Option.some Jvm.ClassFile.FieldType.long)) ∈ lw_all := lw_g (lw_at lw_m9 45 rfl) rfl
theorem q2031 : (Jvm.Cond.stringRef "Taxmaze" (412 : Nat) "no such part") ∈ lw_tbl := lw_at lw_m9 46 rfl
theorem q2036 : (Jvm.Cond.instanceMethod ({ cls := "Taxmaze", name := "elementOf", desc := "(III)J" } : Jvm.MethodName)) ∈ lw_all := lw_g (lw_at lw_m9 51 rfl) rfl
theorem q2037 : (Jvm.Cond.selects "Taxmaze" ({ cls := "Taxmaze", name := "elementOf", desc := "(III)J" } : Jvm.MethodName) ({ cls := "Taxmaze", name := "elementOf", desc := "(III)J" } : Jvm.MethodName)) ∈ lw_all := lw_g (lw_at lw_m9 52 rfl) rfl
theorem q2038 : (Jvm.Cond.code ({ cls := "Taxmaze", name := "elementOf", desc := "(III)J" } : Jvm.MethodName) prog_1_method_38_code (4 : Nat) (Option.some Jvm.ClassFile.FieldType.long)) ∈ lw_all := lw_g (lw_at lw_m9 53 rfl) rfl
theorem q2043 : (Jvm.Cond.instanceMethod ({ cls := "Taxmaze", name := "pensionOf", desc := "(II)J" } : Jvm.MethodName)) ∈ lw_all := lw_g (lw_at lw_m9 58 rfl) rfl
theorem q2044 : (Jvm.Cond.selects "Taxmaze" ({ cls := "Taxmaze", name := "pensionOf", desc := "(II)J" } : Jvm.MethodName) ({ cls := "Taxmaze", name := "pensionOf", desc := "(II)J" } : Jvm.MethodName)) ∈ lw_all := lw_g (lw_at lw_m9 59 rfl) rfl
theorem q2045 : (Jvm.Cond.code ({ cls := "Taxmaze", name := "pensionOf", desc := "(II)J" } : Jvm.MethodName) prog_1_method_39_code (10 : Nat) (Option.some Jvm.ClassFile.FieldType.long)) ∈ lw_all := lw_g (lw_at lw_m9 60 rfl) rfl
theorem q2050 : (Jvm.Cond.instanceMethod ({ cls := "Taxmaze", name := "grossFor", desc := "(IIII)I" } : Jvm.MethodName)) ∈ lw_all := lw_g (lw_at lw_m9 65 rfl) rfl
theorem q2051 : (Jvm.Cond.selects "Taxmaze" ({ cls := "Taxmaze", name := "grossFor", desc := "(IIII)I" } : Jvm.MethodName) ({ cls := "Taxmaze", name := "grossFor", desc := "(IIII)I" } : Jvm.MethodName)) ∈ lw_all := lw_g (lw_at lw_m9 66 rfl) rfl
theorem q2052 : (Jvm.Cond.code ({ cls := "Taxmaze", name := "grossFor", desc := "(IIII)I" } : Jvm.MethodName) prog_1_method_40_code (11 : Nat) (Option.some Jvm.ClassFile.FieldType.int)) ∈ lw_all := lw_g (lw_at lw_m9 67 rfl) rfl
theorem q2053 : (Jvm.Cond.methodLink "Taxmaze" (417 : Nat) ({ cls := "Taxmaze$Ledger", name := "go", desc := "(I)V" } : Jvm.MethodName)) ∈ lw_all := lw_g (lw_at lw_m9 68 rfl) rfl
theorem q2058 : (Jvm.Cond.instanceMethod ({ cls := "Taxmaze", name := "garnish", desc := "(IIIIII)I" } : Jvm.MethodName)) ∈ lw_all := lw_g (lw_at lw_m9 73 rfl) rfl
theorem q2059 : (Jvm.Cond.selects "Taxmaze" ({ cls := "Taxmaze", name := "garnish", desc := "(IIIIII)I" } : Jvm.MethodName) ({ cls := "Taxmaze", name := "garnish", desc := "(IIIIII)I" } : Jvm.MethodName)) ∈ lw_all := lw_g (lw_at lw_m9 74 rfl) rfl
theorem q2060 : (Jvm.Cond.code ({ cls := "Taxmaze", name := "garnish", desc := "(IIIIII)I" } : Jvm.MethodName) prog_1_method_41_code (10 : Nat) (Option.some Jvm.ClassFile.FieldType.int)) ∈ lw_all := lw_g (lw_at lw_m9 75 rfl) rfl
theorem q2061 : (Jvm.Cond.classLink "Taxmaze" (420 : Nat) "Taxmaze$Garnishment") ∈ lw_all := lw_g (lw_at lw_m9 76 rfl) rfl
theorem q2063 : (Jvm.Cond.methodLink "Taxmaze" (422 : Nat) ({ cls := "Taxmaze$Garnishment", name := "<init>", desc := "(IIIIIII)V" } : Jvm.MethodName)) ∈ lw_all := lw_g (lw_at lw_m9 78 rfl) rfl
theorem q2070 : (Jvm.Cond.fieldLinkNest "Taxmaze" (436 : Nat) "Taxmaze$Garnishment" "number" "I" "Taxmaze") ∈ lw_tbl := lw_at lw_m9 85 rfl
theorem q2073 : (Jvm.Cond.fieldLinkNest "Taxmaze" (439 : Nat) "Taxmaze$Garnishment" "person" "I" "Taxmaze") ∈ lw_tbl := lw_at lw_m9 88 rfl
theorem q2099 : (Jvm.Cond.classLink "Taxmaze" (425 : Nat) "Taxmaze$ByRank") ∈ lw_all := lw_g (lw_at lw_m9 114 rfl) rfl
theorem q2101 : (Jvm.Cond.methodLinkNest "Taxmaze" (427 : Nat) ({ cls := "Taxmaze$ByRank", name := "<init>", desc := "()V" } : Jvm.MethodName) "Taxmaze") ∈ lw_tbl := lw_at lw_m9 116 rfl
theorem q2106 : (Jvm.Cond.interfaceEntry "Taxmaze" (428 : Nat)) ∈ lw_tbl := lw_at lw_m9 121 rfl
theorem q2107 : (Jvm.Cond.methodLink "Taxmaze" (428 : Nat) ({ cls := "java/util/Comparator", name := "compare", desc := "(Ljava/lang/Object;Ljava/lang/Object;)I" } : Jvm.MethodName)) ∈ lw_all := lw_g (lw_at lw_m9 122 rfl) rfl
theorem q2108 : (Jvm.Cond.interfaceEntry "Taxmaze" (434 : Nat)) ∈ lw_tbl := lw_at lw_m9 123 rfl
theorem q2109 : (Jvm.Cond.methodLink "Taxmaze" (434 : Nat) ({ cls := "java/util/List", name := "add", desc := "(ILjava/lang/Object;)V" } : Jvm.MethodName)) ∈ lw_all := lw_g (lw_at lw_m9 124 rfl) rfl
theorem q2138 : (Jvm.Cond.instanceMethod ({ cls := "Taxmaze", name := "takenBy", desc := "(II)J" } : Jvm.MethodName)) ∈ lw_all := lw_g (lw_at lw_m9 153 rfl) rfl
theorem q2139 : (Jvm.Cond.selects "Taxmaze" ({ cls := "Taxmaze", name := "takenBy", desc := "(II)J" } : Jvm.MethodName) ({ cls := "Taxmaze", name := "takenBy", desc := "(II)J" } : Jvm.MethodName)) ∈ lw_all := lw_g (lw_at lw_m9 154 rfl) rfl
theorem q2140 : (Jvm.Cond.code ({ cls := "Taxmaze", name := "takenBy", desc := "(II)J" } : Jvm.MethodName) prog_1_method_42_code (4 : Nat) (Option.some Jvm.ClassFile.FieldType.long)) ∈ lw_all := lw_g (lw_at lw_m9 155 rfl) rfl
theorem q2141 : (Jvm.Cond.methodLinkNest "Taxmaze" (440 : Nat) ({ cls := "Taxmaze$Ledger", name := "takenBefore", desc := "(II)J" } : Jvm.MethodName) "Taxmaze") ∈ lw_tbl := lw_at lw_m9 156 rfl
theorem q2146 : (Jvm.Cond.instanceMethod ({ cls := "Taxmaze", name := "advance", desc := "(II)J" } : Jvm.MethodName)) ∈ lw_all := lw_g (lw_at lw_m9 161 rfl) rfl
theorem q2147 : (Jvm.Cond.selects "Taxmaze" ({ cls := "Taxmaze", name := "advance", desc := "(II)J" } : Jvm.MethodName) ({ cls := "Taxmaze", name := "advance", desc := "(II)J" } : Jvm.MethodName)) ∈ lw_all := lw_g (lw_at lw_m9 162 rfl) rfl
theorem q2148 : (Jvm.Cond.code ({ cls := "Taxmaze", name := "advance", desc := "(II)J" } : Jvm.MethodName) prog_1_method_43_code (7 : Nat) (Option.some Jvm.ClassFile.FieldType.long)) ∈ lw_all := lw_g (lw_at lw_m9 163 rfl) rfl
theorem q2149 : (Jvm.Cond.classLink "Taxmaze" (447 : Nat) "Taxmaze$Advance") ∈ lw_all := lw_g (lw_at lw_m9 164 rfl) rfl
theorem q2151 : (Jvm.Cond.methodLinkNest "Taxmaze" (449 : Nat) ({ cls := "Taxmaze$Advance", name := "<init>", desc := "(III)V" } : Jvm.MethodName) "Taxmaze") ∈ lw_tbl := lw_at lw_m9 166 rfl
theorem q2165 : (Jvm.Cond.methodLink "Taxmaze" (452 : Nat) ({ cls := "Taxmaze$Advance", name := "person", desc := "()I" } : Jvm.MethodName)) ∈ lw_all := lw_g (lw_at lw_m9 180 rfl) rfl
theorem q2166 : (Jvm.Cond.methodLink "Taxmaze" (454 : Nat) ({ cls := "Taxmaze$Advance", name := "cents", desc := "()I" } : Jvm.MethodName)) ∈ lw_all := lw_g (lw_at lw_m9 181 rfl) rfl
theorem q2171 : (Jvm.Cond.instanceMethod ({ cls := "Taxmaze", name := "close", desc := "()I" } : Jvm.MethodName)) ∈ lw_all := lw_g (lw_at lw_m9 186 rfl) rfl
theorem q2172 : (Jvm.Cond.selects "Taxmaze" ({ cls := "Taxmaze", name := "close", desc := "()I" } : Jvm.MethodName) ({ cls := "Taxmaze", name := "close", desc := "()I" } : Jvm.MethodName)) ∈ lw_all := lw_g (lw_at lw_m9 187 rfl) rfl
theorem q2173 : (Jvm.Cond.code ({ cls := "Taxmaze", name := "close", desc := "()I" } : Jvm.MethodName) prog_1_method_45_code (9 : Nat) (Option.some Jvm.ClassFile.FieldType.int)) ∈ lw_all := lw_g (lw_at lw_m9 188 rfl) rfl
theorem q2174 : (Jvm.Cond.methodLink "Taxmaze" (456 : Nat) ({ cls := "Taxmaze$Ledger", name := "payouts", desc := "(I)J" } : Jvm.MethodName)) ∈ lw_all := lw_g (lw_at lw_m9 189 rfl) rfl
theorem q2178 : (Jvm.Cond.methodLink "Taxmaze" (459 : Nat) ({ cls := "Taxmaze", name := "paidTo", desc := "(I)J" } : Jvm.MethodName)) ∈ lw_all := lw_g (lw_at lw_m9 193 rfl) rfl
theorem q2179 : (Jvm.Cond.privateMethod ({ cls := "Taxmaze", name := "paidTo", desc := "(I)J" } : Jvm.MethodName)) ∈ lw_tbl := lw_at lw_m9 194 rfl
theorem q2180 : (Jvm.Cond.instanceMethod ({ cls := "Taxmaze", name := "paidTo", desc := "(I)J" } : Jvm.MethodName)) ∈ lw_all := lw_g (lw_at lw_m9 195 rfl) rfl
theorem q2181 : (Jvm.Cond.code ({ cls := "Taxmaze", name := "paidTo", desc := "(I)J" } : Jvm.MethodName) prog_1_method_11_code (6 : Nat) (Option.some Jvm.ClassFile.FieldType.long)) ∈ lw_all := lw_g (lw_at lw_m9 196 rfl) rfl
theorem q2182 : (Jvm.Cond.classLink "Taxmaze" (222 : Nat) "Taxmaze$Payment") ∈ lw_all := lw_g (lw_at lw_m9 197 rfl) rfl
theorem q2184 : (Jvm.Cond.methodLink "Taxmaze" (462 : Nat) ({ cls := "Taxmaze$Payment", name := "<init>", desc := "(IIJ)V" } : Jvm.MethodName)) ∈ lw_all := lw_g (lw_at lw_m9 199 rfl) rfl
theorem q2189 : (Jvm.Cond.fieldLinkNest "Taxmaze" (224 : Nat) "Taxmaze$Payment" "person" "I" "Taxmaze") ∈ lw_tbl := lw_at lw_m9 204 rfl
theorem q2191 : (Jvm.Cond.fieldLinkNest "Taxmaze" (465 : Nat) "Taxmaze$Payment" "month" "I" "Taxmaze") ∈ lw_tbl := lw_at lw_m9 206 rfl
theorem q2193 : (Jvm.Cond.fieldLinkNest "Taxmaze" (230 : Nat) "Taxmaze$Payment" "cents" "J" "Taxmaze") ∈ lw_tbl := lw_at lw_m9 208 rfl
theorem q2194 : (Jvm.Cond.fieldLinkNest "Taxmaze" (227 : Nat) "Taxmaze$Payment" "cameBack" "Z" "Taxmaze") ∈ lw_tbl := lw_at lw_m9 209 rfl
theorem q2208 : (Jvm.Cond.instanceMethod ({ cls := "Taxmaze", name := "payment", desc := "(II)J" } : Jvm.MethodName)) ∈ lw_all := lw_g (lw_at lw_m9 223 rfl) rfl
theorem q2209 : (Jvm.Cond.selects "Taxmaze" ({ cls := "Taxmaze", name := "payment", desc := "(II)J" } : Jvm.MethodName) ({ cls := "Taxmaze", name := "payment", desc := "(II)J" } : Jvm.MethodName)) ∈ lw_all := lw_g (lw_at lw_m9 224 rfl) rfl
theorem q2210 : (Jvm.Cond.code ({ cls := "Taxmaze", name := "payment", desc := "(II)J" } : Jvm.MethodName) prog_1_method_47_code (4 : Nat) (Option.some Jvm.ClassFile.FieldType.long)) ∈ lw_all := lw_g (lw_at lw_m9 225 rfl) rfl
theorem q2215 : (Jvm.Cond.instanceMethod ({ cls := "Taxmaze", name := "comeBack", desc := "(I)J" } : Jvm.MethodName)) ∈ lw_all := lw_g (lw_at lw_m9 230 rfl) rfl
theorem q2216 : (Jvm.Cond.selects "Taxmaze" ({ cls := "Taxmaze", name := "comeBack", desc := "(I)J" } : Jvm.MethodName) ({ cls := "Taxmaze", name := "comeBack", desc := "(I)J" } : Jvm.MethodName)) ∈ lw_all := lw_g (lw_at lw_m9 231 rfl) rfl
theorem q2217 : (Jvm.Cond.code ({ cls := "Taxmaze", name := "comeBack", desc := "(I)J" } : Jvm.MethodName) prog_1_method_48_code (3 : Nat) (Option.some Jvm.ClassFile.FieldType.long)) ∈ lw_all := lw_g (lw_at lw_m9 232 rfl) rfl
theorem q2222 : (Jvm.Cond.instanceMethod ({ cls := "Taxmaze", name := "owed", desc := "(I)J" } : Jvm.MethodName)) ∈ lw_all := lw_g (lw_at lw_m9 237 rfl) rfl
theorem q2223 : (Jvm.Cond.selects "Taxmaze" ({ cls := "Taxmaze", name := "owed", desc := "(I)J" } : Jvm.MethodName) ({ cls := "Taxmaze", name := "owed", desc := "(I)J" } : Jvm.MethodName)) ∈ lw_all := lw_g (lw_at lw_m9 238 rfl) rfl
theorem q2224 : (Jvm.Cond.code ({ cls := "Taxmaze", name := "owed", desc := "(I)J" } : Jvm.MethodName) prog_1_method_49_code (2 : Nat) (Option.some Jvm.ClassFile.FieldType.long)) ∈ lw_all := lw_g (lw_at lw_m9 239 rfl) rfl
theorem q2229 : (Jvm.Cond.instanceMethod ({ cls := "Taxmaze", name := "filed", desc := "(IIZ)J" } : Jvm.MethodName)) ∈ lw_all := lw_g (lw_at lw_m10 4 rfl) rfl
theorem q2230 : (Jvm.Cond.selects "Taxmaze" ({ cls := "Taxmaze", name := "filed", desc := "(IIZ)J" } : Jvm.MethodName) ({ cls := "Taxmaze", name := "filed", desc := "(IIZ)J" } : Jvm.MethodName)) ∈ lw_all := lw_g (lw_at lw_m10 5 rfl) rfl
theorem q2231 : (Jvm.Cond.code ({ cls := "Taxmaze", name := "filed", desc := "(IIZ)J" } : Jvm.MethodName) prog_1_method_50_code (4 : Nat) (Option.some Jvm.ClassFile.FieldType.long)) ∈ lw_all := lw_g (lw_at lw_m10 6 rfl) rfl
theorem q2236 : (Jvm.Cond.instanceMethod ({ cls := "Taxmaze", name := "corrections", desc := "(II)I" } : Jvm.MethodName)) ∈ lw_all := lw_g (lw_at lw_m10 11 rfl) rfl
theorem q2237 : (Jvm.Cond.selects "Taxmaze" ({ cls := "Taxmaze", name := "corrections", desc := "(II)I" } : Jvm.MethodName) ({ cls := "Taxmaze", name := "corrections", desc := "(II)I" } : Jvm.MethodName)) ∈ lw_all := lw_g (lw_at lw_m10 12 rfl) rfl
theorem q2238 : (Jvm.Cond.code ({ cls := "Taxmaze", name := "corrections", desc := "(II)I" } : Jvm.MethodName) prog_1_method_51_code (3 : Nat) (Option.some Jvm.ClassFile.FieldType.int)) ∈ lw_all := lw_g (lw_at lw_m10 13 rfl) rfl
theorem q2790 : (Jvm.Cond.castable "Taxmaze" "java/lang/Object") ∈ lw_tbl := lw_at lw_m12 85 rfl
theorem q67 : (Jvm.Cond.initialized "java/util/AbstractCollection") ∈ lw_all := lw_g (lw_at lw_m1 2 rfl) rfl
theorem q135 : (Jvm.Cond.instanceMethod ({ cls := "java/util/AbstractCollection", name := "<init>", desc := "()V" } : Jvm.MethodName)) ∈ lw_all := lw_g (lw_at lw_m1 70 rfl) rfl
theorem q136 : (Jvm.Cond.code ({ cls := "java/util/AbstractCollection", name := "<init>", desc := "()V" } : Jvm.MethodName) prog_49_method_1_code (1 : Nat) (Option.none : Option Jvm.ClassFile.FieldType)) ∈ lw_all := lw_g (lw_at lw_m1 71 rfl) rfl
theorem q137 : (Jvm.Cond.methodLink "java/util/AbstractCollection" (1 : Nat) ({ cls := "java/lang/Object", name := "<init>", desc := "()V" } : Jvm.MethodName)) ∈ lw_all := lw_g (lw_at lw_m1 72 rfl) rfl
theorem q1440 : (Jvm.Cond.declares ({ cls := "java/util/AbstractCollection", name := "isEmpty", desc := "()Z" } : Jvm.MethodName)) ∈ lw_tbl := lw_at lw_m6 175 rfl
theorem q1442 : (Jvm.Cond.instanceMethod ({ cls := "java/util/AbstractCollection", name := "isEmpty", desc := "()Z" } : Jvm.MethodName)) ∈ lw_all := lw_g (lw_at lw_m6 177 rfl) rfl
theorem q1443 : (Jvm.Cond.code ({ cls := "java/util/AbstractCollection", name := "isEmpty", desc := "()Z" } : Jvm.MethodName) prog_49_method_4_code (1 : Nat) (Option.some Jvm.ClassFile.FieldType.boolean)) ∈ lw_all := lw_g (lw_at lw_m6 178 rfl) rfl
theorem q1444 : (Jvm.Cond.methodLink "java/util/AbstractCollection" (7 : Nat) ({ cls := "java/util/AbstractCollection", name := "size", desc := "()I" } : Jvm.MethodName)) ∈ lw_all := lw_g (lw_at lw_m6 179 rfl) rfl
theorem q1445 : (Jvm.Cond.declares ({ cls := "java/util/AbstractCollection", name := "size", desc := "()I" } : Jvm.MethodName)) ∈ lw_tbl := lw_at lw_m6 180 rfl
theorem q1446 : (Jvm.Cond.sameMethod "java/util/AbstractCollection" "java/util/AbstractCollection" "size" "()I") ∈ lw_all := lw_g (lw_at lw_m6 181 rfl) rfl
theorem q68 : (Jvm.Cond.initialized "java/util/AbstractList") ∈ lw_all := lw_g (lw_at lw_m1 3 rfl) rfl
theorem q132 : (Jvm.Cond.instanceMethod ({ cls := "java/util/AbstractList", name := "<init>", desc := "()V" } : Jvm.MethodName)) ∈ lw_all := lw_g (lw_at lw_m1 67 rfl) rfl
theorem q133 : (Jvm.Cond.code ({ cls := "java/util/AbstractList", name := "<init>", desc := "()V" } : Jvm.MethodName) prog_50_method_1_code (1 : Nat) (Option.none : Option Jvm.ClassFile.FieldType)) ∈ lw_all := lw_g (lw_at lw_m1 68 rfl) rfl
theorem q134 : (Jvm.Cond.methodLink "java/util/AbstractList" (1 : Nat) ({ cls := "java/util/AbstractCollection", name := "<init>", desc := "()V" } : Jvm.MethodName)) ∈ lw_all := lw_g (lw_at lw_m1 69 rfl) rfl
theorem q144 : (Jvm.Cond.fieldLink "java/util/AbstractList" (7 : Nat) "java/util/AbstractList" "modCount" "I") ∈ lw_all := lw_g (lw_at lw_m1 79 rfl) rfl
theorem q153 : (Jvm.Cond.soleField "java/util/AbstractList" "modCount") ∈ lw_all := lw_g (lw_at lw_m1 88 rfl) rfl
theorem q69 : (Jvm.Cond.initialized "java/util/ArrayList") ∈ lw_all := lw_g (lw_at lw_m1 4 rfl) rfl
theorem q127 : (Jvm.Cond.instantiable "java/util/ArrayList" (3 : Nat)) ∈ lw_all := lw_g (lw_at lw_m1 62 rfl) rfl
theorem q129 : (Jvm.Cond.instanceMethod ({ cls := "java/util/ArrayList", name := "<init>", desc := "()V" } : Jvm.MethodName)) ∈ lw_all := lw_g (lw_at lw_m1 64 rfl) rfl
theorem q130 : (Jvm.Cond.code ({ cls := "java/util/ArrayList", name := "<init>", desc := "()V" } : Jvm.MethodName) prog_53_method_2_code (1 : Nat) (Option.none : Option Jvm.ClassFile.FieldType)) ∈ lw_all := lw_g (lw_at lw_m1 65 rfl) rfl
theorem q131 : (Jvm.Cond.methodLink "java/util/ArrayList" (1 : Nat) ({ cls := "java/util/AbstractList", name := "<init>", desc := "()V" } : Jvm.MethodName)) ∈ lw_all := lw_g (lw_at lw_m1 66 rfl) rfl
theorem q138 : (Jvm.Cond.fieldLink "java/util/ArrayList" (39 : Nat) "java/util/ArrayList" "DEFAULTCAPACITY_EMPTY_ELEMENTDATA" "[Ljava/lang/Object;") ∈ lw_all := lw_g (lw_at lw_m1 73 rfl) rfl
theorem q139 : (Jvm.Cond.laysStatic "java/util/ArrayList" "DEFAULTCAPACITY_EMPTY_ELEMENTDATA" "[Ljava/lang/Object;") ∈ lw_tbl := lw_at lw_m1 74 rfl
theorem q140 : (Jvm.Cond.fieldLink "java/util/ArrayList" (9 : Nat) "java/util/ArrayList" "elementData" "[Ljava/lang/Object;") ∈ lw_all := lw_g (lw_at lw_m1 75 rfl) rfl
theorem q143 : (Jvm.Cond.fieldLink "java/util/ArrayList" (48 : Nat) "java/util/ArrayList" "size" "I") ∈ lw_all := lw_g (lw_at lw_m1 78 rfl) rfl
theorem q146 : (Jvm.Cond.sameField "java/util/ArrayList" "java/util/AbstractList" "modCount" "I") ∈ lw_all := lw_g (lw_at lw_m1 81 rfl) rfl
theorem q147 : (Jvm.Cond.fieldLink "java/util/ArrayList" (63 : Nat) "java/util/ArrayList" "modCount" "I") ∈ lw_all := lw_g (lw_at lw_m1 82 rfl) rfl
theorem q148 : (Jvm.Cond.lays "java/util/ArrayList" "java/util/ArrayList" "elementData" "[Ljava/lang/Object;") ∈ lw_all := lw_g (lw_at lw_m1 83 rfl) rfl
theorem q149 : (Jvm.Cond.soleField "java/util/ArrayList" "elementData") ∈ lw_all := lw_g (lw_at lw_m1 84 rfl) rfl
theorem q150 : (Jvm.Cond.lays "java/util/ArrayList" "java/util/ArrayList" "size" "I") ∈ lw_all := lw_g (lw_at lw_m1 85 rfl) rfl
theorem q151 : (Jvm.Cond.soleField "java/util/ArrayList" "size") ∈ lw_all := lw_g (lw_at lw_m1 86 rfl) rfl
theorem q152 : (Jvm.Cond.lays "java/util/ArrayList" "java/util/AbstractList" "modCount" "I") ∈ lw_all := lw_g (lw_at lw_m1 87 rfl) rfl
theorem q154 : (Jvm.Cond.superclass "java/util/ArrayList" "java/util/AbstractList") ∈ lw_all := lw_g (lw_at lw_m1 89 rfl) rfl
theorem q229 : (Jvm.Cond.castable "java/util/ArrayList" "java/util/List") ∈ lw_tbl := lw_at lw_m1 164 rfl
theorem q230 : (Jvm.Cond.selects "java/util/ArrayList" ({ cls := "java/util/List", name := "add", desc := "(Ljava/lang/Object;)Z" } : Jvm.MethodName) ({ cls := "java/util/ArrayList", name := "add", desc := "(Ljava/lang/Object;)Z" } : Jvm.MethodName)) ∈ lw_all := lw_g (lw_at lw_m1 165 rfl) rfl
theorem q231 : (Jvm.Cond.unhidden "java/util/ArrayList" "add" "(Ljava/lang/Object;)Z") ∈ lw_tbl := lw_at lw_m1 166 rfl
theorem q232 : (Jvm.Cond.instanceMethod ({ cls := "java/util/ArrayList", name := "add", desc := "(Ljava/lang/Object;)Z" } : Jvm.MethodName)) ∈ lw_all := lw_g (lw_at lw_m1 167 rfl) rfl
theorem q233 : (Jvm.Cond.publicMethod ({ cls := "java/util/ArrayList", name := "add", desc := "(Ljava/lang/Object;)Z" } : Jvm.MethodName)) ∈ lw_tbl := lw_at lw_m1 168 rfl
theorem q234 : (Jvm.Cond.code ({ cls := "java/util/ArrayList", name := "add", desc := "(Ljava/lang/Object;)Z" } : Jvm.MethodName) prog_53_method_25_code (2 : Nat) (Option.some Jvm.ClassFile.FieldType.boolean)) ∈ lw_all := lw_g (lw_at lw_m1 169 rfl) rfl
theorem q235 : (Jvm.Cond.methodLink "java/util/ArrayList" (131 : Nat) ({ cls := "java/util/ArrayList", name := "add", desc := "(Ljava/lang/Object;[Ljava/lang/Object;I)V" } : Jvm.MethodName)) ∈ lw_all := lw_g (lw_at lw_m1 170 rfl) rfl
theorem q236 : (Jvm.Cond.privateMethod ({ cls := "java/util/ArrayList", name := "add", desc := "(Ljava/lang/Object;[Ljava/lang/Object;I)V" } : Jvm.MethodName)) ∈ lw_tbl := lw_at lw_m1 171 rfl
theorem q237 : (Jvm.Cond.instanceMethod ({ cls := "java/util/ArrayList", name := "add", desc := "(Ljava/lang/Object;[Ljava/lang/Object;I)V" } : Jvm.MethodName)) ∈ lw_all := lw_g (lw_at lw_m1 172 rfl) rfl
theorem q238 : (Jvm.Cond.code ({ cls := "java/util/ArrayList", name := "add", desc := "(Ljava/lang/Object;[Ljava/lang/Object;I)V" } : Jvm.MethodName) prog_53_method_24_code (4 : Nat) (Option.none : Option Jvm.ClassFile.FieldType)) ∈ lw_all := lw_g (lw_at lw_m1 173 rfl) rfl
theorem q239 : (Jvm.Cond.methodLink "java/util/ArrayList" (129 : Nat) ({ cls := "java/util/ArrayList", name := "grow", desc := "()[Ljava/lang/Object;" } : Jvm.MethodName)) ∈ lw_all := lw_g (lw_at lw_m1 174 rfl) rfl
theorem q240 : (Jvm.Cond.privateMethod ({ cls := "java/util/ArrayList", name := "grow", desc := "()[Ljava/lang/Object;" } : Jvm.MethodName)) ∈ lw_tbl := lw_at lw_m1 175 rfl
theorem q241 : (Jvm.Cond.instanceMethod ({ cls := "java/util/ArrayList", name := "grow", desc := "()[Ljava/lang/Object;" } : Jvm.MethodName)) ∈ lw_all := lw_g (lw_at lw_m1 176 rfl) rfl
theorem q242 : (Jvm.Cond.code ({ cls := "java/util/ArrayList", name := "grow", desc := "()[Ljava/lang/Object;" } : Jvm.MethodName) prog_53_method_7_code (1 : Nat) (Option.some (Jvm.ClassFile.FieldType.array (Jvm.ClassFile.FieldType.object "java/lang/Object")))) ∈ lw_all := lw_g (lw_at lw_m1 177 rfl) rfl
theorem q243 : (Jvm.Cond.methodLink "java/util/ArrayList" (69 : Nat) ({ cls := "java/util/ArrayList", name := "grow", desc := "(I)[Ljava/lang/Object;" } : Jvm.MethodName)) ∈ lw_all := lw_g (lw_at lw_m1 178 rfl) rfl
theorem q244 : (Jvm.Cond.privateMethod ({ cls := "java/util/ArrayList", name := "grow", desc := "(I)[Ljava/lang/Object;" } : Jvm.MethodName)) ∈ lw_tbl := lw_at lw_m1 179 rfl
theorem q245 : (Jvm.Cond.instanceMethod ({ cls := "java/util/ArrayList", name := "grow", desc := "(I)[Ljava/lang/Object;" } : Jvm.MethodName)) ∈ lw_all := lw_g (lw_at lw_m1 180 rfl) rfl
theorem q246 : (Jvm.Cond.code ({ cls := "java/util/ArrayList", name := "grow", desc := "(I)[Ljava/lang/Object;" } : Jvm.MethodName) prog_53_method_6_code (4 : Nat) (Option.some (Jvm.ClassFile.FieldType.array (Jvm.ClassFile.FieldType.object "java/lang/Object")))) ∈ lw_all := lw_g (lw_at lw_m1 181 rfl) rfl
theorem q247 : (Jvm.Cond.methodLink "java/util/ArrayList" (73 : Nat) ({ cls := "jdk/internal/util/ArraysSupport", name := "newLength", desc := "(III)I" } : Jvm.MethodName)) ∈ lw_all := lw_g (lw_at lw_m1 182 rfl) rfl
theorem q257 : (Jvm.Cond.methodLink "java/util/ArrayList" (66 : Nat) ({ cls := "java/util/Arrays", name := "copyOf", desc := "([Ljava/lang/Object;I)[Ljava/lang/Object;" } : Jvm.MethodName)) ∈ lw_all := lw_g (lw_at lw_m1 192 rfl) rfl
theorem q289 : (Jvm.Cond.selects "java/util/ArrayList" ({ cls := "java/lang/Object", name := "getClass", desc := "()Ljava/lang/Class;" } : Jvm.MethodName) ({ cls := "java/lang/Object", name := "getClass", desc := "()Ljava/lang/Class;" } : Jvm.MethodName)) ∈ lw_all := lw_g (lw_at lw_m1 224 rfl) rfl
theorem q308 : (Jvm.Cond.methodLink "java/util/ArrayList" (79 : Nat) ({ cls := "java/lang/Math", name := "max", desc := "(II)I" } : Jvm.MethodName)) ∈ lw_all := lw_g (lw_at lw_m2 3 rfl) rfl
theorem q309 : (Jvm.Cond.classLink "java/util/ArrayList" (7 : Nat) "java/lang/Object") ∈ lw_all := lw_g (lw_at lw_m2 4 rfl) rfl
theorem q416 : (Jvm.Cond.selects "java/util/ArrayList" ({ cls := "java/util/List", name := "size", desc := "()I" } : Jvm.MethodName) ({ cls := "java/util/ArrayList", name := "size", desc := "()I" } : Jvm.MethodName)) ∈ lw_all := lw_g (lw_at lw_m2 111 rfl) rfl
theorem q417 : (Jvm.Cond.unhidden "java/util/ArrayList" "size" "()I") ∈ lw_tbl := lw_at lw_m2 112 rfl
theorem q418 : (Jvm.Cond.instanceMethod ({ cls := "java/util/ArrayList", name := "size", desc := "()I" } : Jvm.MethodName)) ∈ lw_all := lw_g (lw_at lw_m2 113 rfl) rfl
theorem q419 : (Jvm.Cond.publicMethod ({ cls := "java/util/ArrayList", name := "size", desc := "()I" } : Jvm.MethodName)) ∈ lw_tbl := lw_at lw_m2 114 rfl
theorem q420 : (Jvm.Cond.code ({ cls := "java/util/ArrayList", name := "size", desc := "()I" } : Jvm.MethodName) prog_53_method_8_code (1 : Nat) (Option.some Jvm.ClassFile.FieldType.int)) ∈ lw_all := lw_g (lw_at lw_m2 115 rfl) rfl
theorem q968 : (Jvm.Cond.selects "java/util/ArrayList" ({ cls := "java/util/List", name := "get", desc := "(I)Ljava/lang/Object;" } : Jvm.MethodName) ({ cls := "java/util/ArrayList", name := "get", desc := "(I)Ljava/lang/Object;" } : Jvm.MethodName)) ∈ lw_all := lw_g (lw_at lw_m4 183 rfl) rfl
theorem q969 : (Jvm.Cond.unhidden "java/util/ArrayList" "get" "(I)Ljava/lang/Object;") ∈ lw_tbl := lw_at lw_m4 184 rfl
theorem q970 : (Jvm.Cond.instanceMethod ({ cls := "java/util/ArrayList", name := "get", desc := "(I)Ljava/lang/Object;" } : Jvm.MethodName)) ∈ lw_all := lw_g (lw_at lw_m4 185 rfl) rfl
theorem q971 : (Jvm.Cond.publicMethod ({ cls := "java/util/ArrayList", name := "get", desc := "(I)Ljava/lang/Object;" } : Jvm.MethodName)) ∈ lw_tbl := lw_at lw_m4 186 rfl
theorem q972 : (Jvm.Cond.code ({ cls := "java/util/ArrayList", name := "get", desc := "(I)Ljava/lang/Object;" } : Jvm.MethodName) prog_53_method_20_code (2 : Nat) (Option.some (Jvm.ClassFile.FieldType.object "java/lang/Object"))) ∈ lw_all := lw_g (lw_at lw_m4 187 rfl) rfl
theorem q973 : (Jvm.Cond.methodLink "java/util/ArrayList" (118 : Nat) ({ cls := "java/util/Objects", name := "checkIndex", desc := "(II)I" } : Jvm.MethodName)) ∈ lw_all := lw_g (lw_at lw_m4 188 rfl) rfl
theorem q979 : (Jvm.Cond.methodLink "java/util/ArrayList" (123 : Nat) ({ cls := "java/util/ArrayList", name := "elementData", desc := "(I)Ljava/lang/Object;" } : Jvm.MethodName)) ∈ lw_all := lw_g (lw_at lw_m4 194 rfl) rfl
theorem q980 : (Jvm.Cond.instanceMethod ({ cls := "java/util/ArrayList", name := "elementData", desc := "(I)Ljava/lang/Object;" } : Jvm.MethodName)) ∈ lw_all := lw_g (lw_at lw_m4 195 rfl) rfl
theorem q981 : (Jvm.Cond.selects "java/util/ArrayList" ({ cls := "java/util/ArrayList", name := "elementData", desc := "(I)Ljava/lang/Object;" } : Jvm.MethodName) ({ cls := "java/util/ArrayList", name := "elementData", desc := "(I)Ljava/lang/Object;" } : Jvm.MethodName)) ∈ lw_all := lw_g (lw_at lw_m4 196 rfl) rfl
theorem q982 : (Jvm.Cond.code ({ cls := "java/util/ArrayList", name := "elementData", desc := "(I)Ljava/lang/Object;" } : Jvm.MethodName) prog_53_method_18_code (2 : Nat) (Option.some (Jvm.ClassFile.FieldType.object "java/lang/Object"))) ∈ lw_all := lw_g (lw_at lw_m4 197 rfl) rfl
theorem q1026 : (Jvm.Cond.selects "java/util/ArrayList" ({ cls := "java/util/List", name := "iterator", desc := "()Ljava/util/Iterator;" } : Jvm.MethodName) ({ cls := "java/util/ArrayList", name := "iterator", desc := "()Ljava/util/Iterator;" } : Jvm.MethodName)) ∈ lw_all := lw_g (lw_at lw_m5 1 rfl) rfl
theorem q1027 : (Jvm.Cond.unhidden "java/util/ArrayList" "iterator" "()Ljava/util/Iterator;") ∈ lw_tbl := lw_at lw_m5 2 rfl
theorem q1028 : (Jvm.Cond.instanceMethod ({ cls := "java/util/ArrayList", name := "iterator", desc := "()Ljava/util/Iterator;" } : Jvm.MethodName)) ∈ lw_all := lw_g (lw_at lw_m5 3 rfl) rfl
theorem q1029 : (Jvm.Cond.publicMethod ({ cls := "java/util/ArrayList", name := "iterator", desc := "()Ljava/util/Iterator;" } : Jvm.MethodName)) ∈ lw_tbl := lw_at lw_m5 4 rfl
theorem q1030 : (Jvm.Cond.code ({ cls := "java/util/ArrayList", name := "iterator", desc := "()Ljava/util/Iterator;" } : Jvm.MethodName) prog_53_method_55_code (1 : Nat) (Option.some (Jvm.ClassFile.FieldType.object "java/util/Iterator"))) ∈ lw_all := lw_g (lw_at lw_m5 5 rfl) rfl
theorem q1031 : (Jvm.Cond.classLink "java/util/ArrayList" (267 : Nat) "java/util/ArrayList$Itr") ∈ lw_all := lw_g (lw_at lw_m5 6 rfl) rfl
theorem q1033 : (Jvm.Cond.methodLink "java/util/ArrayList" (269 : Nat) ({ cls := "java/util/ArrayList$Itr", name := "<init>", desc := "(Ljava/util/ArrayList;)V" } : Jvm.MethodName)) ∈ lw_all := lw_g (lw_at lw_m5 8 rfl) rfl
theorem q1312 : (Jvm.Cond.selects "java/util/ArrayList" ({ cls := "java/util/List", name := "addAll", desc := "(Ljava/util/Collection;)Z" } : Jvm.MethodName) ({ cls := "java/util/ArrayList", name := "addAll", desc := "(Ljava/util/Collection;)Z" } : Jvm.MethodName)) ∈ lw_all := lw_g (lw_at lw_m6 47 rfl) rfl
theorem q1313 : (Jvm.Cond.unhidden "java/util/ArrayList" "addAll" "(Ljava/util/Collection;)Z") ∈ lw_tbl := lw_at lw_m6 48 rfl
theorem q1314 : (Jvm.Cond.instanceMethod ({ cls := "java/util/ArrayList", name := "addAll", desc := "(Ljava/util/Collection;)Z" } : Jvm.MethodName)) ∈ lw_all := lw_g (lw_at lw_m6 49 rfl) rfl
theorem q1315 : (Jvm.Cond.publicMethod ({ cls := "java/util/ArrayList", name := "addAll", desc := "(Ljava/util/Collection;)Z" } : Jvm.MethodName)) ∈ lw_tbl := lw_at lw_m6 50 rfl
theorem q1316 : (Jvm.Cond.code ({ cls := "java/util/ArrayList", name := "addAll", desc := "(Ljava/util/Collection;)Z" } : Jvm.MethodName) prog_53_method_41_code (6 : Nat) (Option.some Jvm.ClassFile.FieldType.boolean)) ∈ lw_all := lw_g (lw_at lw_m6 51 rfl) rfl
theorem q1317 : (Jvm.Cond.interfaceEntry "java/util/ArrayList" (42 : Nat)) ∈ lw_tbl := lw_at lw_m6 52 rfl
theorem q1318 : (Jvm.Cond.methodLink "java/util/ArrayList" (42 : Nat) ({ cls := "java/util/Collection", name := "toArray", desc := "()[Ljava/lang/Object;" } : Jvm.MethodName)) ∈ lw_all := lw_g (lw_at lw_m6 53 rfl) rfl
theorem q1321 : (Jvm.Cond.castable "java/util/ArrayList" "java/util/Collection") ∈ lw_tbl := lw_at lw_m6 56 rfl
theorem q1322 : (Jvm.Cond.selects "java/util/ArrayList" ({ cls := "java/util/Collection", name := "toArray", desc := "()[Ljava/lang/Object;" } : Jvm.MethodName) ({ cls := "java/util/ArrayList", name := "toArray", desc := "()[Ljava/lang/Object;" } : Jvm.MethodName)) ∈ lw_all := lw_g (lw_at lw_m6 57 rfl) rfl
theorem q1323 : (Jvm.Cond.unhidden "java/util/ArrayList" "toArray" "()[Ljava/lang/Object;") ∈ lw_tbl := lw_at lw_m6 58 rfl
theorem q1324 : (Jvm.Cond.instanceMethod ({ cls := "java/util/ArrayList", name := "toArray", desc := "()[Ljava/lang/Object;" } : Jvm.MethodName)) ∈ lw_all := lw_g (lw_at lw_m6 59 rfl) rfl
theorem q1325 : (Jvm.Cond.publicMethod ({ cls := "java/util/ArrayList", name := "toArray", desc := "()[Ljava/lang/Object;" } : Jvm.MethodName)) ∈ lw_tbl := lw_at lw_m6 60 rfl
theorem q1326 : (Jvm.Cond.code ({ cls := "java/util/ArrayList", name := "toArray", desc := "()[Ljava/lang/Object;" } : Jvm.MethodName) prog_53_method_16_code (1 : Nat) (Option.some (Jvm.ClassFile.FieldType.array (Jvm.ClassFile.FieldType.object "java/lang/Object")))) ∈ lw_all := lw_g (lw_at lw_m6 61 rfl) rfl
theorem q1334 : (Jvm.Cond.methodLink "java/util/ArrayList" (112 : Nat) ({ cls := "java/lang/System", name := "arraycopy", desc := "(Ljava/lang/Object;ILjava/lang/Object;II)V" } : Jvm.MethodName)) ∈ lw_all := lw_g (lw_at lw_m6 69 rfl) rfl
theorem q1352 : (Jvm.Cond.selects "java/util/ArrayList" ({ cls := "java/util/List", name := "set", desc := "(ILjava/lang/Object;)Ljava/lang/Object;" } : Jvm.MethodName) ({ cls := "java/util/ArrayList", name := "set", desc := "(ILjava/lang/Object;)Ljava/lang/Object;" } : Jvm.MethodName)) ∈ lw_all := lw_g (lw_at lw_m6 87 rfl) rfl
theorem q1353 : (Jvm.Cond.unhidden "java/util/ArrayList" "set" "(ILjava/lang/Object;)Ljava/lang/Object;") ∈ lw_tbl := lw_at lw_m6 88 rfl
theorem q1354 : (Jvm.Cond.instanceMethod ({ cls := "java/util/ArrayList", name := "set", desc := "(ILjava/lang/Object;)Ljava/lang/Object;" } : Jvm.MethodName)) ∈ lw_all := lw_g (lw_at lw_m6 89 rfl) rfl
theorem q1355 : (Jvm.Cond.publicMethod ({ cls := "java/util/ArrayList", name := "set", desc := "(ILjava/lang/Object;)Ljava/lang/Object;" } : Jvm.MethodName)) ∈ lw_tbl := lw_at lw_m6 90 rfl
theorem q1356 : (Jvm.Cond.code ({ cls := "java/util/ArrayList", name := "set", desc := "(ILjava/lang/Object;)Ljava/lang/Object;" } : Jvm.MethodName) prog_53_method_23_code (4 : Nat) (Option.some (Jvm.ClassFile.FieldType.object "java/lang/Object"))) ∈ lw_all := lw_g (lw_at lw_m6 91 rfl) rfl
theorem q1447 : (Jvm.Cond.selects "java/util/ArrayList" ({ cls := "java/util/AbstractCollection", name := "size", desc := "()I" } : Jvm.MethodName) ({ cls := "java/util/ArrayList", name := "size", desc := "()I" } : Jvm.MethodName)) ∈ lw_all := lw_g (lw_at lw_m6 182 rfl) rfl
theorem q2112 : (Jvm.Cond.selects "java/util/ArrayList" ({ cls := "java/util/List", name := "add", desc := "(ILjava/lang/Object;)V" } : Jvm.MethodName) ({ cls := "java/util/ArrayList", name := "add", desc := "(ILjava/lang/Object;)V" } : Jvm.MethodName)) ∈ lw_all := lw_g (lw_at lw_m9 127 rfl) rfl
theorem q2113 : (Jvm.Cond.unhidden "java/util/ArrayList" "add" "(ILjava/lang/Object;)V") ∈ lw_tbl := lw_at lw_m9 128 rfl
theorem q2114 : (Jvm.Cond.instanceMethod ({ cls := "java/util/ArrayList", name := "add", desc := "(ILjava/lang/Object;)V" } : Jvm.MethodName)) ∈ lw_all := lw_g (lw_at lw_m9 129 rfl) rfl
theorem q2115 : (Jvm.Cond.publicMethod ({ cls := "java/util/ArrayList", name := "add", desc := "(ILjava/lang/Object;)V" } : Jvm.MethodName)) ∈ lw_tbl := lw_at lw_m9 130 rfl
theorem q2116 : (Jvm.Cond.code ({ cls := "java/util/ArrayList", name := "add", desc := "(ILjava/lang/Object;)V" } : Jvm.MethodName) prog_53_method_26_code (5 : Nat) (Option.none : Option Jvm.ClassFile.FieldType)) ∈ lw_all := lw_g (lw_at lw_m9 131 rfl) rfl
theorem q2117 : (Jvm.Cond.methodLink "java/util/ArrayList" (135 : Nat) ({ cls := "java/util/ArrayList", name := "rangeCheckForAdd", desc := "(I)V" } : Jvm.MethodName)) ∈ lw_all := lw_g (lw_at lw_m9 132 rfl) rfl
theorem q2118 : (Jvm.Cond.privateMethod ({ cls := "java/util/ArrayList", name := "rangeCheckForAdd", desc := "(I)V" } : Jvm.MethodName)) ∈ lw_tbl := lw_at lw_m9 133 rfl
theorem q2119 : (Jvm.Cond.instanceMethod ({ cls := "java/util/ArrayList", name := "rangeCheckForAdd", desc := "(I)V" } : Jvm.MethodName)) ∈ lw_all := lw_g (lw_at lw_m9 134 rfl) rfl
theorem q2120 : (Jvm.Cond.code ({ cls := "java/util/ArrayList", name := "rangeCheckForAdd", desc := "(I)V" } : Jvm.MethodName) prog_53_method_45_code (2 : Nat) (Option.none : Option Jvm.ClassFile.FieldType)) ∈ lw_all := lw_g (lw_at lw_m9 135 rfl) rfl
theorem q2121 : (Jvm.Cond.classLink "java/util/ArrayList" (187 : Nat) "java/lang/IndexOutOfBoundsException") ∈ lw_all := lw_g (lw_at lw_m9 136 rfl) rfl
theorem q2122 : (Jvm.Cond.methodLink "java/util/ArrayList" (198 : Nat) ({ cls := "java/util/ArrayList", name := "outOfBoundsMsg", desc := "(I)Ljava/lang/String;" } : Jvm.MethodName)) ∈ lw_all := lw_g (lw_at lw_m9 137 rfl) rfl
theorem q2123 : (Jvm.Cond.privateMethod ({ cls := "java/util/ArrayList", name := "outOfBoundsMsg", desc := "(I)Ljava/lang/String;" } : Jvm.MethodName)) ∈ lw_tbl := lw_at lw_m9 138 rfl
theorem q2124 : (Jvm.Cond.instanceMethod ({ cls := "java/util/ArrayList", name := "outOfBoundsMsg", desc := "(I)Ljava/lang/String;" } : Jvm.MethodName)) ∈ lw_all := lw_g (lw_at lw_m9 139 rfl) rfl
theorem q2125 : (Jvm.Cond.code ({ cls := "java/util/ArrayList", name := "outOfBoundsMsg", desc := "(I)Ljava/lang/String;" } : Jvm.MethodName) prog_53_method_46_code (2 : Nat) (Option.some (Jvm.ClassFile.FieldType.object "java/lang/String"))) ∈ lw_all := lw_g (lw_at lw_m9 140 rfl) rfl
theorem q2126 : (Jvm.Cond.classLink "java/util/ArrayList" (20 : Nat) "java/lang/StringBuilder") ∈ lw_all := lw_g (lw_at lw_m9 141 rfl) rfl
theorem q2127 : (Jvm.Cond.methodLink "java/util/ArrayList" (22 : Nat) ({ cls := "java/lang/StringBuilder", name := "<init>", desc := "()V" } : Jvm.MethodName)) ∈ lw_all := lw_g (lw_at lw_m9 142 rfl) rfl
theorem q2128 : (Jvm.Cond.stringRef "java/util/ArrayList" (201 : Nat) "Index: ") ∈ lw_tbl := lw_at lw_m9 143 rfl
theorem q2129 : (Jvm.Cond.methodLink "java/util/ArrayList" (25 : Nat) ({ cls := "java/lang/StringBuilder", name := "append", desc := "(Ljava/lang/String;)Ljava/lang/StringBuilder;" } : Jvm.MethodName)) ∈ lw_all := lw_g (lw_at lw_m9 144 rfl) rfl
theorem q2130 : (Jvm.Cond.methodLink "java/util/ArrayList" (29 : Nat) ({ cls := "java/lang/StringBuilder", name := "append", desc := "(I)Ljava/lang/StringBuilder;" } : Jvm.MethodName)) ∈ lw_all := lw_g (lw_at lw_m9 145 rfl) rfl
theorem q2131 : (Jvm.Cond.stringRef "java/util/ArrayList" (203 : Nat) ", Size: ") ∈ lw_tbl := lw_at lw_m9 146 rfl
theorem q2132 : (Jvm.Cond.methodLink "java/util/ArrayList" (32 : Nat) ({ cls := "java/lang/StringBuilder", name := "toString", desc := "()Ljava/lang/String;" } : Jvm.MethodName)) ∈ lw_all := lw_g (lw_at lw_m9 147 rfl) rfl
theorem q2133 : (Jvm.Cond.methodLink "java/util/ArrayList" (193 : Nat) ({ cls := "java/lang/IndexOutOfBoundsException", name := "<init>", desc := "(Ljava/lang/String;)V" } : Jvm.MethodName)) ∈ lw_all := lw_g (lw_at lw_m9 148 rfl) rfl
theorem q2791 : (Jvm.Cond.castable "java/util/ArrayList" "java/lang/Object") ∈ lw_tbl := lw_at lw_m12 86 rfl
theorem q70 : (Jvm.Cond.initialized "Taxmaze$Dated") ∈ lw_all := lw_g (lw_at lw_m1 5 rfl) rfl
theorem q163 : (Jvm.Cond.instantiable "Taxmaze$Dated" (2 : Nat)) ∈ lw_all := lw_g (lw_at lw_m1 98 rfl) rfl
theorem q183 : (Jvm.Cond.instanceMethod ({ cls := "Taxmaze$Dated", name := "<init>", desc := "(Ljava/lang/Object;)V" } : Jvm.MethodName)) ∈ lw_all := lw_g (lw_at lw_m1 118 rfl) rfl
theorem q184 : (Jvm.Cond.code ({ cls := "Taxmaze$Dated", name := "<init>", desc := "(Ljava/lang/Object;)V" } : Jvm.MethodName) prog_9_method_1_code (2 : Nat) (Option.none : Option Jvm.ClassFile.FieldType)) ∈ lw_all := lw_g (lw_at lw_m1 119 rfl) rfl
theorem q185 : (Jvm.Cond.methodLink "Taxmaze$Dated" (1 : Nat) ({ cls := "java/lang/Object", name := "<init>", desc := "()V" } : Jvm.MethodName)) ∈ lw_all := lw_g (lw_at lw_m1 120 rfl) rfl
theorem q186 : (Jvm.Cond.classLink "Taxmaze$Dated" (7 : Nat) "java/util/TreeMap") ∈ lw_all := lw_g (lw_at lw_m1 121 rfl) rfl
theorem q188 : (Jvm.Cond.methodLink "Taxmaze$Dated" (9 : Nat) ({ cls := "java/util/TreeMap", name := "<init>", desc := "()V" } : Jvm.MethodName)) ∈ lw_all := lw_g (lw_at lw_m1 123 rfl) rfl
theorem q218 : (Jvm.Cond.fieldLink "Taxmaze$Dated" (10 : Nat) "Taxmaze$Dated" "told" "Ljava/util/TreeMap;") ∈ lw_all := lw_g (lw_at lw_m1 153 rfl) rfl
theorem q219 : (Jvm.Cond.fieldLink "Taxmaze$Dated" (16 : Nat) "Taxmaze$Dated" "first" "Ljava/lang/Object;") ∈ lw_all := lw_g (lw_at lw_m1 154 rfl) rfl
theorem q220 : (Jvm.Cond.laysFinal "Taxmaze$Dated" "Taxmaze$Dated" "told" "Ljava/util/TreeMap;") ∈ lw_all := lw_g (lw_at lw_m1 155 rfl) rfl
theorem q221 : (Jvm.Cond.soleField "Taxmaze$Dated" "told") ∈ lw_all := lw_g (lw_at lw_m1 156 rfl) rfl
theorem q222 : (Jvm.Cond.laysFinal "Taxmaze$Dated" "Taxmaze$Dated" "first" "Ljava/lang/Object;") ∈ lw_all := lw_g (lw_at lw_m1 157 rfl) rfl
theorem q223 : (Jvm.Cond.soleField "Taxmaze$Dated" "first") ∈ lw_all := lw_g (lw_at lw_m1 158 rfl) rfl
theorem q224 : (Jvm.Cond.superclass "Taxmaze$Dated" "java/lang/Object") ∈ lw_all := lw_g (lw_at lw_m1 159 rfl) rfl
theorem q271 : (Jvm.Cond.selects "Taxmaze$Dated" ({ cls := "java/lang/Object", name := "getClass", desc := "()Ljava/lang/Class;" } : Jvm.MethodName) ({ cls := "java/lang/Object", name := "getClass", desc := "()Ljava/lang/Class;" } : Jvm.MethodName)) ∈ lw_all := lw_g (lw_at lw_m1 206 rfl) rfl
theorem q1488 : (Jvm.Cond.instanceMethod ({ cls := "Taxmaze$Dated", name := "tell", desc := "(ILjava/lang/Object;)V" } : Jvm.MethodName)) ∈ lw_all := lw_g (lw_at lw_m6 223 rfl) rfl
theorem q1489 : (Jvm.Cond.selects "Taxmaze$Dated" ({ cls := "Taxmaze$Dated", name := "tell", desc := "(ILjava/lang/Object;)V" } : Jvm.MethodName) ({ cls := "Taxmaze$Dated", name := "tell", desc := "(ILjava/lang/Object;)V" } : Jvm.MethodName)) ∈ lw_all := lw_g (lw_at lw_m6 224 rfl) rfl
theorem q1490 : (Jvm.Cond.code ({ cls := "Taxmaze$Dated", name := "tell", desc := "(ILjava/lang/Object;)V" } : Jvm.MethodName) prog_9_method_2_code (4 : Nat) (Option.none : Option Jvm.ClassFile.FieldType)) ∈ lw_all := lw_g (lw_at lw_m6 225 rfl) rfl
theorem q1491 : (Jvm.Cond.methodLink "Taxmaze$Dated" (20 : Nat) ({ cls := "java/lang/Integer", name := "valueOf", desc := "(I)Ljava/lang/Integer;" } : Jvm.MethodName)) ∈ lw_all := lw_g (lw_at lw_m6 226 rfl) rfl
theorem q1492 : (Jvm.Cond.methodLink "Taxmaze$Dated" (26 : Nat) ({ cls := "java/util/TreeMap", name := "put", desc := "(Ljava/lang/Object;Ljava/lang/Object;)Ljava/lang/Object;" } : Jvm.MethodName)) ∈ lw_all := lw_g (lw_at lw_m6 227 rfl) rfl
theorem q1503 : (Jvm.Cond.instanceMethod ({ cls := "Taxmaze$Dated", name := "from", desc := "(I)Ljava/lang/Object;" } : Jvm.MethodName)) ∈ lw_all := lw_g (lw_at lw_m6 238 rfl) rfl
theorem q1504 : (Jvm.Cond.selects "Taxmaze$Dated" ({ cls := "Taxmaze$Dated", name := "from", desc := "(I)Ljava/lang/Object;" } : Jvm.MethodName) ({ cls := "Taxmaze$Dated", name := "from", desc := "(I)Ljava/lang/Object;" } : Jvm.MethodName)) ∈ lw_all := lw_g (lw_at lw_m6 239 rfl) rfl
theorem q1505 : (Jvm.Cond.code ({ cls := "Taxmaze$Dated", name := "from", desc := "(I)Ljava/lang/Object;" } : Jvm.MethodName) prog_9_method_4_code (2 : Nat) (Option.some (Jvm.ClassFile.FieldType.object "java/lang/Object"))) ∈ lw_all := lw_g (lw_at lw_m7 0 rfl) rfl
theorem q1506 : (Jvm.Cond.methodLink "Taxmaze$Dated" (34 : Nat) ({ cls := "java/util/TreeMap", name := "get", desc := "(Ljava/lang/Object;)Ljava/lang/Object;" } : Jvm.MethodName)) ∈ lw_all := lw_g (lw_at lw_m7 1 rfl) rfl
theorem q1551 : (Jvm.Cond.instanceMethod ({ cls := "Taxmaze$Dated", name := "at", desc := "(I)Ljava/lang/Object;" } : Jvm.MethodName)) ∈ lw_all := lw_g (lw_at lw_m7 46 rfl) rfl
theorem q1552 : (Jvm.Cond.selects "Taxmaze$Dated" ({ cls := "Taxmaze$Dated", name := "at", desc := "(I)Ljava/lang/Object;" } : Jvm.MethodName) ({ cls := "Taxmaze$Dated", name := "at", desc := "(I)Ljava/lang/Object;" } : Jvm.MethodName)) ∈ lw_all := lw_g (lw_at lw_m7 47 rfl) rfl
theorem q1553 : (Jvm.Cond.code ({ cls := "Taxmaze$Dated", name := "at", desc := "(I)Ljava/lang/Object;" } : Jvm.MethodName) prog_9_method_3_code (3 : Nat) (Option.some (Jvm.ClassFile.FieldType.object "java/lang/Object"))) ∈ lw_all := lw_g (lw_at lw_m7 48 rfl) rfl
theorem q1554 : (Jvm.Cond.methodLink "Taxmaze$Dated" (30 : Nat) ({ cls := "java/util/TreeMap", name := "floorKey", desc := "(Ljava/lang/Object;)Ljava/lang/Object;" } : Jvm.MethodName)) ∈ lw_all := lw_g (lw_at lw_m7 49 rfl) rfl
theorem q1565 : (Jvm.Cond.classLink "Taxmaze$Dated" (21 : Nat) "java/lang/Integer") ∈ lw_all := lw_g (lw_at lw_m7 60 rfl) rfl
theorem q2792 : (Jvm.Cond.castable "Taxmaze$Dated" "java/lang/Object") ∈ lw_tbl := lw_at lw_m12 87 rfl
theorem q71 : (Jvm.Cond.initialized "java/lang/Record") ∈ lw_all := lw_g (lw_at lw_m1 6 rfl) rfl
theorem q170 : (Jvm.Cond.instanceMethod ({ cls := "java/lang/Record", name := "<init>", desc := "()V" } : Jvm.MethodName)) ∈ lw_all := lw_g (lw_at lw_m1 105 rfl) rfl
theorem q171 : (Jvm.Cond.code ({ cls := "java/lang/Record", name := "<init>", desc := "()V" } : Jvm.MethodName) prog_38_method_1_code (1 : Nat) (Option.none : Option Jvm.ClassFile.FieldType)) ∈ lw_all := lw_g (lw_at lw_m1 106 rfl) rfl
theorem q172 : (Jvm.Cond.methodLink "java/lang/Record" (1 : Nat) ({ cls := "java/lang/Object", name := "<init>", desc := "()V" } : Jvm.MethodName)) ∈ lw_all := lw_g (lw_at lw_m1 107 rfl) rfl
theorem q72 : (Jvm.Cond.initialized "Taxmaze$Contribution") ∈ lw_all := lw_g (lw_at lw_m1 7 rfl) rfl
theorem q165 : (Jvm.Cond.instantiable "Taxmaze$Contribution" (2 : Nat)) ∈ lw_all := lw_g (lw_at lw_m1 100 rfl) rfl
theorem q167 : (Jvm.Cond.instanceMethod ({ cls := "Taxmaze$Contribution", name := "<init>", desc := "(II)V" } : Jvm.MethodName)) ∈ lw_all := lw_g (lw_at lw_m1 102 rfl) rfl
theorem q168 : (Jvm.Cond.code ({ cls := "Taxmaze$Contribution", name := "<init>", desc := "(II)V" } : Jvm.MethodName) prog_8_method_1_code (3 : Nat) (Option.none : Option Jvm.ClassFile.FieldType)) ∈ lw_all := lw_g (lw_at lw_m1 103 rfl) rfl
theorem q169 : (Jvm.Cond.methodLink "Taxmaze$Contribution" (1 : Nat) ({ cls := "java/lang/Record", name := "<init>", desc := "()V" } : Jvm.MethodName)) ∈ lw_all := lw_g (lw_at lw_m1 104 rfl) rfl
theorem q173 : (Jvm.Cond.fieldLink "Taxmaze$Contribution" (7 : Nat) "Taxmaze$Contribution" "thousandths" "I") ∈ lw_all := lw_g (lw_at lw_m1 108 rfl) rfl
theorem q174 : (Jvm.Cond.fieldLink "Taxmaze$Contribution" (13 : Nat) "Taxmaze$Contribution" "ceiling" "I") ∈ lw_all := lw_g (lw_at lw_m1 109 rfl) rfl
theorem q175 : (Jvm.Cond.laysFinal "Taxmaze$Contribution" "Taxmaze$Contribution" "thousandths" "I") ∈ lw_all := lw_g (lw_at lw_m1 110 rfl) rfl
theorem q176 : (Jvm.Cond.soleField "Taxmaze$Contribution" "thousandths") ∈ lw_all := lw_g (lw_at lw_m1 111 rfl) rfl
theorem q177 : (Jvm.Cond.laysFinal "Taxmaze$Contribution" "Taxmaze$Contribution" "ceiling" "I") ∈ lw_all := lw_g (lw_at lw_m1 112 rfl) rfl
theorem q178 : (Jvm.Cond.soleField "Taxmaze$Contribution" "ceiling") ∈ lw_all := lw_g (lw_at lw_m1 113 rfl) rfl
theorem q179 : (Jvm.Cond.superclass "Taxmaze$Contribution" "java/lang/Record") ∈ lw_all := lw_g (lw_at lw_m1 114 rfl) rfl
theorem q270 : (Jvm.Cond.selects "Taxmaze$Contribution" ({ cls := "java/lang/Object", name := "getClass", desc := "()Ljava/lang/Class;" } : Jvm.MethodName) ({ cls := "java/lang/Object", name := "getClass", desc := "()Ljava/lang/Class;" } : Jvm.MethodName)) ∈ lw_all := lw_g (lw_at lw_m1 205 rfl) rfl
theorem q1912 : (Jvm.Cond.instanceMethod ({ cls := "Taxmaze$Contribution", name := "ceiling", desc := "()I" } : Jvm.MethodName)) ∈ lw_all := lw_g (lw_at lw_m8 167 rfl) rfl
theorem q1913 : (Jvm.Cond.selects "Taxmaze$Contribution" ({ cls := "Taxmaze$Contribution", name := "ceiling", desc := "()I" } : Jvm.MethodName) ({ cls := "Taxmaze$Contribution", name := "ceiling", desc := "()I" } : Jvm.MethodName)) ∈ lw_all := lw_g (lw_at lw_m8 168 rfl) rfl
theorem q1914 : (Jvm.Cond.code ({ cls := "Taxmaze$Contribution", name := "ceiling", desc := "()I" } : Jvm.MethodName) prog_8_method_6_code (1 : Nat) (Option.some Jvm.ClassFile.FieldType.int)) ∈ lw_all := lw_g (lw_at lw_m8 169 rfl) rfl
theorem q1918 : (Jvm.Cond.instanceMethod ({ cls := "Taxmaze$Contribution", name := "thousandths", desc := "()I" } : Jvm.MethodName)) ∈ lw_all := lw_g (lw_at lw_m8 173 rfl) rfl
theorem q1919 : (Jvm.Cond.selects "Taxmaze$Contribution" ({ cls := "Taxmaze$Contribution", name := "thousandths", desc := "()I" } : Jvm.MethodName) ({ cls := "Taxmaze$Contribution", name := "thousandths", desc := "()I" } : Jvm.MethodName)) ∈ lw_all := lw_g (lw_at lw_m8 174 rfl) rfl
theorem q1920 : (Jvm.Cond.code ({ cls := "Taxmaze$Contribution", name := "thousandths", desc := "()I" } : Jvm.MethodName) prog_8_method_5_code (1 : Nat) (Option.some Jvm.ClassFile.FieldType.int)) ∈ lw_all := lw_g (lw_at lw_m8 175 rfl) rfl
theorem q2793 : (Jvm.Cond.castable "Taxmaze$Contribution" "java/lang/Object") ∈ lw_tbl := lw_at lw_m12 88 rfl
theorem q73 : (Jvm.Cond.initialized "java/util/AbstractMap") ∈ lw_all := lw_g (lw_at lw_m1 8 rfl) rfl
theorem q192 : (Jvm.Cond.instanceMethod ({ cls := "java/util/AbstractMap", name := "<init>", desc := "()V" } : Jvm.MethodName)) ∈ lw_all := lw_g (lw_at lw_m1 127 rfl) rfl
theorem q193 : (Jvm.Cond.code ({ cls := "java/util/AbstractMap", name := "<init>", desc := "()V" } : Jvm.MethodName) prog_51_method_1_code (1 : Nat) (Option.none : Option Jvm.ClassFile.FieldType)) ∈ lw_all := lw_g (lw_at lw_m1 128 rfl) rfl
theorem q194 : (Jvm.Cond.methodLink "java/util/AbstractMap" (1 : Nat) ({ cls := "java/lang/Object", name := "<init>", desc := "()V" } : Jvm.MethodName)) ∈ lw_all := lw_g (lw_at lw_m1 129 rfl) rfl
theorem q214 : (Jvm.Cond.soleField "java/util/AbstractMap" "keySet") ∈ lw_all := lw_g (lw_at lw_m1 149 rfl) rfl
theorem q216 : (Jvm.Cond.soleField "java/util/AbstractMap" "values") ∈ lw_all := lw_g (lw_at lw_m1 151 rfl) rfl
theorem q74 : (Jvm.Cond.initialized "java/util/TreeMap") ∈ lw_all := lw_g (lw_at lw_m1 9 rfl) rfl
theorem q187 : (Jvm.Cond.instantiable "java/util/TreeMap" (9 : Nat)) ∈ lw_all := lw_g (lw_at lw_m1 122 rfl) rfl
theorem q189 : (Jvm.Cond.instanceMethod ({ cls := "java/util/TreeMap", name := "<init>", desc := "()V" } : Jvm.MethodName)) ∈ lw_all := lw_g (lw_at lw_m1 124 rfl) rfl
theorem q190 : (Jvm.Cond.code ({ cls := "java/util/TreeMap", name := "<init>", desc := "()V" } : Jvm.MethodName) prog_70_method_1_code (1 : Nat) (Option.none : Option Jvm.ClassFile.FieldType)) ∈ lw_all := lw_g (lw_at lw_m1 125 rfl) rfl
theorem q191 : (Jvm.Cond.methodLink "java/util/TreeMap" (1 : Nat) ({ cls := "java/util/AbstractMap", name := "<init>", desc := "()V" } : Jvm.MethodName)) ∈ lw_all := lw_g (lw_at lw_m1 126 rfl) rfl
theorem q195 : (Jvm.Cond.fieldLink "java/util/TreeMap" (16 : Nat) "java/util/TreeMap" "comparator" "Ljava/util/Comparator;") ∈ lw_all := lw_g (lw_at lw_m1 130 rfl) rfl
theorem q196 : (Jvm.Cond.fieldLink "java/util/TreeMap" (101 : Nat) "java/util/TreeMap" "root" "Ljava/util/TreeMap$Entry;") ∈ lw_all := lw_g (lw_at lw_m1 131 rfl) rfl
theorem q197 : (Jvm.Cond.fieldLink "java/util/TreeMap" (7 : Nat) "java/util/TreeMap" "size" "I") ∈ lw_all := lw_g (lw_at lw_m1 132 rfl) rfl
theorem q198 : (Jvm.Cond.fieldLink "java/util/TreeMap" (13 : Nat) "java/util/TreeMap" "modCount" "I") ∈ lw_all := lw_g (lw_at lw_m1 133 rfl) rfl
theorem q199 : (Jvm.Cond.laysFinal "java/util/TreeMap" "java/util/TreeMap" "comparator" "Ljava/util/Comparator;") ∈ lw_all := lw_g (lw_at lw_m1 134 rfl) rfl
theorem q200 : (Jvm.Cond.soleField "java/util/TreeMap" "comparator") ∈ lw_all := lw_g (lw_at lw_m1 135 rfl) rfl
theorem q201 : (Jvm.Cond.lays "java/util/TreeMap" "java/util/TreeMap" "root" "Ljava/util/TreeMap$Entry;") ∈ lw_all := lw_g (lw_at lw_m1 136 rfl) rfl
theorem q202 : (Jvm.Cond.soleField "java/util/TreeMap" "root") ∈ lw_all := lw_g (lw_at lw_m1 137 rfl) rfl
theorem q203 : (Jvm.Cond.lays "java/util/TreeMap" "java/util/TreeMap" "size" "I") ∈ lw_all := lw_g (lw_at lw_m1 138 rfl) rfl
theorem q204 : (Jvm.Cond.soleField "java/util/TreeMap" "size") ∈ lw_all := lw_g (lw_at lw_m1 139 rfl) rfl
theorem q205 : (Jvm.Cond.lays "java/util/TreeMap" "java/util/TreeMap" "modCount" "I") ∈ lw_all := lw_g (lw_at lw_m1 140 rfl) rfl
theorem q206 : (Jvm.Cond.soleField "java/util/TreeMap" "modCount") ∈ lw_all := lw_g (lw_at lw_m1 141 rfl) rfl
theorem q207 : (Jvm.Cond.lays "java/util/TreeMap" "java/util/TreeMap" "entrySet" "Ljava/util/TreeMap$EntrySet;") ∈ lw_all := lw_g (lw_at lw_m1 142 rfl) rfl
theorem q208 : (Jvm.Cond.soleField "java/util/TreeMap" "entrySet") ∈ lw_all := lw_g (lw_at lw_m1 143 rfl) rfl
theorem q209 : (Jvm.Cond.lays "java/util/TreeMap" "java/util/TreeMap" "navigableKeySet" "Ljava/util/TreeMap$KeySet;") ∈ lw_all := lw_g (lw_at lw_m1 144 rfl) rfl
theorem q210 : (Jvm.Cond.soleField "java/util/TreeMap" "navigableKeySet") ∈ lw_all := lw_g (lw_at lw_m1 145 rfl) rfl
theorem q211 : (Jvm.Cond.lays "java/util/TreeMap" "java/util/TreeMap" "descendingMap" "Ljava/util/NavigableMap;") ∈ lw_all := lw_g (lw_at lw_m1 146 rfl) rfl
theorem q212 : (Jvm.Cond.soleField "java/util/TreeMap" "descendingMap") ∈ lw_all := lw_g (lw_at lw_m1 147 rfl) rfl
theorem q213 : (Jvm.Cond.lays "java/util/TreeMap" "java/util/AbstractMap" "keySet" "Ljava/util/Set;") ∈ lw_all := lw_g (lw_at lw_m1 148 rfl) rfl
theorem q215 : (Jvm.Cond.lays "java/util/TreeMap" "java/util/AbstractMap" "values" "Ljava/util/Collection;") ∈ lw_all := lw_g (lw_at lw_m1 150 rfl) rfl
theorem q217 : (Jvm.Cond.superclass "java/util/TreeMap" "java/util/AbstractMap") ∈ lw_all := lw_g (lw_at lw_m1 152 rfl) rfl
theorem q292 : (Jvm.Cond.selects "java/util/TreeMap" ({ cls := "java/lang/Object", name := "getClass", desc := "()Ljava/lang/Class;" } : Jvm.MethodName) ({ cls := "java/lang/Object", name := "getClass", desc := "()Ljava/lang/Class;" } : Jvm.MethodName)) ∈ lw_all := lw_g (lw_at lw_m1 227 rfl) rfl
theorem q579 : (Jvm.Cond.instanceMethod ({ cls := "java/util/TreeMap", name := "put", desc := "(Ljava/lang/Object;Ljava/lang/Object;)Ljava/lang/Object;" } : Jvm.MethodName)) ∈ lw_all := lw_g (lw_at lw_m3 34 rfl) rfl
theorem q580 : (Jvm.Cond.selects "java/util/TreeMap" ({ cls := "java/util/TreeMap", name := "put", desc := "(Ljava/lang/Object;Ljava/lang/Object;)Ljava/lang/Object;" } : Jvm.MethodName) ({ cls := "java/util/TreeMap", name := "put", desc := "(Ljava/lang/Object;Ljava/lang/Object;)Ljava/lang/Object;" } : Jvm.MethodName)) ∈ lw_all := lw_g (lw_at lw_m3 35 rfl) rfl
theorem q581 : (Jvm.Cond.code ({ cls := "java/util/TreeMap", name := "put", desc := "(Ljava/lang/Object;Ljava/lang/Object;)Ljava/lang/Object;" } : Jvm.MethodName) prog_70_method_21_code (3 : Nat) (Option.some (Jvm.ClassFile.FieldType.object "java/lang/Object"))) ∈ lw_all := lw_g (lw_at lw_m3 36 rfl) rfl
theorem q582 : (Jvm.Cond.methodLink "java/util/TreeMap" (127 : Nat) ({ cls := "java/util/TreeMap", name := "put", desc := "(Ljava/lang/Object;Ljava/lang/Object;Z)Ljava/lang/Object;" } : Jvm.MethodName)) ∈ lw_all := lw_g (lw_at lw_m3 37 rfl) rfl
theorem q583 : (Jvm.Cond.privateMethod ({ cls := "java/util/TreeMap", name := "put", desc := "(Ljava/lang/Object;Ljava/lang/Object;Z)Ljava/lang/Object;" } : Jvm.MethodName)) ∈ lw_tbl := lw_at lw_m3 38 rfl
theorem q584 : (Jvm.Cond.instanceMethod ({ cls := "java/util/TreeMap", name := "put", desc := "(Ljava/lang/Object;Ljava/lang/Object;Z)Ljava/lang/Object;" } : Jvm.MethodName)) ∈ lw_all := lw_g (lw_at lw_m3 39 rfl) rfl
theorem q585 : (Jvm.Cond.code ({ cls := "java/util/TreeMap", name := "put", desc := "(Ljava/lang/Object;Ljava/lang/Object;Z)Ljava/lang/Object;" } : Jvm.MethodName) prog_70_method_31_code (10 : Nat) (Option.some (Jvm.ClassFile.FieldType.object "java/lang/Object"))) ∈ lw_all := lw_g (lw_at lw_m3 40 rfl) rfl
theorem q586 : (Jvm.Cond.methodLink "java/util/TreeMap" (135 : Nat) ({ cls := "java/util/TreeMap", name := "addEntryToEmptyMap", desc := "(Ljava/lang/Object;Ljava/lang/Object;)V" } : Jvm.MethodName)) ∈ lw_all := lw_g (lw_at lw_m3 41 rfl) rfl
theorem q587 : (Jvm.Cond.privateMethod ({ cls := "java/util/TreeMap", name := "addEntryToEmptyMap", desc := "(Ljava/lang/Object;Ljava/lang/Object;)V" } : Jvm.MethodName)) ∈ lw_tbl := lw_at lw_m3 42 rfl
theorem q588 : (Jvm.Cond.instanceMethod ({ cls := "java/util/TreeMap", name := "addEntryToEmptyMap", desc := "(Ljava/lang/Object;Ljava/lang/Object;)V" } : Jvm.MethodName)) ∈ lw_all := lw_g (lw_at lw_m3 43 rfl) rfl
theorem q589 : (Jvm.Cond.code ({ cls := "java/util/TreeMap", name := "addEntryToEmptyMap", desc := "(Ljava/lang/Object;Ljava/lang/Object;)V" } : Jvm.MethodName) prog_70_method_30_code (3 : Nat) (Option.none : Option Jvm.ClassFile.FieldType)) ∈ lw_all := lw_g (lw_at lw_m3 44 rfl) rfl
theorem q590 : (Jvm.Cond.methodLink "java/util/TreeMap" (123 : Nat) ({ cls := "java/util/TreeMap", name := "compare", desc := "(Ljava/lang/Object;Ljava/lang/Object;)I" } : Jvm.MethodName)) ∈ lw_all := lw_g (lw_at lw_m3 45 rfl) rfl
theorem q591 : (Jvm.Cond.instanceMethod ({ cls := "java/util/TreeMap", name := "compare", desc := "(Ljava/lang/Object;Ljava/lang/Object;)I" } : Jvm.MethodName)) ∈ lw_all := lw_g (lw_at lw_m3 46 rfl) rfl
theorem q592 : (Jvm.Cond.selects "java/util/TreeMap" ({ cls := "java/util/TreeMap", name := "compare", desc := "(Ljava/lang/Object;Ljava/lang/Object;)I" } : Jvm.MethodName) ({ cls := "java/util/TreeMap", name := "compare", desc := "(Ljava/lang/Object;Ljava/lang/Object;)I" } : Jvm.MethodName)) ∈ lw_all := lw_g (lw_at lw_m3 47 rfl) rfl
theorem q593 : (Jvm.Cond.code ({ cls := "java/util/TreeMap", name := "compare", desc := "(Ljava/lang/Object;Ljava/lang/Object;)I" } : Jvm.MethodName) prog_70_method_67_code (3 : Nat) (Option.some Jvm.ClassFile.FieldType.int)) ∈ lw_all := lw_g (lw_at lw_m3 48 rfl) rfl
theorem q594 : (Jvm.Cond.classLink "java/util/TreeMap" (99 : Nat) "java/lang/Comparable") ∈ lw_all := lw_g (lw_at lw_m3 49 rfl) rfl
theorem q595 : (Jvm.Cond.interfaceEntry "java/util/TreeMap" (107 : Nat)) ∈ lw_tbl := lw_at lw_m3 50 rfl
theorem q596 : (Jvm.Cond.methodLink "java/util/TreeMap" (107 : Nat) ({ cls := "java/lang/Comparable", name := "compareTo", desc := "(Ljava/lang/Object;)I" } : Jvm.MethodName)) ∈ lw_all := lw_g (lw_at lw_m3 51 rfl) rfl
theorem q821 : (Jvm.Cond.interfaceEntry "java/util/TreeMap" (117 : Nat)) ∈ lw_tbl := lw_at lw_m4 36 rfl
theorem q822 : (Jvm.Cond.methodLink "java/util/TreeMap" (117 : Nat) ({ cls := "java/util/Comparator", name := "compare", desc := "(Ljava/lang/Object;Ljava/lang/Object;)I" } : Jvm.MethodName)) ∈ lw_all := lw_g (lw_at lw_m4 37 rfl) rfl
theorem q836 : (Jvm.Cond.classLink "java/util/TreeMap" (59 : Nat) "java/util/TreeMap$Entry") ∈ lw_all := lw_g (lw_at lw_m4 51 rfl) rfl
theorem q838 : (Jvm.Cond.methodLink "java/util/TreeMap" (167 : Nat) ({ cls := "java/util/TreeMap$Entry", name := "<init>", desc := "(Ljava/lang/Object;Ljava/lang/Object;Ljava/util/TreeMap$Entry;)V" } : Jvm.MethodName)) ∈ lw_all := lw_g (lw_at lw_m4 53 rfl) rfl
theorem q843 : (Jvm.Cond.fieldLink "java/util/TreeMap" (105 : Nat) "java/util/TreeMap$Entry" "key" "Ljava/lang/Object;") ∈ lw_all := lw_g (lw_at lw_m4 58 rfl) rfl
theorem q845 : (Jvm.Cond.fieldLink "java/util/TreeMap" (58 : Nat) "java/util/TreeMap$Entry" "value" "Ljava/lang/Object;") ∈ lw_all := lw_g (lw_at lw_m4 60 rfl) rfl
theorem q846 : (Jvm.Cond.fieldLink "java/util/TreeMap" (111 : Nat) "java/util/TreeMap$Entry" "left" "Ljava/util/TreeMap$Entry;") ∈ lw_all := lw_g (lw_at lw_m4 61 rfl) rfl
theorem q847 : (Jvm.Cond.fieldLink "java/util/TreeMap" (114 : Nat) "java/util/TreeMap$Entry" "right" "Ljava/util/TreeMap$Entry;") ∈ lw_all := lw_g (lw_at lw_m4 62 rfl) rfl
theorem q849 : (Jvm.Cond.fieldLink "java/util/TreeMap" (124 : Nat) "java/util/TreeMap$Entry" "parent" "Ljava/util/TreeMap$Entry;") ∈ lw_all := lw_g (lw_at lw_m4 64 rfl) rfl
theorem q851 : (Jvm.Cond.fieldLink "java/util/TreeMap" (290 : Nat) "java/util/TreeMap$Entry" "color" "Z") ∈ lw_all := lw_g (lw_at lw_m4 66 rfl) rfl
theorem q865 : (Jvm.Cond.methodLink "java/util/TreeMap" (95 : Nat) ({ cls := "java/util/Objects", name := "requireNonNull", desc := "(Ljava/lang/Object;)Ljava/lang/Object;" } : Jvm.MethodName)) ∈ lw_all := lw_g (lw_at lw_m4 80 rfl) rfl
theorem q868 : (Jvm.Cond.methodLink "java/util/TreeMap" (139 : Nat) ({ cls := "java/util/TreeMap", name := "addEntry", desc := "(Ljava/lang/Object;Ljava/lang/Object;Ljava/util/TreeMap$Entry;Z)V" } : Jvm.MethodName)) ∈ lw_all := lw_g (lw_at lw_m4 83 rfl) rfl
theorem q869 : (Jvm.Cond.privateMethod ({ cls := "java/util/TreeMap", name := "addEntry", desc := "(Ljava/lang/Object;Ljava/lang/Object;Ljava/util/TreeMap$Entry;Z)V" } : Jvm.MethodName)) ∈ lw_tbl := lw_at lw_m4 84 rfl
theorem q870 : (Jvm.Cond.instanceMethod ({ cls := "java/util/TreeMap", name := "addEntry", desc := "(Ljava/lang/Object;Ljava/lang/Object;Ljava/util/TreeMap$Entry;Z)V" } : Jvm.MethodName)) ∈ lw_all := lw_g (lw_at lw_m4 85 rfl) rfl
theorem q871 : (Jvm.Cond.code ({ cls := "java/util/TreeMap", name := "addEntry", desc := "(Ljava/lang/Object;Ljava/lang/Object;Ljava/util/TreeMap$Entry;Z)V" } : Jvm.MethodName) prog_70_method_29_code (6 : Nat) (Option.none : Option Jvm.ClassFile.FieldType)) ∈ lw_all := lw_g (lw_at lw_m4 86 rfl) rfl
theorem q872 : (Jvm.Cond.methodLink "java/util/TreeMap" (170 : Nat) ({ cls := "java/util/TreeMap", name := "fixAfterInsertion", desc := "(Ljava/util/TreeMap$Entry;)V" } : Jvm.MethodName)) ∈ lw_all := lw_g (lw_at lw_m4 87 rfl) rfl
theorem q873 : (Jvm.Cond.privateMethod ({ cls := "java/util/TreeMap", name := "fixAfterInsertion", desc := "(Ljava/util/TreeMap$Entry;)V" } : Jvm.MethodName)) ∈ lw_tbl := lw_at lw_m4 88 rfl
theorem q874 : (Jvm.Cond.instanceMethod ({ cls := "java/util/TreeMap", name := "fixAfterInsertion", desc := "(Ljava/util/TreeMap$Entry;)V" } : Jvm.MethodName)) ∈ lw_all := lw_g (lw_at lw_m4 89 rfl) rfl
theorem q875 : (Jvm.Cond.code ({ cls := "java/util/TreeMap", name := "fixAfterInsertion", desc := "(Ljava/util/TreeMap$Entry;)V" } : Jvm.MethodName) prog_70_method_83_code (3 : Nat) (Option.none : Option Jvm.ClassFile.FieldType)) ∈ lw_all := lw_g (lw_at lw_m4 90 rfl) rfl
theorem q876 : (Jvm.Cond.methodLink "java/util/TreeMap" (294 : Nat) ({ cls := "java/util/TreeMap", name := "parentOf", desc := "(Ljava/util/TreeMap$Entry;)Ljava/util/TreeMap$Entry;" } : Jvm.MethodName)) ∈ lw_all := lw_g (lw_at lw_m4 91 rfl) rfl
theorem q877 : (Jvm.Cond.static ({ cls := "java/util/TreeMap", name := "parentOf", desc := "(Ljava/util/TreeMap$Entry;)Ljava/util/TreeMap$Entry;" } : Jvm.MethodName)) ∈ lw_all := lw_g (lw_at lw_m4 92 rfl) rfl
theorem q878 : (Jvm.Cond.code ({ cls := "java/util/TreeMap", name := "parentOf", desc := "(Ljava/util/TreeMap$Entry;)Ljava/util/TreeMap$Entry;" } : Jvm.MethodName) prog_70_method_77_code (1 : Nat) (Option.some (Jvm.ClassFile.FieldType.object "java/util/TreeMap$Entry"))) ∈ lw_all := lw_g (lw_at lw_m4 93 rfl) rfl
theorem q879 : (Jvm.Cond.methodLink "java/util/TreeMap" (297 : Nat) ({ cls := "java/util/TreeMap", name := "leftOf", desc := "(Ljava/util/TreeMap$Entry;)Ljava/util/TreeMap$Entry;" } : Jvm.MethodName)) ∈ lw_all := lw_g (lw_at lw_m4 94 rfl) rfl
theorem q880 : (Jvm.Cond.static ({ cls := "java/util/TreeMap", name := "leftOf", desc := "(Ljava/util/TreeMap$Entry;)Ljava/util/TreeMap$Entry;" } : Jvm.MethodName)) ∈ lw_all := lw_g (lw_at lw_m4 95 rfl) rfl
theorem q881 : (Jvm.Cond.code ({ cls := "java/util/TreeMap", name := "leftOf", desc := "(Ljava/util/TreeMap$Entry;)Ljava/util/TreeMap$Entry;" } : Jvm.MethodName) prog_70_method_79_code (1 : Nat) (Option.some (Jvm.ClassFile.FieldType.object "java/util/TreeMap$Entry"))) ∈ lw_all := lw_g (lw_at lw_m4 96 rfl) rfl
theorem q882 : (Jvm.Cond.methodLink "java/util/TreeMap" (300 : Nat) ({ cls := "java/util/TreeMap", name := "rightOf", desc := "(Ljava/util/TreeMap$Entry;)Ljava/util/TreeMap$Entry;" } : Jvm.MethodName)) ∈ lw_all := lw_g (lw_at lw_m4 97 rfl) rfl
theorem q883 : (Jvm.Cond.static ({ cls := "java/util/TreeMap", name := "rightOf", desc := "(Ljava/util/TreeMap$Entry;)Ljava/util/TreeMap$Entry;" } : Jvm.MethodName)) ∈ lw_all := lw_g (lw_at lw_m4 98 rfl) rfl
theorem q884 : (Jvm.Cond.code ({ cls := "java/util/TreeMap", name := "rightOf", desc := "(Ljava/util/TreeMap$Entry;)Ljava/util/TreeMap$Entry;" } : Jvm.MethodName) prog_70_method_80_code (1 : Nat) (Option.some (Jvm.ClassFile.FieldType.object "java/util/TreeMap$Entry"))) ∈ lw_all := lw_g (lw_at lw_m4 99 rfl) rfl
theorem q885 : (Jvm.Cond.methodLink "java/util/TreeMap" (303 : Nat) ({ cls := "java/util/TreeMap", name := "colorOf", desc := "(Ljava/util/TreeMap$Entry;)Z" } : Jvm.MethodName)) ∈ lw_all := lw_g (lw_at lw_m4 100 rfl) rfl
theorem q886 : (Jvm.Cond.static ({ cls := "java/util/TreeMap", name := "colorOf", desc := "(Ljava/util/TreeMap$Entry;)Z" } : Jvm.MethodName)) ∈ lw_all := lw_g (lw_at lw_m4 101 rfl) rfl
theorem q887 : (Jvm.Cond.code ({ cls := "java/util/TreeMap", name := "colorOf", desc := "(Ljava/util/TreeMap$Entry;)Z" } : Jvm.MethodName) prog_70_method_76_code (1 : Nat) (Option.some Jvm.ClassFile.FieldType.boolean)) ∈ lw_all := lw_g (lw_at lw_m4 102 rfl) rfl
theorem q888 : (Jvm.Cond.methodLink "java/util/TreeMap" (307 : Nat) ({ cls := "java/util/TreeMap", name := "setColor", desc := "(Ljava/util/TreeMap$Entry;Z)V" } : Jvm.MethodName)) ∈ lw_all := lw_g (lw_at lw_m4 103 rfl) rfl
theorem q889 : (Jvm.Cond.static ({ cls := "java/util/TreeMap", name := "setColor", desc := "(Ljava/util/TreeMap$Entry;Z)V" } : Jvm.MethodName)) ∈ lw_all := lw_g (lw_at lw_m4 104 rfl) rfl
theorem q890 : (Jvm.Cond.code ({ cls := "java/util/TreeMap", name := "setColor", desc := "(Ljava/util/TreeMap$Entry;Z)V" } : Jvm.MethodName) prog_70_method_78_code (2 : Nat) (Option.none : Option Jvm.ClassFile.FieldType)) ∈ lw_all := lw_g (lw_at lw_m4 105 rfl) rfl
theorem q891 : (Jvm.Cond.methodLink "java/util/TreeMap" (311 : Nat) ({ cls := "java/util/TreeMap", name := "rotateLeft", desc := "(Ljava/util/TreeMap$Entry;)V" } : Jvm.MethodName)) ∈ lw_all := lw_g (lw_at lw_m4 106 rfl) rfl
theorem q892 : (Jvm.Cond.privateMethod ({ cls := "java/util/TreeMap", name := "rotateLeft", desc := "(Ljava/util/TreeMap$Entry;)V" } : Jvm.MethodName)) ∈ lw_tbl := lw_at lw_m4 107 rfl
theorem q893 : (Jvm.Cond.instanceMethod ({ cls := "java/util/TreeMap", name := "rotateLeft", desc := "(Ljava/util/TreeMap$Entry;)V" } : Jvm.MethodName)) ∈ lw_all := lw_g (lw_at lw_m4 108 rfl) rfl
theorem q894 : (Jvm.Cond.code ({ cls := "java/util/TreeMap", name := "rotateLeft", desc := "(Ljava/util/TreeMap$Entry;)V" } : Jvm.MethodName) prog_70_method_81_code (3 : Nat) (Option.none : Option Jvm.ClassFile.FieldType)) ∈ lw_all := lw_g (lw_at lw_m4 109 rfl) rfl
theorem q895 : (Jvm.Cond.methodLink "java/util/TreeMap" (314 : Nat) ({ cls := "java/util/TreeMap", name := "rotateRight", desc := "(Ljava/util/TreeMap$Entry;)V" } : Jvm.MethodName)) ∈ lw_all := lw_g (lw_at lw_m4 110 rfl) rfl
theorem q896 : (Jvm.Cond.privateMethod ({ cls := "java/util/TreeMap", name := "rotateRight", desc := "(Ljava/util/TreeMap$Entry;)V" } : Jvm.MethodName)) ∈ lw_tbl := lw_at lw_m4 111 rfl
theorem q897 : (Jvm.Cond.instanceMethod ({ cls := "java/util/TreeMap", name := "rotateRight", desc := "(Ljava/util/TreeMap$Entry;)V" } : Jvm.MethodName)) ∈ lw_all := lw_g (lw_at lw_m4 112 rfl) rfl
theorem q898 : (Jvm.Cond.code ({ cls := "java/util/TreeMap", name := "rotateRight", desc := "(Ljava/util/TreeMap$Entry;)V" } : Jvm.MethodName) prog_70_method_82_code (3 : Nat) (Option.none : Option Jvm.ClassFile.FieldType)) ∈ lw_all := lw_g (lw_at lw_m4 113 rfl) rfl
theorem q901 : (Jvm.Cond.instanceMethod ({ cls := "java/util/TreeMap", name := "get", desc := "(Ljava/lang/Object;)Ljava/lang/Object;" } : Jvm.MethodName)) ∈ lw_all := lw_g (lw_at lw_m4 116 rfl) rfl
theorem q902 : (Jvm.Cond.selects "java/util/TreeMap" ({ cls := "java/util/TreeMap", name := "get", desc := "(Ljava/lang/Object;)Ljava/lang/Object;" } : Jvm.MethodName) ({ cls := "java/util/TreeMap", name := "get", desc := "(Ljava/lang/Object;)Ljava/lang/Object;" } : Jvm.MethodName)) ∈ lw_all := lw_g (lw_at lw_m4 117 rfl) rfl
theorem q903 : (Jvm.Cond.code ({ cls := "java/util/TreeMap", name := "get", desc := "(Ljava/lang/Object;)Ljava/lang/Object;" } : Jvm.MethodName) prog_70_method_8_code (3 : Nat) (Option.some (Jvm.ClassFile.FieldType.object "java/lang/Object"))) ∈ lw_all := lw_g (lw_at lw_m4 118 rfl) rfl
theorem q904 : (Jvm.Cond.methodLink "java/util/TreeMap" (50 : Nat) ({ cls := "java/util/TreeMap", name := "getEntry", desc := "(Ljava/lang/Object;)Ljava/util/TreeMap$Entry;" } : Jvm.MethodName)) ∈ lw_all := lw_g (lw_at lw_m4 119 rfl) rfl
theorem q905 : (Jvm.Cond.instanceMethod ({ cls := "java/util/TreeMap", name := "getEntry", desc := "(Ljava/lang/Object;)Ljava/util/TreeMap$Entry;" } : Jvm.MethodName)) ∈ lw_all := lw_g (lw_at lw_m4 120 rfl) rfl
theorem q906 : (Jvm.Cond.selects "java/util/TreeMap" ({ cls := "java/util/TreeMap", name := "getEntry", desc := "(Ljava/lang/Object;)Ljava/util/TreeMap$Entry;" } : Jvm.MethodName) ({ cls := "java/util/TreeMap", name := "getEntry", desc := "(Ljava/lang/Object;)Ljava/util/TreeMap$Entry;" } : Jvm.MethodName)) ∈ lw_all := lw_g (lw_at lw_m4 121 rfl) rfl
theorem q907 : (Jvm.Cond.code ({ cls := "java/util/TreeMap", name := "getEntry", desc := "(Ljava/lang/Object;)Ljava/util/TreeMap$Entry;" } : Jvm.MethodName) prog_70_method_15_code (5 : Nat) (Option.some (Jvm.ClassFile.FieldType.object "java/util/TreeMap$Entry"))) ∈ lw_all := lw_g (lw_at lw_m4 122 rfl) rfl
theorem q908 : (Jvm.Cond.methodLink "java/util/TreeMap" (92 : Nat) ({ cls := "java/util/TreeMap", name := "getEntryUsingComparator", desc := "(Ljava/lang/Object;)Ljava/util/TreeMap$Entry;" } : Jvm.MethodName)) ∈ lw_all := lw_g (lw_at lw_m4 123 rfl) rfl
theorem q909 : (Jvm.Cond.instanceMethod ({ cls := "java/util/TreeMap", name := "getEntryUsingComparator", desc := "(Ljava/lang/Object;)Ljava/util/TreeMap$Entry;" } : Jvm.MethodName)) ∈ lw_all := lw_g (lw_at lw_m4 124 rfl) rfl
theorem q910 : (Jvm.Cond.selects "java/util/TreeMap" ({ cls := "java/util/TreeMap", name := "getEntryUsingComparator", desc := "(Ljava/lang/Object;)Ljava/util/TreeMap$Entry;" } : Jvm.MethodName) ({ cls := "java/util/TreeMap", name := "getEntryUsingComparator", desc := "(Ljava/lang/Object;)Ljava/util/TreeMap$Entry;" } : Jvm.MethodName)) ∈ lw_all := lw_g (lw_at lw_m4 125 rfl) rfl
theorem q911 : (Jvm.Cond.code ({ cls := "java/util/TreeMap", name := "getEntryUsingComparator", desc := "(Ljava/lang/Object;)Ljava/util/TreeMap$Entry;" } : Jvm.MethodName) prog_70_method_16_code (6 : Nat) (Option.some (Jvm.ClassFile.FieldType.object "java/util/TreeMap$Entry"))) ∈ lw_all := lw_g (lw_at lw_m4 126 rfl) rfl
theorem q1555 : (Jvm.Cond.instanceMethod ({ cls := "java/util/TreeMap", name := "floorKey", desc := "(Ljava/lang/Object;)Ljava/lang/Object;" } : Jvm.MethodName)) ∈ lw_all := lw_g (lw_at lw_m7 50 rfl) rfl
theorem q1556 : (Jvm.Cond.selects "java/util/TreeMap" ({ cls := "java/util/TreeMap", name := "floorKey", desc := "(Ljava/lang/Object;)Ljava/lang/Object;" } : Jvm.MethodName) ({ cls := "java/util/TreeMap", name := "floorKey", desc := "(Ljava/lang/Object;)Ljava/lang/Object;" } : Jvm.MethodName)) ∈ lw_all := lw_g (lw_at lw_m7 51 rfl) rfl
theorem q1557 : (Jvm.Cond.code ({ cls := "java/util/TreeMap", name := "floorKey", desc := "(Ljava/lang/Object;)Ljava/lang/Object;" } : Jvm.MethodName) prog_70_method_44_code (2 : Nat) (Option.some (Jvm.ClassFile.FieldType.object "java/lang/Object"))) ∈ lw_all := lw_g (lw_at lw_m7 52 rfl) rfl
theorem q1558 : (Jvm.Cond.methodLink "java/util/TreeMap" (210 : Nat) ({ cls := "java/util/TreeMap", name := "getFloorEntry", desc := "(Ljava/lang/Object;)Ljava/util/TreeMap$Entry;" } : Jvm.MethodName)) ∈ lw_all := lw_g (lw_at lw_m7 53 rfl) rfl
theorem q1559 : (Jvm.Cond.instanceMethod ({ cls := "java/util/TreeMap", name := "getFloorEntry", desc := "(Ljava/lang/Object;)Ljava/util/TreeMap$Entry;" } : Jvm.MethodName)) ∈ lw_all := lw_g (lw_at lw_m7 54 rfl) rfl
theorem q1560 : (Jvm.Cond.selects "java/util/TreeMap" ({ cls := "java/util/TreeMap", name := "getFloorEntry", desc := "(Ljava/lang/Object;)Ljava/util/TreeMap$Entry;" } : Jvm.MethodName) ({ cls := "java/util/TreeMap", name := "getFloorEntry", desc := "(Ljava/lang/Object;)Ljava/util/TreeMap$Entry;" } : Jvm.MethodName)) ∈ lw_all := lw_g (lw_at lw_m7 55 rfl) rfl
theorem q1561 : (Jvm.Cond.code ({ cls := "java/util/TreeMap", name := "getFloorEntry", desc := "(Ljava/lang/Object;)Ljava/util/TreeMap$Entry;" } : Jvm.MethodName) prog_70_method_18_code (6 : Nat) (Option.some (Jvm.ClassFile.FieldType.object "java/util/TreeMap$Entry"))) ∈ lw_all := lw_g (lw_at lw_m7 56 rfl) rfl
theorem q1562 : (Jvm.Cond.methodLink "java/util/TreeMap" (207 : Nat) ({ cls := "java/util/TreeMap", name := "keyOrNull", desc := "(Ljava/util/TreeMap$Entry;)Ljava/lang/Object;" } : Jvm.MethodName)) ∈ lw_all := lw_g (lw_at lw_m7 57 rfl) rfl
theorem q1563 : (Jvm.Cond.static ({ cls := "java/util/TreeMap", name := "keyOrNull", desc := "(Ljava/util/TreeMap$Entry;)Ljava/lang/Object;" } : Jvm.MethodName)) ∈ lw_all := lw_g (lw_at lw_m7 58 rfl) rfl
theorem q1564 : (Jvm.Cond.code ({ cls := "java/util/TreeMap", name := "keyOrNull", desc := "(Ljava/util/TreeMap$Entry;)Ljava/lang/Object;" } : Jvm.MethodName) prog_70_method_70_code (1 : Nat) (Option.some (Jvm.ClassFile.FieldType.object "java/lang/Object"))) ∈ lw_all := lw_g (lw_at lw_m7 59 rfl) rfl
theorem q2794 : (Jvm.Cond.castable "java/util/TreeMap" "java/lang/Object") ∈ lw_tbl := lw_at lw_m12 89 rfl
theorem q75 : (Jvm.Cond.initialized "jdk/internal/util/ArraysSupport") ∈ lw_all := lw_g (lw_at lw_m1 10 rfl) rfl
theorem q248 : (Jvm.Cond.static ({ cls := "jdk/internal/util/ArraysSupport", name := "newLength", desc := "(III)I" } : Jvm.MethodName)) ∈ lw_all := lw_g (lw_at lw_m1 183 rfl) rfl
theorem q249 : (Jvm.Cond.code ({ cls := "jdk/internal/util/ArraysSupport", name := "newLength", desc := "(III)I" } : Jvm.MethodName) prog_75_method_27_code (4 : Nat) (Option.some Jvm.ClassFile.FieldType.int)) ∈ lw_all := lw_g (lw_at lw_m1 184 rfl) rfl
theorem q250 : (Jvm.Cond.methodLink "jdk/internal/util/ArraysSupport" (194 : Nat) ({ cls := "java/lang/Math", name := "max", desc := "(II)I" } : Jvm.MethodName)) ∈ lw_all := lw_g (lw_at lw_m1 185 rfl) rfl
theorem q253 : (Jvm.Cond.constant "jdk/internal/util/ArraysSupport" (200 : Nat) (2147483639 : Int32)) ∈ lw_all := lw_g (lw_at lw_m1 188 rfl) rfl
theorem q254 : (Jvm.Cond.methodLink "jdk/internal/util/ArraysSupport" (201 : Nat) ({ cls := "jdk/internal/util/ArraysSupport", name := "hugeLength", desc := "(II)I" } : Jvm.MethodName)) ∈ lw_all := lw_g (lw_at lw_m1 189 rfl) rfl
theorem q255 : (Jvm.Cond.static ({ cls := "jdk/internal/util/ArraysSupport", name := "hugeLength", desc := "(II)I" } : Jvm.MethodName)) ∈ lw_all := lw_g (lw_at lw_m1 190 rfl) rfl
theorem q256 : (Jvm.Cond.code ({ cls := "jdk/internal/util/ArraysSupport", name := "hugeLength", desc := "(II)I" } : Jvm.MethodName) prog_75_method_28_code (3 : Nat) (Option.some Jvm.ClassFile.FieldType.int)) ∈ lw_all := lw_g (lw_at lw_m1 191 rfl) rfl
theorem q637 : (Jvm.Cond.static ({ cls := "jdk/internal/util/ArraysSupport", name := "mismatch", desc := "([B[BI)I" } : Jvm.MethodName)) ∈ lw_all := lw_g (lw_at lw_m3 92 rfl) rfl
theorem q638 : (Jvm.Cond.code ({ cls := "jdk/internal/util/ArraysSupport", name := "mismatch", desc := "([B[BI)I" } : Jvm.MethodName) prog_75_method_13_code (4 : Nat) (Option.some Jvm.ClassFile.FieldType.int)) ∈ lw_all := lw_g (lw_at lw_m3 93 rfl) rfl
theorem q639 : (Jvm.Cond.fieldLink "jdk/internal/util/ArraysSupport" (126 : Nat) "jdk/internal/misc/Unsafe" "ARRAY_BYTE_BASE_OFFSET" "I") ∈ lw_all := lw_g (lw_at lw_m3 94 rfl) rfl
theorem q641 : (Jvm.Cond.fieldLink "jdk/internal/util/ArraysSupport" (129 : Nat) "jdk/internal/util/ArraysSupport" "LOG2_ARRAY_BYTE_INDEX_SCALE" "I") ∈ lw_all := lw_g (lw_at lw_m3 96 rfl) rfl
theorem q642 : (Jvm.Cond.laysStatic "jdk/internal/util/ArraysSupport" "LOG2_ARRAY_BYTE_INDEX_SCALE" "I") ∈ lw_tbl := lw_at lw_m3 97 rfl
theorem q643 : (Jvm.Cond.methodLink "jdk/internal/util/ArraysSupport" (122 : Nat) ({ cls := "jdk/internal/util/ArraysSupport", name := "vectorizedMismatch", desc := "(Ljava/lang/Object;JLjava/lang/Object;JII)I" } : Jvm.MethodName)) ∈ lw_all := lw_g (lw_at lw_m3 98 rfl) rfl
theorem q644 : (Jvm.Cond.static ({ cls := "jdk/internal/util/ArraysSupport", name := "vectorizedMismatch", desc := "(Ljava/lang/Object;JLjava/lang/Object;JII)I" } : Jvm.MethodName)) ∈ lw_all := lw_g (lw_at lw_m3 99 rfl) rfl
theorem q645 : (Jvm.Cond.code ({ cls := "jdk/internal/util/ArraysSupport", name := "vectorizedMismatch", desc := "(Ljava/lang/Object;JLjava/lang/Object;JII)I" } : Jvm.MethodName) prog_75_method_3_code (19 : Nat) (Option.some Jvm.ClassFile.FieldType.int)) ∈ lw_all := lw_g (lw_at lw_m3 100 rfl) rfl
theorem q646 : (Jvm.Cond.fieldLink "jdk/internal/util/ArraysSupport" (20 : Nat) "jdk/internal/util/ArraysSupport" "LOG2_ARRAY_LONG_INDEX_SCALE" "I") ∈ lw_all := lw_g (lw_at lw_m3 101 rfl) rfl
theorem q647 : (Jvm.Cond.laysStatic "jdk/internal/util/ArraysSupport" "LOG2_ARRAY_LONG_INDEX_SCALE" "I") ∈ lw_tbl := lw_at lw_m3 102 rfl
theorem q648 : (Jvm.Cond.fieldLink "jdk/internal/util/ArraysSupport" (26 : Nat) "jdk/internal/util/ArraysSupport" "U" "Ljdk/internal/misc/Unsafe;") ∈ lw_all := lw_g (lw_at lw_m3 103 rfl) rfl
theorem q649 : (Jvm.Cond.laysStatic "jdk/internal/util/ArraysSupport" "U" "Ljdk/internal/misc/Unsafe;") ∈ lw_tbl := lw_at lw_m3 104 rfl
theorem q650 : (Jvm.Cond.methodLink "jdk/internal/util/ArraysSupport" (30 : Nat) ({ cls := "jdk/internal/misc/Unsafe", name := "getLongUnaligned", desc := "(Ljava/lang/Object;J)J" } : Jvm.MethodName)) ∈ lw_all := lw_g (lw_at lw_m3 105 rfl) rfl
theorem q702 : (Jvm.Cond.fieldLink "jdk/internal/util/ArraysSupport" (36 : Nat) "jdk/internal/util/ArraysSupport" "BIG_ENDIAN" "Z") ∈ lw_all := lw_g (lw_at lw_m3 157 rfl) rfl
theorem q703 : (Jvm.Cond.laysStatic "jdk/internal/util/ArraysSupport" "BIG_ENDIAN" "Z") ∈ lw_tbl := lw_at lw_m3 158 rfl
theorem q704 : (Jvm.Cond.methodLink "jdk/internal/util/ArraysSupport" (40 : Nat) ({ cls := "java/lang/Long", name := "numberOfLeadingZeros", desc := "(J)I" } : Jvm.MethodName)) ∈ lw_all := lw_g (lw_at lw_m3 159 rfl) rfl
theorem q711 : (Jvm.Cond.fieldLink "jdk/internal/util/ArraysSupport" (46 : Nat) "jdk/internal/util/ArraysSupport" "LOG2_BYTE_BIT_SIZE" "I") ∈ lw_all := lw_g (lw_at lw_m3 166 rfl) rfl
theorem q712 : (Jvm.Cond.laysStatic "jdk/internal/util/ArraysSupport" "LOG2_BYTE_BIT_SIZE" "I") ∈ lw_tbl := lw_at lw_m3 167 rfl
theorem q713 : (Jvm.Cond.methodLink "jdk/internal/util/ArraysSupport" (49 : Nat) ({ cls := "java/lang/Long", name := "numberOfTrailingZeros", desc := "(J)I" } : Jvm.MethodName)) ∈ lw_all := lw_g (lw_at lw_m3 168 rfl) rfl
theorem q719 : (Jvm.Cond.fieldLink "jdk/internal/util/ArraysSupport" (51 : Nat) "jdk/internal/util/ArraysSupport" "LOG2_ARRAY_INT_INDEX_SCALE" "I") ∈ lw_all := lw_g (lw_at lw_m3 174 rfl) rfl
theorem q720 : (Jvm.Cond.laysStatic "jdk/internal/util/ArraysSupport" "LOG2_ARRAY_INT_INDEX_SCALE" "I") ∈ lw_tbl := lw_at lw_m3 175 rfl
theorem q721 : (Jvm.Cond.methodLink "jdk/internal/util/ArraysSupport" (54 : Nat) ({ cls := "jdk/internal/misc/Unsafe", name := "getIntUnaligned", desc := "(Ljava/lang/Object;J)I" } : Jvm.MethodName)) ∈ lw_all := lw_g (lw_at lw_m3 176 rfl) rfl
theorem q738 : (Jvm.Cond.methodLink "jdk/internal/util/ArraysSupport" (58 : Nat) ({ cls := "java/lang/Integer", name := "numberOfLeadingZeros", desc := "(I)I" } : Jvm.MethodName)) ∈ lw_all := lw_g (lw_at lw_m3 193 rfl) rfl
theorem q739 : (Jvm.Cond.methodLink "jdk/internal/util/ArraysSupport" (11 : Nat) ({ cls := "java/lang/Integer", name := "numberOfTrailingZeros", desc := "(I)I" } : Jvm.MethodName)) ∈ lw_all := lw_g (lw_at lw_m3 194 rfl) rfl
theorem q1652 : (Jvm.Cond.static ({ cls := "jdk/internal/util/ArraysSupport", name := "vectorizedHashCode", desc := "(Ljava/lang/Object;IIII)I" } : Jvm.MethodName)) ∈ lw_all := lw_g (lw_at lw_m7 147 rfl) rfl
theorem q1653 : (Jvm.Cond.code ({ cls := "jdk/internal/util/ArraysSupport", name := "vectorizedHashCode", desc := "(Ljava/lang/Object;IIII)I" } : Jvm.MethodName) prog_75_method_4_code (5 : Nat) (Option.some Jvm.ClassFile.FieldType.int)) ∈ lw_all := lw_g (lw_at lw_m7 148 rfl) rfl
theorem q1654 : (Jvm.Cond.classLink "jdk/internal/util/ArraysSupport" (60 : Nat) "[B") ∈ lw_all := lw_g (lw_at lw_m7 149 rfl) rfl
theorem q1655 : (Jvm.Cond.methodLink "jdk/internal/util/ArraysSupport" (62 : Nat) ({ cls := "jdk/internal/util/ArraysSupport", name := "signedHashCode", desc := "(I[BII)I" } : Jvm.MethodName)) ∈ lw_all := lw_g (lw_at lw_m7 150 rfl) rfl
theorem q1656 : (Jvm.Cond.static ({ cls := "jdk/internal/util/ArraysSupport", name := "signedHashCode", desc := "(I[BII)I" } : Jvm.MethodName)) ∈ lw_all := lw_g (lw_at lw_m7 151 rfl) rfl
theorem q1657 : (Jvm.Cond.code ({ cls := "jdk/internal/util/ArraysSupport", name := "signedHashCode", desc := "(I[BII)I" } : Jvm.MethodName) prog_75_method_5_code (6 : Nat) (Option.some Jvm.ClassFile.FieldType.int)) ∈ lw_all := lw_g (lw_at lw_m7 152 rfl) rfl
theorem q1658 : (Jvm.Cond.methodLink "jdk/internal/util/ArraysSupport" (66 : Nat) ({ cls := "jdk/internal/util/ArraysSupport", name := "utf16hashCode", desc := "(I[BII)I" } : Jvm.MethodName)) ∈ lw_all := lw_g (lw_at lw_m7 153 rfl) rfl
theorem q1659 : (Jvm.Cond.static ({ cls := "jdk/internal/util/ArraysSupport", name := "utf16hashCode", desc := "(I[BII)I" } : Jvm.MethodName)) ∈ lw_all := lw_g (lw_at lw_m7 154 rfl) rfl
theorem q1660 : (Jvm.Cond.code ({ cls := "jdk/internal/util/ArraysSupport", name := "utf16hashCode", desc := "(I[BII)I" } : Jvm.MethodName) prog_75_method_10_code (6 : Nat) (Option.some Jvm.ClassFile.FieldType.int)) ∈ lw_all := lw_g (lw_at lw_m7 155 rfl) rfl
theorem q1661 : (Jvm.Cond.fieldLink "jdk/internal/util/ArraysSupport" (106 : Nat) "jdk/internal/util/ArraysSupport" "JLA" "Ljdk/internal/access/JavaLangAccess;") ∈ lw_all := lw_g (lw_at lw_m7 156 rfl) rfl
theorem q1662 : (Jvm.Cond.laysStatic "jdk/internal/util/ArraysSupport" "JLA" "Ljdk/internal/access/JavaLangAccess;") ∈ lw_tbl := lw_at lw_m7 157 rfl
theorem q1663 : (Jvm.Cond.interfaceEntry "jdk/internal/util/ArraysSupport" (110 : Nat)) ∈ lw_tbl := lw_at lw_m7 158 rfl
theorem q1664 : (Jvm.Cond.methodLink "jdk/internal/util/ArraysSupport" (110 : Nat) ({ cls := "jdk/internal/access/JavaLangAccess", name := "getUTF16Char", desc := "([BI)C" } : Jvm.MethodName)) ∈ lw_all := lw_g (lw_at lw_m7 159 rfl) rfl
theorem q1674 : (Jvm.Cond.classLink "jdk/internal/util/ArraysSupport" (69 : Nat) "[C") ∈ lw_all := lw_g (lw_at lw_m7 169 rfl) rfl
theorem q1675 : (Jvm.Cond.methodLink "jdk/internal/util/ArraysSupport" (71 : Nat) ({ cls := "jdk/internal/util/ArraysSupport", name := "hashCode", desc := "(I[CII)I" } : Jvm.MethodName)) ∈ lw_all := lw_g (lw_at lw_m7 170 rfl) rfl
theorem q1676 : (Jvm.Cond.static ({ cls := "jdk/internal/util/ArraysSupport", name := "hashCode", desc := "(I[CII)I" } : Jvm.MethodName)) ∈ lw_all := lw_g (lw_at lw_m7 171 rfl) rfl
theorem q1677 : (Jvm.Cond.code ({ cls := "jdk/internal/util/ArraysSupport", name := "hashCode", desc := "(I[CII)I" } : Jvm.MethodName) prog_75_method_7_code (6 : Nat) (Option.some Jvm.ClassFile.FieldType.int)) ∈ lw_all := lw_g (lw_at lw_m7 172 rfl) rfl
theorem q1678 : (Jvm.Cond.methodLink "jdk/internal/util/ArraysSupport" (75 : Nat) ({ cls := "jdk/internal/util/ArraysSupport", name := "hashCode", desc := "(I[BII)I" } : Jvm.MethodName)) ∈ lw_all := lw_g (lw_at lw_m7 173 rfl) rfl
theorem q1679 : (Jvm.Cond.static ({ cls := "jdk/internal/util/ArraysSupport", name := "hashCode", desc := "(I[BII)I" } : Jvm.MethodName)) ∈ lw_all := lw_g (lw_at lw_m7 174 rfl) rfl
theorem q1680 : (Jvm.Cond.code ({ cls := "jdk/internal/util/ArraysSupport", name := "hashCode", desc := "(I[BII)I" } : Jvm.MethodName) prog_75_method_6_code (6 : Nat) (Option.some Jvm.ClassFile.FieldType.int)) ∈ lw_all := lw_g (lw_at lw_m7 175 rfl) rfl
theorem q1681 : (Jvm.Cond.classLink "jdk/internal/util/ArraysSupport" (77 : Nat) "[S") ∈ lw_all := lw_g (lw_at lw_m7 176 rfl) rfl
theorem q1682 : (Jvm.Cond.methodLink "jdk/internal/util/ArraysSupport" (79 : Nat) ({ cls := "jdk/internal/util/ArraysSupport", name := "hashCode", desc := "(I[SII)I" } : Jvm.MethodName)) ∈ lw_all := lw_g (lw_at lw_m7 177 rfl) rfl
theorem q1683 : (Jvm.Cond.static ({ cls := "jdk/internal/util/ArraysSupport", name := "hashCode", desc := "(I[SII)I" } : Jvm.MethodName)) ∈ lw_all := lw_g (lw_at lw_m7 178 rfl) rfl
theorem q1684 : (Jvm.Cond.code ({ cls := "jdk/internal/util/ArraysSupport", name := "hashCode", desc := "(I[SII)I" } : Jvm.MethodName) prog_75_method_8_code (6 : Nat) (Option.some Jvm.ClassFile.FieldType.int)) ∈ lw_all := lw_g (lw_at lw_m7 179 rfl) rfl
theorem q1685 : (Jvm.Cond.classLink "jdk/internal/util/ArraysSupport" (82 : Nat) "[I") ∈ lw_all := lw_g (lw_at lw_m7 180 rfl) rfl
theorem q1686 : (Jvm.Cond.methodLink "jdk/internal/util/ArraysSupport" (84 : Nat) ({ cls := "jdk/internal/util/ArraysSupport", name := "hashCode", desc := "(I[III)I" } : Jvm.MethodName)) ∈ lw_all := lw_g (lw_at lw_m7 181 rfl) rfl
theorem q1687 : (Jvm.Cond.static ({ cls := "jdk/internal/util/ArraysSupport", name := "hashCode", desc := "(I[III)I" } : Jvm.MethodName)) ∈ lw_all := lw_g (lw_at lw_m7 182 rfl) rfl
theorem q1688 : (Jvm.Cond.code ({ cls := "jdk/internal/util/ArraysSupport", name := "hashCode", desc := "(I[III)I" } : Jvm.MethodName) prog_75_method_9_code (6 : Nat) (Option.some Jvm.ClassFile.FieldType.int)) ∈ lw_all := lw_g (lw_at lw_m7 183 rfl) rfl
theorem q1689 : (Jvm.Cond.classLink "jdk/internal/util/ArraysSupport" (87 : Nat) "java/lang/IllegalArgumentException") ∈ lw_all := lw_g (lw_at lw_m7 184 rfl) rfl
theorem q1690 : (Jvm.Cond.classLink "jdk/internal/util/ArraysSupport" (89 : Nat) "java/lang/StringBuilder") ∈ lw_all := lw_g (lw_at lw_m7 185 rfl) rfl
theorem q1692 : (Jvm.Cond.methodLink "jdk/internal/util/ArraysSupport" (91 : Nat) ({ cls := "java/lang/StringBuilder", name := "<init>", desc := "()V" } : Jvm.MethodName)) ∈ lw_all := lw_g (lw_at lw_m7 187 rfl) rfl
theorem q1718 : (Jvm.Cond.stringRef "jdk/internal/util/ArraysSupport" (92 : Nat) "unrecognized basic type: ") ∈ lw_tbl := lw_at lw_m7 213 rfl
theorem q1719 : (Jvm.Cond.methodLink "jdk/internal/util/ArraysSupport" (94 : Nat) ({ cls := "java/lang/StringBuilder", name := "append", desc := "(Ljava/lang/String;)Ljava/lang/StringBuilder;" } : Jvm.MethodName)) ∈ lw_all := lw_g (lw_at lw_m7 214 rfl) rfl
theorem q1800 : (Jvm.Cond.methodLink "jdk/internal/util/ArraysSupport" (98 : Nat) ({ cls := "java/lang/StringBuilder", name := "append", desc := "(I)Ljava/lang/StringBuilder;" } : Jvm.MethodName)) ∈ lw_all := lw_g (lw_at lw_m8 55 rfl) rfl
theorem q1825 : (Jvm.Cond.methodLink "jdk/internal/util/ArraysSupport" (101 : Nat) ({ cls := "java/lang/StringBuilder", name := "toString", desc := "()Ljava/lang/String;" } : Jvm.MethodName)) ∈ lw_all := lw_g (lw_at lw_m8 80 rfl) rfl
theorem q1887 : (Jvm.Cond.methodLink "jdk/internal/util/ArraysSupport" (105 : Nat) ({ cls := "java/lang/IllegalArgumentException", name := "<init>", desc := "(Ljava/lang/String;)V" } : Jvm.MethodName)) ∈ lw_all := lw_g (lw_at lw_m8 142 rfl) rfl
theorem q76 : (Jvm.Cond.initialized "java/lang/Math") ∈ lw_all := lw_g (lw_at lw_m1 11 rfl) rfl
theorem q251 : (Jvm.Cond.static ({ cls := "java/lang/Math", name := "max", desc := "(II)I" } : Jvm.MethodName)) ∈ lw_all := lw_g (lw_at lw_m1 186 rfl) rfl
theorem q252 : (Jvm.Cond.code ({ cls := "java/lang/Math", name := "max", desc := "(II)I" } : Jvm.MethodName) prog_36_method_65_code (2 : Nat) (Option.some Jvm.ClassFile.FieldType.int)) ∈ lw_all := lw_g (lw_at lw_m1 187 rfl) rfl
theorem q303 : (Jvm.Cond.static ({ cls := "java/lang/Math", name := "min", desc := "(II)I" } : Jvm.MethodName)) ∈ lw_all := lw_g (lw_at lw_m1 238 rfl) rfl
theorem q304 : (Jvm.Cond.code ({ cls := "java/lang/Math", name := "min", desc := "(II)I" } : Jvm.MethodName) prog_36_method_69_code (2 : Nat) (Option.some Jvm.ClassFile.FieldType.int)) ∈ lw_all := lw_g (lw_at lw_m1 239 rfl) rfl
theorem q1095 : (Jvm.Cond.static ({ cls := "java/lang/Math", name := "max", desc := "(JJ)J" } : Jvm.MethodName)) ∈ lw_all := lw_g (lw_at lw_m5 70 rfl) rfl
theorem q1096 : (Jvm.Cond.code ({ cls := "java/lang/Math", name := "max", desc := "(JJ)J" } : Jvm.MethodName) prog_36_method_66_code (4 : Nat) (Option.some Jvm.ClassFile.FieldType.long)) ∈ lw_all := lw_g (lw_at lw_m5 71 rfl) rfl
theorem q1098 : (Jvm.Cond.static ({ cls := "java/lang/Math", name := "min", desc := "(JJ)J" } : Jvm.MethodName)) ∈ lw_all := lw_g (lw_at lw_m5 73 rfl) rfl
theorem q1099 : (Jvm.Cond.code ({ cls := "java/lang/Math", name := "min", desc := "(JJ)J" } : Jvm.MethodName) prog_36_method_70_code (4 : Nat) (Option.some Jvm.ClassFile.FieldType.long)) ∈ lw_all := lw_g (lw_at lw_m5 74 rfl) rfl
theorem q1190 : (Jvm.Cond.static ({ cls := "java/lang/Math", name := "floorDiv", desc := "(JJ)J" } : Jvm.MethodName)) ∈ lw_all := lw_g (lw_at lw_m5 165 rfl) rfl
theorem q1191 : (Jvm.Cond.code ({ cls := "java/lang/Math", name := "floorDiv", desc := "(JJ)J" } : Jvm.MethodName) prog_36_method_49_code (6 : Nat) (Option.some Jvm.ClassFile.FieldType.long)) ∈ lw_all := lw_g (lw_at lw_m5 166 rfl) rfl
theorem q77 : (Jvm.Cond.initialized "java/util/Arrays") ∈ lw_all := lw_g (lw_at lw_m1 12 rfl) rfl
theorem q258 : (Jvm.Cond.static ({ cls := "java/util/Arrays", name := "copyOf", desc := "([Ljava/lang/Object;I)[Ljava/lang/Object;" } : Jvm.MethodName)) ∈ lw_all := lw_g (lw_at lw_m1 193 rfl) rfl
theorem q259 : (Jvm.Cond.code ({ cls := "java/util/Arrays", name := "copyOf", desc := "([Ljava/lang/Object;I)[Ljava/lang/Object;" } : Jvm.MethodName) prog_55_method_119_code (2 : Nat) (Option.some (Jvm.ClassFile.FieldType.array (Jvm.ClassFile.FieldType.object "java/lang/Object")))) ∈ lw_all := lw_g (lw_at lw_m1 194 rfl) rfl
theorem q260 : (Jvm.Cond.methodLink "java/util/Arrays" (86 : Nat) ({ cls := "java/lang/Object", name := "getClass", desc := "()Ljava/lang/Class;" } : Jvm.MethodName)) ∈ lw_all := lw_g (lw_at lw_m1 195 rfl) rfl
theorem q296 : (Jvm.Cond.methodLink "java/util/Arrays" (300 : Nat) ({ cls := "java/util/Arrays", name := "copyOf", desc := "([Ljava/lang/Object;ILjava/lang/Class;)[Ljava/lang/Object;" } : Jvm.MethodName)) ∈ lw_all := lw_g (lw_at lw_m1 231 rfl) rfl
theorem q297 : (Jvm.Cond.static ({ cls := "java/util/Arrays", name := "copyOf", desc := "([Ljava/lang/Object;ILjava/lang/Class;)[Ljava/lang/Object;" } : Jvm.MethodName)) ∈ lw_all := lw_g (lw_at lw_m1 232 rfl) rfl
theorem q298 : (Jvm.Cond.code ({ cls := "java/util/Arrays", name := "copyOf", desc := "([Ljava/lang/Object;ILjava/lang/Class;)[Ljava/lang/Object;" } : Jvm.MethodName) prog_55_method_120_code (4 : Nat) (Option.some (Jvm.ClassFile.FieldType.array (Jvm.ClassFile.FieldType.object "java/lang/Object")))) ∈ lw_all := lw_g (lw_at lw_m1 233 rfl) rfl
theorem q299 : (Jvm.Cond.classLink "java/util/Arrays" (110 : Nat) "[Ljava/lang/Object;") ∈ lw_all := lw_g (lw_at lw_m1 234 rfl) rfl
theorem q301 : (Jvm.Cond.classLink "java/util/Arrays" (2 : Nat) "java/lang/Object") ∈ lw_all := lw_g (lw_at lw_m1 236 rfl) rfl
theorem q302 : (Jvm.Cond.methodLink "java/util/Arrays" (304 : Nat) ({ cls := "java/lang/Math", name := "min", desc := "(II)I" } : Jvm.MethodName)) ∈ lw_all := lw_g (lw_at lw_m1 237 rfl) rfl
theorem q305 : (Jvm.Cond.methodLink "java/util/Arrays" (150 : Nat) ({ cls := "java/lang/System", name := "arraycopy", desc := "(Ljava/lang/Object;ILjava/lang/Object;II)V" } : Jvm.MethodName)) ∈ lw_all := lw_g (lw_at lw_m2 0 rfl) rfl
theorem q1741 : (Jvm.Cond.static ({ cls := "java/util/Arrays", name := "copyOf", desc := "([BI)[B" } : Jvm.MethodName)) ∈ lw_all := lw_g (lw_at lw_m7 236 rfl) rfl
theorem q1742 : (Jvm.Cond.code ({ cls := "java/util/Arrays", name := "copyOf", desc := "([BI)[B" } : Jvm.MethodName) prog_55_method_121_code (3 : Nat) (Option.some (Jvm.ClassFile.FieldType.array Jvm.ClassFile.FieldType.byte))) ∈ lw_all := lw_g (lw_at lw_m7 237 rfl) rfl
theorem q1743 : (Jvm.Cond.methodLink "java/util/Arrays" (310 : Nat) ({ cls := "[B", name := "clone", desc := "()Ljava/lang/Object;" } : Jvm.MethodName)) ∈ lw_all := lw_g (lw_at lw_m7 238 rfl) rfl
theorem q1749 : (Jvm.Cond.classLink "java/util/Arrays" (311 : Nat) "[B") ∈ lw_all := lw_g (lw_at lw_m8 4 rfl) rfl
theorem q1852 : (Jvm.Cond.static ({ cls := "java/util/Arrays", name := "copyOfRange", desc := "([BII)[B" } : Jvm.MethodName)) ∈ lw_all := lw_g (lw_at lw_m8 107 rfl) rfl
theorem q1853 : (Jvm.Cond.code ({ cls := "java/util/Arrays", name := "copyOfRange", desc := "([BII)[B" } : Jvm.MethodName) prog_55_method_132_code (3 : Nat) (Option.some (Jvm.ClassFile.FieldType.array Jvm.ClassFile.FieldType.byte))) ∈ lw_all := lw_g (lw_at lw_m8 108 rfl) rfl
theorem q1854 : (Jvm.Cond.methodLink "java/util/Arrays" (339 : Nat) ({ cls := "java/util/Arrays", name := "copyOfRangeByte", desc := "([BII)[B" } : Jvm.MethodName)) ∈ lw_all := lw_g (lw_at lw_m8 109 rfl) rfl
theorem q1855 : (Jvm.Cond.static ({ cls := "java/util/Arrays", name := "copyOfRangeByte", desc := "([BII)[B" } : Jvm.MethodName)) ∈ lw_all := lw_g (lw_at lw_m8 110 rfl) rfl
theorem q1856 : (Jvm.Cond.code ({ cls := "java/util/Arrays", name := "copyOfRangeByte", desc := "([BII)[B" } : Jvm.MethodName) prog_55_method_133_code (5 : Nat) (Option.some (Jvm.ClassFile.FieldType.array Jvm.ClassFile.FieldType.byte))) ∈ lw_all := lw_g (lw_at lw_m8 111 rfl) rfl
theorem q1857 : (Jvm.Cond.methodLink "java/util/Arrays" (343 : Nat) ({ cls := "java/util/Arrays", name := "checkLength", desc := "(II)V" } : Jvm.MethodName)) ∈ lw_all := lw_g (lw_at lw_m8 112 rfl) rfl
theorem q1858 : (Jvm.Cond.static ({ cls := "java/util/Arrays", name := "checkLength", desc := "(II)V" } : Jvm.MethodName)) ∈ lw_all := lw_g (lw_at lw_m8 113 rfl) rfl
theorem q1859 : (Jvm.Cond.code ({ cls := "java/util/Arrays", name := "checkLength", desc := "(II)V" } : Jvm.MethodName) prog_55_method_131_code (2 : Nat) (Option.none : Option Jvm.ClassFile.FieldType)) ∈ lw_all := lw_g (lw_at lw_m8 114 rfl) rfl
theorem q1860 : (Jvm.Cond.classLink "java/util/Arrays" (43 : Nat) "java/lang/IllegalArgumentException") ∈ lw_all := lw_g (lw_at lw_m8 115 rfl) rfl
theorem q1861 : (Jvm.Cond.classLink "java/util/Arrays" (45 : Nat) "java/lang/StringBuilder") ∈ lw_all := lw_g (lw_at lw_m8 116 rfl) rfl
theorem q1862 : (Jvm.Cond.methodLink "java/util/Arrays" (47 : Nat) ({ cls := "java/lang/StringBuilder", name := "<init>", desc := "()V" } : Jvm.MethodName)) ∈ lw_all := lw_g (lw_at lw_m8 117 rfl) rfl
theorem q1863 : (Jvm.Cond.methodLink "java/util/Arrays" (54 : Nat) ({ cls := "java/lang/StringBuilder", name := "append", desc := "(I)Ljava/lang/StringBuilder;" } : Jvm.MethodName)) ∈ lw_all := lw_g (lw_at lw_m8 118 rfl) rfl
theorem q1864 : (Jvm.Cond.stringRef "java/util/Arrays" (337 : Nat) " > ") ∈ lw_tbl := lw_at lw_m8 119 rfl
theorem q1865 : (Jvm.Cond.methodLink "java/util/Arrays" (50 : Nat) ({ cls := "java/lang/StringBuilder", name := "append", desc := "(Ljava/lang/String;)Ljava/lang/StringBuilder;" } : Jvm.MethodName)) ∈ lw_all := lw_g (lw_at lw_m8 120 rfl) rfl
theorem q1866 : (Jvm.Cond.methodLink "java/util/Arrays" (61 : Nat) ({ cls := "java/lang/StringBuilder", name := "toString", desc := "()Ljava/lang/String;" } : Jvm.MethodName)) ∈ lw_all := lw_g (lw_at lw_m8 121 rfl) rfl
theorem q1867 : (Jvm.Cond.methodLink "java/util/Arrays" (65 : Nat) ({ cls := "java/lang/IllegalArgumentException", name := "<init>", desc := "(Ljava/lang/String;)V" } : Jvm.MethodName)) ∈ lw_all := lw_g (lw_at lw_m8 122 rfl) rfl
theorem q79 : (Jvm.Cond.initialized "java/lang/Number") ∈ lw_all := lw_g (lw_at lw_m1 14 rfl) rfl
theorem q323 : (Jvm.Cond.instanceMethod ({ cls := "java/lang/Number", name := "<init>", desc := "()V" } : Jvm.MethodName)) ∈ lw_all := lw_g (lw_at lw_m2 18 rfl) rfl
theorem q324 : (Jvm.Cond.code ({ cls := "java/lang/Number", name := "<init>", desc := "()V" } : Jvm.MethodName) prog_37_method_1_code (1 : Nat) (Option.none : Option Jvm.ClassFile.FieldType)) ∈ lw_all := lw_g (lw_at lw_m2 19 rfl) rfl
theorem q325 : (Jvm.Cond.methodLink "java/lang/Number" (1 : Nat) ({ cls := "java/lang/Object", name := "<init>", desc := "()V" } : Jvm.MethodName)) ∈ lw_all := lw_g (lw_at lw_m2 20 rfl) rfl
theorem q80 : (Jvm.Cond.initialized "java/lang/Integer") ∈ lw_all := lw_g (lw_at lw_m1 15 rfl) rfl
theorem q285 : (Jvm.Cond.selects "java/lang/Integer" ({ cls := "java/lang/Object", name := "getClass", desc := "()Ljava/lang/Class;" } : Jvm.MethodName) ({ cls := "java/lang/Object", name := "getClass", desc := "()Ljava/lang/Class;" } : Jvm.MethodName)) ∈ lw_all := lw_g (lw_at lw_m1 220 rfl) rfl
theorem q311 : (Jvm.Cond.static ({ cls := "java/lang/Integer", name := "valueOf", desc := "(I)Ljava/lang/Integer;" } : Jvm.MethodName)) ∈ lw_all := lw_g (lw_at lw_m2 6 rfl) rfl
theorem q312 : (Jvm.Cond.code ({ cls := "java/lang/Integer", name := "valueOf", desc := "(I)Ljava/lang/Integer;" } : Jvm.MethodName) prog_32_method_22_code (1 : Nat) (Option.some (Jvm.ClassFile.FieldType.object "java/lang/Integer"))) ∈ lw_all := lw_g (lw_at lw_m2 7 rfl) rfl
theorem q313 : (Jvm.Cond.fieldLink "java/lang/Integer" (191 : Nat) "java/lang/Integer$IntegerCache" "high" "I") ∈ lw_all := lw_g (lw_at lw_m2 8 rfl) rfl
theorem q315 : (Jvm.Cond.fieldLink "java/lang/Integer" (195 : Nat) "java/lang/Integer$IntegerCache" "cache" "[Ljava/lang/Integer;") ∈ lw_all := lw_g (lw_at lw_m2 10 rfl) rfl
theorem q317 : (Jvm.Cond.classLink "java/lang/Integer" (1 : Nat) "java/lang/Integer") ∈ lw_all := lw_g (lw_at lw_m2 12 rfl) rfl
theorem q318 : (Jvm.Cond.instantiable "java/lang/Integer" (1 : Nat)) ∈ lw_all := lw_g (lw_at lw_m2 13 rfl) rfl
theorem q319 : (Jvm.Cond.methodLink "java/lang/Integer" (199 : Nat) ({ cls := "java/lang/Integer", name := "<init>", desc := "(I)V" } : Jvm.MethodName)) ∈ lw_all := lw_g (lw_at lw_m2 14 rfl) rfl
theorem q320 : (Jvm.Cond.instanceMethod ({ cls := "java/lang/Integer", name := "<init>", desc := "(I)V" } : Jvm.MethodName)) ∈ lw_all := lw_g (lw_at lw_m2 15 rfl) rfl
theorem q321 : (Jvm.Cond.code ({ cls := "java/lang/Integer", name := "<init>", desc := "(I)V" } : Jvm.MethodName) prog_32_method_23_code (2 : Nat) (Option.none : Option Jvm.ClassFile.FieldType)) ∈ lw_all := lw_g (lw_at lw_m2 16 rfl) rfl
theorem q322 : (Jvm.Cond.methodLink "java/lang/Integer" (202 : Nat) ({ cls := "java/lang/Number", name := "<init>", desc := "()V" } : Jvm.MethodName)) ∈ lw_all := lw_g (lw_at lw_m2 17 rfl) rfl
theorem q326 : (Jvm.Cond.fieldLink "java/lang/Integer" (205 : Nat) "java/lang/Integer" "value" "I") ∈ lw_all := lw_g (lw_at lw_m2 21 rfl) rfl
theorem q327 : (Jvm.Cond.laysFinal "java/lang/Integer" "java/lang/Integer" "value" "I") ∈ lw_all := lw_g (lw_at lw_m2 22 rfl) rfl
theorem q328 : (Jvm.Cond.soleField "java/lang/Integer" "value") ∈ lw_all := lw_g (lw_at lw_m2 23 rfl) rfl
theorem q329 : (Jvm.Cond.superclass "java/lang/Integer" "java/lang/Number") ∈ lw_all := lw_g (lw_at lw_m2 24 rfl) rfl
theorem q599 : (Jvm.Cond.castable "java/lang/Integer" "java/lang/Comparable") ∈ lw_tbl := lw_at lw_m3 54 rfl
theorem q600 : (Jvm.Cond.selects "java/lang/Integer" ({ cls := "java/lang/Comparable", name := "compareTo", desc := "(Ljava/lang/Object;)I" } : Jvm.MethodName) ({ cls := "java/lang/Integer", name := "compareTo", desc := "(Ljava/lang/Object;)I" } : Jvm.MethodName)) ∈ lw_all := lw_g (lw_at lw_m3 55 rfl) rfl
theorem q601 : (Jvm.Cond.unhidden "java/lang/Integer" "compareTo" "(Ljava/lang/Object;)I") ∈ lw_tbl := lw_at lw_m3 56 rfl
theorem q602 : (Jvm.Cond.instanceMethod ({ cls := "java/lang/Integer", name := "compareTo", desc := "(Ljava/lang/Object;)I" } : Jvm.MethodName)) ∈ lw_all := lw_g (lw_at lw_m3 57 rfl) rfl
theorem q603 : (Jvm.Cond.publicMethod ({ cls := "java/lang/Integer", name := "compareTo", desc := "(Ljava/lang/Object;)I" } : Jvm.MethodName)) ∈ lw_tbl := lw_at lw_m3 58 rfl
theorem q604 : (Jvm.Cond.code ({ cls := "java/lang/Integer", name := "compareTo", desc := "(Ljava/lang/Object;)I" } : Jvm.MethodName) prog_32_method_63_code (2 : Nat) (Option.some Jvm.ClassFile.FieldType.int)) ∈ lw_all := lw_g (lw_at lw_m3 59 rfl) rfl
theorem q605 : (Jvm.Cond.methodLink "java/lang/Integer" (284 : Nat) ({ cls := "java/lang/Integer", name := "compareTo", desc := "(Ljava/lang/Integer;)I" } : Jvm.MethodName)) ∈ lw_all := lw_g (lw_at lw_m3 60 rfl) rfl
theorem q606 : (Jvm.Cond.instanceMethod ({ cls := "java/lang/Integer", name := "compareTo", desc := "(Ljava/lang/Integer;)I" } : Jvm.MethodName)) ∈ lw_all := lw_g (lw_at lw_m3 61 rfl) rfl
theorem q607 : (Jvm.Cond.selects "java/lang/Integer" ({ cls := "java/lang/Integer", name := "compareTo", desc := "(Ljava/lang/Integer;)I" } : Jvm.MethodName) ({ cls := "java/lang/Integer", name := "compareTo", desc := "(Ljava/lang/Integer;)I" } : Jvm.MethodName)) ∈ lw_all := lw_g (lw_at lw_m3 62 rfl) rfl
theorem q608 : (Jvm.Cond.code ({ cls := "java/lang/Integer", name := "compareTo", desc := "(Ljava/lang/Integer;)I" } : Jvm.MethodName) prog_32_method_39_code (2 : Nat) (Option.some Jvm.ClassFile.FieldType.int)) ∈ lw_all := lw_g (lw_at lw_m3 63 rfl) rfl
theorem q609 : (Jvm.Cond.methodLink "java/lang/Integer" (259 : Nat) ({ cls := "java/lang/Integer", name := "compare", desc := "(II)I" } : Jvm.MethodName)) ∈ lw_all := lw_g (lw_at lw_m3 64 rfl) rfl
theorem q610 : (Jvm.Cond.static ({ cls := "java/lang/Integer", name := "compare", desc := "(II)I" } : Jvm.MethodName)) ∈ lw_all := lw_g (lw_at lw_m3 65 rfl) rfl
theorem q611 : (Jvm.Cond.code ({ cls := "java/lang/Integer", name := "compare", desc := "(II)I" } : Jvm.MethodName) prog_32_method_40_code (2 : Nat) (Option.some Jvm.ClassFile.FieldType.int)) ∈ lw_all := lw_g (lw_at lw_m3 66 rfl) rfl
theorem q708 : (Jvm.Cond.static ({ cls := "java/lang/Integer", name := "numberOfLeadingZeros", desc := "(I)I" } : Jvm.MethodName)) ∈ lw_all := lw_g (lw_at lw_m3 163 rfl) rfl
theorem q709 : (Jvm.Cond.code ({ cls := "java/lang/Integer", name := "numberOfLeadingZeros", desc := "(I)I" } : Jvm.MethodName) prog_32_method_47_code (2 : Nat) (Option.some Jvm.ClassFile.FieldType.int)) ∈ lw_all := lw_g (lw_at lw_m3 164 rfl) rfl
theorem q710 : (Jvm.Cond.constant "java/lang/Integer" (264 : Nat) (65536 : Int32)) ∈ lw_all := lw_g (lw_at lw_m3 165 rfl) rfl
theorem q717 : (Jvm.Cond.static ({ cls := "java/lang/Integer", name := "numberOfTrailingZeros", desc := "(I)I" } : Jvm.MethodName)) ∈ lw_all := lw_g (lw_at lw_m3 172 rfl) rfl
theorem q718 : (Jvm.Cond.code ({ cls := "java/lang/Integer", name := "numberOfTrailingZeros", desc := "(I)I" } : Jvm.MethodName) prog_32_method_48_code (2 : Nat) (Option.some Jvm.ClassFile.FieldType.int)) ∈ lw_all := lw_g (lw_at lw_m3 173 rfl) rfl
theorem q913 : (Jvm.Cond.instanceMethod ({ cls := "java/lang/Integer", name := "intValue", desc := "()I" } : Jvm.MethodName)) ∈ lw_all := lw_g (lw_at lw_m4 128 rfl) rfl
theorem q914 : (Jvm.Cond.selects "java/lang/Integer" ({ cls := "java/lang/Integer", name := "intValue", desc := "()I" } : Jvm.MethodName) ({ cls := "java/lang/Integer", name := "intValue", desc := "()I" } : Jvm.MethodName)) ∈ lw_all := lw_g (lw_at lw_m4 129 rfl) rfl
theorem q915 : (Jvm.Cond.code ({ cls := "java/lang/Integer", name := "intValue", desc := "()I" } : Jvm.MethodName) prog_32_method_27_code (1 : Nat) (Option.some Jvm.ClassFile.FieldType.int)) ∈ lw_all := lw_g (lw_at lw_m4 130 rfl) rfl
theorem q1808 : (Jvm.Cond.static ({ cls := "java/lang/Integer", name := "stringSize", desc := "(I)I" } : Jvm.MethodName)) ∈ lw_all := lw_g (lw_at lw_m8 63 rfl) rfl
theorem q1809 : (Jvm.Cond.code ({ cls := "java/lang/Integer", name := "stringSize", desc := "(I)I" } : Jvm.MethodName) prog_32_method_13_code (4 : Nat) (Option.some Jvm.ClassFile.FieldType.int)) ∈ lw_all := lw_g (lw_at lw_m8 64 rfl) rfl
theorem q1811 : (Jvm.Cond.static ({ cls := "java/lang/Integer", name := "getChars", desc := "(II[B)I" } : Jvm.MethodName)) ∈ lw_all := lw_g (lw_at lw_m8 66 rfl) rfl
theorem q1812 : (Jvm.Cond.code ({ cls := "java/lang/Integer", name := "getChars", desc := "(II[B)I" } : Jvm.MethodName) prog_32_method_12_code (7 : Nat) (Option.some Jvm.ClassFile.FieldType.int)) ∈ lw_all := lw_g (lw_at lw_m8 67 rfl) rfl
theorem q1813 : (Jvm.Cond.fieldLink "java/lang/Integer" (83 : Nat) "java/lang/Integer" "DigitOnes" "[B") ∈ lw_all := lw_g (lw_at lw_m8 68 rfl) rfl
theorem q1814 : (Jvm.Cond.laysStatic "java/lang/Integer" "DigitOnes" "[B") ∈ lw_tbl := lw_at lw_m8 69 rfl
theorem q1815 : (Jvm.Cond.fieldLink "java/lang/Integer" (87 : Nat) "java/lang/Integer" "DigitTens" "[B") ∈ lw_all := lw_g (lw_at lw_m8 70 rfl) rfl
theorem q1816 : (Jvm.Cond.laysStatic "java/lang/Integer" "DigitTens" "[B") ∈ lw_tbl := lw_at lw_m8 71 rfl
theorem q2795 : (Jvm.Cond.castable "java/lang/Integer" "java/lang/Object") ∈ lw_tbl := lw_at lw_m12 90 rfl
theorem q82 : (Jvm.Cond.initialized "TaxmazeModel") ∈ lw_all := lw_g (lw_at lw_m1 17 rfl) rfl
theorem q280 : (Jvm.Cond.selects "TaxmazeModel" ({ cls := "java/lang/Object", name := "getClass", desc := "()Ljava/lang/Class;" } : Jvm.MethodName) ({ cls := "java/lang/Object", name := "getClass", desc := "()Ljava/lang/Class;" } : Jvm.MethodName)) ∈ lw_all := lw_g (lw_at lw_m1 215 rfl) rfl
theorem q2240 : (Jvm.Cond.instantiable "TaxmazeModel" (70 : Nat)) ∈ lw_all := lw_g (lw_at lw_m10 15 rfl) rfl
theorem q2242 : (Jvm.Cond.instanceMethod ({ cls := "TaxmazeModel", name := "<init>", desc := "()V" } : Jvm.MethodName)) ∈ lw_all := lw_g (lw_at lw_m10 17 rfl) rfl
theorem q2243 : (Jvm.Cond.code ({ cls := "TaxmazeModel", name := "<init>", desc := "()V" } : Jvm.MethodName) prog_20_method_1_code (2 : Nat) (Option.none : Option Jvm.ClassFile.FieldType)) ∈ lw_all := lw_g (lw_at lw_m10 18 rfl) rfl
theorem q2244 : (Jvm.Cond.methodLink "TaxmazeModel" (1 : Nat) ({ cls := "java/lang/Object", name := "<init>", desc := "()V" } : Jvm.MethodName)) ∈ lw_all := lw_g (lw_at lw_m10 19 rfl) rfl
theorem q2245 : (Jvm.Cond.fieldLink "TaxmazeModel" (7 : Nat) "TaxmazeModel" "cw" "[I") ∈ lw_all := lw_g (lw_at lw_m10 20 rfl) rfl
theorem q2246 : (Jvm.Cond.fieldLink "TaxmazeModel" (13 : Nat) "TaxmazeModel" "cp" "[I") ∈ lw_all := lw_g (lw_at lw_m10 21 rfl) rfl
theorem q2247 : (Jvm.Cond.fieldLink "TaxmazeModel" (16 : Nat) "TaxmazeModel" "cf" "[I") ∈ lw_all := lw_g (lw_at lw_m10 22 rfl) rfl
theorem q2248 : (Jvm.Cond.fieldLink "TaxmazeModel" (19 : Nat) "TaxmazeModel" "ct" "[I") ∈ lw_all := lw_g (lw_at lw_m10 23 rfl) rfl
theorem q2249 : (Jvm.Cond.fieldLink "TaxmazeModel" (22 : Nat) "TaxmazeModel" "ch" "[I") ∈ lw_all := lw_g (lw_at lw_m10 24 rfl) rfl
theorem q2250 : (Jvm.Cond.fieldLink "TaxmazeModel" (25 : Nat) "TaxmazeModel" "cn" "[I") ∈ lw_all := lw_g (lw_at lw_m10 25 rfl) rfl
theorem q2251 : (Jvm.Cond.fieldLink "TaxmazeModel" (28 : Nat) "TaxmazeModel" "told" "[I") ∈ lw_all := lw_g (lw_at lw_m10 26 rfl) rfl
theorem q2252 : (Jvm.Cond.fieldLink "TaxmazeModel" (31 : Nat) "TaxmazeModel" "pays" "[I") ∈ lw_all := lw_g (lw_at lw_m10 27 rfl) rfl
theorem q2253 : (Jvm.Cond.fieldLink "TaxmazeModel" (34 : Nat) "TaxmazeModel" "mins" "[I") ∈ lw_all := lw_g (lw_at lw_m10 28 rfl) rfl
theorem q2254 : (Jvm.Cond.fieldLink "TaxmazeModel" (201 : Nat) "TaxmazeModel" "contracts" "I") ∈ lw_all := lw_g (lw_at lw_m10 29 rfl) rfl
theorem q2255 : (Jvm.Cond.fieldLink "TaxmazeModel" (37 : Nat) "TaxmazeModel" "sc" "[I") ∈ lw_all := lw_g (lw_at lw_m10 30 rfl) rfl
theorem q2256 : (Jvm.Cond.fieldLink "TaxmazeModel" (40 : Nat) "TaxmazeModel" "sb" "[I") ∈ lw_all := lw_g (lw_at lw_m10 31 rfl) rfl
theorem q2257 : (Jvm.Cond.fieldLink "TaxmazeModel" (43 : Nat) "TaxmazeModel" "sl" "[I") ∈ lw_all := lw_g (lw_at lw_m10 32 rfl) rfl
theorem q2258 : (Jvm.Cond.fieldLink "TaxmazeModel" (238 : Nat) "TaxmazeModel" "shifts" "I") ∈ lw_all := lw_g (lw_at lw_m10 33 rfl) rfl
theorem q2259 : (Jvm.Cond.fieldLink "TaxmazeModel" (46 : Nat) "TaxmazeModel" "lc" "[I") ∈ lw_all := lw_g (lw_at lw_m10 34 rfl) rfl
theorem q2260 : (Jvm.Cond.fieldLink "TaxmazeModel" (49 : Nat) "TaxmazeModel" "ld" "[I") ∈ lw_all := lw_g (lw_at lw_m10 35 rfl) rfl
theorem q2261 : (Jvm.Cond.fieldLink "TaxmazeModel" (52 : Nat) "TaxmazeModel" "lt" "[I") ∈ lw_all := lw_g (lw_at lw_m10 36 rfl) rfl
theorem q2262 : (Jvm.Cond.fieldLink "TaxmazeModel" (269 : Nat) "TaxmazeModel" "leaves" "I") ∈ lw_all := lw_g (lw_at lw_m10 37 rfl) rfl
theorem q2263 : (Jvm.Cond.fieldLink "TaxmazeModel" (290 : Nat) "TaxmazeModel" "rate" "I") ∈ lw_all := lw_g (lw_at lw_m10 38 rfl) rfl
theorem q2264 : (Jvm.Cond.fieldLink "TaxmazeModel" (293 : Nat) "TaxmazeModel" "carry" "I") ∈ lw_all := lw_g (lw_at lw_m10 39 rfl) rfl
theorem q2265 : (Jvm.Cond.fieldLink "TaxmazeModel" (296 : Nat) "TaxmazeModel" "term" "I") ∈ lw_all := lw_g (lw_at lw_m10 40 rfl) rfl
theorem q2266 : (Jvm.Cond.fieldLink "TaxmazeModel" (302 : Nat) "TaxmazeModel" "leftNow" "I") ∈ lw_all := lw_g (lw_at lw_m10 41 rfl) rfl
theorem q2267 : (Jvm.Cond.fieldLink "TaxmazeModel" (55 : Nat) "TaxmazeModel" "ew" "[I") ∈ lw_all := lw_g (lw_at lw_m10 42 rfl) rfl
theorem q2268 : (Jvm.Cond.fieldLink "TaxmazeModel" (58 : Nat) "TaxmazeModel" "en" "[I") ∈ lw_all := lw_g (lw_at lw_m10 43 rfl) rfl
theorem q2269 : (Jvm.Cond.fieldLink "TaxmazeModel" (61 : Nat) "TaxmazeModel" "el" "[I") ∈ lw_all := lw_g (lw_at lw_m10 44 rfl) rfl
theorem q2270 : (Jvm.Cond.fieldLink "TaxmazeModel" (64 : Nat) "TaxmazeModel" "ep" "[I") ∈ lw_all := lw_g (lw_at lw_m10 45 rfl) rfl
theorem q2271 : (Jvm.Cond.fieldLink "TaxmazeModel" (316 : Nat) "TaxmazeModel" "elements" "I") ∈ lw_all := lw_g (lw_at lw_m10 46 rfl) rfl
theorem q2272 : (Jvm.Cond.fieldLink "TaxmazeModel" (67 : Nat) "TaxmazeModel" "order" "[I") ∈ lw_all := lw_g (lw_at lw_m10 47 rfl) rfl
theorem q2273 : (Jvm.Cond.fieldLink "TaxmazeModel" (70 : Nat) "TaxmazeModel" "pile" "[J") ∈ lw_all := lw_g (lw_at lw_m10 48 rfl) rfl
theorem q2274 : (Jvm.Cond.fieldLink "TaxmazeModel" (74 : Nat) "TaxmazeModel" "comes" "[J") ∈ lw_all := lw_g (lw_at lw_m10 49 rfl) rfl
theorem q2275 : (Jvm.Cond.fieldLink "TaxmazeModel" (77 : Nat) "TaxmazeModel" "bonus" "[I") ∈ lw_all := lw_g (lw_at lw_m10 50 rfl) rfl
theorem q2276 : (Jvm.Cond.fieldLink "TaxmazeModel" (80 : Nat) "TaxmazeModel" "cr" "[I") ∈ lw_all := lw_g (lw_at lw_m10 51 rfl) rfl
theorem q2277 : (Jvm.Cond.fieldLink "TaxmazeModel" (83 : Nat) "TaxmazeModel" "cc" "[I") ∈ lw_all := lw_g (lw_at lw_m10 52 rfl) rfl
theorem q2278 : (Jvm.Cond.fieldLink "TaxmazeModel" (86 : Nat) "TaxmazeModel" "bn" "[I") ∈ lw_all := lw_g (lw_at lw_m10 53 rfl) rfl
theorem q2279 : (Jvm.Cond.fieldLink "TaxmazeModel" (89 : Nat) "TaxmazeModel" "be" "[I") ∈ lw_all := lw_g (lw_at lw_m10 54 rfl) rfl
theorem q2280 : (Jvm.Cond.fieldLink "TaxmazeModel" (92 : Nat) "TaxmazeModel" "bt" "[I") ∈ lw_all := lw_g (lw_at lw_m10 55 rfl) rfl
theorem q2281 : (Jvm.Cond.fieldLink "TaxmazeModel" (95 : Nat) "TaxmazeModel" "st" "[I") ∈ lw_all := lw_g (lw_at lw_m10 56 rfl) rfl
theorem q2282 : (Jvm.Cond.fieldLink "TaxmazeModel" (98 : Nat) "TaxmazeModel" "pt" "[I") ∈ lw_all := lw_g (lw_at lw_m10 57 rfl) rfl
theorem q2283 : (Jvm.Cond.fieldLink "TaxmazeModel" (101 : Nat) "TaxmazeModel" "gw" "[I") ∈ lw_all := lw_g (lw_at lw_m10 58 rfl) rfl
theorem q2284 : (Jvm.Cond.fieldLink "TaxmazeModel" (104 : Nat) "TaxmazeModel" "gm" "[I") ∈ lw_all := lw_g (lw_at lw_m10 59 rfl) rfl
theorem q2285 : (Jvm.Cond.fieldLink "TaxmazeModel" (107 : Nat) "TaxmazeModel" "gr" "[I") ∈ lw_all := lw_g (lw_at lw_m10 60 rfl) rfl
theorem q2286 : (Jvm.Cond.fieldLink "TaxmazeModel" (110 : Nat) "TaxmazeModel" "gt" "[I") ∈ lw_all := lw_g (lw_at lw_m10 61 rfl) rfl
theorem q2287 : (Jvm.Cond.fieldLink "TaxmazeModel" (113 : Nat) "TaxmazeModel" "gp" "[I") ∈ lw_all := lw_g (lw_at lw_m10 62 rfl) rfl
theorem q2288 : (Jvm.Cond.fieldLink "TaxmazeModel" (116 : Nat) "TaxmazeModel" "gk" "[I") ∈ lw_all := lw_g (lw_at lw_m10 63 rfl) rfl
theorem q2289 : (Jvm.Cond.fieldLink "TaxmazeModel" (371 : Nat) "TaxmazeModel" "garnishments" "I") ∈ lw_all := lw_g (lw_at lw_m10 64 rfl) rfl
theorem q2290 : (Jvm.Cond.fieldLink "TaxmazeModel" (119 : Nat) "TaxmazeModel" "adv" "[J") ∈ lw_all := lw_g (lw_at lw_m10 65 rfl) rfl
theorem q2291 : (Jvm.Cond.fieldLink "TaxmazeModel" (395 : Nat) "TaxmazeModel" "open" "I") ∈ lw_all := lw_g (lw_at lw_m10 66 rfl) rfl
theorem q2292 : (Jvm.Cond.fieldLink "TaxmazeModel" (122 : Nat) "TaxmazeModel" "pw" "[I") ∈ lw_all := lw_g (lw_at lw_m10 67 rfl) rfl
theorem q2293 : (Jvm.Cond.fieldLink "TaxmazeModel" (125 : Nat) "TaxmazeModel" "pm" "[I") ∈ lw_all := lw_g (lw_at lw_m10 68 rfl) rfl
theorem q2294 : (Jvm.Cond.fieldLink "TaxmazeModel" (128 : Nat) "TaxmazeModel" "pc" "[J") ∈ lw_all := lw_g (lw_at lw_m10 69 rfl) rfl
theorem q2295 : (Jvm.Cond.fieldLink "TaxmazeModel" (131 : Nat) "TaxmazeModel" "pb" "[I") ∈ lw_all := lw_g (lw_at lw_m10 70 rfl) rfl
theorem q2296 : (Jvm.Cond.fieldLink "TaxmazeModel" (398 : Nat) "TaxmazeModel" "payments" "I") ∈ lw_all := lw_g (lw_at lw_m10 71 rfl) rfl
theorem q2297 : (Jvm.Cond.fieldLink "TaxmazeModel" (134 : Nat) "TaxmazeModel" "ft" "[J") ∈ lw_all := lw_g (lw_at lw_m10 72 rfl) rfl
theorem q2298 : (Jvm.Cond.fieldLink "TaxmazeModel" (137 : Nat) "TaxmazeModel" "fc" "[J") ∈ lw_all := lw_g (lw_at lw_m10 73 rfl) rfl
theorem q2299 : (Jvm.Cond.fieldLink "TaxmazeModel" (140 : Nat) "TaxmazeModel" "corrected" "[I") ∈ lw_all := lw_g (lw_at lw_m10 74 rfl) rfl
theorem q2300 : (Jvm.Cond.fieldLink "TaxmazeModel" (143 : Nat) "TaxmazeModel" "gross" "[J") ∈ lw_all := lw_g (lw_at lw_m10 75 rfl) rfl
theorem q2301 : (Jvm.Cond.fieldLink "TaxmazeModel" (146 : Nat) "TaxmazeModel" "counted" "[J") ∈ lw_all := lw_g (lw_at lw_m10 76 rfl) rfl
theorem q2302 : (Jvm.Cond.fieldLink "TaxmazeModel" (149 : Nat) "TaxmazeModel" "contr" "[J") ∈ lw_all := lw_g (lw_at lw_m10 77 rfl) rfl
theorem q2303 : (Jvm.Cond.fieldLink "TaxmazeModel" (152 : Nat) "TaxmazeModel" "taxed" "[J") ∈ lw_all := lw_g (lw_at lw_m10 78 rfl) rfl
theorem q2304 : (Jvm.Cond.fieldLink "TaxmazeModel" (155 : Nat) "TaxmazeModel" "tax" "[J") ∈ lw_all := lw_g (lw_at lw_m10 79 rfl) rfl
theorem q2305 : (Jvm.Cond.fieldLink "TaxmazeModel" (158 : Nat) "TaxmazeModel" "pens" "[J") ∈ lw_all := lw_g (lw_at lw_m10 80 rfl) rfl
theorem q2306 : (Jvm.Cond.fieldLink "TaxmazeModel" (161 : Nat) "TaxmazeModel" "match" "[J") ∈ lw_all := lw_g (lw_at lw_m10 81 rfl) rfl
theorem q2307 : (Jvm.Cond.fieldLink "TaxmazeModel" (164 : Nat) "TaxmazeModel" "net" "[J") ∈ lw_all := lw_g (lw_at lw_m10 82 rfl) rfl
theorem q2308 : (Jvm.Cond.fieldLink "TaxmazeModel" (167 : Nat) "TaxmazeModel" "taken" "[J") ∈ lw_all := lw_g (lw_at lw_m10 83 rfl) rfl
theorem q2309 : (Jvm.Cond.fieldLink "TaxmazeModel" (170 : Nat) "TaxmazeModel" "payout" "[J") ∈ lw_all := lw_g (lw_at lw_m10 84 rfl) rfl
theorem q2310 : (Jvm.Cond.fieldLink "TaxmazeModel" (173 : Nat) "TaxmazeModel" "elems" "[J") ∈ lw_all := lw_g (lw_at lw_m10 85 rfl) rfl
theorem q2311 : (Jvm.Cond.fieldLink "TaxmazeModel" (176 : Nat) "TaxmazeModel" "gone" "[J") ∈ lw_all := lw_g (lw_at lw_m10 86 rfl) rfl
theorem q2312 : (Jvm.Cond.fieldLink "TaxmazeModel" (185 : Nat) "TaxmazeModel" "thrown" "I") ∈ lw_all := lw_g (lw_at lw_m10 87 rfl) rfl
theorem q2313 : (Jvm.Cond.fieldLink "TaxmazeModel" (179 : Nat) "TaxmazeModel" "dues" "[J") ∈ lw_all := lw_g (lw_at lw_m10 88 rfl) rfl
theorem q2314 : (Jvm.Cond.fieldLink "TaxmazeModel" (182 : Nat) "TaxmazeModel" "parts" "[J") ∈ lw_all := lw_g (lw_at lw_m10 89 rfl) rfl
theorem q2315 : (Jvm.Cond.laysFinal "TaxmazeModel" "TaxmazeModel" "cw" "[I") ∈ lw_all := lw_g (lw_at lw_m10 90 rfl) rfl
theorem q2316 : (Jvm.Cond.soleField "TaxmazeModel" "cw") ∈ lw_all := lw_g (lw_at lw_m10 91 rfl) rfl
theorem q2317 : (Jvm.Cond.laysFinal "TaxmazeModel" "TaxmazeModel" "cp" "[I") ∈ lw_all := lw_g (lw_at lw_m10 92 rfl) rfl
theorem q2318 : (Jvm.Cond.soleField "TaxmazeModel" "cp") ∈ lw_all := lw_g (lw_at lw_m10 93 rfl) rfl
theorem q2319 : (Jvm.Cond.laysFinal "TaxmazeModel" "TaxmazeModel" "cf" "[I") ∈ lw_all := lw_g (lw_at lw_m10 94 rfl) rfl
theorem q2320 : (Jvm.Cond.soleField "TaxmazeModel" "cf") ∈ lw_all := lw_g (lw_at lw_m10 95 rfl) rfl
theorem q2321 : (Jvm.Cond.laysFinal "TaxmazeModel" "TaxmazeModel" "ct" "[I") ∈ lw_all := lw_g (lw_at lw_m10 96 rfl) rfl
theorem q2322 : (Jvm.Cond.soleField "TaxmazeModel" "ct") ∈ lw_all := lw_g (lw_at lw_m10 97 rfl) rfl
theorem q2323 : (Jvm.Cond.laysFinal "TaxmazeModel" "TaxmazeModel" "ch" "[I") ∈ lw_all := lw_g (lw_at lw_m10 98 rfl) rfl
theorem q2324 : (Jvm.Cond.soleField "TaxmazeModel" "ch") ∈ lw_all := lw_g (lw_at lw_m10 99 rfl) rfl
theorem q2325 : (Jvm.Cond.laysFinal "TaxmazeModel" "TaxmazeModel" "cn" "[I") ∈ lw_all := lw_g (lw_at lw_m10 100 rfl) rfl
theorem q2326 : (Jvm.Cond.soleField "TaxmazeModel" "cn") ∈ lw_all := lw_g (lw_at lw_m10 101 rfl) rfl
theorem q2327 : (Jvm.Cond.laysFinal "TaxmazeModel" "TaxmazeModel" "told" "[I") ∈ lw_all := lw_g (lw_at lw_m10 102 rfl) rfl
theorem q2328 : (Jvm.Cond.soleField "TaxmazeModel" "told") ∈ lw_all := lw_g (lw_at lw_m10 103 rfl) rfl
theorem q2329 : (Jvm.Cond.laysFinal "TaxmazeModel" "TaxmazeModel" "pays" "[I") ∈ lw_all := lw_g (lw_at lw_m10 104 rfl) rfl
theorem q2330 : (Jvm.Cond.soleField "TaxmazeModel" "pays") ∈ lw_all := lw_g (lw_at lw_m10 105 rfl) rfl
theorem q2331 : (Jvm.Cond.laysFinal "TaxmazeModel" "TaxmazeModel" "mins" "[I") ∈ lw_all := lw_g (lw_at lw_m10 106 rfl) rfl
theorem q2332 : (Jvm.Cond.soleField "TaxmazeModel" "mins") ∈ lw_all := lw_g (lw_at lw_m10 107 rfl) rfl
theorem q2333 : (Jvm.Cond.lays "TaxmazeModel" "TaxmazeModel" "contracts" "I") ∈ lw_all := lw_g (lw_at lw_m10 108 rfl) rfl
theorem q2334 : (Jvm.Cond.soleField "TaxmazeModel" "contracts") ∈ lw_all := lw_g (lw_at lw_m10 109 rfl) rfl
theorem q2335 : (Jvm.Cond.laysFinal "TaxmazeModel" "TaxmazeModel" "sc" "[I") ∈ lw_all := lw_g (lw_at lw_m10 110 rfl) rfl
theorem q2336 : (Jvm.Cond.soleField "TaxmazeModel" "sc") ∈ lw_all := lw_g (lw_at lw_m10 111 rfl) rfl
theorem q2337 : (Jvm.Cond.laysFinal "TaxmazeModel" "TaxmazeModel" "sb" "[I") ∈ lw_all := lw_g (lw_at lw_m10 112 rfl) rfl
theorem q2338 : (Jvm.Cond.soleField "TaxmazeModel" "sb") ∈ lw_all := lw_g (lw_at lw_m10 113 rfl) rfl
theorem q2339 : (Jvm.Cond.laysFinal "TaxmazeModel" "TaxmazeModel" "sl" "[I") ∈ lw_all := lw_g (lw_at lw_m10 114 rfl) rfl
theorem q2340 : (Jvm.Cond.soleField "TaxmazeModel" "sl") ∈ lw_all := lw_g (lw_at lw_m10 115 rfl) rfl
theorem q2341 : (Jvm.Cond.lays "TaxmazeModel" "TaxmazeModel" "shifts" "I") ∈ lw_all := lw_g (lw_at lw_m10 116 rfl) rfl
theorem q2342 : (Jvm.Cond.soleField "TaxmazeModel" "shifts") ∈ lw_all := lw_g (lw_at lw_m10 117 rfl) rfl
theorem q2343 : (Jvm.Cond.laysFinal "TaxmazeModel" "TaxmazeModel" "lc" "[I") ∈ lw_all := lw_g (lw_at lw_m10 118 rfl) rfl
theorem q2344 : (Jvm.Cond.soleField "TaxmazeModel" "lc") ∈ lw_all := lw_g (lw_at lw_m10 119 rfl) rfl
theorem q2345 : (Jvm.Cond.laysFinal "TaxmazeModel" "TaxmazeModel" "ld" "[I") ∈ lw_all := lw_g (lw_at lw_m10 120 rfl) rfl
theorem q2346 : (Jvm.Cond.soleField "TaxmazeModel" "ld") ∈ lw_all := lw_g (lw_at lw_m10 121 rfl) rfl
theorem q2347 : (Jvm.Cond.laysFinal "TaxmazeModel" "TaxmazeModel" "lt" "[I") ∈ lw_all := lw_g (lw_at lw_m10 122 rfl) rfl
theorem q2348 : (Jvm.Cond.soleField "TaxmazeModel" "lt") ∈ lw_all := lw_g (lw_at lw_m10 123 rfl) rfl
theorem q2349 : (Jvm.Cond.lays "TaxmazeModel" "TaxmazeModel" "leaves" "I") ∈ lw_all := lw_g (lw_at lw_m10 124 rfl) rfl
theorem q2350 : (Jvm.Cond.soleField "TaxmazeModel" "leaves") ∈ lw_all := lw_g (lw_at lw_m10 125 rfl) rfl
theorem q2351 : (Jvm.Cond.lays "TaxmazeModel" "TaxmazeModel" "rate" "I") ∈ lw_all := lw_g (lw_at lw_m10 126 rfl) rfl
theorem q2352 : (Jvm.Cond.soleField "TaxmazeModel" "rate") ∈ lw_all := lw_g (lw_at lw_m10 127 rfl) rfl
theorem q2353 : (Jvm.Cond.lays "TaxmazeModel" "TaxmazeModel" "carry" "I") ∈ lw_all := lw_g (lw_at lw_m10 128 rfl) rfl
theorem q2354 : (Jvm.Cond.soleField "TaxmazeModel" "carry") ∈ lw_all := lw_g (lw_at lw_m10 129 rfl) rfl
theorem q2355 : (Jvm.Cond.lays "TaxmazeModel" "TaxmazeModel" "term" "I") ∈ lw_all := lw_g (lw_at lw_m10 130 rfl) rfl
theorem q2356 : (Jvm.Cond.soleField "TaxmazeModel" "term") ∈ lw_all := lw_g (lw_at lw_m10 131 rfl) rfl
theorem q2357 : (Jvm.Cond.lays "TaxmazeModel" "TaxmazeModel" "leftNow" "I") ∈ lw_all := lw_g (lw_at lw_m10 132 rfl) rfl
theorem q2358 : (Jvm.Cond.soleField "TaxmazeModel" "leftNow") ∈ lw_all := lw_g (lw_at lw_m10 133 rfl) rfl
theorem q2359 : (Jvm.Cond.laysFinal "TaxmazeModel" "TaxmazeModel" "ew" "[I") ∈ lw_all := lw_g (lw_at lw_m10 134 rfl) rfl
theorem q2360 : (Jvm.Cond.soleField "TaxmazeModel" "ew") ∈ lw_all := lw_g (lw_at lw_m10 135 rfl) rfl
theorem q2361 : (Jvm.Cond.laysFinal "TaxmazeModel" "TaxmazeModel" "en" "[I") ∈ lw_all := lw_g (lw_at lw_m10 136 rfl) rfl
theorem q2362 : (Jvm.Cond.soleField "TaxmazeModel" "en") ∈ lw_all := lw_g (lw_at lw_m10 137 rfl) rfl
theorem q2363 : (Jvm.Cond.laysFinal "TaxmazeModel" "TaxmazeModel" "el" "[I") ∈ lw_all := lw_g (lw_at lw_m10 138 rfl) rfl
theorem q2364 : (Jvm.Cond.soleField "TaxmazeModel" "el") ∈ lw_all := lw_g (lw_at lw_m10 139 rfl) rfl
theorem q2365 : (Jvm.Cond.laysFinal "TaxmazeModel" "TaxmazeModel" "ep" "[I") ∈ lw_all := lw_g (lw_at lw_m10 140 rfl) rfl
theorem q2366 : (Jvm.Cond.soleField "TaxmazeModel" "ep") ∈ lw_all := lw_g (lw_at lw_m10 141 rfl) rfl
theorem q2367 : (Jvm.Cond.lays "TaxmazeModel" "TaxmazeModel" "elements" "I") ∈ lw_all := lw_g (lw_at lw_m10 142 rfl) rfl
theorem q2368 : (Jvm.Cond.soleField "TaxmazeModel" "elements") ∈ lw_all := lw_g (lw_at lw_m10 143 rfl) rfl
theorem q2369 : (Jvm.Cond.laysFinal "TaxmazeModel" "TaxmazeModel" "order" "[I") ∈ lw_all := lw_g (lw_at lw_m10 144 rfl) rfl
theorem q2370 : (Jvm.Cond.soleField "TaxmazeModel" "order") ∈ lw_all := lw_g (lw_at lw_m10 145 rfl) rfl
theorem q2371 : (Jvm.Cond.laysFinal "TaxmazeModel" "TaxmazeModel" "pile" "[J") ∈ lw_all := lw_g (lw_at lw_m10 146 rfl) rfl
theorem q2372 : (Jvm.Cond.soleField "TaxmazeModel" "pile") ∈ lw_all := lw_g (lw_at lw_m10 147 rfl) rfl
theorem q2373 : (Jvm.Cond.laysFinal "TaxmazeModel" "TaxmazeModel" "comes" "[J") ∈ lw_all := lw_g (lw_at lw_m10 148 rfl) rfl
theorem q2374 : (Jvm.Cond.soleField "TaxmazeModel" "comes") ∈ lw_all := lw_g (lw_at lw_m10 149 rfl) rfl
theorem q2375 : (Jvm.Cond.laysFinal "TaxmazeModel" "TaxmazeModel" "bonus" "[I") ∈ lw_all := lw_g (lw_at lw_m10 150 rfl) rfl
theorem q2376 : (Jvm.Cond.soleField "TaxmazeModel" "bonus") ∈ lw_all := lw_g (lw_at lw_m10 151 rfl) rfl
theorem q2377 : (Jvm.Cond.laysFinal "TaxmazeModel" "TaxmazeModel" "cr" "[I") ∈ lw_all := lw_g (lw_at lw_m10 152 rfl) rfl
theorem q2378 : (Jvm.Cond.soleField "TaxmazeModel" "cr") ∈ lw_all := lw_g (lw_at lw_m10 153 rfl) rfl
theorem q2379 : (Jvm.Cond.laysFinal "TaxmazeModel" "TaxmazeModel" "cc" "[I") ∈ lw_all := lw_g (lw_at lw_m10 154 rfl) rfl
theorem q2380 : (Jvm.Cond.soleField "TaxmazeModel" "cc") ∈ lw_all := lw_g (lw_at lw_m10 155 rfl) rfl
theorem q2381 : (Jvm.Cond.laysFinal "TaxmazeModel" "TaxmazeModel" "bn" "[I") ∈ lw_all := lw_g (lw_at lw_m10 156 rfl) rfl
theorem q2382 : (Jvm.Cond.soleField "TaxmazeModel" "bn") ∈ lw_all := lw_g (lw_at lw_m10 157 rfl) rfl
theorem q2383 : (Jvm.Cond.laysFinal "TaxmazeModel" "TaxmazeModel" "be" "[I") ∈ lw_all := lw_g (lw_at lw_m10 158 rfl) rfl
theorem q2384 : (Jvm.Cond.soleField "TaxmazeModel" "be") ∈ lw_all := lw_g (lw_at lw_m10 159 rfl) rfl
theorem q2385 : (Jvm.Cond.laysFinal "TaxmazeModel" "TaxmazeModel" "bt" "[I") ∈ lw_all := lw_g (lw_at lw_m10 160 rfl) rfl
theorem q2386 : (Jvm.Cond.soleField "TaxmazeModel" "bt") ∈ lw_all := lw_g (lw_at lw_m10 161 rfl) rfl
theorem q2387 : (Jvm.Cond.laysFinal "TaxmazeModel" "TaxmazeModel" "st" "[I") ∈ lw_all := lw_g (lw_at lw_m10 162 rfl) rfl
theorem q2388 : (Jvm.Cond.soleField "TaxmazeModel" "st") ∈ lw_all := lw_g (lw_at lw_m10 163 rfl) rfl
theorem q2389 : (Jvm.Cond.laysFinal "TaxmazeModel" "TaxmazeModel" "pt" "[I") ∈ lw_all := lw_g (lw_at lw_m10 164 rfl) rfl
theorem q2390 : (Jvm.Cond.soleField "TaxmazeModel" "pt") ∈ lw_all := lw_g (lw_at lw_m10 165 rfl) rfl
theorem q2391 : (Jvm.Cond.laysFinal "TaxmazeModel" "TaxmazeModel" "gw" "[I") ∈ lw_all := lw_g (lw_at lw_m10 166 rfl) rfl
theorem q2392 : (Jvm.Cond.soleField "TaxmazeModel" "gw") ∈ lw_all := lw_g (lw_at lw_m10 167 rfl) rfl
theorem q2393 : (Jvm.Cond.laysFinal "TaxmazeModel" "TaxmazeModel" "gm" "[I") ∈ lw_all := lw_g (lw_at lw_m10 168 rfl) rfl
theorem q2394 : (Jvm.Cond.soleField "TaxmazeModel" "gm") ∈ lw_all := lw_g (lw_at lw_m10 169 rfl) rfl
theorem q2395 : (Jvm.Cond.laysFinal "TaxmazeModel" "TaxmazeModel" "gr" "[I") ∈ lw_all := lw_g (lw_at lw_m10 170 rfl) rfl
theorem q2396 : (Jvm.Cond.soleField "TaxmazeModel" "gr") ∈ lw_all := lw_g (lw_at lw_m10 171 rfl) rfl
theorem q2397 : (Jvm.Cond.laysFinal "TaxmazeModel" "TaxmazeModel" "gt" "[I") ∈ lw_all := lw_g (lw_at lw_m10 172 rfl) rfl
theorem q2398 : (Jvm.Cond.soleField "TaxmazeModel" "gt") ∈ lw_all := lw_g (lw_at lw_m10 173 rfl) rfl
theorem q2399 : (Jvm.Cond.laysFinal "TaxmazeModel" "TaxmazeModel" "gp" "[I") ∈ lw_all := lw_g (lw_at lw_m10 174 rfl) rfl
theorem q2400 : (Jvm.Cond.soleField "TaxmazeModel" "gp") ∈ lw_all := lw_g (lw_at lw_m10 175 rfl) rfl
theorem q2401 : (Jvm.Cond.laysFinal "TaxmazeModel" "TaxmazeModel" "gk" "[I") ∈ lw_all := lw_g (lw_at lw_m10 176 rfl) rfl
theorem q2402 : (Jvm.Cond.soleField "TaxmazeModel" "gk") ∈ lw_all := lw_g (lw_at lw_m10 177 rfl) rfl
theorem q2403 : (Jvm.Cond.lays "TaxmazeModel" "TaxmazeModel" "garnishments" "I") ∈ lw_all := lw_g (lw_at lw_m10 178 rfl) rfl
theorem q2404 : (Jvm.Cond.soleField "TaxmazeModel" "garnishments") ∈ lw_all := lw_g (lw_at lw_m10 179 rfl) rfl
theorem q2405 : (Jvm.Cond.laysFinal "TaxmazeModel" "TaxmazeModel" "adv" "[J") ∈ lw_all := lw_g (lw_at lw_m10 180 rfl) rfl
theorem q2406 : (Jvm.Cond.soleField "TaxmazeModel" "adv") ∈ lw_all := lw_g (lw_at lw_m10 181 rfl) rfl
theorem q2407 : (Jvm.Cond.lays "TaxmazeModel" "TaxmazeModel" "open" "I") ∈ lw_all := lw_g (lw_at lw_m10 182 rfl) rfl
theorem q2408 : (Jvm.Cond.soleField "TaxmazeModel" "open") ∈ lw_all := lw_g (lw_at lw_m10 183 rfl) rfl
theorem q2409 : (Jvm.Cond.laysFinal "TaxmazeModel" "TaxmazeModel" "pw" "[I") ∈ lw_all := lw_g (lw_at lw_m10 184 rfl) rfl
theorem q2410 : (Jvm.Cond.soleField "TaxmazeModel" "pw") ∈ lw_all := lw_g (lw_at lw_m10 185 rfl) rfl
theorem q2411 : (Jvm.Cond.laysFinal "TaxmazeModel" "TaxmazeModel" "pm" "[I") ∈ lw_all := lw_g (lw_at lw_m10 186 rfl) rfl
theorem q2412 : (Jvm.Cond.soleField "TaxmazeModel" "pm") ∈ lw_all := lw_g (lw_at lw_m10 187 rfl) rfl
theorem q2413 : (Jvm.Cond.laysFinal "TaxmazeModel" "TaxmazeModel" "pc" "[J") ∈ lw_all := lw_g (lw_at lw_m10 188 rfl) rfl
theorem q2414 : (Jvm.Cond.soleField "TaxmazeModel" "pc") ∈ lw_all := lw_g (lw_at lw_m10 189 rfl) rfl
theorem q2415 : (Jvm.Cond.laysFinal "TaxmazeModel" "TaxmazeModel" "pb" "[I") ∈ lw_all := lw_g (lw_at lw_m10 190 rfl) rfl
theorem q2416 : (Jvm.Cond.soleField "TaxmazeModel" "pb") ∈ lw_all := lw_g (lw_at lw_m10 191 rfl) rfl
theorem q2417 : (Jvm.Cond.lays "TaxmazeModel" "TaxmazeModel" "payments" "I") ∈ lw_all := lw_g (lw_at lw_m10 192 rfl) rfl
theorem q2418 : (Jvm.Cond.soleField "TaxmazeModel" "payments") ∈ lw_all := lw_g (lw_at lw_m10 193 rfl) rfl
theorem q2419 : (Jvm.Cond.laysFinal "TaxmazeModel" "TaxmazeModel" "ft" "[J") ∈ lw_all := lw_g (lw_at lw_m10 194 rfl) rfl
theorem q2420 : (Jvm.Cond.soleField "TaxmazeModel" "ft") ∈ lw_all := lw_g (lw_at lw_m10 195 rfl) rfl
theorem q2421 : (Jvm.Cond.laysFinal "TaxmazeModel" "TaxmazeModel" "fc" "[J") ∈ lw_all := lw_g (lw_at lw_m10 196 rfl) rfl
theorem q2422 : (Jvm.Cond.soleField "TaxmazeModel" "fc") ∈ lw_all := lw_g (lw_at lw_m10 197 rfl) rfl
theorem q2423 : (Jvm.Cond.laysFinal "TaxmazeModel" "TaxmazeModel" "corrected" "[I") ∈ lw_all := lw_g (lw_at lw_m10 198 rfl) rfl
theorem q2424 : (Jvm.Cond.soleField "TaxmazeModel" "corrected") ∈ lw_all := lw_g (lw_at lw_m10 199 rfl) rfl
theorem q2425 : (Jvm.Cond.laysFinal "TaxmazeModel" "TaxmazeModel" "gross" "[J") ∈ lw_all := lw_g (lw_at lw_m10 200 rfl) rfl
theorem q2426 : (Jvm.Cond.soleField "TaxmazeModel" "gross") ∈ lw_all := lw_g (lw_at lw_m10 201 rfl) rfl
theorem q2427 : (Jvm.Cond.laysFinal "TaxmazeModel" "TaxmazeModel" "counted" "[J") ∈ lw_all := lw_g (lw_at lw_m10 202 rfl) rfl
theorem q2428 : (Jvm.Cond.soleField "TaxmazeModel" "counted") ∈ lw_all := lw_g (lw_at lw_m10 203 rfl) rfl
theorem q2429 : (Jvm.Cond.laysFinal "TaxmazeModel" "TaxmazeModel" "contr" "[J") ∈ lw_all := lw_g (lw_at lw_m10 204 rfl) rfl
theorem q2430 : (Jvm.Cond.soleField "TaxmazeModel" "contr") ∈ lw_all := lw_g (lw_at lw_m10 205 rfl) rfl
theorem q2431 : (Jvm.Cond.laysFinal "TaxmazeModel" "TaxmazeModel" "taxed" "[J") ∈ lw_all := lw_g (lw_at lw_m10 206 rfl) rfl
theorem q2432 : (Jvm.Cond.soleField "TaxmazeModel" "taxed") ∈ lw_all := lw_g (lw_at lw_m10 207 rfl) rfl
theorem q2433 : (Jvm.Cond.laysFinal "TaxmazeModel" "TaxmazeModel" "tax" "[J") ∈ lw_all := lw_g (lw_at lw_m10 208 rfl) rfl
theorem q2434 : (Jvm.Cond.soleField "TaxmazeModel" "tax") ∈ lw_all := lw_g (lw_at lw_m10 209 rfl) rfl
theorem q2435 : (Jvm.Cond.laysFinal "TaxmazeModel" "TaxmazeModel" "pens" "[J") ∈ lw_all := lw_g (lw_at lw_m10 210 rfl) rfl
theorem q2436 : (Jvm.Cond.soleField "TaxmazeModel" "pens") ∈ lw_all := lw_g (lw_at lw_m10 211 rfl) rfl
theorem q2437 : (Jvm.Cond.laysFinal "TaxmazeModel" "TaxmazeModel" "match" "[J") ∈ lw_all := lw_g (lw_at lw_m10 212 rfl) rfl
theorem q2438 : (Jvm.Cond.soleField "TaxmazeModel" "match") ∈ lw_all := lw_g (lw_at lw_m10 213 rfl) rfl
theorem q2439 : (Jvm.Cond.laysFinal "TaxmazeModel" "TaxmazeModel" "net" "[J") ∈ lw_all := lw_g (lw_at lw_m10 214 rfl) rfl
theorem q2440 : (Jvm.Cond.soleField "TaxmazeModel" "net") ∈ lw_all := lw_g (lw_at lw_m10 215 rfl) rfl
theorem q2441 : (Jvm.Cond.laysFinal "TaxmazeModel" "TaxmazeModel" "taken" "[J") ∈ lw_all := lw_g (lw_at lw_m10 216 rfl) rfl
theorem q2442 : (Jvm.Cond.soleField "TaxmazeModel" "taken") ∈ lw_all := lw_g (lw_at lw_m10 217 rfl) rfl
theorem q2443 : (Jvm.Cond.laysFinal "TaxmazeModel" "TaxmazeModel" "payout" "[J") ∈ lw_all := lw_g (lw_at lw_m10 218 rfl) rfl
theorem q2444 : (Jvm.Cond.soleField "TaxmazeModel" "payout") ∈ lw_all := lw_g (lw_at lw_m10 219 rfl) rfl
theorem q2445 : (Jvm.Cond.laysFinal "TaxmazeModel" "TaxmazeModel" "elems" "[J") ∈ lw_all := lw_g (lw_at lw_m10 220 rfl) rfl
theorem q2446 : (Jvm.Cond.soleField "TaxmazeModel" "elems") ∈ lw_all := lw_g (lw_at lw_m10 221 rfl) rfl
theorem q2447 : (Jvm.Cond.laysFinal "TaxmazeModel" "TaxmazeModel" "gone" "[J") ∈ lw_all := lw_g (lw_at lw_m10 222 rfl) rfl
theorem q2448 : (Jvm.Cond.soleField "TaxmazeModel" "gone") ∈ lw_all := lw_g (lw_at lw_m10 223 rfl) rfl
theorem q2449 : (Jvm.Cond.lays "TaxmazeModel" "TaxmazeModel" "thrown" "I") ∈ lw_all := lw_g (lw_at lw_m10 224 rfl) rfl
theorem q2450 : (Jvm.Cond.soleField "TaxmazeModel" "thrown") ∈ lw_all := lw_g (lw_at lw_m10 225 rfl) rfl
theorem q2451 : (Jvm.Cond.laysFinal "TaxmazeModel" "TaxmazeModel" "dues" "[J") ∈ lw_all := lw_g (lw_at lw_m10 226 rfl) rfl
theorem q2452 : (Jvm.Cond.soleField "TaxmazeModel" "dues") ∈ lw_all := lw_g (lw_at lw_m10 227 rfl) rfl
theorem q2453 : (Jvm.Cond.laysFinal "TaxmazeModel" "TaxmazeModel" "parts" "[J") ∈ lw_all := lw_g (lw_at lw_m10 228 rfl) rfl
theorem q2454 : (Jvm.Cond.soleField "TaxmazeModel" "parts") ∈ lw_all := lw_g (lw_at lw_m10 229 rfl) rfl
theorem q2455 : (Jvm.Cond.superclass "TaxmazeModel" "java/lang/Object") ∈ lw_all := lw_g (lw_at lw_m10 230 rfl) rfl
theorem q2457 : (Jvm.Cond.instanceMethod ({ cls := "TaxmazeModel", name := "thrown", desc := "()I" } : Jvm.MethodName)) ∈ lw_all := lw_g (lw_at lw_m10 232 rfl) rfl
theorem q2458 : (Jvm.Cond.selects "TaxmazeModel" ({ cls := "TaxmazeModel", name := "thrown", desc := "()I" } : Jvm.MethodName) ({ cls := "TaxmazeModel", name := "thrown", desc := "()I" } : Jvm.MethodName)) ∈ lw_all := lw_g (lw_at lw_m10 233 rfl) rfl
theorem q2459 : (Jvm.Cond.code ({ cls := "TaxmazeModel", name := "thrown", desc := "()I" } : Jvm.MethodName) prog_20_method_2_code (1 : Nat) (Option.some Jvm.ClassFile.FieldType.int)) ∈ lw_all := lw_g (lw_at lw_m10 234 rfl) rfl
theorem q2461 : (Jvm.Cond.instanceMethod ({ cls := "TaxmazeModel", name := "contract", desc := "(IIIIZII)I" } : Jvm.MethodName)) ∈ lw_all := lw_g (lw_at lw_m10 236 rfl) rfl
theorem q2462 : (Jvm.Cond.selects "TaxmazeModel" ({ cls := "TaxmazeModel", name := "contract", desc := "(IIIIZII)I" } : Jvm.MethodName) ({ cls := "TaxmazeModel", name := "contract", desc := "(IIIIZII)I" } : Jvm.MethodName)) ∈ lw_all := lw_g (lw_at lw_m10 237 rfl) rfl
theorem q2463 : (Jvm.Cond.code ({ cls := "TaxmazeModel", name := "contract", desc := "(IIIIZII)I" } : Jvm.MethodName) prog_20_method_14_code (11 : Nat) (Option.some Jvm.ClassFile.FieldType.int)) ∈ lw_all := lw_g (lw_at lw_m10 238 rfl) rfl
theorem q2464 : (Jvm.Cond.methodLink "TaxmazeModel" (212 : Nat) ({ cls := "TaxmazeModel", name := "isPerson", desc := "(I)Z" } : Jvm.MethodName)) ∈ lw_all := lw_g (lw_at lw_m10 239 rfl) rfl
theorem q2465 : (Jvm.Cond.privateMethod ({ cls := "TaxmazeModel", name := "isPerson", desc := "(I)Z" } : Jvm.MethodName)) ∈ lw_tbl := lw_at lw_m11 0 rfl
theorem q2466 : (Jvm.Cond.instanceMethod ({ cls := "TaxmazeModel", name := "isPerson", desc := "(I)Z" } : Jvm.MethodName)) ∈ lw_all := lw_g (lw_at lw_m11 1 rfl) rfl
theorem q2467 : (Jvm.Cond.code ({ cls := "TaxmazeModel", name := "isPerson", desc := "(I)Z" } : Jvm.MethodName) prog_20_method_5_code (2 : Nat) (Option.some Jvm.ClassFile.FieldType.boolean)) ∈ lw_all := lw_g (lw_at lw_m11 2 rfl) rfl
theorem q2468 : (Jvm.Cond.constantLong "TaxmazeModel" (189 : Nat) (5 : Int64)) ∈ lw_all := lw_g (lw_at lw_m11 3 rfl) rfl
theorem q2469 : (Jvm.Cond.methodLink "TaxmazeModel" (191 : Nat) ({ cls := "TaxmazeModel", name := "in", desc := "(JJJ)Z" } : Jvm.MethodName)) ∈ lw_all := lw_g (lw_at lw_m11 4 rfl) rfl
theorem q2470 : (Jvm.Cond.privateMethod ({ cls := "TaxmazeModel", name := "in", desc := "(JJJ)Z" } : Jvm.MethodName)) ∈ lw_tbl := lw_at lw_m11 5 rfl
theorem q2471 : (Jvm.Cond.instanceMethod ({ cls := "TaxmazeModel", name := "in", desc := "(JJJ)Z" } : Jvm.MethodName)) ∈ lw_all := lw_g (lw_at lw_m11 6 rfl) rfl
theorem q2472 : (Jvm.Cond.code ({ cls := "TaxmazeModel", name := "in", desc := "(JJJ)Z" } : Jvm.MethodName) prog_20_method_4_code (7 : Nat) (Option.some Jvm.ClassFile.FieldType.boolean)) ∈ lw_all := lw_g (lw_at lw_m11 7 rfl) rfl
theorem q2473 : (Jvm.Cond.methodLink "TaxmazeModel" (215 : Nat) ({ cls := "TaxmazeModel", name := "isPlace", desc := "(I)Z" } : Jvm.MethodName)) ∈ lw_all := lw_g (lw_at lw_m11 8 rfl) rfl
theorem q2474 : (Jvm.Cond.privateMethod ({ cls := "TaxmazeModel", name := "isPlace", desc := "(I)Z" } : Jvm.MethodName)) ∈ lw_tbl := lw_at lw_m11 9 rfl
theorem q2475 : (Jvm.Cond.instanceMethod ({ cls := "TaxmazeModel", name := "isPlace", desc := "(I)Z" } : Jvm.MethodName)) ∈ lw_all := lw_g (lw_at lw_m11 10 rfl) rfl
theorem q2476 : (Jvm.Cond.code ({ cls := "TaxmazeModel", name := "isPlace", desc := "(I)Z" } : Jvm.MethodName) prog_20_method_6_code (2 : Nat) (Option.some Jvm.ClassFile.FieldType.boolean)) ∈ lw_all := lw_g (lw_at lw_m11 11 rfl) rfl
theorem q2477 : (Jvm.Cond.constantLong "TaxmazeModel" (195 : Nat) (2 : Int64)) ∈ lw_all := lw_g (lw_at lw_m11 12 rfl) rfl
theorem q2478 : (Jvm.Cond.methodLink "TaxmazeModel" (218 : Nat) ({ cls := "TaxmazeModel", name := "isDay", desc := "(I)Z" } : Jvm.MethodName)) ∈ lw_all := lw_g (lw_at lw_m11 13 rfl) rfl
theorem q2479 : (Jvm.Cond.privateMethod ({ cls := "TaxmazeModel", name := "isDay", desc := "(I)Z" } : Jvm.MethodName)) ∈ lw_tbl := lw_at lw_m11 14 rfl
theorem q2480 : (Jvm.Cond.instanceMethod ({ cls := "TaxmazeModel", name := "isDay", desc := "(I)Z" } : Jvm.MethodName)) ∈ lw_all := lw_g (lw_at lw_m11 15 rfl) rfl
theorem q2481 : (Jvm.Cond.code ({ cls := "TaxmazeModel", name := "isDay", desc := "(I)Z" } : Jvm.MethodName) prog_20_method_8_code (2 : Nat) (Option.some Jvm.ClassFile.FieldType.boolean)) ∈ lw_all := lw_g (lw_at lw_m11 16 rfl) rfl
theorem q2482 : (Jvm.Cond.constantLong "TaxmazeModel" (199 : Nat) (719 : Int64)) ∈ lw_all := lw_g (lw_at lw_m11 17 rfl) rfl
theorem q2483 : (Jvm.Cond.constantLong "TaxmazeModel" (221 : Nat) (60 : Int64)) ∈ lw_all := lw_g (lw_at lw_m11 18 rfl) rfl
theorem q2484 : (Jvm.Cond.constantLong "TaxmazeModel" (223 : Nat) (600 : Int64)) ∈ lw_all := lw_g (lw_at lw_m11 19 rfl) rfl
theorem q2485 : (Jvm.Cond.constantLong "TaxmazeModel" (225 : Nat) (1000000 : Int64)) ∈ lw_all := lw_g (lw_at lw_m11 20 rfl) rfl
theorem q2486 : (Jvm.Cond.methodLink "TaxmazeModel" (227 : Nat) ({ cls := "TaxmazeModel", name := "holds", desc := "(I)Z" } : Jvm.MethodName)) ∈ lw_all := lw_g (lw_at lw_m11 21 rfl) rfl
theorem q2487 : (Jvm.Cond.privateMethod ({ cls := "TaxmazeModel", name := "holds", desc := "(I)Z" } : Jvm.MethodName)) ∈ lw_tbl := lw_at lw_m11 22 rfl
theorem q2488 : (Jvm.Cond.instanceMethod ({ cls := "TaxmazeModel", name := "holds", desc := "(I)Z" } : Jvm.MethodName)) ∈ lw_all := lw_g (lw_at lw_m11 23 rfl) rfl
theorem q2489 : (Jvm.Cond.code ({ cls := "TaxmazeModel", name := "holds", desc := "(I)Z" } : Jvm.MethodName) prog_20_method_3_code (2 : Nat) (Option.some Jvm.ClassFile.FieldType.boolean)) ∈ lw_all := lw_g (lw_at lw_m11 24 rfl) rfl
theorem q2490 : (Jvm.Cond.methodLink "TaxmazeModel" (230 : Nat) ({ cls := "TaxmazeModel", name := "spread", desc := "(I)V" } : Jvm.MethodName)) ∈ lw_all := lw_g (lw_at lw_m11 25 rfl) rfl
theorem q2491 : (Jvm.Cond.privateMethod ({ cls := "TaxmazeModel", name := "spread", desc := "(I)V" } : Jvm.MethodName)) ∈ lw_tbl := lw_at lw_m11 26 rfl
theorem q2492 : (Jvm.Cond.instanceMethod ({ cls := "TaxmazeModel", name := "spread", desc := "(I)V" } : Jvm.MethodName)) ∈ lw_all := lw_g (lw_at lw_m11 27 rfl) rfl
theorem q2493 : (Jvm.Cond.code ({ cls := "TaxmazeModel", name := "spread", desc := "(I)V" } : Jvm.MethodName) prog_20_method_13_code (4 : Nat) (Option.none : Option Jvm.ClassFile.FieldType)) ∈ lw_all := lw_g (lw_at lw_m11 28 rfl) rfl
theorem q2495 : (Jvm.Cond.instanceMethod ({ cls := "TaxmazeModel", name := "pay", desc := "(III)I" } : Jvm.MethodName)) ∈ lw_all := lw_g (lw_at lw_m11 30 rfl) rfl
theorem q2496 : (Jvm.Cond.selects "TaxmazeModel" ({ cls := "TaxmazeModel", name := "pay", desc := "(III)I" } : Jvm.MethodName) ({ cls := "TaxmazeModel", name := "pay", desc := "(III)I" } : Jvm.MethodName)) ∈ lw_all := lw_g (lw_at lw_m11 31 rfl) rfl
theorem q2497 : (Jvm.Cond.code ({ cls := "TaxmazeModel", name := "pay", desc := "(III)I" } : Jvm.MethodName) prog_20_method_16_code (5 : Nat) (Option.some Jvm.ClassFile.FieldType.int)) ∈ lw_all := lw_g (lw_at lw_m11 32 rfl) rfl
theorem q2498 : (Jvm.Cond.methodLink "TaxmazeModel" (204 : Nat) ({ cls := "TaxmazeModel", name := "isContract", desc := "(I)Z" } : Jvm.MethodName)) ∈ lw_all := lw_g (lw_at lw_m11 33 rfl) rfl
theorem q2499 : (Jvm.Cond.privateMethod ({ cls := "TaxmazeModel", name := "isContract", desc := "(I)Z" } : Jvm.MethodName)) ∈ lw_tbl := lw_at lw_m11 34 rfl
theorem q2500 : (Jvm.Cond.instanceMethod ({ cls := "TaxmazeModel", name := "isContract", desc := "(I)Z" } : Jvm.MethodName)) ∈ lw_all := lw_g (lw_at lw_m11 35 rfl) rfl
theorem q2501 : (Jvm.Cond.code ({ cls := "TaxmazeModel", name := "isContract", desc := "(I)Z" } : Jvm.MethodName) prog_20_method_9_code (2 : Nat) (Option.some Jvm.ClassFile.FieldType.boolean)) ∈ lw_all := lw_g (lw_at lw_m11 36 rfl) rfl
theorem q2502 : (Jvm.Cond.methodLink "TaxmazeModel" (234 : Nat) ({ cls := "TaxmazeModel", name := "payOn", desc := "(II)J" } : Jvm.MethodName)) ∈ lw_all := lw_g (lw_at lw_m11 37 rfl) rfl
theorem q2503 : (Jvm.Cond.privateMethod ({ cls := "TaxmazeModel", name := "payOn", desc := "(II)J" } : Jvm.MethodName)) ∈ lw_tbl := lw_at lw_m11 38 rfl
theorem q2504 : (Jvm.Cond.instanceMethod ({ cls := "TaxmazeModel", name := "payOn", desc := "(II)J" } : Jvm.MethodName)) ∈ lw_all := lw_g (lw_at lw_m11 39 rfl) rfl
theorem q2505 : (Jvm.Cond.code ({ cls := "TaxmazeModel", name := "payOn", desc := "(II)J" } : Jvm.MethodName) prog_20_method_15_code (3 : Nat) (Option.some Jvm.ClassFile.FieldType.long)) ∈ lw_all := lw_g (lw_at lw_m11 40 rfl) rfl
theorem q2507 : (Jvm.Cond.instanceMethod ({ cls := "TaxmazeModel", name := "shift", desc := "(IIII)I" } : Jvm.MethodName)) ∈ lw_all := lw_g (lw_at lw_m11 42 rfl) rfl
theorem q2508 : (Jvm.Cond.selects "TaxmazeModel" ({ cls := "TaxmazeModel", name := "shift", desc := "(IIII)I" } : Jvm.MethodName) ({ cls := "TaxmazeModel", name := "shift", desc := "(IIII)I" } : Jvm.MethodName)) ∈ lw_all := lw_g (lw_at lw_m11 43 rfl) rfl
theorem q2509 : (Jvm.Cond.code ({ cls := "TaxmazeModel", name := "shift", desc := "(IIII)I" } : Jvm.MethodName) prog_20_method_18_code (9 : Nat) (Option.some Jvm.ClassFile.FieldType.int)) ∈ lw_all := lw_g (lw_at lw_m11 44 rfl) rfl
theorem q2510 : (Jvm.Cond.constantLong "TaxmazeModel" (241 : Nat) (1439 : Int64)) ∈ lw_all := lw_g (lw_at lw_m11 45 rfl) rfl
theorem q2511 : (Jvm.Cond.constantLong "TaxmazeModel" (243 : Nat) (1440 : Int64)) ∈ lw_all := lw_g (lw_at lw_m11 46 rfl) rfl
theorem q2512 : (Jvm.Cond.methodLink "TaxmazeModel" (245 : Nat) ({ cls := "TaxmazeModel", name := "isOf", desc := "(II)Z" } : Jvm.MethodName)) ∈ lw_all := lw_g (lw_at lw_m11 47 rfl) rfl
theorem q2513 : (Jvm.Cond.privateMethod ({ cls := "TaxmazeModel", name := "isOf", desc := "(II)Z" } : Jvm.MethodName)) ∈ lw_tbl := lw_at lw_m11 48 rfl
theorem q2514 : (Jvm.Cond.instanceMethod ({ cls := "TaxmazeModel", name := "isOf", desc := "(II)Z" } : Jvm.MethodName)) ∈ lw_all := lw_g (lw_at lw_m11 49 rfl) rfl
theorem q2515 : (Jvm.Cond.code ({ cls := "TaxmazeModel", name := "isOf", desc := "(II)Z" } : Jvm.MethodName) prog_20_method_10_code (3 : Nat) (Option.some Jvm.ClassFile.FieldType.boolean)) ∈ lw_all := lw_g (lw_at lw_m11 50 rfl) rfl
theorem q2516 : (Jvm.Cond.methodLink "TaxmazeModel" (249 : Nat) ({ cls := "TaxmazeModel", name := "meets", desc := "(III)Z" } : Jvm.MethodName)) ∈ lw_all := lw_g (lw_at lw_m11 51 rfl) rfl
theorem q2517 : (Jvm.Cond.privateMethod ({ cls := "TaxmazeModel", name := "meets", desc := "(III)Z" } : Jvm.MethodName)) ∈ lw_tbl := lw_at lw_m11 52 rfl
theorem q2518 : (Jvm.Cond.instanceMethod ({ cls := "TaxmazeModel", name := "meets", desc := "(III)Z" } : Jvm.MethodName)) ∈ lw_all := lw_g (lw_at lw_m11 53 rfl) rfl
theorem q2519 : (Jvm.Cond.code ({ cls := "TaxmazeModel", name := "meets", desc := "(III)Z" } : Jvm.MethodName) prog_20_method_17_code (6 : Nat) (Option.some Jvm.ClassFile.FieldType.boolean)) ∈ lw_all := lw_g (lw_at lw_m11 54 rfl) rfl
theorem q2521 : (Jvm.Cond.instanceMethod ({ cls := "TaxmazeModel", name := "minutes", desc := "(II)I" } : Jvm.MethodName)) ∈ lw_all := lw_g (lw_at lw_m11 56 rfl) rfl
theorem q2522 : (Jvm.Cond.selects "TaxmazeModel" ({ cls := "TaxmazeModel", name := "minutes", desc := "(II)I" } : Jvm.MethodName) ({ cls := "TaxmazeModel", name := "minutes", desc := "(II)I" } : Jvm.MethodName)) ∈ lw_all := lw_g (lw_at lw_m11 57 rfl) rfl
theorem q2523 : (Jvm.Cond.code ({ cls := "TaxmazeModel", name := "minutes", desc := "(II)I" } : Jvm.MethodName) prog_20_method_19_code (3 : Nat) (Option.some Jvm.ClassFile.FieldType.int)) ∈ lw_all := lw_g (lw_at lw_m11 58 rfl) rfl
theorem q2525 : (Jvm.Cond.instanceMethod ({ cls := "TaxmazeModel", name := "overtime", desc := "(II)I" } : Jvm.MethodName)) ∈ lw_all := lw_g (lw_at lw_m11 60 rfl) rfl
theorem q2526 : (Jvm.Cond.selects "TaxmazeModel" ({ cls := "TaxmazeModel", name := "overtime", desc := "(II)I" } : Jvm.MethodName) ({ cls := "TaxmazeModel", name := "overtime", desc := "(II)I" } : Jvm.MethodName)) ∈ lw_all := lw_g (lw_at lw_m11 61 rfl) rfl
theorem q2527 : (Jvm.Cond.code ({ cls := "TaxmazeModel", name := "overtime", desc := "(II)I" } : Jvm.MethodName) prog_20_method_21_code (3 : Nat) (Option.some Jvm.ClassFile.FieldType.int)) ∈ lw_all := lw_g (lw_at lw_m11 62 rfl) rfl
theorem q2528 : (Jvm.Cond.constantLong "TaxmazeModel" (253 : Nat) (102 : Int64)) ∈ lw_all := lw_g (lw_at lw_m11 63 rfl) rfl
theorem q2529 : (Jvm.Cond.methodLink "TaxmazeModel" (255 : Nat) ({ cls := "TaxmazeModel", name := "over", desc := "(II)I" } : Jvm.MethodName)) ∈ lw_all := lw_g (lw_at lw_m11 64 rfl) rfl
theorem q2530 : (Jvm.Cond.privateMethod ({ cls := "TaxmazeModel", name := "over", desc := "(II)I" } : Jvm.MethodName)) ∈ lw_tbl := lw_at lw_m11 65 rfl
theorem q2531 : (Jvm.Cond.instanceMethod ({ cls := "TaxmazeModel", name := "over", desc := "(II)I" } : Jvm.MethodName)) ∈ lw_all := lw_g (lw_at lw_m11 66 rfl) rfl
theorem q2532 : (Jvm.Cond.code ({ cls := "TaxmazeModel", name := "over", desc := "(II)I" } : Jvm.MethodName) prog_20_method_20_code (7 : Nat) (Option.some Jvm.ClassFile.FieldType.int)) ∈ lw_all := lw_g (lw_at lw_m11 67 rfl) rfl
theorem q2534 : (Jvm.Cond.instanceMethod ({ cls := "TaxmazeModel", name := "base", desc := "(II)J" } : Jvm.MethodName)) ∈ lw_all := lw_g (lw_at lw_m11 69 rfl) rfl
theorem q2535 : (Jvm.Cond.selects "TaxmazeModel" ({ cls := "TaxmazeModel", name := "base", desc := "(II)J" } : Jvm.MethodName) ({ cls := "TaxmazeModel", name := "base", desc := "(II)J" } : Jvm.MethodName)) ∈ lw_all := lw_g (lw_at lw_m11 70 rfl) rfl
theorem q2536 : (Jvm.Cond.code ({ cls := "TaxmazeModel", name := "base", desc := "(II)J" } : Jvm.MethodName) prog_20_method_24_code (3 : Nat) (Option.some Jvm.ClassFile.FieldType.long)) ∈ lw_all := lw_g (lw_at lw_m11 71 rfl) rfl
theorem q2537 : (Jvm.Cond.methodLink "TaxmazeModel" (272 : Nat) ({ cls := "TaxmazeModel", name := "isMonth", desc := "(I)Z" } : Jvm.MethodName)) ∈ lw_all := lw_g (lw_at lw_m11 72 rfl) rfl
theorem q2538 : (Jvm.Cond.privateMethod ({ cls := "TaxmazeModel", name := "isMonth", desc := "(I)Z" } : Jvm.MethodName)) ∈ lw_tbl := lw_at lw_m11 73 rfl
theorem q2539 : (Jvm.Cond.instanceMethod ({ cls := "TaxmazeModel", name := "isMonth", desc := "(I)Z" } : Jvm.MethodName)) ∈ lw_all := lw_g (lw_at lw_m11 74 rfl) rfl
theorem q2540 : (Jvm.Cond.code ({ cls := "TaxmazeModel", name := "isMonth", desc := "(I)Z" } : Jvm.MethodName) prog_20_method_7_code (2 : Nat) (Option.some Jvm.ClassFile.FieldType.boolean)) ∈ lw_all := lw_g (lw_at lw_m11 75 rfl) rfl
theorem q2541 : (Jvm.Cond.constantLong "TaxmazeModel" (197 : Nat) (23 : Int64)) ∈ lw_all := lw_g (lw_at lw_m11 76 rfl) rfl
theorem q2542 : (Jvm.Cond.constantLong "TaxmazeModel" (275 : Nat) (-1 : Int64)) ∈ lw_all := lw_g (lw_at lw_m11 77 rfl) rfl
theorem q2543 : (Jvm.Cond.methodLink "TaxmazeModel" (277 : Nat) ({ cls := "TaxmazeModel", name := "takes", desc := "(II)V" } : Jvm.MethodName)) ∈ lw_all := lw_g (lw_at lw_m11 78 rfl) rfl
theorem q2544 : (Jvm.Cond.privateMethod ({ cls := "TaxmazeModel", name := "takes", desc := "(II)V" } : Jvm.MethodName)) ∈ lw_tbl := lw_at lw_m11 79 rfl
theorem q2545 : (Jvm.Cond.instanceMethod ({ cls := "TaxmazeModel", name := "takes", desc := "(II)V" } : Jvm.MethodName)) ∈ lw_all := lw_g (lw_at lw_m11 80 rfl) rfl
theorem q2546 : (Jvm.Cond.code ({ cls := "TaxmazeModel", name := "takes", desc := "(II)V" } : Jvm.MethodName) prog_20_method_27_code (8 : Nat) (Option.none : Option Jvm.ClassFile.FieldType)) ∈ lw_all := lw_g (lw_at lw_m11 81 rfl) rfl
theorem q2547 : (Jvm.Cond.methodLink "TaxmazeModel" (299 : Nat) ({ cls := "TaxmazeModel", name := "works", desc := "(II)Z" } : Jvm.MethodName)) ∈ lw_all := lw_g (lw_at lw_m11 82 rfl) rfl
theorem q2548 : (Jvm.Cond.privateMethod ({ cls := "TaxmazeModel", name := "works", desc := "(II)Z" } : Jvm.MethodName)) ∈ lw_tbl := lw_at lw_m11 83 rfl
theorem q2549 : (Jvm.Cond.instanceMethod ({ cls := "TaxmazeModel", name := "works", desc := "(II)Z" } : Jvm.MethodName)) ∈ lw_all := lw_g (lw_at lw_m11 84 rfl) rfl
theorem q2550 : (Jvm.Cond.code ({ cls := "TaxmazeModel", name := "works", desc := "(II)Z" } : Jvm.MethodName) prog_20_method_26_code (5 : Nat) (Option.some Jvm.ClassFile.FieldType.boolean)) ∈ lw_all := lw_g (lw_at lw_m11 85 rfl) rfl
theorem q2551 : (Jvm.Cond.methodLink "TaxmazeModel" (281 : Nat) ({ cls := "TaxmazeModel", name := "baseOf", desc := "(II)J" } : Jvm.MethodName)) ∈ lw_all := lw_g (lw_at lw_m11 86 rfl) rfl
theorem q2552 : (Jvm.Cond.privateMethod ({ cls := "TaxmazeModel", name := "baseOf", desc := "(II)J" } : Jvm.MethodName)) ∈ lw_tbl := lw_at lw_m11 87 rfl
theorem q2553 : (Jvm.Cond.instanceMethod ({ cls := "TaxmazeModel", name := "baseOf", desc := "(II)J" } : Jvm.MethodName)) ∈ lw_all := lw_g (lw_at lw_m11 88 rfl) rfl
theorem q2554 : (Jvm.Cond.code ({ cls := "TaxmazeModel", name := "baseOf", desc := "(II)J" } : Jvm.MethodName) prog_20_method_23_code (9 : Nat) (Option.some Jvm.ClassFile.FieldType.long)) ∈ lw_all := lw_g (lw_at lw_m11 89 rfl) rfl
theorem q2555 : (Jvm.Cond.constantLong "TaxmazeModel" (259 : Nat) (30 : Int64)) ∈ lw_all := lw_g (lw_at lw_m11 90 rfl) rfl
theorem q2556 : (Jvm.Cond.methodLink "TaxmazeModel" (261 : Nat) ({ cls := "TaxmazeModel", name := "round", desc := "(JJ)J" } : Jvm.MethodName)) ∈ lw_all := lw_g (lw_at lw_m11 91 rfl) rfl
theorem q2557 : (Jvm.Cond.privateMethod ({ cls := "TaxmazeModel", name := "round", desc := "(JJ)J" } : Jvm.MethodName)) ∈ lw_tbl := lw_at lw_m11 92 rfl
theorem q2558 : (Jvm.Cond.instanceMethod ({ cls := "TaxmazeModel", name := "round", desc := "(JJ)J" } : Jvm.MethodName)) ∈ lw_all := lw_g (lw_at lw_m11 93 rfl) rfl
theorem q2559 : (Jvm.Cond.code ({ cls := "TaxmazeModel", name := "round", desc := "(JJ)J" } : Jvm.MethodName) prog_20_method_12_code (5 : Nat) (Option.some Jvm.ClassFile.FieldType.long)) ∈ lw_all := lw_g (lw_at lw_m11 94 rfl) rfl
theorem q2560 : (Jvm.Cond.methodLink "TaxmazeModel" (208 : Nat) ({ cls := "TaxmazeModel", name := "down", desc := "(JJ)J" } : Jvm.MethodName)) ∈ lw_all := lw_g (lw_at lw_m11 95 rfl) rfl
theorem q2561 : (Jvm.Cond.privateMethod ({ cls := "TaxmazeModel", name := "down", desc := "(JJ)J" } : Jvm.MethodName)) ∈ lw_tbl := lw_at lw_m11 96 rfl
theorem q2562 : (Jvm.Cond.instanceMethod ({ cls := "TaxmazeModel", name := "down", desc := "(JJ)J" } : Jvm.MethodName)) ∈ lw_all := lw_g (lw_at lw_m11 97 rfl) rfl
theorem q2563 : (Jvm.Cond.code ({ cls := "TaxmazeModel", name := "down", desc := "(JJ)J" } : Jvm.MethodName) prog_20_method_11_code (7 : Nat) (Option.some Jvm.ClassFile.FieldType.long)) ∈ lw_all := lw_g (lw_at lw_m11 98 rfl) rfl
theorem q2564 : (Jvm.Cond.methodLink "TaxmazeModel" (266 : Nat) ({ cls := "TaxmazeModel", name := "overPay", desc := "(II)J" } : Jvm.MethodName)) ∈ lw_all := lw_g (lw_at lw_m11 99 rfl) rfl
theorem q2565 : (Jvm.Cond.privateMethod ({ cls := "TaxmazeModel", name := "overPay", desc := "(II)J" } : Jvm.MethodName)) ∈ lw_tbl := lw_at lw_m11 100 rfl
theorem q2566 : (Jvm.Cond.instanceMethod ({ cls := "TaxmazeModel", name := "overPay", desc := "(II)J" } : Jvm.MethodName)) ∈ lw_all := lw_g (lw_at lw_m11 101 rfl) rfl
theorem q2567 : (Jvm.Cond.code ({ cls := "TaxmazeModel", name := "overPay", desc := "(II)J" } : Jvm.MethodName) prog_20_method_22_code (6 : Nat) (Option.some Jvm.ClassFile.FieldType.long)) ∈ lw_all := lw_g (lw_at lw_m11 102 rfl) rfl
theorem q2568 : (Jvm.Cond.constantLong "TaxmazeModel" (264 : Nat) (120 : Int64)) ∈ lw_all := lw_g (lw_at lw_m11 103 rfl) rfl
theorem q2570 : (Jvm.Cond.instanceMethod ({ cls := "TaxmazeModel", name := "leaveRule", desc := "(III)V" } : Jvm.MethodName)) ∈ lw_all := lw_g (lw_at lw_m11 105 rfl) rfl
theorem q2571 : (Jvm.Cond.selects "TaxmazeModel" ({ cls := "TaxmazeModel", name := "leaveRule", desc := "(III)V" } : Jvm.MethodName) ({ cls := "TaxmazeModel", name := "leaveRule", desc := "(III)V" } : Jvm.MethodName)) ∈ lw_all := lw_g (lw_at lw_m11 106 rfl) rfl
theorem q2572 : (Jvm.Cond.code ({ cls := "TaxmazeModel", name := "leaveRule", desc := "(III)V" } : Jvm.MethodName) prog_20_method_25_code (4 : Nat) (Option.none : Option Jvm.ClassFile.FieldType)) ∈ lw_all := lw_g (lw_at lw_m11 107 rfl) rfl
theorem q2573 : (Jvm.Cond.constantLong "TaxmazeModel" (284 : Nat) (50 : Int64)) ∈ lw_all := lw_g (lw_at lw_m11 108 rfl) rfl
theorem q2574 : (Jvm.Cond.constantLong "TaxmazeModel" (286 : Nat) (500 : Int64)) ∈ lw_all := lw_g (lw_at lw_m11 109 rfl) rfl
theorem q2575 : (Jvm.Cond.constantLong "TaxmazeModel" (288 : Nat) (12 : Int64)) ∈ lw_all := lw_g (lw_at lw_m11 110 rfl) rfl
theorem q2577 : (Jvm.Cond.instanceMethod ({ cls := "TaxmazeModel", name := "leave", desc := "(II)Z" } : Jvm.MethodName)) ∈ lw_all := lw_g (lw_at lw_m11 112 rfl) rfl
theorem q2578 : (Jvm.Cond.selects "TaxmazeModel" ({ cls := "TaxmazeModel", name := "leave", desc := "(II)Z" } : Jvm.MethodName) ({ cls := "TaxmazeModel", name := "leave", desc := "(II)Z" } : Jvm.MethodName)) ∈ lw_all := lw_g (lw_at lw_m11 113 rfl) rfl
theorem q2579 : (Jvm.Cond.code ({ cls := "TaxmazeModel", name := "leave", desc := "(II)Z" } : Jvm.MethodName) prog_20_method_28_code (3 : Nat) (Option.some Jvm.ClassFile.FieldType.boolean)) ∈ lw_all := lw_g (lw_at lw_m11 114 rfl) rfl
theorem q2581 : (Jvm.Cond.instanceMethod ({ cls := "TaxmazeModel", name := "leaveLeft", desc := "(II)I" } : Jvm.MethodName)) ∈ lw_all := lw_g (lw_at lw_m11 116 rfl) rfl
theorem q2582 : (Jvm.Cond.selects "TaxmazeModel" ({ cls := "TaxmazeModel", name := "leaveLeft", desc := "(II)I" } : Jvm.MethodName) ({ cls := "TaxmazeModel", name := "leaveLeft", desc := "(II)I" } : Jvm.MethodName)) ∈ lw_all := lw_g (lw_at lw_m11 117 rfl) rfl
theorem q2583 : (Jvm.Cond.code ({ cls := "TaxmazeModel", name := "leaveLeft", desc := "(II)I" } : Jvm.MethodName) prog_20_method_29_code (3 : Nat) (Option.some Jvm.ClassFile.FieldType.int)) ∈ lw_all := lw_g (lw_at lw_m11 118 rfl) rfl
theorem q2585 : (Jvm.Cond.instanceMethod ({ cls := "TaxmazeModel", name := "word", desc := "(II)I" } : Jvm.MethodName)) ∈ lw_all := lw_g (lw_at lw_m11 120 rfl) rfl
theorem q2586 : (Jvm.Cond.selects "TaxmazeModel" ({ cls := "TaxmazeModel", name := "word", desc := "(II)I" } : Jvm.MethodName) ({ cls := "TaxmazeModel", name := "word", desc := "(II)I" } : Jvm.MethodName)) ∈ lw_all := lw_g (lw_at lw_m11 121 rfl) rfl
theorem q2587 : (Jvm.Cond.code ({ cls := "TaxmazeModel", name := "word", desc := "(II)I" } : Jvm.MethodName) prog_20_method_31_code (4 : Nat) (Option.some Jvm.ClassFile.FieldType.int)) ∈ lw_all := lw_g (lw_at lw_m11 122 rfl) rfl
theorem q2588 : (Jvm.Cond.constantLong "TaxmazeModel" (305 : Nat) (9 : Int64)) ∈ lw_all := lw_g (lw_at lw_m11 123 rfl) rfl
theorem q2589 : (Jvm.Cond.constantLong "TaxmazeModel" (307 : Nat) (-1000000 : Int64)) ∈ lw_all := lw_g (lw_at lw_m11 124 rfl) rfl
theorem q2590 : (Jvm.Cond.methodLink "TaxmazeModel" (309 : Nat) ({ cls := "TaxmazeModel", name := "depth", desc := "(I)I" } : Jvm.MethodName)) ∈ lw_all := lw_g (lw_at lw_m11 125 rfl) rfl
theorem q2591 : (Jvm.Cond.privateMethod ({ cls := "TaxmazeModel", name := "depth", desc := "(I)I" } : Jvm.MethodName)) ∈ lw_tbl := lw_at lw_m11 126 rfl
theorem q2592 : (Jvm.Cond.instanceMethod ({ cls := "TaxmazeModel", name := "depth", desc := "(I)I" } : Jvm.MethodName)) ∈ lw_all := lw_g (lw_at lw_m11 127 rfl) rfl
theorem q2593 : (Jvm.Cond.code ({ cls := "TaxmazeModel", name := "depth", desc := "(I)I" } : Jvm.MethodName) prog_20_method_30_code (4 : Nat) (Option.some Jvm.ClassFile.FieldType.int)) ∈ lw_all := lw_g (lw_at lw_m11 128 rfl) rfl
theorem q2595 : (Jvm.Cond.instanceMethod ({ cls := "TaxmazeModel", name := "element", desc := "(II)I" } : Jvm.MethodName)) ∈ lw_all := lw_g (lw_at lw_m11 130 rfl) rfl
theorem q2596 : (Jvm.Cond.selects "TaxmazeModel" ({ cls := "TaxmazeModel", name := "element", desc := "(II)I" } : Jvm.MethodName) ({ cls := "TaxmazeModel", name := "element", desc := "(II)I" } : Jvm.MethodName)) ∈ lw_all := lw_g (lw_at lw_m11 131 rfl) rfl
theorem q2597 : (Jvm.Cond.code ({ cls := "TaxmazeModel", name := "element", desc := "(II)I" } : Jvm.MethodName) prog_20_method_34_code (6 : Nat) (Option.some Jvm.ClassFile.FieldType.int)) ∈ lw_all := lw_g (lw_at lw_m11 132 rfl) rfl
theorem q2598 : (Jvm.Cond.methodLink "TaxmazeModel" (319 : Nat) ({ cls := "TaxmazeModel", name := "rings", desc := "(I)Z" } : Jvm.MethodName)) ∈ lw_all := lw_g (lw_at lw_m11 133 rfl) rfl
theorem q2599 : (Jvm.Cond.privateMethod ({ cls := "TaxmazeModel", name := "rings", desc := "(I)Z" } : Jvm.MethodName)) ∈ lw_tbl := lw_at lw_m11 134 rfl
theorem q2600 : (Jvm.Cond.instanceMethod ({ cls := "TaxmazeModel", name := "rings", desc := "(I)Z" } : Jvm.MethodName)) ∈ lw_all := lw_g (lw_at lw_m11 135 rfl) rfl
theorem q2601 : (Jvm.Cond.code ({ cls := "TaxmazeModel", name := "rings", desc := "(I)Z" } : Jvm.MethodName) prog_20_method_33_code (6 : Nat) (Option.some Jvm.ClassFile.FieldType.boolean)) ∈ lw_all := lw_g (lw_at lw_m11 136 rfl) rfl
theorem q2602 : (Jvm.Cond.methodLink "TaxmazeModel" (313 : Nat) ({ cls := "TaxmazeModel", name := "needs", desc := "(I)I" } : Jvm.MethodName)) ∈ lw_all := lw_g (lw_at lw_m11 137 rfl) rfl
theorem q2603 : (Jvm.Cond.privateMethod ({ cls := "TaxmazeModel", name := "needs", desc := "(I)I" } : Jvm.MethodName)) ∈ lw_tbl := lw_at lw_m11 138 rfl
theorem q2604 : (Jvm.Cond.instanceMethod ({ cls := "TaxmazeModel", name := "needs", desc := "(I)I" } : Jvm.MethodName)) ∈ lw_all := lw_g (lw_at lw_m11 139 rfl) rfl
theorem q2605 : (Jvm.Cond.code ({ cls := "TaxmazeModel", name := "needs", desc := "(I)I" } : Jvm.MethodName) prog_20_method_32_code (4 : Nat) (Option.some Jvm.ClassFile.FieldType.int)) ∈ lw_all := lw_g (lw_at lw_m11 140 rfl) rfl
theorem q2606 : (Jvm.Cond.constantLong "TaxmazeModel" (322 : Nat) (63 : Int64)) ∈ lw_all := lw_g (lw_at lw_m11 141 rfl) rfl
theorem q2607 : (Jvm.Cond.methodLink "TaxmazeModel" (324 : Nat) ({ cls := "TaxmazeModel", name := "arrange", desc := "()V" } : Jvm.MethodName)) ∈ lw_all := lw_g (lw_at lw_m11 142 rfl) rfl
theorem q2608 : (Jvm.Cond.privateMethod ({ cls := "TaxmazeModel", name := "arrange", desc := "()V" } : Jvm.MethodName)) ∈ lw_tbl := lw_at lw_m11 143 rfl
theorem q2609 : (Jvm.Cond.instanceMethod ({ cls := "TaxmazeModel", name := "arrange", desc := "()V" } : Jvm.MethodName)) ∈ lw_all := lw_g (lw_at lw_m11 144 rfl) rfl
theorem q2610 : (Jvm.Cond.code ({ cls := "TaxmazeModel", name := "arrange", desc := "()V" } : Jvm.MethodName) prog_20_method_35_code (7 : Nat) (Option.none : Option Jvm.ClassFile.FieldType)) ∈ lw_all := lw_g (lw_at lw_m11 145 rfl) rfl
theorem q2612 : (Jvm.Cond.instanceMethod ({ cls := "TaxmazeModel", name := "order", desc := "(I)I" } : Jvm.MethodName)) ∈ lw_all := lw_g (lw_at lw_m11 147 rfl) rfl
theorem q2613 : (Jvm.Cond.selects "TaxmazeModel" ({ cls := "TaxmazeModel", name := "order", desc := "(I)I" } : Jvm.MethodName) ({ cls := "TaxmazeModel", name := "order", desc := "(I)I" } : Jvm.MethodName)) ∈ lw_all := lw_g (lw_at lw_m11 148 rfl) rfl
theorem q2614 : (Jvm.Cond.code ({ cls := "TaxmazeModel", name := "order", desc := "(I)I" } : Jvm.MethodName) prog_20_method_36_code (2 : Nat) (Option.some Jvm.ClassFile.FieldType.int)) ∈ lw_all := lw_g (lw_at lw_m11 149 rfl) rfl
theorem q2616 : (Jvm.Cond.instanceMethod ({ cls := "TaxmazeModel", name := "bonus", desc := "(IIII)I" } : Jvm.MethodName)) ∈ lw_all := lw_g (lw_at lw_m11 151 rfl) rfl
theorem q2617 : (Jvm.Cond.selects "TaxmazeModel" ({ cls := "TaxmazeModel", name := "bonus", desc := "(IIII)I" } : Jvm.MethodName) ({ cls := "TaxmazeModel", name := "bonus", desc := "(IIII)I" } : Jvm.MethodName)) ∈ lw_all := lw_g (lw_at lw_m11 152 rfl) rfl
theorem q2618 : (Jvm.Cond.code ({ cls := "TaxmazeModel", name := "bonus", desc := "(IIII)I" } : Jvm.MethodName) prog_20_method_40_code (8 : Nat) (Option.some Jvm.ClassFile.FieldType.int)) ∈ lw_all := lw_g (lw_at lw_m11 153 rfl) rfl
theorem q2619 : (Jvm.Cond.constantLong "TaxmazeModel" (341 : Nat) (-10000000 : Int64)) ∈ lw_all := lw_g (lw_at lw_m11 154 rfl) rfl
theorem q2620 : (Jvm.Cond.constantLong "TaxmazeModel" (343 : Nat) (10000000 : Int64)) ∈ lw_all := lw_g (lw_at lw_m11 155 rfl) rfl
theorem q2622 : (Jvm.Cond.instanceMethod ({ cls := "TaxmazeModel", name := "contribution", desc := "(IIII)V" } : Jvm.MethodName)) ∈ lw_all := lw_g (lw_at lw_m11 157 rfl) rfl
theorem q2623 : (Jvm.Cond.selects "TaxmazeModel" ({ cls := "TaxmazeModel", name := "contribution", desc := "(IIII)V" } : Jvm.MethodName) ({ cls := "TaxmazeModel", name := "contribution", desc := "(IIII)V" } : Jvm.MethodName)) ∈ lw_all := lw_g (lw_at lw_m11 158 rfl) rfl
theorem q2624 : (Jvm.Cond.code ({ cls := "TaxmazeModel", name := "contribution", desc := "(IIII)V" } : Jvm.MethodName) prog_20_method_41_code (5 : Nat) (Option.none : Option Jvm.ClassFile.FieldType)) ∈ lw_all := lw_g (lw_at lw_m11 159 rfl) rfl
theorem q2625 : (Jvm.Cond.constantLong "TaxmazeModel" (327 : Nat) (100000000 : Int64)) ∈ lw_all := lw_g (lw_at lw_m11 160 rfl) rfl
theorem q2627 : (Jvm.Cond.instanceMethod ({ cls := "TaxmazeModel", name := "bracket", desc := "(IIIII)I" } : Jvm.MethodName)) ∈ lw_all := lw_g (lw_at lw_m11 162 rfl) rfl
theorem q2628 : (Jvm.Cond.selects "TaxmazeModel" ({ cls := "TaxmazeModel", name := "bracket", desc := "(IIIII)I" } : Jvm.MethodName) ({ cls := "TaxmazeModel", name := "bracket", desc := "(IIIII)I" } : Jvm.MethodName)) ∈ lw_all := lw_g (lw_at lw_m11 163 rfl) rfl
theorem q2629 : (Jvm.Cond.code ({ cls := "TaxmazeModel", name := "bracket", desc := "(IIIII)I" } : Jvm.MethodName) prog_20_method_42_code (10 : Nat) (Option.some Jvm.ClassFile.FieldType.int)) ∈ lw_all := lw_g (lw_at lw_m11 164 rfl) rfl
theorem q2630 : (Jvm.Cond.constantLong "TaxmazeModel" (345 : Nat) (1000000000 : Int64)) ∈ lw_all := lw_g (lw_at lw_m11 165 rfl) rfl
theorem q2631 : (Jvm.Cond.constantLong "TaxmazeModel" (347 : Nat) (900 : Int64)) ∈ lw_all := lw_g (lw_at lw_m11 166 rfl) rfl
theorem q2633 : (Jvm.Cond.instanceMethod ({ cls := "TaxmazeModel", name := "state", desc := "(III)V" } : Jvm.MethodName)) ∈ lw_all := lw_g (lw_at lw_m11 168 rfl) rfl
theorem q2634 : (Jvm.Cond.selects "TaxmazeModel" ({ cls := "TaxmazeModel", name := "state", desc := "(III)V" } : Jvm.MethodName) ({ cls := "TaxmazeModel", name := "state", desc := "(III)V" } : Jvm.MethodName)) ∈ lw_all := lw_g (lw_at lw_m11 169 rfl) rfl
theorem q2635 : (Jvm.Cond.code ({ cls := "TaxmazeModel", name := "state", desc := "(III)V" } : Jvm.MethodName) prog_20_method_43_code (4 : Nat) (Option.none : Option Jvm.ClassFile.FieldType)) ∈ lw_all := lw_g (lw_at lw_m11 170 rfl) rfl
theorem q2637 : (Jvm.Cond.instanceMethod ({ cls := "TaxmazeModel", name := "pension", desc := "(III)V" } : Jvm.MethodName)) ∈ lw_all := lw_g (lw_at lw_m11 172 rfl) rfl
theorem q2638 : (Jvm.Cond.selects "TaxmazeModel" ({ cls := "TaxmazeModel", name := "pension", desc := "(III)V" } : Jvm.MethodName) ({ cls := "TaxmazeModel", name := "pension", desc := "(III)V" } : Jvm.MethodName)) ∈ lw_all := lw_g (lw_at lw_m11 173 rfl) rfl
theorem q2639 : (Jvm.Cond.code ({ cls := "TaxmazeModel", name := "pension", desc := "(III)V" } : Jvm.MethodName) prog_20_method_44_code (4 : Nat) (Option.none : Option Jvm.ClassFile.FieldType)) ∈ lw_all := lw_g (lw_at lw_m11 174 rfl) rfl
theorem q2640 : (Jvm.Cond.constantLong "TaxmazeModel" (349 : Nat) (200 : Int64)) ∈ lw_all := lw_g (lw_at lw_m11 175 rfl) rfl
theorem q2642 : (Jvm.Cond.instanceMethod ({ cls := "TaxmazeModel", name := "yearTax", desc := "(IIIJ)J" } : Jvm.MethodName)) ∈ lw_all := lw_g (lw_at lw_m11 177 rfl) rfl
theorem q2643 : (Jvm.Cond.selects "TaxmazeModel" ({ cls := "TaxmazeModel", name := "yearTax", desc := "(IIIJ)J" } : Jvm.MethodName) ({ cls := "TaxmazeModel", name := "yearTax", desc := "(IIIJ)J" } : Jvm.MethodName)) ∈ lw_all := lw_g (lw_at lw_m11 178 rfl) rfl
theorem q2644 : (Jvm.Cond.code ({ cls := "TaxmazeModel", name := "yearTax", desc := "(IIIJ)J" } : Jvm.MethodName) prog_20_method_47_code (7 : Nat) (Option.some Jvm.ClassFile.FieldType.long)) ∈ lw_all := lw_g (lw_at lw_m11 179 rfl) rfl
theorem q2645 : (Jvm.Cond.constantLong "TaxmazeModel" (355 : Nat) (10000000000 : Int64)) ∈ lw_all := lw_g (lw_at lw_m11 180 rfl) rfl
theorem q2646 : (Jvm.Cond.methodLink "TaxmazeModel" (357 : Nat) ({ cls := "TaxmazeModel", name := "yearly", desc := "(IIIJ)J" } : Jvm.MethodName)) ∈ lw_all := lw_g (lw_at lw_m11 181 rfl) rfl
theorem q2647 : (Jvm.Cond.privateMethod ({ cls := "TaxmazeModel", name := "yearly", desc := "(IIIJ)J" } : Jvm.MethodName)) ∈ lw_tbl := lw_at lw_m11 182 rfl
theorem q2648 : (Jvm.Cond.instanceMethod ({ cls := "TaxmazeModel", name := "yearly", desc := "(IIIJ)J" } : Jvm.MethodName)) ∈ lw_all := lw_g (lw_at lw_m11 183 rfl) rfl
theorem q2649 : (Jvm.Cond.code ({ cls := "TaxmazeModel", name := "yearly", desc := "(IIIJ)J" } : Jvm.MethodName) prog_20_method_46_code (17 : Nat) (Option.some Jvm.ClassFile.FieldType.long)) ∈ lw_all := lw_g (lw_at lw_m11 184 rfl) rfl
theorem q2650 : (Jvm.Cond.methodLink "TaxmazeModel" (351 : Nat) ({ cls := "TaxmazeModel", name := "lastOf", desc := "(III)I" } : Jvm.MethodName)) ∈ lw_all := lw_g (lw_at lw_m11 185 rfl) rfl
theorem q2651 : (Jvm.Cond.privateMethod ({ cls := "TaxmazeModel", name := "lastOf", desc := "(III)I" } : Jvm.MethodName)) ∈ lw_tbl := lw_at lw_m11 186 rfl
theorem q2652 : (Jvm.Cond.instanceMethod ({ cls := "TaxmazeModel", name := "lastOf", desc := "(III)I" } : Jvm.MethodName)) ∈ lw_all := lw_g (lw_at lw_m11 187 rfl) rfl
theorem q2653 : (Jvm.Cond.code ({ cls := "TaxmazeModel", name := "lastOf", desc := "(III)I" } : Jvm.MethodName) prog_20_method_45_code (5 : Nat) (Option.some Jvm.ClassFile.FieldType.int)) ∈ lw_all := lw_g (lw_at lw_m11 188 rfl) rfl
theorem q2654 : (Jvm.Cond.constantLong "TaxmazeModel" (331 : Nat) (1000 : Int64)) ∈ lw_all := lw_g (lw_at lw_m11 189 rfl) rfl
theorem q2656 : (Jvm.Cond.instanceMethod ({ cls := "TaxmazeModel", name := "slip", desc := "(III)J" } : Jvm.MethodName)) ∈ lw_all := lw_g (lw_at lw_m11 191 rfl) rfl
theorem q2657 : (Jvm.Cond.selects "TaxmazeModel" ({ cls := "TaxmazeModel", name := "slip", desc := "(III)J" } : Jvm.MethodName) ({ cls := "TaxmazeModel", name := "slip", desc := "(III)J" } : Jvm.MethodName)) ∈ lw_all := lw_g (lw_at lw_m11 192 rfl) rfl
theorem q2658 : (Jvm.Cond.code ({ cls := "TaxmazeModel", name := "slip", desc := "(III)J" } : Jvm.MethodName) prog_20_method_56_code (4 : Nat) (Option.some Jvm.ClassFile.FieldType.long)) ∈ lw_all := lw_g (lw_at lw_m11 193 rfl) rfl
theorem q2659 : (Jvm.Cond.constantLong "TaxmazeModel" (387 : Nat) (7 : Int64)) ∈ lw_all := lw_g (lw_at lw_m11 194 rfl) rfl
theorem q2660 : (Jvm.Cond.methodLink "TaxmazeModel" (389 : Nat) ({ cls := "TaxmazeModel", name := "slips", desc := "(I)V" } : Jvm.MethodName)) ∈ lw_all := lw_g (lw_at lw_m11 195 rfl) rfl
theorem q2661 : (Jvm.Cond.privateMethod ({ cls := "TaxmazeModel", name := "slips", desc := "(I)V" } : Jvm.MethodName)) ∈ lw_tbl := lw_at lw_m11 196 rfl
theorem q2662 : (Jvm.Cond.instanceMethod ({ cls := "TaxmazeModel", name := "slips", desc := "(I)V" } : Jvm.MethodName)) ∈ lw_all := lw_g (lw_at lw_m11 197 rfl) rfl
theorem q2663 : (Jvm.Cond.code ({ cls := "TaxmazeModel", name := "slips", desc := "(I)V" } : Jvm.MethodName) prog_20_method_54_code (11 : Nat) (Option.none : Option Jvm.ClassFile.FieldType)) ∈ lw_all := lw_g (lw_at lw_m11 198 rfl) rfl
theorem q2664 : (Jvm.Cond.methodLink "TaxmazeModel" (374 : Nat) ({ cls := "TaxmazeModel", name := "grossOf", desc := "(II)V" } : Jvm.MethodName)) ∈ lw_all := lw_g (lw_at lw_m11 199 rfl) rfl
theorem q2665 : (Jvm.Cond.privateMethod ({ cls := "TaxmazeModel", name := "grossOf", desc := "(II)V" } : Jvm.MethodName)) ∈ lw_tbl := lw_at lw_m11 200 rfl
theorem q2666 : (Jvm.Cond.instanceMethod ({ cls := "TaxmazeModel", name := "grossOf", desc := "(II)V" } : Jvm.MethodName)) ∈ lw_all := lw_g (lw_at lw_m11 201 rfl) rfl
theorem q2667 : (Jvm.Cond.code ({ cls := "TaxmazeModel", name := "grossOf", desc := "(II)V" } : Jvm.MethodName) prog_20_method_49_code (11 : Nat) (Option.none : Option Jvm.ClassFile.FieldType)) ∈ lw_all := lw_g (lw_at lw_m11 202 rfl) rfl
theorem q2668 : (Jvm.Cond.methodLink "TaxmazeModel" (361 : Nat) ({ cls := "TaxmazeModel", name := "formula", desc := "(IJJ)J" } : Jvm.MethodName)) ∈ lw_all := lw_g (lw_at lw_m11 203 rfl) rfl
theorem q2669 : (Jvm.Cond.privateMethod ({ cls := "TaxmazeModel", name := "formula", desc := "(IJJ)J" } : Jvm.MethodName)) ∈ lw_tbl := lw_at lw_m11 204 rfl
theorem q2670 : (Jvm.Cond.instanceMethod ({ cls := "TaxmazeModel", name := "formula", desc := "(IJJ)J" } : Jvm.MethodName)) ∈ lw_all := lw_g (lw_at lw_m11 205 rfl) rfl
theorem q2671 : (Jvm.Cond.code ({ cls := "TaxmazeModel", name := "formula", desc := "(IJJ)J" } : Jvm.MethodName) prog_20_method_39_code (10 : Nat) (Option.some Jvm.ClassFile.FieldType.long)) ∈ lw_all := lw_g (lw_at lw_m11 206 rfl) rfl
theorem q2672 : (Jvm.Cond.methodLink "TaxmazeModel" (333 : Nat) ({ cls := "TaxmazeModel", name := "kept", desc := "(J)J" } : Jvm.MethodName)) ∈ lw_all := lw_g (lw_at lw_m11 207 rfl) rfl
theorem q2673 : (Jvm.Cond.privateMethod ({ cls := "TaxmazeModel", name := "kept", desc := "(J)J" } : Jvm.MethodName)) ∈ lw_tbl := lw_at lw_m11 208 rfl
theorem q2674 : (Jvm.Cond.instanceMethod ({ cls := "TaxmazeModel", name := "kept", desc := "(J)J" } : Jvm.MethodName)) ∈ lw_all := lw_g (lw_at lw_m11 209 rfl) rfl
theorem q2675 : (Jvm.Cond.code ({ cls := "TaxmazeModel", name := "kept", desc := "(J)J" } : Jvm.MethodName) prog_20_method_37_code (3 : Nat) (Option.some Jvm.ClassFile.FieldType.long)) ∈ lw_all := lw_g (lw_at lw_m11 210 rfl) rfl
theorem q2676 : (Jvm.Cond.constantLong "TaxmazeModel" (329 : Nat) (-100000000 : Int64)) ∈ lw_all := lw_g (lw_at lw_m11 211 rfl) rfl
theorem q2677 : (Jvm.Cond.methodLink "TaxmazeModel" (337 : Nat) ({ cls := "TaxmazeModel", name := "joined", desc := "(IJJ)J" } : Jvm.MethodName)) ∈ lw_all := lw_g (lw_at lw_m11 212 rfl) rfl
theorem q2678 : (Jvm.Cond.privateMethod ({ cls := "TaxmazeModel", name := "joined", desc := "(IJJ)J" } : Jvm.MethodName)) ∈ lw_tbl := lw_at lw_m11 213 rfl
theorem q2679 : (Jvm.Cond.instanceMethod ({ cls := "TaxmazeModel", name := "joined", desc := "(IJJ)J" } : Jvm.MethodName)) ∈ lw_all := lw_g (lw_at lw_m11 214 rfl) rfl
theorem q2680 : (Jvm.Cond.code ({ cls := "TaxmazeModel", name := "joined", desc := "(IJJ)J" } : Jvm.MethodName) prog_20_method_38_code (6 : Nat) (Option.some Jvm.ClassFile.FieldType.long)) ∈ lw_all := lw_g (lw_at lw_m11 215 rfl) rfl
theorem q2681 : (Jvm.Cond.methodLink "TaxmazeModel" (364 : Nat) ({ cls := "TaxmazeModel", name := "home", desc := "(II)I" } : Jvm.MethodName)) ∈ lw_all := lw_g (lw_at lw_m11 216 rfl) rfl
theorem q2682 : (Jvm.Cond.privateMethod ({ cls := "TaxmazeModel", name := "home", desc := "(II)I" } : Jvm.MethodName)) ∈ lw_tbl := lw_at lw_m11 217 rfl
theorem q2683 : (Jvm.Cond.instanceMethod ({ cls := "TaxmazeModel", name := "home", desc := "(II)I" } : Jvm.MethodName)) ∈ lw_all := lw_g (lw_at lw_m11 218 rfl) rfl
theorem q2684 : (Jvm.Cond.code ({ cls := "TaxmazeModel", name := "home", desc := "(II)I" } : Jvm.MethodName) prog_20_method_48_code (6 : Nat) (Option.some Jvm.ClassFile.FieldType.int)) ∈ lw_all := lw_g (lw_at lw_m11 219 rfl) rfl
theorem q2685 : (Jvm.Cond.methodLink "TaxmazeModel" (377 : Nat) ({ cls := "TaxmazeModel", name := "contribute", desc := "(II)V" } : Jvm.MethodName)) ∈ lw_all := lw_g (lw_at lw_m11 220 rfl) rfl
theorem q2686 : (Jvm.Cond.privateMethod ({ cls := "TaxmazeModel", name := "contribute", desc := "(II)V" } : Jvm.MethodName)) ∈ lw_tbl := lw_at lw_m11 221 rfl
theorem q2687 : (Jvm.Cond.instanceMethod ({ cls := "TaxmazeModel", name := "contribute", desc := "(II)V" } : Jvm.MethodName)) ∈ lw_all := lw_g (lw_at lw_m11 222 rfl) rfl
theorem q2688 : (Jvm.Cond.code ({ cls := "TaxmazeModel", name := "contribute", desc := "(II)V" } : Jvm.MethodName) prog_20_method_51_code (11 : Nat) (Option.none : Option Jvm.ClassFile.FieldType)) ∈ lw_all := lw_g (lw_at lw_m11 223 rfl) rfl
theorem q2689 : (Jvm.Cond.methodLink "TaxmazeModel" (367 : Nat) ({ cls := "TaxmazeModel", name := "yearSum", desc := "(III)J" } : Jvm.MethodName)) ∈ lw_all := lw_g (lw_at lw_m11 224 rfl) rfl
theorem q2690 : (Jvm.Cond.privateMethod ({ cls := "TaxmazeModel", name := "yearSum", desc := "(III)J" } : Jvm.MethodName)) ∈ lw_tbl := lw_at lw_m11 225 rfl
theorem q2691 : (Jvm.Cond.instanceMethod ({ cls := "TaxmazeModel", name := "yearSum", desc := "(III)J" } : Jvm.MethodName)) ∈ lw_all := lw_g (lw_at lw_m11 226 rfl) rfl
theorem q2692 : (Jvm.Cond.code ({ cls := "TaxmazeModel", name := "yearSum", desc := "(III)J" } : Jvm.MethodName) prog_20_method_50_code (7 : Nat) (Option.some Jvm.ClassFile.FieldType.long)) ∈ lw_all := lw_g (lw_at lw_m11 227 rfl) rfl
theorem q2693 : (Jvm.Cond.methodLink "TaxmazeModel" (380 : Nat) ({ cls := "TaxmazeModel", name := "taxes", desc := "(III)V" } : Jvm.MethodName)) ∈ lw_all := lw_g (lw_at lw_m11 228 rfl) rfl
theorem q2694 : (Jvm.Cond.privateMethod ({ cls := "TaxmazeModel", name := "taxes", desc := "(III)V" } : Jvm.MethodName)) ∈ lw_tbl := lw_at lw_m11 229 rfl
theorem q2695 : (Jvm.Cond.instanceMethod ({ cls := "TaxmazeModel", name := "taxes", desc := "(III)V" } : Jvm.MethodName)) ∈ lw_all := lw_g (lw_at lw_m11 230 rfl) rfl
theorem q2696 : (Jvm.Cond.code ({ cls := "TaxmazeModel", name := "taxes", desc := "(III)V" } : Jvm.MethodName) prog_20_method_52_code (12 : Nat) (Option.none : Option Jvm.ClassFile.FieldType)) ∈ lw_all := lw_g (lw_at lw_m11 231 rfl) rfl
theorem q2697 : (Jvm.Cond.methodLink "TaxmazeModel" (384 : Nat) ({ cls := "TaxmazeModel", name := "garnished", desc := "(II)V" } : Jvm.MethodName)) ∈ lw_all := lw_g (lw_at lw_m11 232 rfl) rfl
theorem q2698 : (Jvm.Cond.privateMethod ({ cls := "TaxmazeModel", name := "garnished", desc := "(II)V" } : Jvm.MethodName)) ∈ lw_tbl := lw_at lw_m11 233 rfl
theorem q2699 : (Jvm.Cond.instanceMethod ({ cls := "TaxmazeModel", name := "garnished", desc := "(II)V" } : Jvm.MethodName)) ∈ lw_all := lw_g (lw_at lw_m11 234 rfl) rfl
theorem q2700 : (Jvm.Cond.code ({ cls := "TaxmazeModel", name := "garnished", desc := "(II)V" } : Jvm.MethodName) prog_20_method_53_code (13 : Nat) (Option.none : Option Jvm.ClassFile.FieldType)) ∈ lw_all := lw_g (lw_at lw_m11 235 rfl) rfl
theorem q2701 : (Jvm.Cond.methodLink "TaxmazeModel" (392 : Nat) ({ cls := "TaxmazeModel", name := "sumOf", desc := "(II)J" } : Jvm.MethodName)) ∈ lw_all := lw_g (lw_at lw_m11 236 rfl) rfl
theorem q2702 : (Jvm.Cond.privateMethod ({ cls := "TaxmazeModel", name := "sumOf", desc := "(II)J" } : Jvm.MethodName)) ∈ lw_tbl := lw_at lw_m11 237 rfl
theorem q2703 : (Jvm.Cond.instanceMethod ({ cls := "TaxmazeModel", name := "sumOf", desc := "(II)J" } : Jvm.MethodName)) ∈ lw_all := lw_g (lw_at lw_m11 238 rfl) rfl
theorem q2704 : (Jvm.Cond.code ({ cls := "TaxmazeModel", name := "sumOf", desc := "(II)J" } : Jvm.MethodName) prog_20_method_55_code (6 : Nat) (Option.some Jvm.ClassFile.FieldType.long)) ∈ lw_all := lw_g (lw_at lw_m11 239 rfl) rfl
theorem q2706 : (Jvm.Cond.instanceMethod ({ cls := "TaxmazeModel", name := "slipIn", desc := "(IIII)J" } : Jvm.MethodName)) ∈ lw_all := lw_g (lw_at lw_m12 1 rfl) rfl
theorem q2707 : (Jvm.Cond.selects "TaxmazeModel" ({ cls := "TaxmazeModel", name := "slipIn", desc := "(IIII)J" } : Jvm.MethodName) ({ cls := "TaxmazeModel", name := "slipIn", desc := "(IIII)J" } : Jvm.MethodName)) ∈ lw_all := lw_g (lw_at lw_m12 2 rfl) rfl
theorem q2708 : (Jvm.Cond.code ({ cls := "TaxmazeModel", name := "slipIn", desc := "(IIII)J" } : Jvm.MethodName) prog_20_method_57_code (7 : Nat) (Option.some Jvm.ClassFile.FieldType.long)) ∈ lw_all := lw_g (lw_at lw_m12 3 rfl) rfl
theorem q2710 : (Jvm.Cond.instanceMethod ({ cls := "TaxmazeModel", name := "elementOf", desc := "(III)J" } : Jvm.MethodName)) ∈ lw_all := lw_g (lw_at lw_m12 5 rfl) rfl
theorem q2711 : (Jvm.Cond.selects "TaxmazeModel" ({ cls := "TaxmazeModel", name := "elementOf", desc := "(III)J" } : Jvm.MethodName) ({ cls := "TaxmazeModel", name := "elementOf", desc := "(III)J" } : Jvm.MethodName)) ∈ lw_all := lw_g (lw_at lw_m12 6 rfl) rfl
theorem q2712 : (Jvm.Cond.code ({ cls := "TaxmazeModel", name := "elementOf", desc := "(III)J" } : Jvm.MethodName) prog_20_method_58_code (5 : Nat) (Option.some Jvm.ClassFile.FieldType.long)) ∈ lw_all := lw_g (lw_at lw_m12 7 rfl) rfl
theorem q2714 : (Jvm.Cond.instanceMethod ({ cls := "TaxmazeModel", name := "pensionOf", desc := "(II)J" } : Jvm.MethodName)) ∈ lw_all := lw_g (lw_at lw_m12 9 rfl) rfl
theorem q2715 : (Jvm.Cond.selects "TaxmazeModel" ({ cls := "TaxmazeModel", name := "pensionOf", desc := "(II)J" } : Jvm.MethodName) ({ cls := "TaxmazeModel", name := "pensionOf", desc := "(II)J" } : Jvm.MethodName)) ∈ lw_all := lw_g (lw_at lw_m12 10 rfl) rfl
theorem q2716 : (Jvm.Cond.code ({ cls := "TaxmazeModel", name := "pensionOf", desc := "(II)J" } : Jvm.MethodName) prog_20_method_59_code (9 : Nat) (Option.some Jvm.ClassFile.FieldType.long)) ∈ lw_all := lw_g (lw_at lw_m12 11 rfl) rfl
theorem q2718 : (Jvm.Cond.instanceMethod ({ cls := "TaxmazeModel", name := "grossFor", desc := "(IIII)I" } : Jvm.MethodName)) ∈ lw_all := lw_g (lw_at lw_m12 13 rfl) rfl
theorem q2719 : (Jvm.Cond.selects "TaxmazeModel" ({ cls := "TaxmazeModel", name := "grossFor", desc := "(IIII)I" } : Jvm.MethodName) ({ cls := "TaxmazeModel", name := "grossFor", desc := "(IIII)I" } : Jvm.MethodName)) ∈ lw_all := lw_g (lw_at lw_m12 14 rfl) rfl
theorem q2720 : (Jvm.Cond.code ({ cls := "TaxmazeModel", name := "grossFor", desc := "(IIII)I" } : Jvm.MethodName) prog_20_method_60_code (12 : Nat) (Option.some Jvm.ClassFile.FieldType.int)) ∈ lw_all := lw_g (lw_at lw_m12 15 rfl) rfl
theorem q2722 : (Jvm.Cond.instanceMethod ({ cls := "TaxmazeModel", name := "garnish", desc := "(IIIIII)I" } : Jvm.MethodName)) ∈ lw_all := lw_g (lw_at lw_m12 17 rfl) rfl
theorem q2723 : (Jvm.Cond.selects "TaxmazeModel" ({ cls := "TaxmazeModel", name := "garnish", desc := "(IIIIII)I" } : Jvm.MethodName) ({ cls := "TaxmazeModel", name := "garnish", desc := "(IIIIII)I" } : Jvm.MethodName)) ∈ lw_all := lw_g (lw_at lw_m12 18 rfl) rfl
theorem q2724 : (Jvm.Cond.code ({ cls := "TaxmazeModel", name := "garnish", desc := "(IIIIII)I" } : Jvm.MethodName) prog_20_method_61_code (9 : Nat) (Option.some Jvm.ClassFile.FieldType.int)) ∈ lw_all := lw_g (lw_at lw_m12 19 rfl) rfl
theorem q2726 : (Jvm.Cond.instanceMethod ({ cls := "TaxmazeModel", name := "takenBy", desc := "(II)J" } : Jvm.MethodName)) ∈ lw_all := lw_g (lw_at lw_m12 21 rfl) rfl
theorem q2727 : (Jvm.Cond.selects "TaxmazeModel" ({ cls := "TaxmazeModel", name := "takenBy", desc := "(II)J" } : Jvm.MethodName) ({ cls := "TaxmazeModel", name := "takenBy", desc := "(II)J" } : Jvm.MethodName)) ∈ lw_all := lw_g (lw_at lw_m12 22 rfl) rfl
theorem q2728 : (Jvm.Cond.code ({ cls := "TaxmazeModel", name := "takenBy", desc := "(II)J" } : Jvm.MethodName) prog_20_method_62_code (3 : Nat) (Option.some Jvm.ClassFile.FieldType.long)) ∈ lw_all := lw_g (lw_at lw_m12 23 rfl) rfl
theorem q2730 : (Jvm.Cond.instanceMethod ({ cls := "TaxmazeModel", name := "advance", desc := "(II)J" } : Jvm.MethodName)) ∈ lw_all := lw_g (lw_at lw_m12 25 rfl) rfl
theorem q2731 : (Jvm.Cond.selects "TaxmazeModel" ({ cls := "TaxmazeModel", name := "advance", desc := "(II)J" } : Jvm.MethodName) ({ cls := "TaxmazeModel", name := "advance", desc := "(II)J" } : Jvm.MethodName)) ∈ lw_all := lw_g (lw_at lw_m12 26 rfl) rfl
theorem q2732 : (Jvm.Cond.code ({ cls := "TaxmazeModel", name := "advance", desc := "(II)J" } : Jvm.MethodName) prog_20_method_63_code (6 : Nat) (Option.some Jvm.ClassFile.FieldType.long)) ∈ lw_all := lw_g (lw_at lw_m12 27 rfl) rfl
theorem q2734 : (Jvm.Cond.instanceMethod ({ cls := "TaxmazeModel", name := "open", desc := "()I" } : Jvm.MethodName)) ∈ lw_all := lw_g (lw_at lw_m12 29 rfl) rfl
theorem q2735 : (Jvm.Cond.selects "TaxmazeModel" ({ cls := "TaxmazeModel", name := "open", desc := "()I" } : Jvm.MethodName) ({ cls := "TaxmazeModel", name := "open", desc := "()I" } : Jvm.MethodName)) ∈ lw_all := lw_g (lw_at lw_m12 30 rfl) rfl
theorem q2736 : (Jvm.Cond.code ({ cls := "TaxmazeModel", name := "open", desc := "()I" } : Jvm.MethodName) prog_20_method_64_code (1 : Nat) (Option.some Jvm.ClassFile.FieldType.int)) ∈ lw_all := lw_g (lw_at lw_m12 31 rfl) rfl
theorem q2738 : (Jvm.Cond.instanceMethod ({ cls := "TaxmazeModel", name := "close", desc := "()I" } : Jvm.MethodName)) ∈ lw_all := lw_g (lw_at lw_m12 33 rfl) rfl
theorem q2739 : (Jvm.Cond.selects "TaxmazeModel" ({ cls := "TaxmazeModel", name := "close", desc := "()I" } : Jvm.MethodName) ({ cls := "TaxmazeModel", name := "close", desc := "()I" } : Jvm.MethodName)) ∈ lw_all := lw_g (lw_at lw_m12 34 rfl) rfl
theorem q2740 : (Jvm.Cond.code ({ cls := "TaxmazeModel", name := "close", desc := "()I" } : Jvm.MethodName) prog_20_method_67_code (6 : Nat) (Option.some Jvm.ClassFile.FieldType.int)) ∈ lw_all := lw_g (lw_at lw_m12 35 rfl) rfl
theorem q2741 : (Jvm.Cond.methodLink "TaxmazeModel" (401 : Nat) ({ cls := "TaxmazeModel", name := "owes", desc := "(II)J" } : Jvm.MethodName)) ∈ lw_all := lw_g (lw_at lw_m12 36 rfl) rfl
theorem q2742 : (Jvm.Cond.privateMethod ({ cls := "TaxmazeModel", name := "owes", desc := "(II)J" } : Jvm.MethodName)) ∈ lw_tbl := lw_at lw_m12 37 rfl
theorem q2743 : (Jvm.Cond.instanceMethod ({ cls := "TaxmazeModel", name := "owes", desc := "(II)J" } : Jvm.MethodName)) ∈ lw_all := lw_g (lw_at lw_m12 38 rfl) rfl
theorem q2744 : (Jvm.Cond.code ({ cls := "TaxmazeModel", name := "owes", desc := "(II)J" } : Jvm.MethodName) prog_20_method_65_code (6 : Nat) (Option.some Jvm.ClassFile.FieldType.long)) ∈ lw_all := lw_g (lw_at lw_m12 39 rfl) rfl
theorem q2745 : (Jvm.Cond.methodLink "TaxmazeModel" (404 : Nat) ({ cls := "TaxmazeModel", name := "file", desc := "()V" } : Jvm.MethodName)) ∈ lw_all := lw_g (lw_at lw_m12 40 rfl) rfl
theorem q2746 : (Jvm.Cond.privateMethod ({ cls := "TaxmazeModel", name := "file", desc := "()V" } : Jvm.MethodName)) ∈ lw_tbl := lw_at lw_m12 41 rfl
theorem q2747 : (Jvm.Cond.instanceMethod ({ cls := "TaxmazeModel", name := "file", desc := "()V" } : Jvm.MethodName)) ∈ lw_all := lw_g (lw_at lw_m12 42 rfl) rfl
theorem q2748 : (Jvm.Cond.code ({ cls := "TaxmazeModel", name := "file", desc := "()V" } : Jvm.MethodName) prog_20_method_66_code (9 : Nat) (Option.none : Option Jvm.ClassFile.FieldType)) ∈ lw_all := lw_g (lw_at lw_m12 43 rfl) rfl
theorem q2750 : (Jvm.Cond.instanceMethod ({ cls := "TaxmazeModel", name := "payments", desc := "()I" } : Jvm.MethodName)) ∈ lw_all := lw_g (lw_at lw_m12 45 rfl) rfl
theorem q2751 : (Jvm.Cond.selects "TaxmazeModel" ({ cls := "TaxmazeModel", name := "payments", desc := "()I" } : Jvm.MethodName) ({ cls := "TaxmazeModel", name := "payments", desc := "()I" } : Jvm.MethodName)) ∈ lw_all := lw_g (lw_at lw_m12 46 rfl) rfl
theorem q2752 : (Jvm.Cond.code ({ cls := "TaxmazeModel", name := "payments", desc := "()I" } : Jvm.MethodName) prog_20_method_68_code (1 : Nat) (Option.some Jvm.ClassFile.FieldType.int)) ∈ lw_all := lw_g (lw_at lw_m12 47 rfl) rfl
theorem q2754 : (Jvm.Cond.instanceMethod ({ cls := "TaxmazeModel", name := "payment", desc := "(II)J" } : Jvm.MethodName)) ∈ lw_all := lw_g (lw_at lw_m12 49 rfl) rfl
theorem q2755 : (Jvm.Cond.selects "TaxmazeModel" ({ cls := "TaxmazeModel", name := "payment", desc := "(II)J" } : Jvm.MethodName) ({ cls := "TaxmazeModel", name := "payment", desc := "(II)J" } : Jvm.MethodName)) ∈ lw_all := lw_g (lw_at lw_m12 50 rfl) rfl
theorem q2756 : (Jvm.Cond.code ({ cls := "TaxmazeModel", name := "payment", desc := "(II)J" } : Jvm.MethodName) prog_20_method_69_code (3 : Nat) (Option.some Jvm.ClassFile.FieldType.long)) ∈ lw_all := lw_g (lw_at lw_m12 51 rfl) rfl
theorem q2757 : (Jvm.Cond.constantLong "TaxmazeModel" (407 : Nat) (3 : Int64)) ∈ lw_all := lw_g (lw_at lw_m12 52 rfl) rfl
theorem q2759 : (Jvm.Cond.instanceMethod ({ cls := "TaxmazeModel", name := "comeBack", desc := "(I)J" } : Jvm.MethodName)) ∈ lw_all := lw_g (lw_at lw_m12 54 rfl) rfl
theorem q2760 : (Jvm.Cond.selects "TaxmazeModel" ({ cls := "TaxmazeModel", name := "comeBack", desc := "(I)J" } : Jvm.MethodName) ({ cls := "TaxmazeModel", name := "comeBack", desc := "(I)J" } : Jvm.MethodName)) ∈ lw_all := lw_g (lw_at lw_m12 55 rfl) rfl
theorem q2761 : (Jvm.Cond.code ({ cls := "TaxmazeModel", name := "comeBack", desc := "(I)J" } : Jvm.MethodName) prog_20_method_70_code (3 : Nat) (Option.some Jvm.ClassFile.FieldType.long)) ∈ lw_all := lw_g (lw_at lw_m12 56 rfl) rfl
theorem q2763 : (Jvm.Cond.instanceMethod ({ cls := "TaxmazeModel", name := "owed", desc := "(I)J" } : Jvm.MethodName)) ∈ lw_all := lw_g (lw_at lw_m12 58 rfl) rfl
theorem q2764 : (Jvm.Cond.selects "TaxmazeModel" ({ cls := "TaxmazeModel", name := "owed", desc := "(I)J" } : Jvm.MethodName) ({ cls := "TaxmazeModel", name := "owed", desc := "(I)J" } : Jvm.MethodName)) ∈ lw_all := lw_g (lw_at lw_m12 59 rfl) rfl
theorem q2765 : (Jvm.Cond.code ({ cls := "TaxmazeModel", name := "owed", desc := "(I)J" } : Jvm.MethodName) prog_20_method_71_code (2 : Nat) (Option.some Jvm.ClassFile.FieldType.long)) ∈ lw_all := lw_g (lw_at lw_m12 60 rfl) rfl
theorem q2767 : (Jvm.Cond.instanceMethod ({ cls := "TaxmazeModel", name := "filed", desc := "(IIZ)J" } : Jvm.MethodName)) ∈ lw_all := lw_g (lw_at lw_m12 62 rfl) rfl
theorem q2768 : (Jvm.Cond.selects "TaxmazeModel" ({ cls := "TaxmazeModel", name := "filed", desc := "(IIZ)J" } : Jvm.MethodName) ({ cls := "TaxmazeModel", name := "filed", desc := "(IIZ)J" } : Jvm.MethodName)) ∈ lw_all := lw_g (lw_at lw_m12 63 rfl) rfl
theorem q2769 : (Jvm.Cond.code ({ cls := "TaxmazeModel", name := "filed", desc := "(IIZ)J" } : Jvm.MethodName) prog_20_method_72_code (4 : Nat) (Option.some Jvm.ClassFile.FieldType.long)) ∈ lw_all := lw_g (lw_at lw_m12 64 rfl) rfl
theorem q2771 : (Jvm.Cond.instanceMethod ({ cls := "TaxmazeModel", name := "corrections", desc := "(II)I" } : Jvm.MethodName)) ∈ lw_all := lw_g (lw_at lw_m12 66 rfl) rfl
theorem q2772 : (Jvm.Cond.selects "TaxmazeModel" ({ cls := "TaxmazeModel", name := "corrections", desc := "(II)I" } : Jvm.MethodName) ({ cls := "TaxmazeModel", name := "corrections", desc := "(II)I" } : Jvm.MethodName)) ∈ lw_all := lw_g (lw_at lw_m12 67 rfl) rfl
theorem q2773 : (Jvm.Cond.code ({ cls := "TaxmazeModel", name := "corrections", desc := "(II)I" } : Jvm.MethodName) prog_20_method_73_code (3 : Nat) (Option.some Jvm.ClassFile.FieldType.int)) ∈ lw_all := lw_g (lw_at lw_m12 68 rfl) rfl
theorem q2796 : (Jvm.Cond.castable "TaxmazeModel" "java/lang/Object") ∈ lw_tbl := lw_at lw_m12 91 rfl
theorem q83 : (Jvm.Cond.initialized "java/lang/Throwable") ∈ lw_all := lw_g (lw_at lw_m1 18 rfl) rfl
theorem q438 : (Jvm.Cond.instanceMethod ({ cls := "java/lang/Throwable", name := "<init>", desc := "(Ljava/lang/String;)V" } : Jvm.MethodName)) ∈ lw_all := lw_g (lw_at lw_m2 133 rfl) rfl
theorem q439 : (Jvm.Cond.code ({ cls := "java/lang/Throwable", name := "<init>", desc := "(Ljava/lang/String;)V" } : Jvm.MethodName) prog_46_method_2_code (2 : Nat) (Option.none : Option Jvm.ClassFile.FieldType)) ∈ lw_all := lw_g (lw_at lw_m2 134 rfl) rfl
theorem q440 : (Jvm.Cond.methodLink "java/lang/Throwable" (1 : Nat) ({ cls := "java/lang/Object", name := "<init>", desc := "()V" } : Jvm.MethodName)) ∈ lw_all := lw_g (lw_at lw_m2 135 rfl) rfl
theorem q441 : (Jvm.Cond.fieldLink "java/lang/Throwable" (13 : Nat) "java/lang/Throwable" "UNASSIGNED_STACK" "[Ljava/lang/StackTraceElement;") ∈ lw_all := lw_g (lw_at lw_m2 136 rfl) rfl
theorem q442 : (Jvm.Cond.laysStatic "java/lang/Throwable" "UNASSIGNED_STACK" "[Ljava/lang/StackTraceElement;") ∈ lw_tbl := lw_at lw_m2 137 rfl
theorem q443 : (Jvm.Cond.fieldLink "java/lang/Throwable" (20 : Nat) "java/lang/Throwable" "SUPPRESSED_SENTINEL" "Ljava/util/List;") ∈ lw_all := lw_g (lw_at lw_m2 138 rfl) rfl
theorem q444 : (Jvm.Cond.laysStatic "java/lang/Throwable" "SUPPRESSED_SENTINEL" "Ljava/util/List;") ∈ lw_tbl := lw_at lw_m2 139 rfl
theorem q445 : (Jvm.Cond.methodLink "java/lang/Throwable" (27 : Nat) ({ cls := "java/lang/Throwable", name := "fillInStackTrace", desc := "()Ljava/lang/Throwable;" } : Jvm.MethodName)) ∈ lw_all := lw_g (lw_at lw_m2 140 rfl) rfl
theorem q446 : (Jvm.Cond.instanceMethod ({ cls := "java/lang/Throwable", name := "fillInStackTrace", desc := "()Ljava/lang/Throwable;" } : Jvm.MethodName)) ∈ lw_all := lw_g (lw_at lw_m2 141 rfl) rfl
theorem q447 : (Jvm.Cond.sameMethod "java/lang/Throwable" "java/lang/Throwable" "fillInStackTrace" "()Ljava/lang/Throwable;") ∈ lw_all := lw_g (lw_at lw_m2 142 rfl) rfl
theorem q452 : (Jvm.Cond.codeSync ({ cls := "java/lang/Throwable", name := "fillInStackTrace", desc := "()Ljava/lang/Throwable;" } : Jvm.MethodName) prog_46_method_18_code (1 : Nat) (Option.some (Jvm.ClassFile.FieldType.object "java/lang/Throwable"))) ∈ lw_all := lw_g (lw_at lw_m2 147 rfl) rfl
theorem q453 : (Jvm.Cond.methodLink "java/lang/Throwable" (202 : Nat) ({ cls := "java/lang/Throwable", name := "fillInStackTrace", desc := "(I)Ljava/lang/Throwable;" } : Jvm.MethodName)) ∈ lw_all := lw_g (lw_at lw_m2 148 rfl) rfl
theorem q454 : (Jvm.Cond.privateMethod ({ cls := "java/lang/Throwable", name := "fillInStackTrace", desc := "(I)Ljava/lang/Throwable;" } : Jvm.MethodName)) ∈ lw_tbl := lw_at lw_m2 149 rfl
theorem q455 : (Jvm.Cond.instanceMethod ({ cls := "java/lang/Throwable", name := "fillInStackTrace", desc := "(I)Ljava/lang/Throwable;" } : Jvm.MethodName)) ∈ lw_all := lw_g (lw_at lw_m2 150 rfl) rfl
theorem q456 : (Jvm.Cond.instantiable "java/lang/Throwable" (6 : Nat)) ∈ lw_all := lw_g (lw_at lw_m2 151 rfl) rfl
theorem q457 : (Jvm.Cond.native ({ cls := "java/lang/Throwable", name := "fillInStackTrace", desc := "(I)Ljava/lang/Throwable;" } : Jvm.MethodName)) ∈ lw_all := lw_g (lw_at lw_m2 152 rfl) rfl
theorem q458 : (Jvm.Cond.fieldLink "java/lang/Throwable" (198 : Nat) "java/lang/Throwable" "backtrace" "Ljava/lang/Object;") ∈ lw_all := lw_g (lw_at lw_m2 153 rfl) rfl
theorem q459 : (Jvm.Cond.fieldLink "java/lang/Throwable" (31 : Nat) "java/lang/Throwable" "detailMessage" "Ljava/lang/String;") ∈ lw_all := lw_g (lw_at lw_m2 154 rfl) rfl
theorem q460 : (Jvm.Cond.fieldLink "java/lang/Throwable" (7 : Nat) "java/lang/Throwable" "cause" "Ljava/lang/Throwable;") ∈ lw_all := lw_g (lw_at lw_m2 155 rfl) rfl
theorem q461 : (Jvm.Cond.fieldLink "java/lang/Throwable" (17 : Nat) "java/lang/Throwable" "stackTrace" "[Ljava/lang/StackTraceElement;") ∈ lw_all := lw_g (lw_at lw_m2 156 rfl) rfl
theorem q462 : (Jvm.Cond.fieldLink "java/lang/Throwable" (24 : Nat) "java/lang/Throwable" "suppressedExceptions" "Ljava/util/List;") ∈ lw_all := lw_g (lw_at lw_m2 157 rfl) rfl
theorem q464 : (Jvm.Cond.soleField "java/lang/Throwable" "backtrace") ∈ lw_all := lw_g (lw_at lw_m2 159 rfl) rfl
theorem q466 : (Jvm.Cond.soleField "java/lang/Throwable" "detailMessage") ∈ lw_all := lw_g (lw_at lw_m2 161 rfl) rfl
theorem q468 : (Jvm.Cond.soleField "java/lang/Throwable" "cause") ∈ lw_all := lw_g (lw_at lw_m2 163 rfl) rfl
theorem q470 : (Jvm.Cond.soleField "java/lang/Throwable" "stackTrace") ∈ lw_all := lw_g (lw_at lw_m2 165 rfl) rfl
theorem q472 : (Jvm.Cond.soleField "java/lang/Throwable" "depth") ∈ lw_all := lw_g (lw_at lw_m2 167 rfl) rfl
theorem q474 : (Jvm.Cond.soleField "java/lang/Throwable" "suppressedExceptions") ∈ lw_all := lw_g (lw_at lw_m2 169 rfl) rfl
theorem q483 : (Jvm.Cond.declares ({ cls := "java/lang/Throwable", name := "<init>", desc := "()V" } : Jvm.MethodName)) ∈ lw_tbl := lw_at lw_m2 178 rfl
theorem q484 : (Jvm.Cond.declares ({ cls := "java/lang/Throwable", name := "<init>", desc := "(Ljava/lang/String;)V" } : Jvm.MethodName)) ∈ lw_tbl := lw_at lw_m2 179 rfl
theorem q486 : (Jvm.Cond.lays "java/lang/Throwable" "java/lang/Throwable" "cause" "Ljava/lang/Throwable;") ∈ lw_all := lw_g (lw_at lw_m2 181 rfl) rfl
theorem q487 : (Jvm.Cond.lays "java/lang/Throwable" "java/lang/Throwable" "stackTrace" "[Ljava/lang/StackTraceElement;") ∈ lw_all := lw_g (lw_at lw_m2 182 rfl) rfl
theorem q488 : (Jvm.Cond.lays "java/lang/Throwable" "java/lang/Throwable" "suppressedExceptions" "Ljava/util/List;") ∈ lw_all := lw_g (lw_at lw_m2 183 rfl) rfl
theorem q489 : (Jvm.Cond.lays "java/lang/Throwable" "java/lang/Throwable" "detailMessage" "Ljava/lang/String;") ∈ lw_all := lw_g (lw_at lw_m2 184 rfl) rfl
theorem q490 : (Jvm.Cond.lays "java/lang/Throwable" "java/lang/Throwable" "backtrace" "Ljava/lang/Object;") ∈ lw_all := lw_g (lw_at lw_m2 185 rfl) rfl
theorem q491 : (Jvm.Cond.fieldLink "java/lang/Throwable" (198 : Nat) "java/lang/Throwable" "backtrace" "Ljava/lang/Object;") ∈ lw_all := lw_g (lw_at lw_m2 186 rfl) rfl
theorem q492 : (Jvm.Cond.superclass "java/lang/Throwable" "java/lang/Object") ∈ lw_all := lw_g (lw_at lw_m2 187 rfl) rfl
theorem q493 : (Jvm.Cond.instanceMethod ({ cls := "java/lang/Throwable", name := "<init>", desc := "()V" } : Jvm.MethodName)) ∈ lw_all := lw_g (lw_at lw_m2 188 rfl) rfl
theorem q494 : (Jvm.Cond.code ({ cls := "java/lang/Throwable", name := "<init>", desc := "()V" } : Jvm.MethodName) prog_46_method_1_code (1 : Nat) (Option.none : Option Jvm.ClassFile.FieldType)) ∈ lw_all := lw_g (lw_at lw_m2 189 rfl) rfl
theorem q2775 : (Jvm.Cond.sameMethod "java/lang/Throwable" "java/lang/Throwable" "fillInStackTrace" "(I)Ljava/lang/Throwable;") ∈ lw_all := lw_g (lw_at lw_m12 70 rfl) rfl
theorem q2822 : (Jvm.Cond.castable "java/lang/Throwable" "java/lang/Object") ∈ lw_tbl := lw_at lw_m12 117 rfl
theorem q84 : (Jvm.Cond.initialized "java/lang/Exception") ∈ lw_all := lw_g (lw_at lw_m1 19 rfl) rfl
theorem q435 : (Jvm.Cond.instanceMethod ({ cls := "java/lang/Exception", name := "<init>", desc := "(Ljava/lang/String;)V" } : Jvm.MethodName)) ∈ lw_all := lw_g (lw_at lw_m2 130 rfl) rfl
theorem q436 : (Jvm.Cond.code ({ cls := "java/lang/Exception", name := "<init>", desc := "(Ljava/lang/String;)V" } : Jvm.MethodName) prog_28_method_2_code (2 : Nat) (Option.none : Option Jvm.ClassFile.FieldType)) ∈ lw_all := lw_g (lw_at lw_m2 131 rfl) rfl
theorem q437 : (Jvm.Cond.methodLink "java/lang/Exception" (7 : Nat) ({ cls := "java/lang/Throwable", name := "<init>", desc := "(Ljava/lang/String;)V" } : Jvm.MethodName)) ∈ lw_all := lw_g (lw_at lw_m2 132 rfl) rfl
theorem q481 : (Jvm.Cond.declares ({ cls := "java/lang/Exception", name := "<init>", desc := "()V" } : Jvm.MethodName)) ∈ lw_tbl := lw_at lw_m2 176 rfl
theorem q482 : (Jvm.Cond.declares ({ cls := "java/lang/Exception", name := "<init>", desc := "(Ljava/lang/String;)V" } : Jvm.MethodName)) ∈ lw_tbl := lw_at lw_m2 177 rfl
theorem q1380 : (Jvm.Cond.instanceMethod ({ cls := "java/lang/Exception", name := "<init>", desc := "()V" } : Jvm.MethodName)) ∈ lw_all := lw_g (lw_at lw_m6 115 rfl) rfl
theorem q1381 : (Jvm.Cond.code ({ cls := "java/lang/Exception", name := "<init>", desc := "()V" } : Jvm.MethodName) prog_28_method_1_code (1 : Nat) (Option.none : Option Jvm.ClassFile.FieldType)) ∈ lw_all := lw_g (lw_at lw_m6 116 rfl) rfl
theorem q1382 : (Jvm.Cond.methodLink "java/lang/Exception" (1 : Nat) ({ cls := "java/lang/Throwable", name := "<init>", desc := "()V" } : Jvm.MethodName)) ∈ lw_all := lw_g (lw_at lw_m6 117 rfl) rfl
theorem q85 : (Jvm.Cond.initialized "java/lang/RuntimeException") ∈ lw_all := lw_g (lw_at lw_m1 20 rfl) rfl
theorem q432 : (Jvm.Cond.instanceMethod ({ cls := "java/lang/RuntimeException", name := "<init>", desc := "(Ljava/lang/String;)V" } : Jvm.MethodName)) ∈ lw_all := lw_g (lw_at lw_m2 127 rfl) rfl
theorem q433 : (Jvm.Cond.code ({ cls := "java/lang/RuntimeException", name := "<init>", desc := "(Ljava/lang/String;)V" } : Jvm.MethodName) prog_39_method_2_code (2 : Nat) (Option.none : Option Jvm.ClassFile.FieldType)) ∈ lw_all := lw_g (lw_at lw_m2 128 rfl) rfl
theorem q434 : (Jvm.Cond.methodLink "java/lang/RuntimeException" (7 : Nat) ({ cls := "java/lang/Exception", name := "<init>", desc := "(Ljava/lang/String;)V" } : Jvm.MethodName)) ∈ lw_all := lw_g (lw_at lw_m2 129 rfl) rfl
theorem q479 : (Jvm.Cond.declares ({ cls := "java/lang/RuntimeException", name := "<init>", desc := "()V" } : Jvm.MethodName)) ∈ lw_tbl := lw_at lw_m2 174 rfl
theorem q480 : (Jvm.Cond.declares ({ cls := "java/lang/RuntimeException", name := "<init>", desc := "(Ljava/lang/String;)V" } : Jvm.MethodName)) ∈ lw_tbl := lw_at lw_m2 175 rfl
theorem q1377 : (Jvm.Cond.instanceMethod ({ cls := "java/lang/RuntimeException", name := "<init>", desc := "()V" } : Jvm.MethodName)) ∈ lw_all := lw_g (lw_at lw_m6 112 rfl) rfl
theorem q1378 : (Jvm.Cond.code ({ cls := "java/lang/RuntimeException", name := "<init>", desc := "()V" } : Jvm.MethodName) prog_39_method_1_code (1 : Nat) (Option.none : Option Jvm.ClassFile.FieldType)) ∈ lw_all := lw_g (lw_at lw_m6 113 rfl) rfl
theorem q1379 : (Jvm.Cond.methodLink "java/lang/RuntimeException" (1 : Nat) ({ cls := "java/lang/Exception", name := "<init>", desc := "()V" } : Jvm.MethodName)) ∈ lw_all := lw_g (lw_at lw_m6 114 rfl) rfl
theorem q86 : (Jvm.Cond.initialized "java/lang/IndexOutOfBoundsException") ∈ lw_all := lw_g (lw_at lw_m1 21 rfl) rfl
theorem q284 : (Jvm.Cond.selects "java/lang/IndexOutOfBoundsException" ({ cls := "java/lang/Object", name := "getClass", desc := "()Ljava/lang/Class;" } : Jvm.MethodName) ({ cls := "java/lang/Object", name := "getClass", desc := "()Ljava/lang/Class;" } : Jvm.MethodName)) ∈ lw_all := lw_g (lw_at lw_m1 219 rfl) rfl
theorem q429 : (Jvm.Cond.instanceMethod ({ cls := "java/lang/IndexOutOfBoundsException", name := "<init>", desc := "(Ljava/lang/String;)V" } : Jvm.MethodName)) ∈ lw_all := lw_g (lw_at lw_m2 124 rfl) rfl
theorem q430 : (Jvm.Cond.code ({ cls := "java/lang/IndexOutOfBoundsException", name := "<init>", desc := "(Ljava/lang/String;)V" } : Jvm.MethodName) prog_31_method_2_code (2 : Nat) (Option.none : Option Jvm.ClassFile.FieldType)) ∈ lw_all := lw_g (lw_at lw_m2 125 rfl) rfl
theorem q431 : (Jvm.Cond.methodLink "java/lang/IndexOutOfBoundsException" (7 : Nat) ({ cls := "java/lang/RuntimeException", name := "<init>", desc := "(Ljava/lang/String;)V" } : Jvm.MethodName)) ∈ lw_all := lw_g (lw_at lw_m2 126 rfl) rfl
theorem q451 : (Jvm.Cond.selects "java/lang/IndexOutOfBoundsException" ({ cls := "java/lang/Throwable", name := "fillInStackTrace", desc := "()Ljava/lang/Throwable;" } : Jvm.MethodName) ({ cls := "java/lang/Throwable", name := "fillInStackTrace", desc := "()Ljava/lang/Throwable;" } : Jvm.MethodName)) ∈ lw_all := lw_g (lw_at lw_m2 146 rfl) rfl
theorem q477 : (Jvm.Cond.declares ({ cls := "java/lang/IndexOutOfBoundsException", name := "<init>", desc := "()V" } : Jvm.MethodName)) ∈ lw_tbl := lw_at lw_m2 172 rfl
theorem q478 : (Jvm.Cond.declares ({ cls := "java/lang/IndexOutOfBoundsException", name := "<init>", desc := "(Ljava/lang/String;)V" } : Jvm.MethodName)) ∈ lw_tbl := lw_at lw_m2 173 rfl
theorem q511 : (Jvm.Cond.instantiable "java/lang/IndexOutOfBoundsException" (6 : Nat)) ∈ lw_all := lw_g (lw_at lw_m2 206 rfl) rfl
theorem q512 : (Jvm.Cond.castable "java/lang/IndexOutOfBoundsException" "java/lang/IndexOutOfBoundsException") ∈ lw_tbl := lw_at lw_m2 207 rfl
theorem q513 : (Jvm.Cond.selects "java/lang/IndexOutOfBoundsException" ({ cls := "java/lang/Throwable", name := "fillInStackTrace", desc := "(I)Ljava/lang/Throwable;" } : Jvm.MethodName) ({ cls := "java/lang/Throwable", name := "fillInStackTrace", desc := "(I)Ljava/lang/Throwable;" } : Jvm.MethodName)) ∈ lw_all := lw_g (lw_at lw_m2 208 rfl) rfl
theorem q514 : (Jvm.Cond.lays "java/lang/IndexOutOfBoundsException" "java/lang/Throwable" "cause" "Ljava/lang/Throwable;") ∈ lw_all := lw_g (lw_at lw_m2 209 rfl) rfl
theorem q515 : (Jvm.Cond.lays "java/lang/IndexOutOfBoundsException" "java/lang/Throwable" "stackTrace" "[Ljava/lang/StackTraceElement;") ∈ lw_all := lw_g (lw_at lw_m2 210 rfl) rfl
theorem q516 : (Jvm.Cond.lays "java/lang/IndexOutOfBoundsException" "java/lang/Throwable" "suppressedExceptions" "Ljava/util/List;") ∈ lw_all := lw_g (lw_at lw_m2 211 rfl) rfl
theorem q517 : (Jvm.Cond.lays "java/lang/IndexOutOfBoundsException" "java/lang/Throwable" "detailMessage" "Ljava/lang/String;") ∈ lw_all := lw_g (lw_at lw_m2 212 rfl) rfl
theorem q518 : (Jvm.Cond.lays "java/lang/IndexOutOfBoundsException" "java/lang/Throwable" "backtrace" "Ljava/lang/Object;") ∈ lw_all := lw_g (lw_at lw_m2 213 rfl) rfl
theorem q521 : (Jvm.Cond.lays "java/lang/IndexOutOfBoundsException" "java/lang/Throwable" "depth" "I") ∈ lw_all := lw_g (lw_at lw_m2 216 rfl) rfl
theorem q522 : (Jvm.Cond.superclass "java/lang/IndexOutOfBoundsException" "java/lang/RuntimeException") ∈ lw_all := lw_g (lw_at lw_m2 217 rfl) rfl
theorem q2798 : (Jvm.Cond.castable "java/lang/IndexOutOfBoundsException" "java/lang/Object") ∈ lw_tbl := lw_at lw_m12 93 rfl
theorem q87 : (Jvm.Cond.initialized "java/lang/ArrayIndexOutOfBoundsException") ∈ lw_all := lw_g (lw_at lw_m1 22 rfl) rfl
theorem q281 : (Jvm.Cond.selects "java/lang/ArrayIndexOutOfBoundsException" ({ cls := "java/lang/Object", name := "getClass", desc := "()Ljava/lang/Class;" } : Jvm.MethodName) ({ cls := "java/lang/Object", name := "getClass", desc := "()Ljava/lang/Class;" } : Jvm.MethodName)) ∈ lw_all := lw_g (lw_at lw_m1 216 rfl) rfl
theorem q425 : (Jvm.Cond.instantiable "java/lang/ArrayIndexOutOfBoundsException" (6 : Nat)) ∈ lw_all := lw_g (lw_at lw_m2 120 rfl) rfl
theorem q426 : (Jvm.Cond.instanceMethod ({ cls := "java/lang/ArrayIndexOutOfBoundsException", name := "<init>", desc := "(Ljava/lang/String;)V" } : Jvm.MethodName)) ∈ lw_all := lw_g (lw_at lw_m2 121 rfl) rfl
theorem q427 : (Jvm.Cond.code ({ cls := "java/lang/ArrayIndexOutOfBoundsException", name := "<init>", desc := "(Ljava/lang/String;)V" } : Jvm.MethodName) prog_24_method_2_code (2 : Nat) (Option.none : Option Jvm.ClassFile.FieldType)) ∈ lw_all := lw_g (lw_at lw_m2 122 rfl) rfl
theorem q428 : (Jvm.Cond.methodLink "java/lang/ArrayIndexOutOfBoundsException" (7 : Nat) ({ cls := "java/lang/IndexOutOfBoundsException", name := "<init>", desc := "(Ljava/lang/String;)V" } : Jvm.MethodName)) ∈ lw_all := lw_g (lw_at lw_m2 123 rfl) rfl
theorem q448 : (Jvm.Cond.selects "java/lang/ArrayIndexOutOfBoundsException" ({ cls := "java/lang/Throwable", name := "fillInStackTrace", desc := "()Ljava/lang/Throwable;" } : Jvm.MethodName) ({ cls := "java/lang/Throwable", name := "fillInStackTrace", desc := "()Ljava/lang/Throwable;" } : Jvm.MethodName)) ∈ lw_all := lw_g (lw_at lw_m2 143 rfl) rfl
theorem q463 : (Jvm.Cond.lays "java/lang/ArrayIndexOutOfBoundsException" "java/lang/Throwable" "backtrace" "Ljava/lang/Object;") ∈ lw_all := lw_g (lw_at lw_m2 158 rfl) rfl
theorem q465 : (Jvm.Cond.lays "java/lang/ArrayIndexOutOfBoundsException" "java/lang/Throwable" "detailMessage" "Ljava/lang/String;") ∈ lw_all := lw_g (lw_at lw_m2 160 rfl) rfl
theorem q467 : (Jvm.Cond.lays "java/lang/ArrayIndexOutOfBoundsException" "java/lang/Throwable" "cause" "Ljava/lang/Throwable;") ∈ lw_all := lw_g (lw_at lw_m2 162 rfl) rfl
theorem q469 : (Jvm.Cond.lays "java/lang/ArrayIndexOutOfBoundsException" "java/lang/Throwable" "stackTrace" "[Ljava/lang/StackTraceElement;") ∈ lw_all := lw_g (lw_at lw_m2 164 rfl) rfl
theorem q471 : (Jvm.Cond.lays "java/lang/ArrayIndexOutOfBoundsException" "java/lang/Throwable" "depth" "I") ∈ lw_all := lw_g (lw_at lw_m2 166 rfl) rfl
theorem q473 : (Jvm.Cond.lays "java/lang/ArrayIndexOutOfBoundsException" "java/lang/Throwable" "suppressedExceptions" "Ljava/util/List;") ∈ lw_all := lw_g (lw_at lw_m2 168 rfl) rfl
theorem q475 : (Jvm.Cond.superclass "java/lang/ArrayIndexOutOfBoundsException" "java/lang/IndexOutOfBoundsException") ∈ lw_all := lw_g (lw_at lw_m2 170 rfl) rfl
theorem q476 : (Jvm.Cond.castable "java/lang/ArrayIndexOutOfBoundsException" "java/lang/ArrayIndexOutOfBoundsException") ∈ lw_tbl := lw_at lw_m2 171 rfl
theorem q485 : (Jvm.Cond.selects "java/lang/ArrayIndexOutOfBoundsException" ({ cls := "java/lang/Throwable", name := "fillInStackTrace", desc := "(I)Ljava/lang/Throwable;" } : Jvm.MethodName) ({ cls := "java/lang/Throwable", name := "fillInStackTrace", desc := "(I)Ljava/lang/Throwable;" } : Jvm.MethodName)) ∈ lw_all := lw_g (lw_at lw_m2 180 rfl) rfl
theorem q2786 : (Jvm.Cond.castable "java/lang/ArrayIndexOutOfBoundsException" "java/lang/IndexOutOfBoundsException") ∈ lw_tbl := lw_at lw_m12 81 rfl
theorem q2797 : (Jvm.Cond.castable "java/lang/ArrayIndexOutOfBoundsException" "java/lang/Object") ∈ lw_tbl := lw_at lw_m12 92 rfl
theorem q88 : (Jvm.Cond.initialized "java/lang/String") ∈ lw_all := lw_g (lw_at lw_m1 23 rfl) rfl
theorem q286 : (Jvm.Cond.selects "java/lang/String" ({ cls := "java/lang/Object", name := "getClass", desc := "()Ljava/lang/Class;" } : Jvm.MethodName) ({ cls := "java/lang/Object", name := "getClass", desc := "()Ljava/lang/Class;" } : Jvm.MethodName)) ∈ lw_all := lw_g (lw_at lw_m1 221 rfl) rfl
theorem q495 : (Jvm.Cond.instantiable "java/lang/String" (4 : Nat)) ∈ lw_all := lw_g (lw_at lw_m2 190 rfl) rfl
theorem q497 : (Jvm.Cond.laysFinal "java/lang/String" "java/lang/String" "value" "[B") ∈ lw_all := lw_g (lw_at lw_m2 192 rfl) rfl
theorem q498 : (Jvm.Cond.soleField "java/lang/String" "value") ∈ lw_all := lw_g (lw_at lw_m2 193 rfl) rfl
theorem q499 : (Jvm.Cond.laysFinal "java/lang/String" "java/lang/String" "coder" "B") ∈ lw_all := lw_g (lw_at lw_m2 194 rfl) rfl
theorem q500 : (Jvm.Cond.soleField "java/lang/String" "coder") ∈ lw_all := lw_g (lw_at lw_m2 195 rfl) rfl
theorem q612 : (Jvm.Cond.castable "java/lang/String" "java/lang/Comparable") ∈ lw_tbl := lw_at lw_m3 67 rfl
theorem q613 : (Jvm.Cond.selects "java/lang/String" ({ cls := "java/lang/Comparable", name := "compareTo", desc := "(Ljava/lang/Object;)I" } : Jvm.MethodName) ({ cls := "java/lang/String", name := "compareTo", desc := "(Ljava/lang/Object;)I" } : Jvm.MethodName)) ∈ lw_all := lw_g (lw_at lw_m3 68 rfl) rfl
theorem q614 : (Jvm.Cond.unhidden "java/lang/String" "compareTo" "(Ljava/lang/Object;)I") ∈ lw_tbl := lw_at lw_m3 69 rfl
theorem q615 : (Jvm.Cond.instanceMethod ({ cls := "java/lang/String", name := "compareTo", desc := "(Ljava/lang/Object;)I" } : Jvm.MethodName)) ∈ lw_all := lw_g (lw_at lw_m3 70 rfl) rfl
theorem q616 : (Jvm.Cond.publicMethod ({ cls := "java/lang/String", name := "compareTo", desc := "(Ljava/lang/Object;)I" } : Jvm.MethodName)) ∈ lw_tbl := lw_at lw_m3 71 rfl
theorem q617 : (Jvm.Cond.code ({ cls := "java/lang/String", name := "compareTo", desc := "(Ljava/lang/Object;)I" } : Jvm.MethodName) prog_40_method_162_code (2 : Nat) (Option.some Jvm.ClassFile.FieldType.int)) ∈ lw_all := lw_g (lw_at lw_m3 72 rfl) rfl
theorem q618 : (Jvm.Cond.classLink "java/lang/String" (10 : Nat) "java/lang/String") ∈ lw_all := lw_g (lw_at lw_m3 73 rfl) rfl
theorem q619 : (Jvm.Cond.methodLink "java/lang/String" (1084 : Nat) ({ cls := "java/lang/String", name := "compareTo", desc := "(Ljava/lang/String;)I" } : Jvm.MethodName)) ∈ lw_all := lw_g (lw_at lw_m3 74 rfl) rfl
theorem q620 : (Jvm.Cond.instanceMethod ({ cls := "java/lang/String", name := "compareTo", desc := "(Ljava/lang/String;)I" } : Jvm.MethodName)) ∈ lw_all := lw_g (lw_at lw_m3 75 rfl) rfl
theorem q621 : (Jvm.Cond.selects "java/lang/String" ({ cls := "java/lang/String", name := "compareTo", desc := "(Ljava/lang/String;)I" } : Jvm.MethodName) ({ cls := "java/lang/String", name := "compareTo", desc := "(Ljava/lang/String;)I" } : Jvm.MethodName)) ∈ lw_all := lw_g (lw_at lw_m3 76 rfl) rfl
theorem q622 : (Jvm.Cond.code ({ cls := "java/lang/String", name := "compareTo", desc := "(Ljava/lang/String;)I" } : Jvm.MethodName) prog_40_method_71_code (5 : Nat) (Option.some Jvm.ClassFile.FieldType.int)) ∈ lw_all := lw_g (lw_at lw_m3 77 rfl) rfl
theorem q623 : (Jvm.Cond.methodLink "java/lang/String" (335 : Nat) ({ cls := "java/lang/String", name := "coder", desc := "()B" } : Jvm.MethodName)) ∈ lw_all := lw_g (lw_at lw_m3 78 rfl) rfl
theorem q624 : (Jvm.Cond.instanceMethod ({ cls := "java/lang/String", name := "coder", desc := "()B" } : Jvm.MethodName)) ∈ lw_all := lw_g (lw_at lw_m3 79 rfl) rfl
theorem q625 : (Jvm.Cond.selects "java/lang/String" ({ cls := "java/lang/String", name := "coder", desc := "()B" } : Jvm.MethodName) ({ cls := "java/lang/String", name := "coder", desc := "()B" } : Jvm.MethodName)) ∈ lw_all := lw_g (lw_at lw_m3 80 rfl) rfl
theorem q626 : (Jvm.Cond.code ({ cls := "java/lang/String", name := "coder", desc := "()B" } : Jvm.MethodName) prog_40_method_152_code (1 : Nat) (Option.some Jvm.ClassFile.FieldType.byte)) ∈ lw_all := lw_g (lw_at lw_m3 81 rfl) rfl
theorem q627 : (Jvm.Cond.fieldLink "java/lang/String" (38 : Nat) "java/lang/String" "COMPACT_STRINGS" "Z") ∈ lw_all := lw_g (lw_at lw_m3 82 rfl) rfl
theorem q628 : (Jvm.Cond.laysStatic "java/lang/String" "COMPACT_STRINGS" "Z") ∈ lw_tbl := lw_at lw_m3 83 rfl
theorem q629 : (Jvm.Cond.methodLink "java/lang/String" (586 : Nat) ({ cls := "java/lang/StringLatin1", name := "compareTo", desc := "([B[B)I" } : Jvm.MethodName)) ∈ lw_all := lw_g (lw_at lw_m3 84 rfl) rfl
theorem q743 : (Jvm.Cond.methodLink "java/lang/String" (590 : Nat) ({ cls := "java/lang/StringUTF16", name := "compareTo", desc := "([B[B)I" } : Jvm.MethodName)) ∈ lw_all := lw_g (lw_at lw_m3 198 rfl) rfl
theorem q762 : (Jvm.Cond.methodLink "java/lang/String" (591 : Nat) ({ cls := "java/lang/StringLatin1", name := "compareToUTF16", desc := "([B[B)I" } : Jvm.MethodName)) ∈ lw_all := lw_g (lw_at lw_m3 217 rfl) rfl
theorem q773 : (Jvm.Cond.methodLink "java/lang/String" (594 : Nat) ({ cls := "java/lang/StringUTF16", name := "compareToLatin1", desc := "([B[B)I" } : Jvm.MethodName)) ∈ lw_all := lw_g (lw_at lw_m3 228 rfl) rfl
theorem q806 : (Jvm.Cond.static ({ cls := "java/lang/String", name := "checkOffset", desc := "(II)V" } : Jvm.MethodName)) ∈ lw_all := lw_g (lw_at lw_m4 21 rfl) rfl
theorem q807 : (Jvm.Cond.code ({ cls := "java/lang/String", name := "checkOffset", desc := "(II)V" } : Jvm.MethodName) prog_40_method_156_code (2 : Nat) (Option.none : Option Jvm.ClassFile.FieldType)) ∈ lw_all := lw_g (lw_at lw_m4 22 rfl) rfl
theorem q808 : (Jvm.Cond.fieldLink "java/lang/String" (1053 : Nat) "jdk/internal/util/Preconditions" "SIOOBE_FORMATTER" "Ljava/util/function/BiFunction;") ∈ lw_all := lw_g (lw_at lw_m4 23 rfl) rfl
theorem q810 : (Jvm.Cond.methodLink "java/lang/String" (1062 : Nat) ({ cls := "jdk/internal/util/Preconditions", name := "checkFromToIndex", desc := "(IIILjava/util/function/BiFunction;)I" } : Jvm.MethodName)) ∈ lw_all := lw_g (lw_at lw_m4 25 rfl) rfl
theorem q1641 : (Jvm.Cond.instanceMethod ({ cls := "java/lang/String", name := "hashCode", desc := "()I" } : Jvm.MethodName)) ∈ lw_all := lw_g (lw_at lw_m7 136 rfl) rfl
theorem q1642 : (Jvm.Cond.selects "java/lang/String" ({ cls := "java/lang/String", name := "hashCode", desc := "()I" } : Jvm.MethodName) ({ cls := "java/lang/String", name := "hashCode", desc := "()I" } : Jvm.MethodName)) ∈ lw_all := lw_g (lw_at lw_m7 137 rfl) rfl
theorem q1643 : (Jvm.Cond.code ({ cls := "java/lang/String", name := "hashCode", desc := "()I" } : Jvm.MethodName) prog_40_method_78_code (2 : Nat) (Option.some Jvm.ClassFile.FieldType.int)) ∈ lw_all := lw_g (lw_at lw_m7 138 rfl) rfl
theorem q1644 : (Jvm.Cond.methodLink "java/lang/String" (492 : Nat) ({ cls := "java/lang/String", name := "isLatin1", desc := "()Z" } : Jvm.MethodName)) ∈ lw_all := lw_g (lw_at lw_m7 139 rfl) rfl
theorem q1645 : (Jvm.Cond.instanceMethod ({ cls := "java/lang/String", name := "isLatin1", desc := "()Z" } : Jvm.MethodName)) ∈ lw_all := lw_g (lw_at lw_m7 140 rfl) rfl
theorem q1646 : (Jvm.Cond.selects "java/lang/String" ({ cls := "java/lang/String", name := "isLatin1", desc := "()Z" } : Jvm.MethodName) ({ cls := "java/lang/String", name := "isLatin1", desc := "()Z" } : Jvm.MethodName)) ∈ lw_all := lw_g (lw_at lw_m7 141 rfl) rfl
theorem q1647 : (Jvm.Cond.code ({ cls := "java/lang/String", name := "isLatin1", desc := "()Z" } : Jvm.MethodName) prog_40_method_154_code (1 : Nat) (Option.some Jvm.ClassFile.FieldType.boolean)) ∈ lw_all := lw_g (lw_at lw_m7 142 rfl) rfl
theorem q1648 : (Jvm.Cond.methodLink "java/lang/String" (628 : Nat) ({ cls := "java/lang/StringLatin1", name := "hashCode", desc := "([B)I" } : Jvm.MethodName)) ∈ lw_all := lw_g (lw_at lw_m7 143 rfl) rfl
theorem q1708 : (Jvm.Cond.fieldLink "java/lang/String" (1048 : Nat) "java/lang/AbstractStringBuilder" "maybeLatin1" "Z") ∈ lw_all := lw_g (lw_at lw_m7 203 rfl) rfl
theorem q1757 : (Jvm.Cond.static ({ cls := "java/lang/String", name := "checkBoundsBeginEnd", desc := "(III)V" } : Jvm.MethodName)) ∈ lw_all := lw_g (lw_at lw_m8 12 rfl) rfl
theorem q1758 : (Jvm.Cond.code ({ cls := "java/lang/String", name := "checkBoundsBeginEnd", desc := "(III)V" } : Jvm.MethodName) prog_40_method_158_code (3 : Nat) (Option.none : Option Jvm.ClassFile.FieldType)) ∈ lw_all := lw_g (lw_at lw_m8 13 rfl) rfl
theorem q1763 : (Jvm.Cond.instanceMethod ({ cls := "java/lang/String", name := "length", desc := "()I" } : Jvm.MethodName)) ∈ lw_all := lw_g (lw_at lw_m8 18 rfl) rfl
theorem q1764 : (Jvm.Cond.selects "java/lang/String" ({ cls := "java/lang/String", name := "length", desc := "()I" } : Jvm.MethodName) ({ cls := "java/lang/String", name := "length", desc := "()I" } : Jvm.MethodName)) ∈ lw_all := lw_g (lw_at lw_m8 19 rfl) rfl
theorem q1765 : (Jvm.Cond.code ({ cls := "java/lang/String", name := "length", desc := "()I" } : Jvm.MethodName) prog_40_method_54_code (1 : Nat) (Option.some Jvm.ClassFile.FieldType.int)) ∈ lw_all := lw_g (lw_at lw_m8 20 rfl) rfl
theorem q1789 : (Jvm.Cond.static ({ cls := "java/lang/String", name := "checkBoundsOffCount", desc := "(III)I" } : Jvm.MethodName)) ∈ lw_all := lw_g (lw_at lw_m8 44 rfl) rfl
theorem q1790 : (Jvm.Cond.code ({ cls := "java/lang/String", name := "checkBoundsOffCount", desc := "(III)I" } : Jvm.MethodName) prog_40_method_157_code (3 : Nat) (Option.some Jvm.ClassFile.FieldType.int)) ∈ lw_all := lw_g (lw_at lw_m8 45 rfl) rfl
theorem q1791 : (Jvm.Cond.methodLink "java/lang/String" (1065 : Nat) ({ cls := "jdk/internal/util/Preconditions", name := "checkFromIndexSize", desc := "(IIILjava/util/function/BiFunction;)I" } : Jvm.MethodName)) ∈ lw_all := lw_g (lw_at lw_m8 46 rfl) rfl
theorem q1795 : (Jvm.Cond.instanceMethod ({ cls := "java/lang/String", name := "getBytes", desc := "([BIB)V" } : Jvm.MethodName)) ∈ lw_all := lw_g (lw_at lw_m8 50 rfl) rfl
theorem q1796 : (Jvm.Cond.selects "java/lang/String" ({ cls := "java/lang/String", name := "getBytes", desc := "([BIB)V" } : Jvm.MethodName) ({ cls := "java/lang/String", name := "getBytes", desc := "([BIB)V" } : Jvm.MethodName)) ∈ lw_all := lw_g (lw_at lw_m8 51 rfl) rfl
theorem q1797 : (Jvm.Cond.code ({ cls := "java/lang/String", name := "getBytes", desc := "([BIB)V" } : Jvm.MethodName) prog_40_method_147_code (4 : Nat) (Option.none : Option Jvm.ClassFile.FieldType)) ∈ lw_all := lw_g (lw_at lw_m8 52 rfl) rfl
theorem q1798 : (Jvm.Cond.methodLink "java/lang/String" (212 : Nat) ({ cls := "java/lang/System", name := "arraycopy", desc := "(Ljava/lang/Object;ILjava/lang/Object;II)V" } : Jvm.MethodName)) ∈ lw_all := lw_g (lw_at lw_m8 53 rfl) rfl
theorem q1799 : (Jvm.Cond.methodLink "java/lang/String" (106 : Nat) ({ cls := "java/lang/StringLatin1", name := "inflate", desc := "([BI[BII)V" } : Jvm.MethodName)) ∈ lw_all := lw_g (lw_at lw_m8 54 rfl) rfl
theorem q1831 : (Jvm.Cond.instanceMethod ({ cls := "java/lang/String", name := "<init>", desc := "(Ljava/lang/StringBuilder;)V" } : Jvm.MethodName)) ∈ lw_all := lw_g (lw_at lw_m8 86 rfl) rfl
theorem q1832 : (Jvm.Cond.code ({ cls := "java/lang/String", name := "<init>", desc := "(Ljava/lang/StringBuilder;)V" } : Jvm.MethodName) prog_40_method_53_code (2 : Nat) (Option.none : Option Jvm.ClassFile.FieldType)) ∈ lw_all := lw_g (lw_at lw_m8 87 rfl) rfl
theorem q1833 : (Jvm.Cond.methodLink "java/lang/String" (489 : Nat) ({ cls := "java/lang/String", name := "<init>", desc := "(Ljava/lang/AbstractStringBuilder;Ljava/lang/Void;)V" } : Jvm.MethodName)) ∈ lw_all := lw_g (lw_at lw_m8 88 rfl) rfl
theorem q1834 : (Jvm.Cond.instanceMethod ({ cls := "java/lang/String", name := "<init>", desc := "(Ljava/lang/AbstractStringBuilder;Ljava/lang/Void;)V" } : Jvm.MethodName)) ∈ lw_all := lw_g (lw_at lw_m8 89 rfl) rfl
theorem q1835 : (Jvm.Cond.code ({ cls := "java/lang/String", name := "<init>", desc := "(Ljava/lang/AbstractStringBuilder;Ljava/lang/Void;)V" } : Jvm.MethodName) prog_40_method_150_code (5 : Nat) (Option.none : Option Jvm.ClassFile.FieldType)) ∈ lw_all := lw_g (lw_at lw_m8 90 rfl) rfl
theorem q1836 : (Jvm.Cond.methodLink "java/lang/String" (1 : Nat) ({ cls := "java/lang/Object", name := "<init>", desc := "()V" } : Jvm.MethodName)) ∈ lw_all := lw_g (lw_at lw_m8 91 rfl) rfl
theorem q1837 : (Jvm.Cond.methodLink "java/lang/String" (552 : Nat) ({ cls := "java/lang/AbstractStringBuilder", name := "getValue", desc := "()[B" } : Jvm.MethodName)) ∈ lw_all := lw_g (lw_at lw_m8 92 rfl) rfl
theorem q1842 : (Jvm.Cond.methodLink "java/lang/String" (549 : Nat) ({ cls := "java/lang/AbstractStringBuilder", name := "length", desc := "()I" } : Jvm.MethodName)) ∈ lw_all := lw_g (lw_at lw_m8 97 rfl) rfl
theorem q1850 : (Jvm.Cond.methodLink "java/lang/String" (1047 : Nat) ({ cls := "java/lang/AbstractStringBuilder", name := "isLatin1", desc := "()Z" } : Jvm.MethodName)) ∈ lw_all := lw_g (lw_at lw_m8 105 rfl) rfl
theorem q1851 : (Jvm.Cond.methodLink "java/lang/String" (54 : Nat) ({ cls := "java/util/Arrays", name := "copyOfRange", desc := "([BII)[B" } : Jvm.MethodName)) ∈ lw_all := lw_g (lw_at lw_m8 106 rfl) rfl
theorem q1868 : (Jvm.Cond.methodLink "java/lang/String" (1051 : Nat) ({ cls := "java/lang/StringUTF16", name := "compress", desc := "([BII)[B" } : Jvm.MethodName)) ∈ lw_all := lw_g (lw_at lw_m8 123 rfl) rfl
theorem q1875 : (Jvm.Cond.methodLink "java/lang/String" (47 : Nat) ({ cls := "java/lang/StringUTF16", name := "coderFromArrayLen", desc := "([BI)B" } : Jvm.MethodName)) ∈ lw_all := lw_g (lw_at lw_m8 130 rfl) rfl
theorem q1878 : (Jvm.Cond.fieldLink "java/lang/String" (9 : Nat) "java/lang/String" "value" "[B") ∈ lw_all := lw_g (lw_at lw_m8 133 rfl) rfl
theorem q1879 : (Jvm.Cond.fieldLink "java/lang/String" (15 : Nat) "java/lang/String" "coder" "B") ∈ lw_all := lw_g (lw_at lw_m8 134 rfl) rfl
theorem q1880 : (Jvm.Cond.fieldLink "java/lang/String" (19 : Nat) "java/lang/String" "hash" "I") ∈ lw_all := lw_g (lw_at lw_m8 135 rfl) rfl
theorem q1881 : (Jvm.Cond.fieldLink "java/lang/String" (23 : Nat) "java/lang/String" "hashIsZero" "Z") ∈ lw_all := lw_g (lw_at lw_m8 136 rfl) rfl
theorem q1882 : (Jvm.Cond.lays "java/lang/String" "java/lang/String" "hash" "I") ∈ lw_all := lw_g (lw_at lw_m8 137 rfl) rfl
theorem q1883 : (Jvm.Cond.soleField "java/lang/String" "hash") ∈ lw_all := lw_g (lw_at lw_m8 138 rfl) rfl
theorem q1884 : (Jvm.Cond.lays "java/lang/String" "java/lang/String" "hashIsZero" "Z") ∈ lw_all := lw_g (lw_at lw_m8 139 rfl) rfl
theorem q1885 : (Jvm.Cond.soleField "java/lang/String" "hashIsZero") ∈ lw_all := lw_g (lw_at lw_m8 140 rfl) rfl
theorem q1886 : (Jvm.Cond.superclass "java/lang/String" "java/lang/Object") ∈ lw_all := lw_g (lw_at lw_m8 141 rfl) rfl
theorem q1888 : (Jvm.Cond.methodLink "java/lang/String" (632 : Nat) ({ cls := "java/lang/StringUTF16", name := "hashCode", desc := "([B)I" } : Jvm.MethodName)) ∈ lw_all := lw_g (lw_at lw_m8 143 rfl) rfl
theorem q1893 : (Jvm.Cond.instanceMethod ({ cls := "java/lang/String", name := "equals", desc := "(Ljava/lang/Object;)Z" } : Jvm.MethodName)) ∈ lw_all := lw_g (lw_at lw_m8 148 rfl) rfl
theorem q1894 : (Jvm.Cond.selects "java/lang/String" ({ cls := "java/lang/String", name := "equals", desc := "(Ljava/lang/Object;)Z" } : Jvm.MethodName) ({ cls := "java/lang/String", name := "equals", desc := "(Ljava/lang/Object;)Z" } : Jvm.MethodName)) ∈ lw_all := lw_g (lw_at lw_m8 149 rfl) rfl
theorem q1895 : (Jvm.Cond.code ({ cls := "java/lang/String", name := "equals", desc := "(Ljava/lang/Object;)Z" } : Jvm.MethodName) prog_40_method_66_code (3 : Nat) (Option.some Jvm.ClassFile.FieldType.boolean)) ∈ lw_all := lw_g (lw_at lw_m8 150 rfl) rfl
theorem q1896 : (Jvm.Cond.methodLink "java/lang/String" (541 : Nat) ({ cls := "java/lang/StringLatin1", name := "equals", desc := "([B[B)Z" } : Jvm.MethodName)) ∈ lw_all := lw_g (lw_at lw_m8 151 rfl) rfl
theorem q2817 : (Jvm.Cond.castable "java/lang/String" "java/lang/Object") ∈ lw_tbl := lw_at lw_m12 112 rfl
theorem q89 : (Jvm.Cond.initialized "java/lang/IllegalArgumentException") ∈ lw_all := lw_g (lw_at lw_m1 24 rfl) rfl
theorem q282 : (Jvm.Cond.selects "java/lang/IllegalArgumentException" ({ cls := "java/lang/Object", name := "getClass", desc := "()Ljava/lang/Class;" } : Jvm.MethodName) ({ cls := "java/lang/Object", name := "getClass", desc := "()Ljava/lang/Class;" } : Jvm.MethodName)) ∈ lw_all := lw_g (lw_at lw_m1 217 rfl) rfl
theorem q449 : (Jvm.Cond.selects "java/lang/IllegalArgumentException" ({ cls := "java/lang/Throwable", name := "fillInStackTrace", desc := "()Ljava/lang/Throwable;" } : Jvm.MethodName) ({ cls := "java/lang/Throwable", name := "fillInStackTrace", desc := "()Ljava/lang/Throwable;" } : Jvm.MethodName)) ∈ lw_all := lw_g (lw_at lw_m2 144 rfl) rfl
theorem q527 : (Jvm.Cond.instantiable "java/lang/IllegalArgumentException" (6 : Nat)) ∈ lw_all := lw_g (lw_at lw_m2 222 rfl) rfl
theorem q528 : (Jvm.Cond.castable "java/lang/IllegalArgumentException" "java/lang/IllegalArgumentException") ∈ lw_tbl := lw_at lw_m2 223 rfl
theorem q529 : (Jvm.Cond.selects "java/lang/IllegalArgumentException" ({ cls := "java/lang/Throwable", name := "fillInStackTrace", desc := "(I)Ljava/lang/Throwable;" } : Jvm.MethodName) ({ cls := "java/lang/Throwable", name := "fillInStackTrace", desc := "(I)Ljava/lang/Throwable;" } : Jvm.MethodName)) ∈ lw_all := lw_g (lw_at lw_m2 224 rfl) rfl
theorem q530 : (Jvm.Cond.lays "java/lang/IllegalArgumentException" "java/lang/Throwable" "cause" "Ljava/lang/Throwable;") ∈ lw_all := lw_g (lw_at lw_m2 225 rfl) rfl
theorem q531 : (Jvm.Cond.lays "java/lang/IllegalArgumentException" "java/lang/Throwable" "stackTrace" "[Ljava/lang/StackTraceElement;") ∈ lw_all := lw_g (lw_at lw_m2 226 rfl) rfl
theorem q532 : (Jvm.Cond.lays "java/lang/IllegalArgumentException" "java/lang/Throwable" "suppressedExceptions" "Ljava/util/List;") ∈ lw_all := lw_g (lw_at lw_m2 227 rfl) rfl
theorem q533 : (Jvm.Cond.lays "java/lang/IllegalArgumentException" "java/lang/Throwable" "detailMessage" "Ljava/lang/String;") ∈ lw_all := lw_g (lw_at lw_m2 228 rfl) rfl
theorem q534 : (Jvm.Cond.lays "java/lang/IllegalArgumentException" "java/lang/Throwable" "backtrace" "Ljava/lang/Object;") ∈ lw_all := lw_g (lw_at lw_m2 229 rfl) rfl
theorem q537 : (Jvm.Cond.instanceMethod ({ cls := "java/lang/IllegalArgumentException", name := "<init>", desc := "(Ljava/lang/String;)V" } : Jvm.MethodName)) ∈ lw_all := lw_g (lw_at lw_m2 232 rfl) rfl
theorem q538 : (Jvm.Cond.code ({ cls := "java/lang/IllegalArgumentException", name := "<init>", desc := "(Ljava/lang/String;)V" } : Jvm.MethodName) prog_29_method_2_code (2 : Nat) (Option.none : Option Jvm.ClassFile.FieldType)) ∈ lw_all := lw_g (lw_at lw_m2 233 rfl) rfl
theorem q539 : (Jvm.Cond.methodLink "java/lang/IllegalArgumentException" (7 : Nat) ({ cls := "java/lang/RuntimeException", name := "<init>", desc := "(Ljava/lang/String;)V" } : Jvm.MethodName)) ∈ lw_all := lw_g (lw_at lw_m2 234 rfl) rfl
theorem q540 : (Jvm.Cond.lays "java/lang/IllegalArgumentException" "java/lang/Throwable" "depth" "I") ∈ lw_all := lw_g (lw_at lw_m2 235 rfl) rfl
theorem q541 : (Jvm.Cond.superclass "java/lang/IllegalArgumentException" "java/lang/RuntimeException") ∈ lw_all := lw_g (lw_at lw_m2 236 rfl) rfl
theorem q1374 : (Jvm.Cond.instanceMethod ({ cls := "java/lang/IllegalArgumentException", name := "<init>", desc := "()V" } : Jvm.MethodName)) ∈ lw_all := lw_g (lw_at lw_m6 109 rfl) rfl
theorem q1375 : (Jvm.Cond.code ({ cls := "java/lang/IllegalArgumentException", name := "<init>", desc := "()V" } : Jvm.MethodName) prog_29_method_1_code (1 : Nat) (Option.none : Option Jvm.ClassFile.FieldType)) ∈ lw_all := lw_g (lw_at lw_m6 110 rfl) rfl
theorem q1376 : (Jvm.Cond.methodLink "java/lang/IllegalArgumentException" (1 : Nat) ({ cls := "java/lang/RuntimeException", name := "<init>", desc := "()V" } : Jvm.MethodName)) ∈ lw_all := lw_g (lw_at lw_m6 111 rfl) rfl
theorem q2799 : (Jvm.Cond.castable "java/lang/IllegalArgumentException" "java/lang/Object") ∈ lw_tbl := lw_at lw_m12 94 rfl
theorem q90 : (Jvm.Cond.initialized "java/lang/IllegalStateException") ∈ lw_all := lw_g (lw_at lw_m1 25 rfl) rfl
theorem q283 : (Jvm.Cond.selects "java/lang/IllegalStateException" ({ cls := "java/lang/Object", name := "getClass", desc := "()Ljava/lang/Class;" } : Jvm.MethodName) ({ cls := "java/lang/Object", name := "getClass", desc := "()Ljava/lang/Class;" } : Jvm.MethodName)) ∈ lw_all := lw_g (lw_at lw_m1 218 rfl) rfl
theorem q450 : (Jvm.Cond.selects "java/lang/IllegalStateException" ({ cls := "java/lang/Throwable", name := "fillInStackTrace", desc := "()Ljava/lang/Throwable;" } : Jvm.MethodName) ({ cls := "java/lang/Throwable", name := "fillInStackTrace", desc := "()Ljava/lang/Throwable;" } : Jvm.MethodName)) ∈ lw_all := lw_g (lw_at lw_m2 145 rfl) rfl
theorem q547 : (Jvm.Cond.instantiable "java/lang/IllegalStateException" (6 : Nat)) ∈ lw_all := lw_g (lw_at lw_m3 2 rfl) rfl
theorem q548 : (Jvm.Cond.castable "java/lang/IllegalStateException" "java/lang/IllegalStateException") ∈ lw_tbl := lw_at lw_m3 3 rfl
theorem q549 : (Jvm.Cond.selects "java/lang/IllegalStateException" ({ cls := "java/lang/Throwable", name := "fillInStackTrace", desc := "(I)Ljava/lang/Throwable;" } : Jvm.MethodName) ({ cls := "java/lang/Throwable", name := "fillInStackTrace", desc := "(I)Ljava/lang/Throwable;" } : Jvm.MethodName)) ∈ lw_all := lw_g (lw_at lw_m3 4 rfl) rfl
theorem q550 : (Jvm.Cond.lays "java/lang/IllegalStateException" "java/lang/Throwable" "cause" "Ljava/lang/Throwable;") ∈ lw_all := lw_g (lw_at lw_m3 5 rfl) rfl
theorem q551 : (Jvm.Cond.lays "java/lang/IllegalStateException" "java/lang/Throwable" "stackTrace" "[Ljava/lang/StackTraceElement;") ∈ lw_all := lw_g (lw_at lw_m3 6 rfl) rfl
theorem q552 : (Jvm.Cond.lays "java/lang/IllegalStateException" "java/lang/Throwable" "suppressedExceptions" "Ljava/util/List;") ∈ lw_all := lw_g (lw_at lw_m3 7 rfl) rfl
theorem q553 : (Jvm.Cond.lays "java/lang/IllegalStateException" "java/lang/Throwable" "detailMessage" "Ljava/lang/String;") ∈ lw_all := lw_g (lw_at lw_m3 8 rfl) rfl
theorem q554 : (Jvm.Cond.lays "java/lang/IllegalStateException" "java/lang/Throwable" "backtrace" "Ljava/lang/Object;") ∈ lw_all := lw_g (lw_at lw_m3 9 rfl) rfl
theorem q557 : (Jvm.Cond.instanceMethod ({ cls := "java/lang/IllegalStateException", name := "<init>", desc := "(Ljava/lang/String;)V" } : Jvm.MethodName)) ∈ lw_all := lw_g (lw_at lw_m3 12 rfl) rfl
theorem q558 : (Jvm.Cond.code ({ cls := "java/lang/IllegalStateException", name := "<init>", desc := "(Ljava/lang/String;)V" } : Jvm.MethodName) prog_30_method_2_code (2 : Nat) (Option.none : Option Jvm.ClassFile.FieldType)) ∈ lw_all := lw_g (lw_at lw_m3 13 rfl) rfl
theorem q559 : (Jvm.Cond.methodLink "java/lang/IllegalStateException" (7 : Nat) ({ cls := "java/lang/RuntimeException", name := "<init>", desc := "(Ljava/lang/String;)V" } : Jvm.MethodName)) ∈ lw_all := lw_g (lw_at lw_m3 14 rfl) rfl
theorem q560 : (Jvm.Cond.lays "java/lang/IllegalStateException" "java/lang/Throwable" "depth" "I") ∈ lw_all := lw_g (lw_at lw_m3 15 rfl) rfl
theorem q561 : (Jvm.Cond.superclass "java/lang/IllegalStateException" "java/lang/RuntimeException") ∈ lw_all := lw_g (lw_at lw_m3 16 rfl) rfl
theorem q2800 : (Jvm.Cond.castable "java/lang/IllegalStateException" "java/lang/Object") ∈ lw_tbl := lw_at lw_m12 95 rfl
theorem q91 : (Jvm.Cond.initialized "Taxmaze$Contract") ∈ lw_all := lw_g (lw_at lw_m1 26 rfl) rfl
theorem q269 : (Jvm.Cond.selects "Taxmaze$Contract" ({ cls := "java/lang/Object", name := "getClass", desc := "()Ljava/lang/Class;" } : Jvm.MethodName) ({ cls := "java/lang/Object", name := "getClass", desc := "()Ljava/lang/Class;" } : Jvm.MethodName)) ∈ lw_all := lw_g (lw_at lw_m1 204 rfl) rfl
theorem q563 : (Jvm.Cond.instantiable "Taxmaze$Contract" (10 : Nat)) ∈ lw_all := lw_g (lw_at lw_m3 18 rfl) rfl
theorem q565 : (Jvm.Cond.instanceMethod ({ cls := "Taxmaze$Contract", name := "<init>", desc := "(IIIIZII)V" } : Jvm.MethodName)) ∈ lw_all := lw_g (lw_at lw_m3 20 rfl) rfl
theorem q566 : (Jvm.Cond.code ({ cls := "Taxmaze$Contract", name := "<init>", desc := "(IIIIZII)V" } : Jvm.MethodName) prog_7_method_1_code (8 : Nat) (Option.none : Option Jvm.ClassFile.FieldType)) ∈ lw_all := lw_g (lw_at lw_m3 21 rfl) rfl
theorem q567 : (Jvm.Cond.methodLink "Taxmaze$Contract" (3 : Nat) ({ cls := "java/lang/Object", name := "<init>", desc := "()V" } : Jvm.MethodName)) ∈ lw_all := lw_g (lw_at lw_m3 22 rfl) rfl
theorem q568 : (Jvm.Cond.classLink "Taxmaze$Contract" (9 : Nat) "java/util/TreeMap") ∈ lw_all := lw_g (lw_at lw_m3 23 rfl) rfl
theorem q569 : (Jvm.Cond.methodLink "Taxmaze$Contract" (11 : Nat) ({ cls := "java/util/TreeMap", name := "<init>", desc := "()V" } : Jvm.MethodName)) ∈ lw_all := lw_g (lw_at lw_m3 24 rfl) rfl
theorem q570 : (Jvm.Cond.classLink "Taxmaze$Contract" (18 : Nat) "java/util/ArrayList") ∈ lw_all := lw_g (lw_at lw_m3 25 rfl) rfl
theorem q571 : (Jvm.Cond.methodLink "Taxmaze$Contract" (20 : Nat) ({ cls := "java/util/ArrayList", name := "<init>", desc := "()V" } : Jvm.MethodName)) ∈ lw_all := lw_g (lw_at lw_m3 26 rfl) rfl
theorem q572 : (Jvm.Cond.methodLink "Taxmaze$Contract" (52 : Nat) ({ cls := "Taxmaze$Contract", name := "tell", desc := "(II)V" } : Jvm.MethodName)) ∈ lw_all := lw_g (lw_at lw_m3 27 rfl) rfl
theorem q573 : (Jvm.Cond.instanceMethod ({ cls := "Taxmaze$Contract", name := "tell", desc := "(II)V" } : Jvm.MethodName)) ∈ lw_all := lw_g (lw_at lw_m3 28 rfl) rfl
theorem q574 : (Jvm.Cond.selects "Taxmaze$Contract" ({ cls := "Taxmaze$Contract", name := "tell", desc := "(II)V" } : Jvm.MethodName) ({ cls := "Taxmaze$Contract", name := "tell", desc := "(II)V" } : Jvm.MethodName)) ∈ lw_all := lw_g (lw_at lw_m3 29 rfl) rfl
theorem q575 : (Jvm.Cond.code ({ cls := "Taxmaze$Contract", name := "tell", desc := "(II)V" } : Jvm.MethodName) prog_7_method_4_code (7 : Nat) (Option.none : Option Jvm.ClassFile.FieldType)) ∈ lw_all := lw_g (lw_at lw_m3 30 rfl) rfl
theorem q576 : (Jvm.Cond.methodLink "Taxmaze$Contract" (56 : Nat) ({ cls := "java/lang/Math", name := "max", desc := "(II)I" } : Jvm.MethodName)) ∈ lw_all := lw_g (lw_at lw_m3 31 rfl) rfl
theorem q577 : (Jvm.Cond.methodLink "Taxmaze$Contract" (62 : Nat) ({ cls := "java/lang/Integer", name := "valueOf", desc := "(I)Ljava/lang/Integer;" } : Jvm.MethodName)) ∈ lw_all := lw_g (lw_at lw_m3 32 rfl) rfl
theorem q578 : (Jvm.Cond.methodLink "Taxmaze$Contract" (68 : Nat) ({ cls := "java/util/TreeMap", name := "put", desc := "(Ljava/lang/Object;Ljava/lang/Object;)Ljava/lang/Object;" } : Jvm.MethodName)) ∈ lw_all := lw_g (lw_at lw_m3 33 rfl) rfl
theorem q899 : (Jvm.Cond.classLink "Taxmaze$Contract" (63 : Nat) "java/lang/Integer") ∈ lw_all := lw_g (lw_at lw_m4 114 rfl) rfl
theorem q900 : (Jvm.Cond.methodLink "Taxmaze$Contract" (72 : Nat) ({ cls := "java/util/TreeMap", name := "get", desc := "(Ljava/lang/Object;)Ljava/lang/Object;" } : Jvm.MethodName)) ∈ lw_all := lw_g (lw_at lw_m4 115 rfl) rfl
theorem q912 : (Jvm.Cond.methodLink "Taxmaze$Contract" (76 : Nat) ({ cls := "java/lang/Integer", name := "intValue", desc := "()I" } : Jvm.MethodName)) ∈ lw_all := lw_g (lw_at lw_m4 127 rfl) rfl
theorem q916 : (Jvm.Cond.fieldLink "Taxmaze$Contract" (32 : Nat) "Taxmaze$Contract" "person" "I") ∈ lw_all := lw_g (lw_at lw_m4 131 rfl) rfl
theorem q920 : (Jvm.Cond.fieldLink "Taxmaze$Contract" (36 : Nat) "Taxmaze$Contract" "place" "I") ∈ lw_all := lw_g (lw_at lw_m4 135 rfl) rfl
theorem q922 : (Jvm.Cond.fieldLink "Taxmaze$Contract" (39 : Nat) "Taxmaze$Contract" "from" "I") ∈ lw_all := lw_g (lw_at lw_m4 137 rfl) rfl
theorem q923 : (Jvm.Cond.fieldLink "Taxmaze$Contract" (42 : Nat) "Taxmaze$Contract" "to" "I") ∈ lw_all := lw_g (lw_at lw_m4 138 rfl) rfl
theorem q924 : (Jvm.Cond.fieldLink "Taxmaze$Contract" (45 : Nat) "Taxmaze$Contract" "byHours" "Z") ∈ lw_all := lw_g (lw_at lw_m4 139 rfl) rfl
theorem q925 : (Jvm.Cond.fieldLink "Taxmaze$Contract" (49 : Nat) "Taxmaze$Contract" "norm" "I") ∈ lw_all := lw_g (lw_at lw_m4 140 rfl) rfl
theorem q926 : (Jvm.Cond.fieldLink "Taxmaze$Contract" (12 : Nat) "Taxmaze$Contract" "told" "Ljava/util/TreeMap;") ∈ lw_all := lw_g (lw_at lw_m4 141 rfl) rfl
theorem q927 : (Jvm.Cond.fieldLink "Taxmaze$Contract" (21 : Nat) "Taxmaze$Contract" "shifts" "Ljava/util/List;") ∈ lw_all := lw_g (lw_at lw_m4 142 rfl) rfl
theorem q928 : (Jvm.Cond.fieldLink "Taxmaze$Contract" (25 : Nat) "Taxmaze$Contract" "pays" "[I") ∈ lw_all := lw_g (lw_at lw_m4 143 rfl) rfl
theorem q929 : (Jvm.Cond.fieldLink "Taxmaze$Contract" (29 : Nat) "Taxmaze$Contract" "minutes" "[I") ∈ lw_all := lw_g (lw_at lw_m4 144 rfl) rfl
theorem q932 : (Jvm.Cond.laysFinal "Taxmaze$Contract" "Taxmaze$Contract" "person" "I") ∈ lw_all := lw_g (lw_at lw_m4 147 rfl) rfl
theorem q933 : (Jvm.Cond.soleField "Taxmaze$Contract" "person") ∈ lw_all := lw_g (lw_at lw_m4 148 rfl) rfl
theorem q934 : (Jvm.Cond.laysFinal "Taxmaze$Contract" "Taxmaze$Contract" "place" "I") ∈ lw_all := lw_g (lw_at lw_m4 149 rfl) rfl
theorem q935 : (Jvm.Cond.soleField "Taxmaze$Contract" "place") ∈ lw_all := lw_g (lw_at lw_m4 150 rfl) rfl
theorem q936 : (Jvm.Cond.laysFinal "Taxmaze$Contract" "Taxmaze$Contract" "from" "I") ∈ lw_all := lw_g (lw_at lw_m4 151 rfl) rfl
theorem q937 : (Jvm.Cond.soleField "Taxmaze$Contract" "from") ∈ lw_all := lw_g (lw_at lw_m4 152 rfl) rfl
theorem q938 : (Jvm.Cond.laysFinal "Taxmaze$Contract" "Taxmaze$Contract" "to" "I") ∈ lw_all := lw_g (lw_at lw_m4 153 rfl) rfl
theorem q939 : (Jvm.Cond.soleField "Taxmaze$Contract" "to") ∈ lw_all := lw_g (lw_at lw_m4 154 rfl) rfl
theorem q940 : (Jvm.Cond.laysFinal "Taxmaze$Contract" "Taxmaze$Contract" "byHours" "Z") ∈ lw_all := lw_g (lw_at lw_m4 155 rfl) rfl
theorem q941 : (Jvm.Cond.soleField "Taxmaze$Contract" "byHours") ∈ lw_all := lw_g (lw_at lw_m4 156 rfl) rfl
theorem q942 : (Jvm.Cond.laysFinal "Taxmaze$Contract" "Taxmaze$Contract" "norm" "I") ∈ lw_all := lw_g (lw_at lw_m4 157 rfl) rfl
theorem q943 : (Jvm.Cond.soleField "Taxmaze$Contract" "norm") ∈ lw_all := lw_g (lw_at lw_m4 158 rfl) rfl
theorem q944 : (Jvm.Cond.laysFinal "Taxmaze$Contract" "Taxmaze$Contract" "told" "Ljava/util/TreeMap;") ∈ lw_all := lw_g (lw_at lw_m4 159 rfl) rfl
theorem q945 : (Jvm.Cond.soleField "Taxmaze$Contract" "told") ∈ lw_all := lw_g (lw_at lw_m4 160 rfl) rfl
theorem q946 : (Jvm.Cond.laysFinal "Taxmaze$Contract" "Taxmaze$Contract" "shifts" "Ljava/util/List;") ∈ lw_all := lw_g (lw_at lw_m4 161 rfl) rfl
theorem q947 : (Jvm.Cond.soleField "Taxmaze$Contract" "shifts") ∈ lw_all := lw_g (lw_at lw_m4 162 rfl) rfl
theorem q948 : (Jvm.Cond.laysFinal "Taxmaze$Contract" "Taxmaze$Contract" "pays" "[I") ∈ lw_all := lw_g (lw_at lw_m4 163 rfl) rfl
theorem q949 : (Jvm.Cond.soleField "Taxmaze$Contract" "pays") ∈ lw_all := lw_g (lw_at lw_m4 164 rfl) rfl
theorem q950 : (Jvm.Cond.laysFinal "Taxmaze$Contract" "Taxmaze$Contract" "minutes" "[I") ∈ lw_all := lw_g (lw_at lw_m4 165 rfl) rfl
theorem q951 : (Jvm.Cond.soleField "Taxmaze$Contract" "minutes") ∈ lw_all := lw_g (lw_at lw_m4 166 rfl) rfl
theorem q952 : (Jvm.Cond.superclass "Taxmaze$Contract" "java/lang/Object") ∈ lw_all := lw_g (lw_at lw_m4 167 rfl) rfl
theorem q984 : (Jvm.Cond.instanceMethod ({ cls := "Taxmaze$Contract", name := "payAt", desc := "(I)I" } : Jvm.MethodName)) ∈ lw_all := lw_g (lw_at lw_m4 199 rfl) rfl
theorem q985 : (Jvm.Cond.selects "Taxmaze$Contract" ({ cls := "Taxmaze$Contract", name := "payAt", desc := "(I)I" } : Jvm.MethodName) ({ cls := "Taxmaze$Contract", name := "payAt", desc := "(I)I" } : Jvm.MethodName)) ∈ lw_all := lw_g (lw_at lw_m4 200 rfl) rfl
theorem q986 : (Jvm.Cond.code ({ cls := "Taxmaze$Contract", name := "payAt", desc := "(I)I" } : Jvm.MethodName) prog_7_method_5_code (2 : Nat) (Option.some Jvm.ClassFile.FieldType.int)) ∈ lw_all := lw_g (lw_at lw_m4 201 rfl) rfl
theorem q1000 : (Jvm.Cond.instanceMethod ({ cls := "Taxmaze$Contract", name := "has", desc := "(I)Z" } : Jvm.MethodName)) ∈ lw_all := lw_g (lw_at lw_m4 215 rfl) rfl
theorem q1001 : (Jvm.Cond.selects "Taxmaze$Contract" ({ cls := "Taxmaze$Contract", name := "has", desc := "(I)Z" } : Jvm.MethodName) ({ cls := "Taxmaze$Contract", name := "has", desc := "(I)Z" } : Jvm.MethodName)) ∈ lw_all := lw_g (lw_at lw_m4 216 rfl) rfl
theorem q1002 : (Jvm.Cond.code ({ cls := "Taxmaze$Contract", name := "has", desc := "(I)Z" } : Jvm.MethodName) prog_7_method_2_code (2 : Nat) (Option.some Jvm.ClassFile.FieldType.boolean)) ∈ lw_all := lw_g (lw_at lw_m4 217 rfl) rfl
theorem q1019 : (Jvm.Cond.instanceMethod ({ cls := "Taxmaze$Contract", name := "canAdd", desc := "(LTaxmaze$Shift;)Z" } : Jvm.MethodName)) ∈ lw_all := lw_g (lw_at lw_m4 234 rfl) rfl
theorem q1020 : (Jvm.Cond.selects "Taxmaze$Contract" ({ cls := "Taxmaze$Contract", name := "canAdd", desc := "(LTaxmaze$Shift;)Z" } : Jvm.MethodName) ({ cls := "Taxmaze$Contract", name := "canAdd", desc := "(LTaxmaze$Shift;)Z" } : Jvm.MethodName)) ∈ lw_all := lw_g (lw_at lw_m4 235 rfl) rfl
theorem q1021 : (Jvm.Cond.code ({ cls := "Taxmaze$Contract", name := "canAdd", desc := "(LTaxmaze$Shift;)Z" } : Jvm.MethodName) prog_7_method_6_code (5 : Nat) (Option.some Jvm.ClassFile.FieldType.boolean)) ∈ lw_all := lw_g (lw_at lw_m4 236 rfl) rfl
theorem q1022 : (Jvm.Cond.interfaceEntry "Taxmaze$Contract" (80 : Nat)) ∈ lw_tbl := lw_at lw_m4 237 rfl
theorem q1023 : (Jvm.Cond.methodLink "Taxmaze$Contract" (80 : Nat) ({ cls := "java/util/List", name := "iterator", desc := "()Ljava/util/Iterator;" } : Jvm.MethodName)) ∈ lw_all := lw_g (lw_at lw_m4 238 rfl) rfl
theorem q1050 : (Jvm.Cond.interfaceEntry "Taxmaze$Contract" (86 : Nat)) ∈ lw_tbl := lw_at lw_m5 25 rfl
theorem q1051 : (Jvm.Cond.methodLink "Taxmaze$Contract" (86 : Nat) ({ cls := "java/util/Iterator", name := "hasNext", desc := "()Z" } : Jvm.MethodName)) ∈ lw_all := lw_g (lw_at lw_m5 26 rfl) rfl
theorem q1060 : (Jvm.Cond.interfaceEntry "Taxmaze$Contract" (92 : Nat)) ∈ lw_tbl := lw_at lw_m5 35 rfl
theorem q1061 : (Jvm.Cond.methodLink "Taxmaze$Contract" (92 : Nat) ({ cls := "java/util/Iterator", name := "next", desc := "()Ljava/lang/Object;" } : Jvm.MethodName)) ∈ lw_all := lw_g (lw_at lw_m5 36 rfl) rfl
theorem q1073 : (Jvm.Cond.classLink "Taxmaze$Contract" (96 : Nat) "Taxmaze$Shift") ∈ lw_all := lw_g (lw_at lw_m5 48 rfl) rfl
theorem q1074 : (Jvm.Cond.methodLink "Taxmaze$Contract" (98 : Nat) ({ cls := "Taxmaze$Shift", name := "meets", desc := "(LTaxmaze$Shift;)Z" } : Jvm.MethodName)) ∈ lw_all := lw_g (lw_at lw_m5 49 rfl) rfl
theorem q1079 : (Jvm.Cond.instanceMethod ({ cls := "Taxmaze$Contract", name := "add", desc := "(LTaxmaze$Shift;)V" } : Jvm.MethodName)) ∈ lw_all := lw_g (lw_at lw_m5 54 rfl) rfl
theorem q1080 : (Jvm.Cond.selects "Taxmaze$Contract" ({ cls := "Taxmaze$Contract", name := "add", desc := "(LTaxmaze$Shift;)V" } : Jvm.MethodName) ({ cls := "Taxmaze$Contract", name := "add", desc := "(LTaxmaze$Shift;)V" } : Jvm.MethodName)) ∈ lw_all := lw_g (lw_at lw_m5 55 rfl) rfl
theorem q1081 : (Jvm.Cond.code ({ cls := "Taxmaze$Contract", name := "add", desc := "(LTaxmaze$Shift;)V" } : Jvm.MethodName) prog_7_method_7_code (9 : Nat) (Option.none : Option Jvm.ClassFile.FieldType)) ∈ lw_all := lw_g (lw_at lw_m5 56 rfl) rfl
theorem q1082 : (Jvm.Cond.interfaceEntry "Taxmaze$Contract" (102 : Nat)) ∈ lw_tbl := lw_at lw_m5 57 rfl
theorem q1083 : (Jvm.Cond.methodLink "Taxmaze$Contract" (102 : Nat) ({ cls := "java/util/List", name := "add", desc := "(Ljava/lang/Object;)Z" } : Jvm.MethodName)) ∈ lw_all := lw_g (lw_at lw_m5 58 rfl) rfl
theorem q1084 : (Jvm.Cond.methodLink "Taxmaze$Contract" (106 : Nat) ({ cls := "Taxmaze$Shift", name := "to", desc := "()J" } : Jvm.MethodName)) ∈ lw_all := lw_g (lw_at lw_m5 59 rfl) rfl
theorem q1088 : (Jvm.Cond.methodLink "Taxmaze$Contract" (109 : Nat) ({ cls := "Taxmaze$Shift", name := "from", desc := "()J" } : Jvm.MethodName)) ∈ lw_all := lw_g (lw_at lw_m5 63 rfl) rfl
theorem q1092 : (Jvm.Cond.constantLong "Taxmaze$Contract" (111 : Nat) (360 : Int64)) ∈ lw_all := lw_g (lw_at lw_m5 67 rfl) rfl
theorem q1093 : (Jvm.Cond.constantLong "Taxmaze$Contract" (113 : Nat) (1440 : Int64)) ∈ lw_all := lw_g (lw_at lw_m5 68 rfl) rfl
theorem q1094 : (Jvm.Cond.methodLink "Taxmaze$Contract" (115 : Nat) ({ cls := "java/lang/Math", name := "max", desc := "(JJ)J" } : Jvm.MethodName)) ∈ lw_all := lw_g (lw_at lw_m5 69 rfl) rfl
theorem q1097 : (Jvm.Cond.methodLink "Taxmaze$Contract" (118 : Nat) ({ cls := "java/lang/Math", name := "min", desc := "(JJ)J" } : Jvm.MethodName)) ∈ lw_all := lw_g (lw_at lw_m5 72 rfl) rfl
theorem q1115 : (Jvm.Cond.instanceMethod ({ cls := "Taxmaze$Contract", name := "overtime", desc := "(I)I" } : Jvm.MethodName)) ∈ lw_all := lw_g (lw_at lw_m5 90 rfl) rfl
theorem q1116 : (Jvm.Cond.selects "Taxmaze$Contract" ({ cls := "Taxmaze$Contract", name := "overtime", desc := "(I)I" } : Jvm.MethodName) ({ cls := "Taxmaze$Contract", name := "overtime", desc := "(I)I" } : Jvm.MethodName)) ∈ lw_all := lw_g (lw_at lw_m5 91 rfl) rfl
theorem q1117 : (Jvm.Cond.code ({ cls := "Taxmaze$Contract", name := "overtime", desc := "(I)I" } : Jvm.MethodName) prog_7_method_8_code (5 : Nat) (Option.some Jvm.ClassFile.FieldType.int)) ∈ lw_all := lw_g (lw_at lw_m5 92 rfl) rfl
theorem q1118 : (Jvm.Cond.methodLink "Taxmaze$Contract" (121 : Nat) ({ cls := "java/lang/Math", name := "min", desc := "(II)I" } : Jvm.MethodName)) ∈ lw_all := lw_g (lw_at lw_m5 93 rfl) rfl
theorem q1179 : (Jvm.Cond.instanceMethod ({ cls := "Taxmaze$Contract", name := "base", desc := "(I)J" } : Jvm.MethodName)) ∈ lw_all := lw_g (lw_at lw_m5 154 rfl) rfl
theorem q1180 : (Jvm.Cond.selects "Taxmaze$Contract" ({ cls := "Taxmaze$Contract", name := "base", desc := "(I)J" } : Jvm.MethodName) ({ cls := "Taxmaze$Contract", name := "base", desc := "(I)J" } : Jvm.MethodName)) ∈ lw_all := lw_g (lw_at lw_m5 155 rfl) rfl
theorem q1181 : (Jvm.Cond.code ({ cls := "Taxmaze$Contract", name := "base", desc := "(I)J" } : Jvm.MethodName) prog_7_method_11_code (8 : Nat) (Option.some Jvm.ClassFile.FieldType.long)) ∈ lw_all := lw_g (lw_at lw_m5 156 rfl) rfl
theorem q1182 : (Jvm.Cond.methodLink "Taxmaze$Contract" (130 : Nat) ({ cls := "Taxmaze$Contract", name := "has", desc := "(I)Z" } : Jvm.MethodName)) ∈ lw_all := lw_g (lw_at lw_m5 157 rfl) rfl
theorem q1183 : (Jvm.Cond.constantLong "Taxmaze$Contract" (123 : Nat) (60 : Int64)) ∈ lw_all := lw_g (lw_at lw_m5 158 rfl) rfl
theorem q1184 : (Jvm.Cond.constantLong "Taxmaze$Contract" (125 : Nat) (30 : Int64)) ∈ lw_all := lw_g (lw_at lw_m5 159 rfl) rfl
theorem q1185 : (Jvm.Cond.methodLinkNest "Taxmaze$Contract" (127 : Nat) ({ cls := "Taxmaze", name := "rounded", desc := "(JJ)J" } : Jvm.MethodName) "Taxmaze") ∈ lw_tbl := lw_at lw_m5 160 rfl
theorem q1192 : (Jvm.Cond.methodLink "Taxmaze$Contract" (134 : Nat) ({ cls := "Taxmaze$Contract", name := "hourly", desc := "(I)J" } : Jvm.MethodName)) ∈ lw_all := lw_g (lw_at lw_m5 167 rfl) rfl
theorem q1193 : (Jvm.Cond.privateMethod ({ cls := "Taxmaze$Contract", name := "hourly", desc := "(I)J" } : Jvm.MethodName)) ∈ lw_tbl := lw_at lw_m5 168 rfl
theorem q1194 : (Jvm.Cond.instanceMethod ({ cls := "Taxmaze$Contract", name := "hourly", desc := "(I)J" } : Jvm.MethodName)) ∈ lw_all := lw_g (lw_at lw_m5 169 rfl) rfl
theorem q1195 : (Jvm.Cond.code ({ cls := "Taxmaze$Contract", name := "hourly", desc := "(I)J" } : Jvm.MethodName) prog_7_method_9_code (2 : Nat) (Option.some Jvm.ClassFile.FieldType.long)) ∈ lw_all := lw_g (lw_at lw_m5 170 rfl) rfl
theorem q1196 : (Jvm.Cond.methodLink "Taxmaze$Contract" (138 : Nat) ({ cls := "Taxmaze$Contract", name := "overtime", desc := "(I)I" } : Jvm.MethodName)) ∈ lw_all := lw_g (lw_at lw_m5 171 rfl) rfl
theorem q1197 : (Jvm.Cond.constantLong "Taxmaze$Contract" (142 : Nat) (120 : Int64)) ∈ lw_all := lw_g (lw_at lw_m5 172 rfl) rfl
theorem q1200 : (Jvm.Cond.instanceMethod ({ cls := "Taxmaze$Contract", name := "leavePay", desc := "(I)J" } : Jvm.MethodName)) ∈ lw_all := lw_g (lw_at lw_m5 175 rfl) rfl
theorem q1201 : (Jvm.Cond.selects "Taxmaze$Contract" ({ cls := "Taxmaze$Contract", name := "leavePay", desc := "(I)J" } : Jvm.MethodName) ({ cls := "Taxmaze$Contract", name := "leavePay", desc := "(I)J" } : Jvm.MethodName)) ∈ lw_all := lw_g (lw_at lw_m5 176 rfl) rfl
theorem q1202 : (Jvm.Cond.code ({ cls := "Taxmaze$Contract", name := "leavePay", desc := "(I)J" } : Jvm.MethodName) prog_7_method_10_code (2 : Nat) (Option.some Jvm.ClassFile.FieldType.long)) ∈ lw_all := lw_g (lw_at lw_m5 177 rfl) rfl
theorem q1599 : (Jvm.Cond.instanceMethod ({ cls := "Taxmaze$Contract", name := "hasDayIn", desc := "(I)Z" } : Jvm.MethodName)) ∈ lw_all := lw_g (lw_at lw_m7 94 rfl) rfl
theorem q1600 : (Jvm.Cond.selects "Taxmaze$Contract" ({ cls := "Taxmaze$Contract", name := "hasDayIn", desc := "(I)Z" } : Jvm.MethodName) ({ cls := "Taxmaze$Contract", name := "hasDayIn", desc := "(I)Z" } : Jvm.MethodName)) ∈ lw_all := lw_g (lw_at lw_m7 95 rfl) rfl
theorem q1601 : (Jvm.Cond.code ({ cls := "Taxmaze$Contract", name := "hasDayIn", desc := "(I)Z" } : Jvm.MethodName) prog_7_method_3_code (2 : Nat) (Option.some Jvm.ClassFile.FieldType.boolean)) ∈ lw_all := lw_g (lw_at lw_m7 96 rfl) rfl
theorem q2801 : (Jvm.Cond.castable "Taxmaze$Contract" "java/lang/Object") ∈ lw_tbl := lw_at lw_m12 96 rfl
theorem q92 : (Jvm.Cond.initialized "java/lang/StringLatin1") ∈ lw_all := lw_g (lw_at lw_m1 27 rfl) rfl
theorem q630 : (Jvm.Cond.static ({ cls := "java/lang/StringLatin1", name := "compareTo", desc := "([B[B)I" } : Jvm.MethodName)) ∈ lw_all := lw_g (lw_at lw_m3 85 rfl) rfl
theorem q631 : (Jvm.Cond.code ({ cls := "java/lang/StringLatin1", name := "compareTo", desc := "([B[B)I" } : Jvm.MethodName) prog_42_method_14_code (4 : Nat) (Option.some Jvm.ClassFile.FieldType.int)) ∈ lw_all := lw_g (lw_at lw_m3 86 rfl) rfl
theorem q632 : (Jvm.Cond.methodLink "java/lang/StringLatin1" (34 : Nat) ({ cls := "java/lang/StringLatin1", name := "compareTo", desc := "([B[BII)I" } : Jvm.MethodName)) ∈ lw_all := lw_g (lw_at lw_m3 87 rfl) rfl
theorem q633 : (Jvm.Cond.static ({ cls := "java/lang/StringLatin1", name := "compareTo", desc := "([B[BII)I" } : Jvm.MethodName)) ∈ lw_all := lw_g (lw_at lw_m3 88 rfl) rfl
theorem q634 : (Jvm.Cond.code ({ cls := "java/lang/StringLatin1", name := "compareTo", desc := "([B[BII)I" } : Jvm.MethodName) prog_42_method_15_code (6 : Nat) (Option.some Jvm.ClassFile.FieldType.int)) ∈ lw_all := lw_g (lw_at lw_m3 89 rfl) rfl
theorem q635 : (Jvm.Cond.methodLink "java/lang/StringLatin1" (38 : Nat) ({ cls := "java/lang/Math", name := "min", desc := "(II)I" } : Jvm.MethodName)) ∈ lw_all := lw_g (lw_at lw_m3 90 rfl) rfl
theorem q636 : (Jvm.Cond.methodLink "java/lang/StringLatin1" (44 : Nat) ({ cls := "jdk/internal/util/ArraysSupport", name := "mismatch", desc := "([B[BI)I" } : Jvm.MethodName)) ∈ lw_all := lw_g (lw_at lw_m3 91 rfl) rfl
theorem q740 : (Jvm.Cond.methodLink "java/lang/StringLatin1" (50 : Nat) ({ cls := "java/lang/StringLatin1", name := "getChar", desc := "([BI)C" } : Jvm.MethodName)) ∈ lw_all := lw_g (lw_at lw_m3 195 rfl) rfl
theorem q741 : (Jvm.Cond.static ({ cls := "java/lang/StringLatin1", name := "getChar", desc := "([BI)C" } : Jvm.MethodName)) ∈ lw_all := lw_g (lw_at lw_m3 196 rfl) rfl
theorem q742 : (Jvm.Cond.code ({ cls := "java/lang/StringLatin1", name := "getChar", desc := "([BI)C" } : Jvm.MethodName) prog_42_method_44_code (2 : Nat) (Option.some Jvm.ClassFile.FieldType.char)) ∈ lw_all := lw_g (lw_at lw_m3 197 rfl) rfl
theorem q763 : (Jvm.Cond.static ({ cls := "java/lang/StringLatin1", name := "compareToUTF16", desc := "([B[B)I" } : Jvm.MethodName)) ∈ lw_all := lw_g (lw_at lw_m3 218 rfl) rfl
theorem q764 : (Jvm.Cond.code ({ cls := "java/lang/StringLatin1", name := "compareToUTF16", desc := "([B[B)I" } : Jvm.MethodName) prog_42_method_16_code (4 : Nat) (Option.some Jvm.ClassFile.FieldType.int)) ∈ lw_all := lw_g (lw_at lw_m3 219 rfl) rfl
theorem q765 : (Jvm.Cond.methodLink "java/lang/StringLatin1" (54 : Nat) ({ cls := "java/lang/StringLatin1", name := "length", desc := "([B)I" } : Jvm.MethodName)) ∈ lw_all := lw_g (lw_at lw_m3 220 rfl) rfl
theorem q766 : (Jvm.Cond.static ({ cls := "java/lang/StringLatin1", name := "length", desc := "([B)I" } : Jvm.MethodName)) ∈ lw_all := lw_g (lw_at lw_m3 221 rfl) rfl
theorem q767 : (Jvm.Cond.code ({ cls := "java/lang/StringLatin1", name := "length", desc := "([B)I" } : Jvm.MethodName) prog_42_method_5_code (1 : Nat) (Option.some Jvm.ClassFile.FieldType.int)) ∈ lw_all := lw_g (lw_at lw_m3 222 rfl) rfl
theorem q768 : (Jvm.Cond.methodLink "java/lang/StringLatin1" (58 : Nat) ({ cls := "java/lang/StringUTF16", name := "length", desc := "([B)I" } : Jvm.MethodName)) ∈ lw_all := lw_g (lw_at lw_m3 223 rfl) rfl
theorem q769 : (Jvm.Cond.methodLink "java/lang/StringLatin1" (59 : Nat) ({ cls := "java/lang/StringLatin1", name := "compareToUTF16Values", desc := "([B[BII)I" } : Jvm.MethodName)) ∈ lw_all := lw_g (lw_at lw_m3 224 rfl) rfl
theorem q770 : (Jvm.Cond.static ({ cls := "java/lang/StringLatin1", name := "compareToUTF16Values", desc := "([B[BII)I" } : Jvm.MethodName)) ∈ lw_all := lw_g (lw_at lw_m3 225 rfl) rfl
theorem q771 : (Jvm.Cond.code ({ cls := "java/lang/StringLatin1", name := "compareToUTF16Values", desc := "([B[BII)I" } : Jvm.MethodName) prog_42_method_18_code (8 : Nat) (Option.some Jvm.ClassFile.FieldType.int)) ∈ lw_all := lw_g (lw_at lw_m3 226 rfl) rfl
theorem q772 : (Jvm.Cond.methodLink "java/lang/StringLatin1" (65 : Nat) ({ cls := "java/lang/StringUTF16", name := "getChar", desc := "([BI)C" } : Jvm.MethodName)) ∈ lw_all := lw_g (lw_at lw_m3 227 rfl) rfl
theorem q814 : (Jvm.Cond.static ({ cls := "java/lang/StringLatin1", name := "compareToUTF16", desc := "([B[BII)I" } : Jvm.MethodName)) ∈ lw_all := lw_g (lw_at lw_m4 29 rfl) rfl
theorem q815 : (Jvm.Cond.code ({ cls := "java/lang/StringLatin1", name := "compareToUTF16", desc := "([B[BII)I" } : Jvm.MethodName) prog_42_method_17_code (4 : Nat) (Option.some Jvm.ClassFile.FieldType.int)) ∈ lw_all := lw_g (lw_at lw_m4 30 rfl) rfl
theorem q816 : (Jvm.Cond.methodLink "java/lang/StringLatin1" (62 : Nat) ({ cls := "java/lang/String", name := "checkOffset", desc := "(II)V" } : Jvm.MethodName)) ∈ lw_all := lw_g (lw_at lw_m4 31 rfl) rfl
theorem q1649 : (Jvm.Cond.static ({ cls := "java/lang/StringLatin1", name := "hashCode", desc := "([B)I" } : Jvm.MethodName)) ∈ lw_all := lw_g (lw_at lw_m7 144 rfl) rfl
theorem q1650 : (Jvm.Cond.code ({ cls := "java/lang/StringLatin1", name := "hashCode", desc := "([B)I" } : Jvm.MethodName) prog_42_method_21_code (1 : Nat) (Option.some Jvm.ClassFile.FieldType.int)) ∈ lw_all := lw_g (lw_at lw_m7 145 rfl) rfl
theorem q1651 : (Jvm.Cond.methodLink "java/lang/StringLatin1" (84 : Nat) ({ cls := "jdk/internal/util/ArraysSupport", name := "vectorizedHashCode", desc := "(Ljava/lang/Object;IIII)I" } : Jvm.MethodName)) ∈ lw_all := lw_g (lw_at lw_m7 146 rfl) rfl
theorem q1780 : (Jvm.Cond.static ({ cls := "java/lang/StringLatin1", name := "inflate", desc := "([BI[BII)V" } : Jvm.MethodName)) ∈ lw_all := lw_g (lw_at lw_m8 35 rfl) rfl
theorem q1781 : (Jvm.Cond.code ({ cls := "java/lang/StringLatin1", name := "inflate", desc := "([BI[BII)V" } : Jvm.MethodName) prog_42_method_50_code (5 : Nat) (Option.none : Option Jvm.ClassFile.FieldType)) ∈ lw_all := lw_g (lw_at lw_m8 36 rfl) rfl
theorem q1782 : (Jvm.Cond.methodLink "java/lang/StringLatin1" (240 : Nat) ({ cls := "java/lang/StringUTF16", name := "inflate", desc := "([BI[BII)V" } : Jvm.MethodName)) ∈ lw_all := lw_g (lw_at lw_m8 37 rfl) rfl
theorem q1897 : (Jvm.Cond.static ({ cls := "java/lang/StringLatin1", name := "equals", desc := "([B[B)Z" } : Jvm.MethodName)) ∈ lw_all := lw_g (lw_at lw_m8 152 rfl) rfl
theorem q1898 : (Jvm.Cond.code ({ cls := "java/lang/StringLatin1", name := "equals", desc := "([B[B)Z" } : Jvm.MethodName) prog_42_method_13_code (3 : Nat) (Option.some Jvm.ClassFile.FieldType.boolean)) ∈ lw_all := lw_g (lw_at lw_m8 153 rfl) rfl
theorem q93 : (Jvm.Cond.initialized "jdk/internal/misc/Unsafe") ∈ lw_all := lw_g (lw_at lw_m1 28 rfl) rfl
theorem q294 : (Jvm.Cond.selects "jdk/internal/misc/Unsafe" ({ cls := "java/lang/Object", name := "getClass", desc := "()Ljava/lang/Class;" } : Jvm.MethodName) ({ cls := "java/lang/Object", name := "getClass", desc := "()Ljava/lang/Class;" } : Jvm.MethodName)) ∈ lw_all := lw_g (lw_at lw_m1 229 rfl) rfl
theorem q640 : (Jvm.Cond.laysStatic "jdk/internal/misc/Unsafe" "ARRAY_BYTE_BASE_OFFSET" "I") ∈ lw_tbl := lw_at lw_m3 95 rfl
theorem q651 : (Jvm.Cond.instanceMethod ({ cls := "jdk/internal/misc/Unsafe", name := "getLongUnaligned", desc := "(Ljava/lang/Object;J)J" } : Jvm.MethodName)) ∈ lw_all := lw_g (lw_at lw_m3 106 rfl) rfl
theorem q652 : (Jvm.Cond.selects "jdk/internal/misc/Unsafe" ({ cls := "jdk/internal/misc/Unsafe", name := "getLongUnaligned", desc := "(Ljava/lang/Object;J)J" } : Jvm.MethodName) ({ cls := "jdk/internal/misc/Unsafe", name := "getLongUnaligned", desc := "(Ljava/lang/Object;J)J" } : Jvm.MethodName)) ∈ lw_all := lw_g (lw_at lw_m3 107 rfl) rfl
theorem q653 : (Jvm.Cond.code ({ cls := "jdk/internal/misc/Unsafe", name := "getLongUnaligned", desc := "(Ljava/lang/Object;J)J" } : Jvm.MethodName) prog_73_method_334_code (4 : Nat) (Option.some Jvm.ClassFile.FieldType.long)) ∈ lw_all := lw_g (lw_at lw_m3 108 rfl) rfl
theorem q654 : (Jvm.Cond.constantLong "jdk/internal/misc/Unsafe" (696 : Nat) (7 : Int64)) ∈ lw_all := lw_g (lw_at lw_m3 109 rfl) rfl
theorem q655 : (Jvm.Cond.methodLink "jdk/internal/misc/Unsafe" (27 : Nat) ({ cls := "jdk/internal/misc/Unsafe", name := "getLong", desc := "(Ljava/lang/Object;J)J" } : Jvm.MethodName)) ∈ lw_all := lw_g (lw_at lw_m3 110 rfl) rfl
theorem q656 : (Jvm.Cond.instanceMethod ({ cls := "jdk/internal/misc/Unsafe", name := "getLong", desc := "(Ljava/lang/Object;J)J" } : Jvm.MethodName)) ∈ lw_all := lw_g (lw_at lw_m3 111 rfl) rfl
theorem q657 : (Jvm.Cond.selects "jdk/internal/misc/Unsafe" ({ cls := "jdk/internal/misc/Unsafe", name := "getLong", desc := "(Ljava/lang/Object;J)J" } : Jvm.MethodName) ({ cls := "jdk/internal/misc/Unsafe", name := "getLong", desc := "(Ljava/lang/Object;J)J" } : Jvm.MethodName)) ∈ lw_all := lw_g (lw_at lw_m3 112 rfl) rfl
theorem q658 : (Jvm.Cond.native ({ cls := "jdk/internal/misc/Unsafe", name := "getLong", desc := "(Ljava/lang/Object;J)J" } : Jvm.MethodName)) ∈ lw_all := lw_g (lw_at lw_m3 113 rfl) rfl
theorem q659 : (Jvm.Cond.constantLong "jdk/internal/misc/Unsafe" (349 : Nat) (3 : Int64)) ∈ lw_all := lw_g (lw_at lw_m3 114 rfl) rfl
theorem q660 : (Jvm.Cond.methodLink "jdk/internal/misc/Unsafe" (17 : Nat) ({ cls := "jdk/internal/misc/Unsafe", name := "getInt", desc := "(Ljava/lang/Object;J)I" } : Jvm.MethodName)) ∈ lw_all := lw_g (lw_at lw_m3 115 rfl) rfl
theorem q661 : (Jvm.Cond.instanceMethod ({ cls := "jdk/internal/misc/Unsafe", name := "getInt", desc := "(Ljava/lang/Object;J)I" } : Jvm.MethodName)) ∈ lw_all := lw_g (lw_at lw_m3 116 rfl) rfl
theorem q662 : (Jvm.Cond.selects "jdk/internal/misc/Unsafe" ({ cls := "jdk/internal/misc/Unsafe", name := "getInt", desc := "(Ljava/lang/Object;J)I" } : Jvm.MethodName) ({ cls := "jdk/internal/misc/Unsafe", name := "getInt", desc := "(Ljava/lang/Object;J)I" } : Jvm.MethodName)) ∈ lw_all := lw_g (lw_at lw_m3 117 rfl) rfl
theorem q663 : (Jvm.Cond.native ({ cls := "jdk/internal/misc/Unsafe", name := "getInt", desc := "(Ljava/lang/Object;J)I" } : Jvm.MethodName)) ∈ lw_all := lw_g (lw_at lw_m3 118 rfl) rfl
theorem q664 : (Jvm.Cond.constantLong "jdk/internal/misc/Unsafe" (205 : Nat) (4 : Int64)) ∈ lw_all := lw_g (lw_at lw_m3 119 rfl) rfl
theorem q665 : (Jvm.Cond.methodLink "jdk/internal/misc/Unsafe" (698 : Nat) ({ cls := "jdk/internal/misc/Unsafe", name := "makeLong", desc := "(II)J" } : Jvm.MethodName)) ∈ lw_all := lw_g (lw_at lw_m3 120 rfl) rfl
theorem q666 : (Jvm.Cond.static ({ cls := "jdk/internal/misc/Unsafe", name := "makeLong", desc := "(II)J" } : Jvm.MethodName)) ∈ lw_all := lw_g (lw_at lw_m3 121 rfl) rfl
theorem q667 : (Jvm.Cond.code ({ cls := "jdk/internal/misc/Unsafe", name := "makeLong", desc := "(II)J" } : Jvm.MethodName) prog_73_method_353_code (2 : Nat) (Option.some Jvm.ClassFile.FieldType.long)) ∈ lw_all := lw_g (lw_at lw_m3 122 rfl) rfl
theorem q668 : (Jvm.Cond.methodLink "jdk/internal/misc/Unsafe" (791 : Nat) ({ cls := "jdk/internal/misc/Unsafe", name := "toUnsignedLong", desc := "(I)J" } : Jvm.MethodName)) ∈ lw_all := lw_g (lw_at lw_m3 123 rfl) rfl
theorem q669 : (Jvm.Cond.static ({ cls := "jdk/internal/misc/Unsafe", name := "toUnsignedLong", desc := "(I)J" } : Jvm.MethodName)) ∈ lw_all := lw_g (lw_at lw_m3 124 rfl) rfl
theorem q670 : (Jvm.Cond.code ({ cls := "jdk/internal/misc/Unsafe", name := "toUnsignedLong", desc := "(I)J" } : Jvm.MethodName) prog_73_method_370_code (1 : Nat) (Option.some Jvm.ClassFile.FieldType.long)) ∈ lw_all := lw_g (lw_at lw_m3 125 rfl) rfl
theorem q671 : (Jvm.Cond.constantLong "jdk/internal/misc/Unsafe" (812 : Nat) (4294967295 : Int64)) ∈ lw_all := lw_g (lw_at lw_m3 126 rfl) rfl
theorem q672 : (Jvm.Cond.methodLink "jdk/internal/misc/Unsafe" (784 : Nat) ({ cls := "jdk/internal/misc/Unsafe", name := "pickPos", desc := "(II)I" } : Jvm.MethodName)) ∈ lw_all := lw_g (lw_at lw_m3 127 rfl) rfl
theorem q673 : (Jvm.Cond.static ({ cls := "jdk/internal/misc/Unsafe", name := "pickPos", desc := "(II)I" } : Jvm.MethodName)) ∈ lw_all := lw_g (lw_at lw_m3 128 rfl) rfl
theorem q674 : (Jvm.Cond.code ({ cls := "jdk/internal/misc/Unsafe", name := "pickPos", desc := "(II)I" } : Jvm.MethodName) prog_73_method_350_code (2 : Nat) (Option.some Jvm.ClassFile.FieldType.int)) ∈ lw_all := lw_g (lw_at lw_m3 129 rfl) rfl
theorem q675 : (Jvm.Cond.fieldLink "jdk/internal/misc/Unsafe" (351 : Nat) "jdk/internal/misc/UnsafeConstants" "BIG_ENDIAN" "Z") ∈ lw_all := lw_g (lw_at lw_m3 130 rfl) rfl
theorem q677 : (Jvm.Cond.methodLink "jdk/internal/misc/Unsafe" (47 : Nat) ({ cls := "jdk/internal/misc/Unsafe", name := "getShort", desc := "(Ljava/lang/Object;J)S" } : Jvm.MethodName)) ∈ lw_all := lw_g (lw_at lw_m3 132 rfl) rfl
theorem q678 : (Jvm.Cond.instanceMethod ({ cls := "jdk/internal/misc/Unsafe", name := "getShort", desc := "(Ljava/lang/Object;J)S" } : Jvm.MethodName)) ∈ lw_all := lw_g (lw_at lw_m3 133 rfl) rfl
theorem q679 : (Jvm.Cond.selects "jdk/internal/misc/Unsafe" ({ cls := "jdk/internal/misc/Unsafe", name := "getShort", desc := "(Ljava/lang/Object;J)S" } : Jvm.MethodName) ({ cls := "jdk/internal/misc/Unsafe", name := "getShort", desc := "(Ljava/lang/Object;J)S" } : Jvm.MethodName)) ∈ lw_all := lw_g (lw_at lw_m3 134 rfl) rfl
theorem q680 : (Jvm.Cond.native ({ cls := "jdk/internal/misc/Unsafe", name := "getShort", desc := "(Ljava/lang/Object;J)S" } : Jvm.MethodName)) ∈ lw_all := lw_g (lw_at lw_m3 135 rfl) rfl
theorem q681 : (Jvm.Cond.constantLong "jdk/internal/misc/Unsafe" (203 : Nat) (2 : Int64)) ∈ lw_all := lw_g (lw_at lw_m3 136 rfl) rfl
theorem q682 : (Jvm.Cond.constantLong "jdk/internal/misc/Unsafe" (702 : Nat) (6 : Int64)) ∈ lw_all := lw_g (lw_at lw_m3 137 rfl) rfl
theorem q683 : (Jvm.Cond.methodLink "jdk/internal/misc/Unsafe" (704 : Nat) ({ cls := "jdk/internal/misc/Unsafe", name := "makeLong", desc := "(SSSS)J" } : Jvm.MethodName)) ∈ lw_all := lw_g (lw_at lw_m3 138 rfl) rfl
theorem q684 : (Jvm.Cond.static ({ cls := "jdk/internal/misc/Unsafe", name := "makeLong", desc := "(SSSS)J" } : Jvm.MethodName)) ∈ lw_all := lw_g (lw_at lw_m3 139 rfl) rfl
theorem q685 : (Jvm.Cond.code ({ cls := "jdk/internal/misc/Unsafe", name := "makeLong", desc := "(SSSS)J" } : Jvm.MethodName) prog_73_method_352_code (4 : Nat) (Option.some Jvm.ClassFile.FieldType.long)) ∈ lw_all := lw_g (lw_at lw_m3 140 rfl) rfl
theorem q686 : (Jvm.Cond.methodLink "jdk/internal/misc/Unsafe" (788 : Nat) ({ cls := "jdk/internal/misc/Unsafe", name := "toUnsignedLong", desc := "(S)J" } : Jvm.MethodName)) ∈ lw_all := lw_g (lw_at lw_m3 141 rfl) rfl
theorem q687 : (Jvm.Cond.static ({ cls := "jdk/internal/misc/Unsafe", name := "toUnsignedLong", desc := "(S)J" } : Jvm.MethodName)) ∈ lw_all := lw_g (lw_at lw_m3 142 rfl) rfl
theorem q688 : (Jvm.Cond.code ({ cls := "jdk/internal/misc/Unsafe", name := "toUnsignedLong", desc := "(S)J" } : Jvm.MethodName) prog_73_method_369_code (1 : Nat) (Option.some Jvm.ClassFile.FieldType.long)) ∈ lw_all := lw_g (lw_at lw_m3 143 rfl) rfl
theorem q689 : (Jvm.Cond.constantLong "jdk/internal/misc/Unsafe" (810 : Nat) (65535 : Int64)) ∈ lw_all := lw_g (lw_at lw_m3 144 rfl) rfl
theorem q690 : (Jvm.Cond.methodLink "jdk/internal/misc/Unsafe" (39 : Nat) ({ cls := "jdk/internal/misc/Unsafe", name := "getByte", desc := "(Ljava/lang/Object;J)B" } : Jvm.MethodName)) ∈ lw_all := lw_g (lw_at lw_m3 145 rfl) rfl
theorem q691 : (Jvm.Cond.instanceMethod ({ cls := "jdk/internal/misc/Unsafe", name := "getByte", desc := "(Ljava/lang/Object;J)B" } : Jvm.MethodName)) ∈ lw_all := lw_g (lw_at lw_m3 146 rfl) rfl
theorem q692 : (Jvm.Cond.selects "jdk/internal/misc/Unsafe" ({ cls := "jdk/internal/misc/Unsafe", name := "getByte", desc := "(Ljava/lang/Object;J)B" } : Jvm.MethodName) ({ cls := "jdk/internal/misc/Unsafe", name := "getByte", desc := "(Ljava/lang/Object;J)B" } : Jvm.MethodName)) ∈ lw_all := lw_g (lw_at lw_m3 147 rfl) rfl
theorem q693 : (Jvm.Cond.native ({ cls := "jdk/internal/misc/Unsafe", name := "getByte", desc := "(Ljava/lang/Object;J)B" } : Jvm.MethodName)) ∈ lw_all := lw_g (lw_at lw_m3 148 rfl) rfl
theorem q694 : (Jvm.Cond.constantLong "jdk/internal/misc/Unsafe" (707 : Nat) (5 : Int64)) ∈ lw_all := lw_g (lw_at lw_m3 149 rfl) rfl
theorem q695 : (Jvm.Cond.methodLink "jdk/internal/misc/Unsafe" (709 : Nat) ({ cls := "jdk/internal/misc/Unsafe", name := "makeLong", desc := "(BBBBBBBB)J" } : Jvm.MethodName)) ∈ lw_all := lw_g (lw_at lw_m3 150 rfl) rfl
theorem q696 : (Jvm.Cond.static ({ cls := "jdk/internal/misc/Unsafe", name := "makeLong", desc := "(BBBBBBBB)J" } : Jvm.MethodName)) ∈ lw_all := lw_g (lw_at lw_m3 151 rfl) rfl
theorem q697 : (Jvm.Cond.code ({ cls := "jdk/internal/misc/Unsafe", name := "makeLong", desc := "(BBBBBBBB)J" } : Jvm.MethodName) prog_73_method_351_code (8 : Nat) (Option.some Jvm.ClassFile.FieldType.long)) ∈ lw_all := lw_g (lw_at lw_m3 152 rfl) rfl
theorem q698 : (Jvm.Cond.methodLink "jdk/internal/misc/Unsafe" (781 : Nat) ({ cls := "jdk/internal/misc/Unsafe", name := "toUnsignedLong", desc := "(B)J" } : Jvm.MethodName)) ∈ lw_all := lw_g (lw_at lw_m3 153 rfl) rfl
theorem q699 : (Jvm.Cond.static ({ cls := "jdk/internal/misc/Unsafe", name := "toUnsignedLong", desc := "(B)J" } : Jvm.MethodName)) ∈ lw_all := lw_g (lw_at lw_m3 154 rfl) rfl
theorem q700 : (Jvm.Cond.code ({ cls := "jdk/internal/misc/Unsafe", name := "toUnsignedLong", desc := "(B)J" } : Jvm.MethodName) prog_73_method_368_code (1 : Nat) (Option.some Jvm.ClassFile.FieldType.long)) ∈ lw_all := lw_g (lw_at lw_m3 155 rfl) rfl
theorem q701 : (Jvm.Cond.constantLong "jdk/internal/misc/Unsafe" (808 : Nat) (255 : Int64)) ∈ lw_all := lw_g (lw_at lw_m3 156 rfl) rfl
theorem q722 : (Jvm.Cond.instanceMethod ({ cls := "jdk/internal/misc/Unsafe", name := "getIntUnaligned", desc := "(Ljava/lang/Object;J)I" } : Jvm.MethodName)) ∈ lw_all := lw_g (lw_at lw_m3 177 rfl) rfl
theorem q723 : (Jvm.Cond.selects "jdk/internal/misc/Unsafe" ({ cls := "jdk/internal/misc/Unsafe", name := "getIntUnaligned", desc := "(Ljava/lang/Object;J)I" } : Jvm.MethodName) ({ cls := "jdk/internal/misc/Unsafe", name := "getIntUnaligned", desc := "(Ljava/lang/Object;J)I" } : Jvm.MethodName)) ∈ lw_all := lw_g (lw_at lw_m3 178 rfl) rfl
theorem q724 : (Jvm.Cond.code ({ cls := "jdk/internal/misc/Unsafe", name := "getIntUnaligned", desc := "(Ljava/lang/Object;J)I" } : Jvm.MethodName) prog_73_method_336_code (4 : Nat) (Option.some Jvm.ClassFile.FieldType.int)) ∈ lw_all := lw_g (lw_at lw_m3 179 rfl) rfl
theorem q725 : (Jvm.Cond.methodLink "jdk/internal/misc/Unsafe" (719 : Nat) ({ cls := "jdk/internal/misc/Unsafe", name := "makeInt", desc := "(SS)I" } : Jvm.MethodName)) ∈ lw_all := lw_g (lw_at lw_m3 180 rfl) rfl
theorem q726 : (Jvm.Cond.static ({ cls := "jdk/internal/misc/Unsafe", name := "makeInt", desc := "(SS)I" } : Jvm.MethodName)) ∈ lw_all := lw_g (lw_at lw_m3 181 rfl) rfl
theorem q727 : (Jvm.Cond.code ({ cls := "jdk/internal/misc/Unsafe", name := "makeInt", desc := "(SS)I" } : Jvm.MethodName) prog_73_method_354_code (2 : Nat) (Option.some Jvm.ClassFile.FieldType.int)) ∈ lw_all := lw_g (lw_at lw_m3 182 rfl) rfl
theorem q728 : (Jvm.Cond.methodLink "jdk/internal/misc/Unsafe" (792 : Nat) ({ cls := "jdk/internal/misc/Unsafe", name := "toUnsignedInt", desc := "(S)I" } : Jvm.MethodName)) ∈ lw_all := lw_g (lw_at lw_m3 183 rfl) rfl
theorem q729 : (Jvm.Cond.static ({ cls := "jdk/internal/misc/Unsafe", name := "toUnsignedInt", desc := "(S)I" } : Jvm.MethodName)) ∈ lw_all := lw_g (lw_at lw_m3 184 rfl) rfl
theorem q730 : (Jvm.Cond.code ({ cls := "jdk/internal/misc/Unsafe", name := "toUnsignedInt", desc := "(S)I" } : Jvm.MethodName) prog_73_method_367_code (1 : Nat) (Option.some Jvm.ClassFile.FieldType.int)) ∈ lw_all := lw_g (lw_at lw_m3 185 rfl) rfl
theorem q731 : (Jvm.Cond.constant "jdk/internal/misc/Unsafe" (374 : Nat) (65535 : Int32)) ∈ lw_all := lw_g (lw_at lw_m3 186 rfl) rfl
theorem q732 : (Jvm.Cond.methodLink "jdk/internal/misc/Unsafe" (723 : Nat) ({ cls := "jdk/internal/misc/Unsafe", name := "makeInt", desc := "(BBBB)I" } : Jvm.MethodName)) ∈ lw_all := lw_g (lw_at lw_m3 187 rfl) rfl
theorem q733 : (Jvm.Cond.static ({ cls := "jdk/internal/misc/Unsafe", name := "makeInt", desc := "(BBBB)I" } : Jvm.MethodName)) ∈ lw_all := lw_g (lw_at lw_m3 188 rfl) rfl
theorem q734 : (Jvm.Cond.code ({ cls := "jdk/internal/misc/Unsafe", name := "makeInt", desc := "(BBBB)I" } : Jvm.MethodName) prog_73_method_355_code (4 : Nat) (Option.some Jvm.ClassFile.FieldType.int)) ∈ lw_all := lw_g (lw_at lw_m3 189 rfl) rfl
theorem q735 : (Jvm.Cond.methodLink "jdk/internal/misc/Unsafe" (796 : Nat) ({ cls := "jdk/internal/misc/Unsafe", name := "toUnsignedInt", desc := "(B)I" } : Jvm.MethodName)) ∈ lw_all := lw_g (lw_at lw_m3 190 rfl) rfl
theorem q736 : (Jvm.Cond.static ({ cls := "jdk/internal/misc/Unsafe", name := "toUnsignedInt", desc := "(B)I" } : Jvm.MethodName)) ∈ lw_all := lw_g (lw_at lw_m3 191 rfl) rfl
theorem q737 : (Jvm.Cond.code ({ cls := "jdk/internal/misc/Unsafe", name := "toUnsignedInt", desc := "(B)I" } : Jvm.MethodName) prog_73_method_366_code (1 : Nat) (Option.some Jvm.ClassFile.FieldType.int)) ∈ lw_all := lw_g (lw_at lw_m3 192 rfl) rfl
theorem q2802 : (Jvm.Cond.castable "jdk/internal/misc/Unsafe" "java/lang/Object") ∈ lw_tbl := lw_at lw_m12 97 rfl
theorem q95 : (Jvm.Cond.initialized "java/lang/Long") ∈ lw_all := lw_g (lw_at lw_m1 30 rfl) rfl
theorem q705 : (Jvm.Cond.static ({ cls := "java/lang/Long", name := "numberOfLeadingZeros", desc := "(J)I" } : Jvm.MethodName)) ∈ lw_all := lw_g (lw_at lw_m3 160 rfl) rfl
theorem q706 : (Jvm.Cond.code ({ cls := "java/lang/Long", name := "numberOfLeadingZeros", desc := "(J)I" } : Jvm.MethodName) prog_35_method_48_code (3 : Nat) (Option.some Jvm.ClassFile.FieldType.int)) ∈ lw_all := lw_g (lw_at lw_m3 161 rfl) rfl
theorem q707 : (Jvm.Cond.methodLink "java/lang/Long" (308 : Nat) ({ cls := "java/lang/Integer", name := "numberOfLeadingZeros", desc := "(I)I" } : Jvm.MethodName)) ∈ lw_all := lw_g (lw_at lw_m3 162 rfl) rfl
theorem q714 : (Jvm.Cond.static ({ cls := "java/lang/Long", name := "numberOfTrailingZeros", desc := "(J)I" } : Jvm.MethodName)) ∈ lw_all := lw_g (lw_at lw_m3 169 rfl) rfl
theorem q715 : (Jvm.Cond.code ({ cls := "java/lang/Long", name := "numberOfTrailingZeros", desc := "(J)I" } : Jvm.MethodName) prog_35_method_49_code (3 : Nat) (Option.some Jvm.ClassFile.FieldType.int)) ∈ lw_all := lw_g (lw_at lw_m3 170 rfl) rfl
theorem q716 : (Jvm.Cond.methodLink "java/lang/Long" (311 : Nat) ({ cls := "java/lang/Integer", name := "numberOfTrailingZeros", desc := "(I)I" } : Jvm.MethodName)) ∈ lw_all := lw_g (lw_at lw_m3 171 rfl) rfl
theorem q96 : (Jvm.Cond.initialized "java/lang/StringUTF16") ∈ lw_all := lw_g (lw_at lw_m1 31 rfl) rfl
theorem q744 : (Jvm.Cond.static ({ cls := "java/lang/StringUTF16", name := "compareTo", desc := "([B[B)I" } : Jvm.MethodName)) ∈ lw_all := lw_g (lw_at lw_m3 199 rfl) rfl
theorem q745 : (Jvm.Cond.code ({ cls := "java/lang/StringUTF16", name := "compareTo", desc := "([B[B)I" } : Jvm.MethodName) prog_43_method_29_code (4 : Nat) (Option.some Jvm.ClassFile.FieldType.int)) ∈ lw_all := lw_g (lw_at lw_m3 200 rfl) rfl
theorem q746 : (Jvm.Cond.methodLink "java/lang/StringUTF16" (48 : Nat) ({ cls := "java/lang/StringUTF16", name := "length", desc := "([B)I" } : Jvm.MethodName)) ∈ lw_all := lw_g (lw_at lw_m3 201 rfl) rfl
theorem q747 : (Jvm.Cond.static ({ cls := "java/lang/StringUTF16", name := "length", desc := "([B)I" } : Jvm.MethodName)) ∈ lw_all := lw_g (lw_at lw_m3 202 rfl) rfl
theorem q748 : (Jvm.Cond.code ({ cls := "java/lang/StringUTF16", name := "length", desc := "([B)I" } : Jvm.MethodName) prog_43_method_6_code (1 : Nat) (Option.some Jvm.ClassFile.FieldType.int)) ∈ lw_all := lw_g (lw_at lw_m3 203 rfl) rfl
theorem q749 : (Jvm.Cond.methodLink "java/lang/StringUTF16" (176 : Nat) ({ cls := "java/lang/StringUTF16", name := "compareValues", desc := "([B[BII)I" } : Jvm.MethodName)) ∈ lw_all := lw_g (lw_at lw_m3 204 rfl) rfl
theorem q750 : (Jvm.Cond.static ({ cls := "java/lang/StringUTF16", name := "compareValues", desc := "([B[BII)I" } : Jvm.MethodName)) ∈ lw_all := lw_g (lw_at lw_m3 205 rfl) rfl
theorem q751 : (Jvm.Cond.code ({ cls := "java/lang/StringUTF16", name := "compareValues", desc := "([B[BII)I" } : Jvm.MethodName) prog_43_method_31_code (8 : Nat) (Option.some Jvm.ClassFile.FieldType.int)) ∈ lw_all := lw_g (lw_at lw_m3 206 rfl) rfl
theorem q752 : (Jvm.Cond.methodLink "java/lang/StringUTF16" (183 : Nat) ({ cls := "java/lang/Math", name := "min", desc := "(II)I" } : Jvm.MethodName)) ∈ lw_all := lw_g (lw_at lw_m3 207 rfl) rfl
theorem q753 : (Jvm.Cond.methodLink "java/lang/StringUTF16" (71 : Nat) ({ cls := "java/lang/StringUTF16", name := "getChar", desc := "([BI)C" } : Jvm.MethodName)) ∈ lw_all := lw_g (lw_at lw_m3 208 rfl) rfl
theorem q754 : (Jvm.Cond.static ({ cls := "java/lang/StringUTF16", name := "getChar", desc := "([BI)C" } : Jvm.MethodName)) ∈ lw_all := lw_g (lw_at lw_m3 209 rfl) rfl
theorem q755 : (Jvm.Cond.code ({ cls := "java/lang/StringUTF16", name := "getChar", desc := "([BI)C" } : Jvm.MethodName) prog_43_method_5_code (2 : Nat) (Option.some Jvm.ClassFile.FieldType.char)) ∈ lw_all := lw_g (lw_at lw_m3 210 rfl) rfl
theorem q756 : (Jvm.Cond.fieldLink "java/lang/StringUTF16" (44 : Nat) "java/lang/StringUTF16" "$assertionsDisabled" "Z") ∈ lw_all := lw_g (lw_at lw_m3 211 rfl) rfl
theorem q757 : (Jvm.Cond.laysStatic "java/lang/StringUTF16" "$assertionsDisabled" "Z") ∈ lw_tbl := lw_at lw_m3 212 rfl
theorem q758 : (Jvm.Cond.fieldLink "java/lang/StringUTF16" (59 : Nat) "java/lang/StringUTF16" "HI_BYTE_SHIFT" "I") ∈ lw_all := lw_g (lw_at lw_m3 213 rfl) rfl
theorem q759 : (Jvm.Cond.laysStatic "java/lang/StringUTF16" "HI_BYTE_SHIFT" "I") ∈ lw_tbl := lw_at lw_m3 214 rfl
theorem q760 : (Jvm.Cond.fieldLink "java/lang/StringUTF16" (63 : Nat) "java/lang/StringUTF16" "LO_BYTE_SHIFT" "I") ∈ lw_all := lw_g (lw_at lw_m3 215 rfl) rfl
theorem q761 : (Jvm.Cond.laysStatic "java/lang/StringUTF16" "LO_BYTE_SHIFT" "I") ∈ lw_tbl := lw_at lw_m3 216 rfl
theorem q774 : (Jvm.Cond.static ({ cls := "java/lang/StringUTF16", name := "compareToLatin1", desc := "([B[B)I" } : Jvm.MethodName)) ∈ lw_all := lw_g (lw_at lw_m3 229 rfl) rfl
theorem q775 : (Jvm.Cond.code ({ cls := "java/lang/StringUTF16", name := "compareToLatin1", desc := "([B[B)I" } : Jvm.MethodName) prog_43_method_32_code (2 : Nat) (Option.some Jvm.ClassFile.FieldType.int)) ∈ lw_all := lw_g (lw_at lw_m3 230 rfl) rfl
theorem q776 : (Jvm.Cond.methodLink "java/lang/StringUTF16" (189 : Nat) ({ cls := "java/lang/StringLatin1", name := "compareToUTF16", desc := "([B[B)I" } : Jvm.MethodName)) ∈ lw_all := lw_g (lw_at lw_m3 231 rfl) rfl
theorem q800 : (Jvm.Cond.static ({ cls := "java/lang/StringUTF16", name := "compareTo", desc := "([B[BII)I" } : Jvm.MethodName)) ∈ lw_all := lw_g (lw_at lw_m4 15 rfl) rfl
theorem q801 : (Jvm.Cond.code ({ cls := "java/lang/StringUTF16", name := "compareTo", desc := "([B[BII)I" } : Jvm.MethodName) prog_43_method_30_code (4 : Nat) (Option.some Jvm.ClassFile.FieldType.int)) ∈ lw_all := lw_g (lw_at lw_m4 16 rfl) rfl
theorem q802 : (Jvm.Cond.methodLink "java/lang/StringUTF16" (180 : Nat) ({ cls := "java/lang/StringUTF16", name := "checkOffset", desc := "(I[B)V" } : Jvm.MethodName)) ∈ lw_all := lw_g (lw_at lw_m4 17 rfl) rfl
theorem q803 : (Jvm.Cond.static ({ cls := "java/lang/StringUTF16", name := "checkOffset", desc := "(I[B)V" } : Jvm.MethodName)) ∈ lw_all := lw_g (lw_at lw_m4 18 rfl) rfl
theorem q804 : (Jvm.Cond.code ({ cls := "java/lang/StringUTF16", name := "checkOffset", desc := "(I[B)V" } : Jvm.MethodName) prog_43_method_92_code (2 : Nat) (Option.none : Option Jvm.ClassFile.FieldType)) ∈ lw_all := lw_g (lw_at lw_m4 19 rfl) rfl
theorem q805 : (Jvm.Cond.methodLink "java/lang/StringUTF16" (417 : Nat) ({ cls := "java/lang/String", name := "checkOffset", desc := "(II)V" } : Jvm.MethodName)) ∈ lw_all := lw_g (lw_at lw_m4 20 rfl) rfl
theorem q818 : (Jvm.Cond.static ({ cls := "java/lang/StringUTF16", name := "compareToLatin1", desc := "([B[BII)I" } : Jvm.MethodName)) ∈ lw_all := lw_g (lw_at lw_m4 33 rfl) rfl
theorem q819 : (Jvm.Cond.code ({ cls := "java/lang/StringUTF16", name := "compareToLatin1", desc := "([B[BII)I" } : Jvm.MethodName) prog_43_method_33_code (4 : Nat) (Option.some Jvm.ClassFile.FieldType.int)) ∈ lw_all := lw_g (lw_at lw_m4 34 rfl) rfl
theorem q820 : (Jvm.Cond.methodLink "java/lang/StringUTF16" (193 : Nat) ({ cls := "java/lang/StringLatin1", name := "compareToUTF16", desc := "([B[BII)I" } : Jvm.MethodName)) ∈ lw_all := lw_g (lw_at lw_m4 35 rfl) rfl
theorem q1700 : (Jvm.Cond.static ({ cls := "java/lang/StringUTF16", name := "newBytesFor", desc := "(I)[B" } : Jvm.MethodName)) ∈ lw_all := lw_g (lw_at lw_m7 195 rfl) rfl
theorem q1701 : (Jvm.Cond.code ({ cls := "java/lang/StringUTF16", name := "newBytesFor", desc := "(I)[B" } : Jvm.MethodName) prog_43_method_2_code (1 : Nat) (Option.some (Jvm.ClassFile.FieldType.array Jvm.ClassFile.FieldType.byte))) ∈ lw_all := lw_g (lw_at lw_m7 196 rfl) rfl
theorem q1702 : (Jvm.Cond.methodLink "java/lang/StringUTF16" (11 : Nat) ({ cls := "java/lang/StringUTF16", name := "newBytesLength", desc := "(I)I" } : Jvm.MethodName)) ∈ lw_all := lw_g (lw_at lw_m7 197 rfl) rfl
theorem q1703 : (Jvm.Cond.static ({ cls := "java/lang/StringUTF16", name := "newBytesLength", desc := "(I)I" } : Jvm.MethodName)) ∈ lw_all := lw_g (lw_at lw_m7 198 rfl) rfl
theorem q1704 : (Jvm.Cond.code ({ cls := "java/lang/StringUTF16", name := "newBytesLength", desc := "(I)I" } : Jvm.MethodName) prog_43_method_3_code (1 : Nat) (Option.some Jvm.ClassFile.FieldType.int)) ∈ lw_all := lw_g (lw_at lw_m7 199 rfl) rfl
theorem q1705 : (Jvm.Cond.constant "java/lang/StringUTF16" (20 : Nat) (1073741823 : Int32)) ∈ lw_all := lw_g (lw_at lw_m7 200 rfl) rfl
theorem q1751 : (Jvm.Cond.static ({ cls := "java/lang/StringUTF16", name := "putCharsAt", desc := "([BICCCC)I" } : Jvm.MethodName)) ∈ lw_all := lw_g (lw_at lw_m8 6 rfl) rfl
theorem q1752 : (Jvm.Cond.code ({ cls := "java/lang/StringUTF16", name := "putCharsAt", desc := "([BICCCC)I" } : Jvm.MethodName) prog_43_method_81_code (7 : Nat) (Option.some Jvm.ClassFile.FieldType.int)) ∈ lw_all := lw_g (lw_at lw_m8 7 rfl) rfl
theorem q1753 : (Jvm.Cond.methodLink "java/lang/StringUTF16" (96 : Nat) ({ cls := "java/lang/StringUTF16", name := "checkBoundsBeginEnd", desc := "(II[B)V" } : Jvm.MethodName)) ∈ lw_all := lw_g (lw_at lw_m8 8 rfl) rfl
theorem q1754 : (Jvm.Cond.static ({ cls := "java/lang/StringUTF16", name := "checkBoundsBeginEnd", desc := "(II[B)V" } : Jvm.MethodName)) ∈ lw_all := lw_g (lw_at lw_m8 9 rfl) rfl
theorem q1755 : (Jvm.Cond.code ({ cls := "java/lang/StringUTF16", name := "checkBoundsBeginEnd", desc := "(II[B)V" } : Jvm.MethodName) prog_43_method_93_code (3 : Nat) (Option.none : Option Jvm.ClassFile.FieldType)) ∈ lw_all := lw_g (lw_at lw_m8 10 rfl) rfl
theorem q1756 : (Jvm.Cond.methodLink "java/lang/StringUTF16" (241 : Nat) ({ cls := "java/lang/String", name := "checkBoundsBeginEnd", desc := "(III)V" } : Jvm.MethodName)) ∈ lw_all := lw_g (lw_at lw_m8 11 rfl) rfl
theorem q1759 : (Jvm.Cond.methodLink "java/lang/StringUTF16" (111 : Nat) ({ cls := "java/lang/StringUTF16", name := "putChar", desc := "([BII)V" } : Jvm.MethodName)) ∈ lw_all := lw_g (lw_at lw_m8 14 rfl) rfl
theorem q1760 : (Jvm.Cond.static ({ cls := "java/lang/StringUTF16", name := "putChar", desc := "([BII)V" } : Jvm.MethodName)) ∈ lw_all := lw_g (lw_at lw_m8 15 rfl) rfl
theorem q1761 : (Jvm.Cond.code ({ cls := "java/lang/StringUTF16", name := "putChar", desc := "([BII)V" } : Jvm.MethodName) prog_43_method_4_code (3 : Nat) (Option.none : Option Jvm.ClassFile.FieldType)) ∈ lw_all := lw_g (lw_at lw_m8 16 rfl) rfl
theorem q1783 : (Jvm.Cond.static ({ cls := "java/lang/StringUTF16", name := "inflate", desc := "([BI[BII)V" } : Jvm.MethodName)) ∈ lw_all := lw_g (lw_at lw_m8 38 rfl) rfl
theorem q1784 : (Jvm.Cond.code ({ cls := "java/lang/StringUTF16", name := "inflate", desc := "([BI[BII)V" } : Jvm.MethodName) prog_43_method_86_code (6 : Nat) (Option.none : Option Jvm.ClassFile.FieldType)) ∈ lw_all := lw_g (lw_at lw_m8 39 rfl) rfl
theorem q1785 : (Jvm.Cond.methodLink "java/lang/StringUTF16" (173 : Nat) ({ cls := "java/lang/StringUTF16", name := "checkBoundsOffCount", desc := "(II[B)V" } : Jvm.MethodName)) ∈ lw_all := lw_g (lw_at lw_m8 40 rfl) rfl
theorem q1786 : (Jvm.Cond.static ({ cls := "java/lang/StringUTF16", name := "checkBoundsOffCount", desc := "(II[B)V" } : Jvm.MethodName)) ∈ lw_all := lw_g (lw_at lw_m8 41 rfl) rfl
theorem q1787 : (Jvm.Cond.code ({ cls := "java/lang/StringUTF16", name := "checkBoundsOffCount", desc := "(II[B)V" } : Jvm.MethodName) prog_43_method_94_code (3 : Nat) (Option.none : Option Jvm.ClassFile.FieldType)) ∈ lw_all := lw_g (lw_at lw_m8 42 rfl) rfl
theorem q1788 : (Jvm.Cond.methodLink "java/lang/StringUTF16" (419 : Nat) ({ cls := "java/lang/String", name := "checkBoundsOffCount", desc := "(III)I" } : Jvm.MethodName)) ∈ lw_all := lw_g (lw_at lw_m8 43 rfl) rfl
theorem q1818 : (Jvm.Cond.static ({ cls := "java/lang/StringUTF16", name := "getChars", desc := "(III[B)I" } : Jvm.MethodName)) ∈ lw_all := lw_g (lw_at lw_m8 73 rfl) rfl
theorem q1819 : (Jvm.Cond.code ({ cls := "java/lang/StringUTF16", name := "getChars", desc := "(III[B)I" } : Jvm.MethodName) prog_43_method_77_code (5 : Nat) (Option.some Jvm.ClassFile.FieldType.int)) ∈ lw_all := lw_g (lw_at lw_m8 74 rfl) rfl
theorem q1820 : (Jvm.Cond.methodLink "java/lang/StringUTF16" (393 : Nat) ({ cls := "java/lang/StringUTF16", name := "getChars", desc := "(II[B)I" } : Jvm.MethodName)) ∈ lw_all := lw_g (lw_at lw_m8 75 rfl) rfl
theorem q1821 : (Jvm.Cond.static ({ cls := "java/lang/StringUTF16", name := "getChars", desc := "(II[B)I" } : Jvm.MethodName)) ∈ lw_all := lw_g (lw_at lw_m8 76 rfl) rfl
theorem q1822 : (Jvm.Cond.code ({ cls := "java/lang/StringUTF16", name := "getChars", desc := "(II[B)I" } : Jvm.MethodName) prog_43_method_89_code (7 : Nat) (Option.some Jvm.ClassFile.FieldType.int)) ∈ lw_all := lw_g (lw_at lw_m8 77 rfl) rfl
theorem q1823 : (Jvm.Cond.fieldLink "java/lang/StringUTF16" (403 : Nat) "java/lang/Integer" "DigitOnes" "[B") ∈ lw_all := lw_g (lw_at lw_m8 78 rfl) rfl
theorem q1824 : (Jvm.Cond.fieldLink "java/lang/StringUTF16" (407 : Nat) "java/lang/Integer" "DigitTens" "[B") ∈ lw_all := lw_g (lw_at lw_m8 79 rfl) rfl
theorem q1869 : (Jvm.Cond.static ({ cls := "java/lang/StringUTF16", name := "compress", desc := "([BII)[B" } : Jvm.MethodName)) ∈ lw_all := lw_g (lw_at lw_m8 124 rfl) rfl
theorem q1870 : (Jvm.Cond.code ({ cls := "java/lang/StringUTF16", name := "compress", desc := "([BII)[B" } : Jvm.MethodName) prog_43_method_17_code (6 : Nat) (Option.some (Jvm.ClassFile.FieldType.array Jvm.ClassFile.FieldType.byte))) ∈ lw_all := lw_g (lw_at lw_m8 125 rfl) rfl
theorem q1871 : (Jvm.Cond.methodLink "java/lang/StringUTF16" (123 : Nat) ({ cls := "java/lang/StringUTF16", name := "compress", desc := "([BI[BII)I" } : Jvm.MethodName)) ∈ lw_all := lw_g (lw_at lw_m8 126 rfl) rfl
theorem q1872 : (Jvm.Cond.static ({ cls := "java/lang/StringUTF16", name := "compress", desc := "([BI[BII)I" } : Jvm.MethodName)) ∈ lw_all := lw_g (lw_at lw_m8 127 rfl) rfl
theorem q1873 : (Jvm.Cond.code ({ cls := "java/lang/StringUTF16", name := "compress", desc := "([BI[BII)I" } : Jvm.MethodName) prog_43_method_22_code (7 : Nat) (Option.some Jvm.ClassFile.FieldType.int)) ∈ lw_all := lw_g (lw_at lw_m8 128 rfl) rfl
theorem q1874 : (Jvm.Cond.methodLink "java/lang/StringUTF16" (126 : Nat) ({ cls := "java/util/Arrays", name := "copyOfRange", desc := "([BII)[B" } : Jvm.MethodName)) ∈ lw_all := lw_g (lw_at lw_m8 129 rfl) rfl
theorem q1876 : (Jvm.Cond.static ({ cls := "java/lang/StringUTF16", name := "coderFromArrayLen", desc := "([BI)B" } : Jvm.MethodName)) ∈ lw_all := lw_g (lw_at lw_m8 131 rfl) rfl
theorem q1877 : (Jvm.Cond.code ({ cls := "java/lang/StringUTF16", name := "coderFromArrayLen", desc := "([BI)B" } : Jvm.MethodName) prog_43_method_15_code (2 : Nat) (Option.some Jvm.ClassFile.FieldType.byte)) ∈ lw_all := lw_g (lw_at lw_m8 132 rfl) rfl
theorem q1889 : (Jvm.Cond.static ({ cls := "java/lang/StringUTF16", name := "hashCode", desc := "([B)I" } : Jvm.MethodName)) ∈ lw_all := lw_g (lw_at lw_m8 144 rfl) rfl
theorem q1890 : (Jvm.Cond.code ({ cls := "java/lang/StringUTF16", name := "hashCode", desc := "([B)I" } : Jvm.MethodName) prog_43_method_39_code (1 : Nat) (Option.some Jvm.ClassFile.FieldType.int)) ∈ lw_all := lw_g (lw_at lw_m8 145 rfl) rfl
theorem q1891 : (Jvm.Cond.methodLink "java/lang/StringUTF16" (220 : Nat) ({ cls := "jdk/internal/util/ArraysSupport", name := "vectorizedHashCode", desc := "(Ljava/lang/Object;IIII)I" } : Jvm.MethodName)) ∈ lw_all := lw_g (lw_at lw_m8 146 rfl) rfl
theorem q97 : (Jvm.Cond.initialized "jdk/internal/util/Preconditions") ∈ lw_all := lw_g (lw_at lw_m1 32 rfl) rfl
theorem q809 : (Jvm.Cond.laysStatic "jdk/internal/util/Preconditions" "SIOOBE_FORMATTER" "Ljava/util/function/BiFunction;") ∈ lw_tbl := lw_at lw_m4 24 rfl
theorem q811 : (Jvm.Cond.static ({ cls := "jdk/internal/util/Preconditions", name := "checkFromToIndex", desc := "(IIILjava/util/function/BiFunction;)I" } : Jvm.MethodName)) ∈ lw_all := lw_g (lw_at lw_m4 26 rfl) rfl
theorem q812 : (Jvm.Cond.code ({ cls := "jdk/internal/util/Preconditions", name := "checkFromToIndex", desc := "(IIILjava/util/function/BiFunction;)I" } : Jvm.MethodName) prog_76_method_12_code (4 : Nat) (Option.some Jvm.ClassFile.FieldType.int)) ∈ lw_all := lw_g (lw_at lw_m4 27 rfl) rfl
theorem q977 : (Jvm.Cond.static ({ cls := "jdk/internal/util/Preconditions", name := "checkIndex", desc := "(IILjava/util/function/BiFunction;)I" } : Jvm.MethodName)) ∈ lw_all := lw_g (lw_at lw_m4 192 rfl) rfl
theorem q978 : (Jvm.Cond.code ({ cls := "jdk/internal/util/Preconditions", name := "checkIndex", desc := "(IILjava/util/function/BiFunction;)I" } : Jvm.MethodName) prog_76_method_11_code (3 : Nat) (Option.some Jvm.ClassFile.FieldType.int)) ∈ lw_all := lw_g (lw_at lw_m4 193 rfl) rfl
theorem q1792 : (Jvm.Cond.static ({ cls := "jdk/internal/util/Preconditions", name := "checkFromIndexSize", desc := "(IIILjava/util/function/BiFunction;)I" } : Jvm.MethodName)) ∈ lw_all := lw_g (lw_at lw_m8 47 rfl) rfl
theorem q1793 : (Jvm.Cond.code ({ cls := "jdk/internal/util/Preconditions", name := "checkFromIndexSize", desc := "(IIILjava/util/function/BiFunction;)I" } : Jvm.MethodName) prog_76_method_13_code (4 : Nat) (Option.some Jvm.ClassFile.FieldType.int)) ∈ lw_all := lw_g (lw_at lw_m8 48 rfl) rfl
theorem q98 : (Jvm.Cond.initialized "java/util/TreeMap$Entry") ∈ lw_all := lw_g (lw_at lw_m1 33 rfl) rfl
theorem q293 : (Jvm.Cond.selects "java/util/TreeMap$Entry" ({ cls := "java/lang/Object", name := "getClass", desc := "()Ljava/lang/Class;" } : Jvm.MethodName) ({ cls := "java/lang/Object", name := "getClass", desc := "()Ljava/lang/Class;" } : Jvm.MethodName)) ∈ lw_all := lw_g (lw_at lw_m1 228 rfl) rfl
theorem q837 : (Jvm.Cond.instantiable "java/util/TreeMap$Entry" (6 : Nat)) ∈ lw_all := lw_g (lw_at lw_m4 52 rfl) rfl
theorem q839 : (Jvm.Cond.instanceMethod ({ cls := "java/util/TreeMap$Entry", name := "<init>", desc := "(Ljava/lang/Object;Ljava/lang/Object;Ljava/util/TreeMap$Entry;)V" } : Jvm.MethodName)) ∈ lw_all := lw_g (lw_at lw_m4 54 rfl) rfl
theorem q840 : (Jvm.Cond.code ({ cls := "java/util/TreeMap$Entry", name := "<init>", desc := "(Ljava/lang/Object;Ljava/lang/Object;Ljava/util/TreeMap$Entry;)V" } : Jvm.MethodName) prog_71_method_1_code (4 : Nat) (Option.none : Option Jvm.ClassFile.FieldType)) ∈ lw_all := lw_g (lw_at lw_m4 55 rfl) rfl
theorem q841 : (Jvm.Cond.methodLink "java/util/TreeMap$Entry" (3 : Nat) ({ cls := "java/lang/Object", name := "<init>", desc := "()V" } : Jvm.MethodName)) ∈ lw_all := lw_g (lw_at lw_m4 56 rfl) rfl
theorem q842 : (Jvm.Cond.fieldLink "java/util/TreeMap$Entry" (15 : Nat) "java/util/TreeMap$Entry" "key" "Ljava/lang/Object;") ∈ lw_all := lw_g (lw_at lw_m4 57 rfl) rfl
theorem q844 : (Jvm.Cond.fieldLink "java/util/TreeMap$Entry" (19 : Nat) "java/util/TreeMap$Entry" "value" "Ljava/lang/Object;") ∈ lw_all := lw_g (lw_at lw_m4 59 rfl) rfl
theorem q848 : (Jvm.Cond.fieldLink "java/util/TreeMap$Entry" (22 : Nat) "java/util/TreeMap$Entry" "parent" "Ljava/util/TreeMap$Entry;") ∈ lw_all := lw_g (lw_at lw_m4 63 rfl) rfl
theorem q850 : (Jvm.Cond.fieldLink "java/util/TreeMap$Entry" (9 : Nat) "java/util/TreeMap$Entry" "color" "Z") ∈ lw_all := lw_g (lw_at lw_m4 65 rfl) rfl
theorem q852 : (Jvm.Cond.lays "java/util/TreeMap$Entry" "java/util/TreeMap$Entry" "key" "Ljava/lang/Object;") ∈ lw_all := lw_g (lw_at lw_m4 67 rfl) rfl
theorem q853 : (Jvm.Cond.soleField "java/util/TreeMap$Entry" "key") ∈ lw_all := lw_g (lw_at lw_m4 68 rfl) rfl
theorem q854 : (Jvm.Cond.lays "java/util/TreeMap$Entry" "java/util/TreeMap$Entry" "value" "Ljava/lang/Object;") ∈ lw_all := lw_g (lw_at lw_m4 69 rfl) rfl
theorem q855 : (Jvm.Cond.soleField "java/util/TreeMap$Entry" "value") ∈ lw_all := lw_g (lw_at lw_m4 70 rfl) rfl
theorem q856 : (Jvm.Cond.lays "java/util/TreeMap$Entry" "java/util/TreeMap$Entry" "left" "Ljava/util/TreeMap$Entry;") ∈ lw_all := lw_g (lw_at lw_m4 71 rfl) rfl
theorem q857 : (Jvm.Cond.soleField "java/util/TreeMap$Entry" "left") ∈ lw_all := lw_g (lw_at lw_m4 72 rfl) rfl
theorem q858 : (Jvm.Cond.lays "java/util/TreeMap$Entry" "java/util/TreeMap$Entry" "right" "Ljava/util/TreeMap$Entry;") ∈ lw_all := lw_g (lw_at lw_m4 73 rfl) rfl
theorem q859 : (Jvm.Cond.soleField "java/util/TreeMap$Entry" "right") ∈ lw_all := lw_g (lw_at lw_m4 74 rfl) rfl
theorem q860 : (Jvm.Cond.lays "java/util/TreeMap$Entry" "java/util/TreeMap$Entry" "parent" "Ljava/util/TreeMap$Entry;") ∈ lw_all := lw_g (lw_at lw_m4 75 rfl) rfl
theorem q861 : (Jvm.Cond.soleField "java/util/TreeMap$Entry" "parent") ∈ lw_all := lw_g (lw_at lw_m4 76 rfl) rfl
theorem q862 : (Jvm.Cond.lays "java/util/TreeMap$Entry" "java/util/TreeMap$Entry" "color" "Z") ∈ lw_all := lw_g (lw_at lw_m4 77 rfl) rfl
theorem q863 : (Jvm.Cond.soleField "java/util/TreeMap$Entry" "color") ∈ lw_all := lw_g (lw_at lw_m4 78 rfl) rfl
theorem q864 : (Jvm.Cond.superclass "java/util/TreeMap$Entry" "java/lang/Object") ∈ lw_all := lw_g (lw_at lw_m4 79 rfl) rfl
theorem q2803 : (Jvm.Cond.castable "java/util/TreeMap$Entry" "java/lang/Object") ∈ lw_tbl := lw_at lw_m12 98 rfl
theorem q99 : (Jvm.Cond.initialized "java/util/Objects") ∈ lw_all := lw_g (lw_at lw_m1 34 rfl) rfl
theorem q866 : (Jvm.Cond.static ({ cls := "java/util/Objects", name := "requireNonNull", desc := "(Ljava/lang/Object;)Ljava/lang/Object;" } : Jvm.MethodName)) ∈ lw_all := lw_g (lw_at lw_m4 81 rfl) rfl
theorem q867 : (Jvm.Cond.code ({ cls := "java/util/Objects", name := "requireNonNull", desc := "(Ljava/lang/Object;)Ljava/lang/Object;" } : Jvm.MethodName) prog_63_method_10_code (1 : Nat) (Option.some (Jvm.ClassFile.FieldType.object "java/lang/Object"))) ∈ lw_all := lw_g (lw_at lw_m4 82 rfl) rfl
theorem q974 : (Jvm.Cond.static ({ cls := "java/util/Objects", name := "checkIndex", desc := "(II)I" } : Jvm.MethodName)) ∈ lw_all := lw_g (lw_at lw_m4 189 rfl) rfl
theorem q975 : (Jvm.Cond.code ({ cls := "java/util/Objects", name := "checkIndex", desc := "(II)I" } : Jvm.MethodName) prog_63_method_17_code (2 : Nat) (Option.some Jvm.ClassFile.FieldType.int)) ∈ lw_all := lw_g (lw_at lw_m4 190 rfl) rfl
theorem q976 : (Jvm.Cond.methodLink "java/util/Objects" (105 : Nat) ({ cls := "jdk/internal/util/Preconditions", name := "checkIndex", desc := "(IILjava/util/function/BiFunction;)I" } : Jvm.MethodName)) ∈ lw_all := lw_g (lw_at lw_m4 191 rfl) rfl
theorem q100 : (Jvm.Cond.initialized "Taxmaze$Shift") ∈ lw_all := lw_g (lw_at lw_m1 35 rfl) rfl
theorem q278 : (Jvm.Cond.selects "Taxmaze$Shift" ({ cls := "java/lang/Object", name := "getClass", desc := "()Ljava/lang/Class;" } : Jvm.MethodName) ({ cls := "java/lang/Object", name := "getClass", desc := "()Ljava/lang/Class;" } : Jvm.MethodName)) ∈ lw_all := lw_g (lw_at lw_m1 213 rfl) rfl
theorem q1006 : (Jvm.Cond.instantiable "Taxmaze$Shift" (2 : Nat)) ∈ lw_all := lw_g (lw_at lw_m4 221 rfl) rfl
theorem q1008 : (Jvm.Cond.instanceMethod ({ cls := "Taxmaze$Shift", name := "<init>", desc := "(JJ)V" } : Jvm.MethodName)) ∈ lw_all := lw_g (lw_at lw_m4 223 rfl) rfl
theorem q1009 : (Jvm.Cond.code ({ cls := "Taxmaze$Shift", name := "<init>", desc := "(JJ)V" } : Jvm.MethodName) prog_16_method_1_code (5 : Nat) (Option.none : Option Jvm.ClassFile.FieldType)) ∈ lw_all := lw_g (lw_at lw_m4 224 rfl) rfl
theorem q1010 : (Jvm.Cond.methodLink "Taxmaze$Shift" (1 : Nat) ({ cls := "java/lang/Record", name := "<init>", desc := "()V" } : Jvm.MethodName)) ∈ lw_all := lw_g (lw_at lw_m4 225 rfl) rfl
theorem q1011 : (Jvm.Cond.fieldLink "Taxmaze$Shift" (7 : Nat) "Taxmaze$Shift" "from" "J") ∈ lw_all := lw_g (lw_at lw_m4 226 rfl) rfl
theorem q1012 : (Jvm.Cond.fieldLink "Taxmaze$Shift" (13 : Nat) "Taxmaze$Shift" "to" "J") ∈ lw_all := lw_g (lw_at lw_m4 227 rfl) rfl
theorem q1013 : (Jvm.Cond.laysFinal "Taxmaze$Shift" "Taxmaze$Shift" "from" "J") ∈ lw_all := lw_g (lw_at lw_m4 228 rfl) rfl
theorem q1014 : (Jvm.Cond.soleField "Taxmaze$Shift" "from") ∈ lw_all := lw_g (lw_at lw_m4 229 rfl) rfl
theorem q1015 : (Jvm.Cond.laysFinal "Taxmaze$Shift" "Taxmaze$Shift" "to" "J") ∈ lw_all := lw_g (lw_at lw_m4 230 rfl) rfl
theorem q1016 : (Jvm.Cond.soleField "Taxmaze$Shift" "to") ∈ lw_all := lw_g (lw_at lw_m4 231 rfl) rfl
theorem q1017 : (Jvm.Cond.superclass "Taxmaze$Shift" "java/lang/Record") ∈ lw_all := lw_g (lw_at lw_m4 232 rfl) rfl
theorem q1075 : (Jvm.Cond.instanceMethod ({ cls := "Taxmaze$Shift", name := "meets", desc := "(LTaxmaze$Shift;)Z" } : Jvm.MethodName)) ∈ lw_all := lw_g (lw_at lw_m5 50 rfl) rfl
theorem q1076 : (Jvm.Cond.selects "Taxmaze$Shift" ({ cls := "Taxmaze$Shift", name := "meets", desc := "(LTaxmaze$Shift;)Z" } : Jvm.MethodName) ({ cls := "Taxmaze$Shift", name := "meets", desc := "(LTaxmaze$Shift;)Z" } : Jvm.MethodName)) ∈ lw_all := lw_g (lw_at lw_m5 51 rfl) rfl
theorem q1077 : (Jvm.Cond.code ({ cls := "Taxmaze$Shift", name := "meets", desc := "(LTaxmaze$Shift;)Z" } : Jvm.MethodName) prog_16_method_2_code (2 : Nat) (Option.some Jvm.ClassFile.FieldType.boolean)) ∈ lw_all := lw_g (lw_at lw_m5 52 rfl) rfl
theorem q1085 : (Jvm.Cond.instanceMethod ({ cls := "Taxmaze$Shift", name := "to", desc := "()J" } : Jvm.MethodName)) ∈ lw_all := lw_g (lw_at lw_m5 60 rfl) rfl
theorem q1086 : (Jvm.Cond.selects "Taxmaze$Shift" ({ cls := "Taxmaze$Shift", name := "to", desc := "()J" } : Jvm.MethodName) ({ cls := "Taxmaze$Shift", name := "to", desc := "()J" } : Jvm.MethodName)) ∈ lw_all := lw_g (lw_at lw_m5 61 rfl) rfl
theorem q1087 : (Jvm.Cond.code ({ cls := "Taxmaze$Shift", name := "to", desc := "()J" } : Jvm.MethodName) prog_16_method_7_code (1 : Nat) (Option.some Jvm.ClassFile.FieldType.long)) ∈ lw_all := lw_g (lw_at lw_m5 62 rfl) rfl
theorem q1089 : (Jvm.Cond.instanceMethod ({ cls := "Taxmaze$Shift", name := "from", desc := "()J" } : Jvm.MethodName)) ∈ lw_all := lw_g (lw_at lw_m5 64 rfl) rfl
theorem q1090 : (Jvm.Cond.selects "Taxmaze$Shift" ({ cls := "Taxmaze$Shift", name := "from", desc := "()J" } : Jvm.MethodName) ({ cls := "Taxmaze$Shift", name := "from", desc := "()J" } : Jvm.MethodName)) ∈ lw_all := lw_g (lw_at lw_m5 65 rfl) rfl
theorem q1091 : (Jvm.Cond.code ({ cls := "Taxmaze$Shift", name := "from", desc := "()J" } : Jvm.MethodName) prog_16_method_6_code (1 : Nat) (Option.some Jvm.ClassFile.FieldType.long)) ∈ lw_all := lw_g (lw_at lw_m5 66 rfl) rfl
theorem q2804 : (Jvm.Cond.castable "Taxmaze$Shift" "java/lang/Object") ∈ lw_tbl := lw_at lw_m12 99 rfl
theorem q101 : (Jvm.Cond.initialized "java/util/ArrayList$Itr") ∈ lw_all := lw_g (lw_at lw_m1 36 rfl) rfl
theorem q141 : (Jvm.Cond.fieldLink "java/util/ArrayList$Itr" (37 : Nat) "java/util/ArrayList" "elementData" "[Ljava/lang/Object;") ∈ lw_all := lw_g (lw_at lw_m1 76 rfl) rfl
theorem q142 : (Jvm.Cond.fieldLinkNest "java/util/ArrayList$Itr" (28 : Nat) "java/util/ArrayList" "size" "I" "java/util/ArrayList") ∈ lw_tbl := lw_at lw_m1 77 rfl
theorem q145 : (Jvm.Cond.fieldLink "java/util/ArrayList$Itr" (17 : Nat) "java/util/ArrayList" "modCount" "I") ∈ lw_all := lw_g (lw_at lw_m1 80 rfl) rfl
theorem q290 : (Jvm.Cond.selects "java/util/ArrayList$Itr" ({ cls := "java/lang/Object", name := "getClass", desc := "()Ljava/lang/Class;" } : Jvm.MethodName) ({ cls := "java/lang/Object", name := "getClass", desc := "()Ljava/lang/Class;" } : Jvm.MethodName)) ∈ lw_all := lw_g (lw_at lw_m1 225 rfl) rfl
theorem q1032 : (Jvm.Cond.instantiable "java/util/ArrayList$Itr" (4 : Nat)) ∈ lw_all := lw_g (lw_at lw_m5 7 rfl) rfl
theorem q1034 : (Jvm.Cond.instanceMethod ({ cls := "java/util/ArrayList$Itr", name := "<init>", desc := "(Ljava/util/ArrayList;)V" } : Jvm.MethodName)) ∈ lw_all := lw_g (lw_at lw_m5 9 rfl) rfl
theorem q1035 : (Jvm.Cond.code ({ cls := "java/util/ArrayList$Itr", name := "<init>", desc := "(Ljava/util/ArrayList;)V" } : Jvm.MethodName) prog_54_method_1_code (2 : Nat) (Option.none : Option Jvm.ClassFile.FieldType)) ∈ lw_all := lw_g (lw_at lw_m5 10 rfl) rfl
theorem q1036 : (Jvm.Cond.methodLink "java/util/ArrayList$Itr" (7 : Nat) ({ cls := "java/lang/Object", name := "<init>", desc := "()V" } : Jvm.MethodName)) ∈ lw_all := lw_g (lw_at lw_m5 11 rfl) rfl
theorem q1037 : (Jvm.Cond.fieldLink "java/util/ArrayList$Itr" (25 : Nat) "java/util/ArrayList$Itr" "cursor" "I") ∈ lw_all := lw_g (lw_at lw_m5 12 rfl) rfl
theorem q1038 : (Jvm.Cond.fieldLink "java/util/ArrayList$Itr" (13 : Nat) "java/util/ArrayList$Itr" "lastRet" "I") ∈ lw_all := lw_g (lw_at lw_m5 13 rfl) rfl
theorem q1039 : (Jvm.Cond.fieldLink "java/util/ArrayList$Itr" (22 : Nat) "java/util/ArrayList$Itr" "expectedModCount" "I") ∈ lw_all := lw_g (lw_at lw_m5 14 rfl) rfl
theorem q1040 : (Jvm.Cond.fieldLink "java/util/ArrayList$Itr" (1 : Nat) "java/util/ArrayList$Itr" "this$0" "Ljava/util/ArrayList;") ∈ lw_all := lw_g (lw_at lw_m5 15 rfl) rfl
theorem q1041 : (Jvm.Cond.lays "java/util/ArrayList$Itr" "java/util/ArrayList$Itr" "cursor" "I") ∈ lw_all := lw_g (lw_at lw_m5 16 rfl) rfl
theorem q1042 : (Jvm.Cond.soleField "java/util/ArrayList$Itr" "cursor") ∈ lw_all := lw_g (lw_at lw_m5 17 rfl) rfl
theorem q1043 : (Jvm.Cond.lays "java/util/ArrayList$Itr" "java/util/ArrayList$Itr" "lastRet" "I") ∈ lw_all := lw_g (lw_at lw_m5 18 rfl) rfl
theorem q1044 : (Jvm.Cond.soleField "java/util/ArrayList$Itr" "lastRet") ∈ lw_all := lw_g (lw_at lw_m5 19 rfl) rfl
theorem q1045 : (Jvm.Cond.lays "java/util/ArrayList$Itr" "java/util/ArrayList$Itr" "expectedModCount" "I") ∈ lw_all := lw_g (lw_at lw_m5 20 rfl) rfl
theorem q1046 : (Jvm.Cond.soleField "java/util/ArrayList$Itr" "expectedModCount") ∈ lw_all := lw_g (lw_at lw_m5 21 rfl) rfl
theorem q1047 : (Jvm.Cond.laysFinal "java/util/ArrayList$Itr" "java/util/ArrayList$Itr" "this$0" "Ljava/util/ArrayList;") ∈ lw_all := lw_g (lw_at lw_m5 22 rfl) rfl
theorem q1048 : (Jvm.Cond.soleField "java/util/ArrayList$Itr" "this$0") ∈ lw_all := lw_g (lw_at lw_m5 23 rfl) rfl
theorem q1049 : (Jvm.Cond.superclass "java/util/ArrayList$Itr" "java/lang/Object") ∈ lw_all := lw_g (lw_at lw_m5 24 rfl) rfl
theorem q1054 : (Jvm.Cond.castable "java/util/ArrayList$Itr" "java/util/Iterator") ∈ lw_tbl := lw_at lw_m5 29 rfl
theorem q1055 : (Jvm.Cond.selects "java/util/ArrayList$Itr" ({ cls := "java/util/Iterator", name := "hasNext", desc := "()Z" } : Jvm.MethodName) ({ cls := "java/util/ArrayList$Itr", name := "hasNext", desc := "()Z" } : Jvm.MethodName)) ∈ lw_all := lw_g (lw_at lw_m5 30 rfl) rfl
theorem q1056 : (Jvm.Cond.unhidden "java/util/ArrayList$Itr" "hasNext" "()Z") ∈ lw_tbl := lw_at lw_m5 31 rfl
theorem q1057 : (Jvm.Cond.instanceMethod ({ cls := "java/util/ArrayList$Itr", name := "hasNext", desc := "()Z" } : Jvm.MethodName)) ∈ lw_all := lw_g (lw_at lw_m5 32 rfl) rfl
theorem q1058 : (Jvm.Cond.publicMethod ({ cls := "java/util/ArrayList$Itr", name := "hasNext", desc := "()Z" } : Jvm.MethodName)) ∈ lw_tbl := lw_at lw_m5 33 rfl
theorem q1059 : (Jvm.Cond.code ({ cls := "java/util/ArrayList$Itr", name := "hasNext", desc := "()Z" } : Jvm.MethodName) prog_54_method_2_code (1 : Nat) (Option.some Jvm.ClassFile.FieldType.boolean)) ∈ lw_all := lw_g (lw_at lw_m5 34 rfl) rfl
theorem q1064 : (Jvm.Cond.selects "java/util/ArrayList$Itr" ({ cls := "java/util/Iterator", name := "next", desc := "()Ljava/lang/Object;" } : Jvm.MethodName) ({ cls := "java/util/ArrayList$Itr", name := "next", desc := "()Ljava/lang/Object;" } : Jvm.MethodName)) ∈ lw_all := lw_g (lw_at lw_m5 39 rfl) rfl
theorem q1065 : (Jvm.Cond.unhidden "java/util/ArrayList$Itr" "next" "()Ljava/lang/Object;") ∈ lw_tbl := lw_at lw_m5 40 rfl
theorem q1066 : (Jvm.Cond.instanceMethod ({ cls := "java/util/ArrayList$Itr", name := "next", desc := "()Ljava/lang/Object;" } : Jvm.MethodName)) ∈ lw_all := lw_g (lw_at lw_m5 41 rfl) rfl
theorem q1067 : (Jvm.Cond.publicMethod ({ cls := "java/util/ArrayList$Itr", name := "next", desc := "()Ljava/lang/Object;" } : Jvm.MethodName)) ∈ lw_tbl := lw_at lw_m5 42 rfl
theorem q1068 : (Jvm.Cond.code ({ cls := "java/util/ArrayList$Itr", name := "next", desc := "()Ljava/lang/Object;" } : Jvm.MethodName) prog_54_method_3_code (3 : Nat) (Option.some (Jvm.ClassFile.FieldType.object "java/lang/Object"))) ∈ lw_all := lw_g (lw_at lw_m5 43 rfl) rfl
theorem q1069 : (Jvm.Cond.methodLink "java/util/ArrayList$Itr" (31 : Nat) ({ cls := "java/util/ArrayList$Itr", name := "checkForComodification", desc := "()V" } : Jvm.MethodName)) ∈ lw_all := lw_g (lw_at lw_m5 44 rfl) rfl
theorem q1070 : (Jvm.Cond.instanceMethod ({ cls := "java/util/ArrayList$Itr", name := "checkForComodification", desc := "()V" } : Jvm.MethodName)) ∈ lw_all := lw_g (lw_at lw_m5 45 rfl) rfl
theorem q1071 : (Jvm.Cond.selects "java/util/ArrayList$Itr" ({ cls := "java/util/ArrayList$Itr", name := "checkForComodification", desc := "()V" } : Jvm.MethodName) ({ cls := "java/util/ArrayList$Itr", name := "checkForComodification", desc := "()V" } : Jvm.MethodName)) ∈ lw_all := lw_g (lw_at lw_m5 46 rfl) rfl
theorem q1072 : (Jvm.Cond.code ({ cls := "java/util/ArrayList$Itr", name := "checkForComodification", desc := "()V" } : Jvm.MethodName) prog_54_method_6_code (1 : Nat) (Option.none : Option Jvm.ClassFile.FieldType)) ∈ lw_all := lw_g (lw_at lw_m5 47 rfl) rfl
theorem q2805 : (Jvm.Cond.castable "java/util/ArrayList$Itr" "java/lang/Object") ∈ lw_tbl := lw_at lw_m12 100 rfl
theorem q102 : (Jvm.Cond.initialized "Taxmaze$Account") ∈ lw_all := lw_g (lw_at lw_m1 37 rfl) rfl
theorem q264 : (Jvm.Cond.selects "Taxmaze$Account" ({ cls := "java/lang/Object", name := "getClass", desc := "()Ljava/lang/Class;" } : Jvm.MethodName) ({ cls := "java/lang/Object", name := "getClass", desc := "()Ljava/lang/Class;" } : Jvm.MethodName)) ∈ lw_all := lw_g (lw_at lw_m1 199 rfl) rfl
theorem q330 : (Jvm.Cond.fieldLinkNest "Taxmaze$Account" (19 : Nat) "Taxmaze" "contracts" "Ljava/util/List;" "Taxmaze") ∈ lw_tbl := lw_at lw_m2 25 rfl
theorem q334 : (Jvm.Cond.fieldLinkNest "Taxmaze$Account" (64 : Nat) "Taxmaze" "leaves" "Ljava/util/List;" "Taxmaze") ∈ lw_tbl := lw_at lw_m2 29 rfl
theorem q336 : (Jvm.Cond.fieldLinkNest "Taxmaze$Account" (46 : Nat) "Taxmaze" "leaveRate" "I" "Taxmaze") ∈ lw_tbl := lw_at lw_m2 31 rfl
theorem q338 : (Jvm.Cond.fieldLinkNest "Taxmaze$Account" (49 : Nat) "Taxmaze" "leaveCarry" "I" "Taxmaze") ∈ lw_tbl := lw_at lw_m2 33 rfl
theorem q340 : (Jvm.Cond.fieldLinkNest "Taxmaze$Account" (61 : Nat) "Taxmaze" "leaveTerm" "I" "Taxmaze") ∈ lw_tbl := lw_at lw_m2 35 rfl
theorem q917 : (Jvm.Cond.fieldLinkNest "Taxmaze$Account" (35 : Nat) "Taxmaze$Contract" "person" "I" "Taxmaze") ∈ lw_tbl := lw_at lw_m4 132 rfl
theorem q1131 : (Jvm.Cond.instantiable "Taxmaze$Account" (4 : Nat)) ∈ lw_all := lw_g (lw_at lw_m5 106 rfl) rfl
theorem q1133 : (Jvm.Cond.instanceMethod ({ cls := "Taxmaze$Account", name := "<init>", desc := "(LTaxmaze;I)V" } : Jvm.MethodName)) ∈ lw_all := lw_g (lw_at lw_m5 108 rfl) rfl
theorem q1134 : (Jvm.Cond.code ({ cls := "Taxmaze$Account", name := "<init>", desc := "(LTaxmaze;I)V" } : Jvm.MethodName) prog_2_method_1_code (3 : Nat) (Option.none : Option Jvm.ClassFile.FieldType)) ∈ lw_all := lw_g (lw_at lw_m5 109 rfl) rfl
theorem q1135 : (Jvm.Cond.methodLink "Taxmaze$Account" (9 : Nat) ({ cls := "java/lang/Object", name := "<init>", desc := "()V" } : Jvm.MethodName)) ∈ lw_all := lw_g (lw_at lw_m5 110 rfl) rfl
theorem q1136 : (Jvm.Cond.fieldLink "Taxmaze$Account" (15 : Nat) "Taxmaze$Account" "person" "I") ∈ lw_all := lw_g (lw_at lw_m5 111 rfl) rfl
theorem q1137 : (Jvm.Cond.fieldLink "Taxmaze$Account" (52 : Nat) "Taxmaze$Account" "carried" "I") ∈ lw_all := lw_g (lw_at lw_m5 112 rfl) rfl
theorem q1138 : (Jvm.Cond.fieldLink "Taxmaze$Account" (40 : Nat) "Taxmaze$Account" "fresh" "I") ∈ lw_all := lw_g (lw_at lw_m5 113 rfl) rfl
theorem q1139 : (Jvm.Cond.fieldLink "Taxmaze$Account" (3 : Nat) "Taxmaze$Account" "this$0" "LTaxmaze;") ∈ lw_all := lw_g (lw_at lw_m5 114 rfl) rfl
theorem q1140 : (Jvm.Cond.laysFinal "Taxmaze$Account" "Taxmaze$Account" "person" "I") ∈ lw_all := lw_g (lw_at lw_m5 115 rfl) rfl
theorem q1141 : (Jvm.Cond.soleField "Taxmaze$Account" "person") ∈ lw_all := lw_g (lw_at lw_m5 116 rfl) rfl
theorem q1142 : (Jvm.Cond.lays "Taxmaze$Account" "Taxmaze$Account" "carried" "I") ∈ lw_all := lw_g (lw_at lw_m5 117 rfl) rfl
theorem q1143 : (Jvm.Cond.soleField "Taxmaze$Account" "carried") ∈ lw_all := lw_g (lw_at lw_m5 118 rfl) rfl
theorem q1144 : (Jvm.Cond.lays "Taxmaze$Account" "Taxmaze$Account" "fresh" "I") ∈ lw_all := lw_g (lw_at lw_m5 119 rfl) rfl
theorem q1145 : (Jvm.Cond.soleField "Taxmaze$Account" "fresh") ∈ lw_all := lw_g (lw_at lw_m5 120 rfl) rfl
theorem q1146 : (Jvm.Cond.laysFinal "Taxmaze$Account" "Taxmaze$Account" "this$0" "LTaxmaze;") ∈ lw_all := lw_g (lw_at lw_m5 121 rfl) rfl
theorem q1147 : (Jvm.Cond.soleField "Taxmaze$Account" "this$0") ∈ lw_all := lw_g (lw_at lw_m5 122 rfl) rfl
theorem q1148 : (Jvm.Cond.superclass "Taxmaze$Account" "java/lang/Object") ∈ lw_all := lw_g (lw_at lw_m5 123 rfl) rfl
theorem q1150 : (Jvm.Cond.instanceMethod ({ cls := "Taxmaze$Account", name := "upTo", desc := "(I)I" } : Jvm.MethodName)) ∈ lw_all := lw_g (lw_at lw_m5 125 rfl) rfl
theorem q1151 : (Jvm.Cond.selects "Taxmaze$Account" ({ cls := "Taxmaze$Account", name := "upTo", desc := "(I)I" } : Jvm.MethodName) ({ cls := "Taxmaze$Account", name := "upTo", desc := "(I)I" } : Jvm.MethodName)) ∈ lw_all := lw_g (lw_at lw_m5 126 rfl) rfl
theorem q1152 : (Jvm.Cond.code ({ cls := "Taxmaze$Account", name := "upTo", desc := "(I)I" } : Jvm.MethodName) prog_2_method_5_code (3 : Nat) (Option.some Jvm.ClassFile.FieldType.int)) ∈ lw_all := lw_g (lw_at lw_m5 127 rfl) rfl
theorem q1153 : (Jvm.Cond.methodLink "Taxmaze$Account" (80 : Nat) ({ cls := "Taxmaze$Account", name := "begin", desc := "(I)V" } : Jvm.MethodName)) ∈ lw_all := lw_g (lw_at lw_m5 128 rfl) rfl
theorem q1154 : (Jvm.Cond.instanceMethod ({ cls := "Taxmaze$Account", name := "begin", desc := "(I)V" } : Jvm.MethodName)) ∈ lw_all := lw_g (lw_at lw_m5 129 rfl) rfl
theorem q1155 : (Jvm.Cond.selects "Taxmaze$Account" ({ cls := "Taxmaze$Account", name := "begin", desc := "(I)V" } : Jvm.MethodName) ({ cls := "Taxmaze$Account", name := "begin", desc := "(I)V" } : Jvm.MethodName)) ∈ lw_all := lw_g (lw_at lw_m5 130 rfl) rfl
theorem q1156 : (Jvm.Cond.code ({ cls := "Taxmaze$Account", name := "begin", desc := "(I)V" } : Jvm.MethodName) prog_2_method_3_code (3 : Nat) (Option.none : Option Jvm.ClassFile.FieldType)) ∈ lw_all := lw_g (lw_at lw_m5 131 rfl) rfl
theorem q1157 : (Jvm.Cond.methodLink "Taxmaze$Account" (43 : Nat) ({ cls := "Taxmaze$Account", name := "hasContractOn", desc := "(I)Z" } : Jvm.MethodName)) ∈ lw_all := lw_g (lw_at lw_m5 132 rfl) rfl
theorem q1158 : (Jvm.Cond.privateMethod ({ cls := "Taxmaze$Account", name := "hasContractOn", desc := "(I)Z" } : Jvm.MethodName)) ∈ lw_tbl := lw_at lw_m5 133 rfl
theorem q1159 : (Jvm.Cond.instanceMethod ({ cls := "Taxmaze$Account", name := "hasContractOn", desc := "(I)Z" } : Jvm.MethodName)) ∈ lw_all := lw_g (lw_at lw_m5 134 rfl) rfl
theorem q1160 : (Jvm.Cond.code ({ cls := "Taxmaze$Account", name := "hasContractOn", desc := "(I)Z" } : Jvm.MethodName) prog_2_method_2_code (4 : Nat) (Option.some Jvm.ClassFile.FieldType.boolean)) ∈ lw_all := lw_g (lw_at lw_m5 135 rfl) rfl
theorem q1161 : (Jvm.Cond.interfaceEntry "Taxmaze$Account" (23 : Nat)) ∈ lw_tbl := lw_at lw_m5 136 rfl
theorem q1162 : (Jvm.Cond.methodLink "Taxmaze$Account" (23 : Nat) ({ cls := "java/util/List", name := "size", desc := "()I" } : Jvm.MethodName)) ∈ lw_all := lw_g (lw_at lw_m5 137 rfl) rfl
theorem q1163 : (Jvm.Cond.interfaceEntry "Taxmaze$Account" (29 : Nat)) ∈ lw_tbl := lw_at lw_m5 138 rfl
theorem q1164 : (Jvm.Cond.methodLink "Taxmaze$Account" (29 : Nat) ({ cls := "java/util/List", name := "get", desc := "(I)Ljava/lang/Object;" } : Jvm.MethodName)) ∈ lw_all := lw_g (lw_at lw_m5 139 rfl) rfl
theorem q1165 : (Jvm.Cond.classLink "Taxmaze$Account" (33 : Nat) "Taxmaze$Contract") ∈ lw_all := lw_g (lw_at lw_m5 140 rfl) rfl
theorem q1166 : (Jvm.Cond.methodLink "Taxmaze$Account" (36 : Nat) ({ cls := "Taxmaze$Contract", name := "has", desc := "(I)Z" } : Jvm.MethodName)) ∈ lw_all := lw_g (lw_at lw_m5 141 rfl) rfl
theorem q1167 : (Jvm.Cond.methodLink "Taxmaze$Account" (55 : Nat) ({ cls := "java/lang/Math", name := "min", desc := "(II)I" } : Jvm.MethodName)) ∈ lw_all := lw_g (lw_at lw_m5 142 rfl) rfl
theorem q1168 : (Jvm.Cond.methodLink "Taxmaze$Account" (84 : Nat) ({ cls := "Taxmaze$Account", name := "take", desc := "(I)V" } : Jvm.MethodName)) ∈ lw_all := lw_g (lw_at lw_m5 143 rfl) rfl
theorem q1169 : (Jvm.Cond.instanceMethod ({ cls := "Taxmaze$Account", name := "take", desc := "(I)V" } : Jvm.MethodName)) ∈ lw_all := lw_g (lw_at lw_m5 144 rfl) rfl
theorem q1170 : (Jvm.Cond.selects "Taxmaze$Account" ({ cls := "Taxmaze$Account", name := "take", desc := "(I)V" } : Jvm.MethodName) ({ cls := "Taxmaze$Account", name := "take", desc := "(I)V" } : Jvm.MethodName)) ∈ lw_all := lw_g (lw_at lw_m5 145 rfl) rfl
theorem q1171 : (Jvm.Cond.code ({ cls := "Taxmaze$Account", name := "take", desc := "(I)V" } : Jvm.MethodName) prog_2_method_4_code (5 : Nat) (Option.none : Option Jvm.ClassFile.FieldType)) ∈ lw_all := lw_g (lw_at lw_m5 146 rfl) rfl
theorem q1172 : (Jvm.Cond.classLink "Taxmaze$Account" (67 : Nat) "Taxmaze$Leave") ∈ lw_all := lw_g (lw_at lw_m5 147 rfl) rfl
theorem q1223 : (Jvm.Cond.fieldLinkNest "Taxmaze$Account" (69 : Nat) "Taxmaze$Leave" "contract" "LTaxmaze$Contract;" "Taxmaze") ∈ lw_tbl := lw_at lw_m5 198 rfl
theorem q1226 : (Jvm.Cond.fieldLinkNest "Taxmaze$Account" (73 : Nat) "Taxmaze$Leave" "day" "I" "Taxmaze") ∈ lw_tbl := lw_at lw_m5 201 rfl
theorem q1228 : (Jvm.Cond.fieldLinkNest "Taxmaze$Account" (76 : Nat) "Taxmaze$Leave" "paid" "Z" "Taxmaze") ∈ lw_tbl := lw_at lw_m5 203 rfl
theorem q2806 : (Jvm.Cond.castable "Taxmaze$Account" "java/lang/Object") ∈ lw_tbl := lw_at lw_m12 101 rfl
theorem q103 : (Jvm.Cond.initialized "Taxmaze$Leave") ∈ lw_all := lw_g (lw_at lw_m1 38 rfl) rfl
theorem q274 : (Jvm.Cond.selects "Taxmaze$Leave" ({ cls := "java/lang/Object", name := "getClass", desc := "()Ljava/lang/Class;" } : Jvm.MethodName) ({ cls := "java/lang/Object", name := "getClass", desc := "()Ljava/lang/Class;" } : Jvm.MethodName)) ∈ lw_all := lw_g (lw_at lw_m1 209 rfl) rfl
theorem q1217 : (Jvm.Cond.instantiable "Taxmaze$Leave" (3 : Nat)) ∈ lw_all := lw_g (lw_at lw_m5 192 rfl) rfl
theorem q1219 : (Jvm.Cond.instanceMethod ({ cls := "Taxmaze$Leave", name := "<init>", desc := "(LTaxmaze$Contract;I)V" } : Jvm.MethodName)) ∈ lw_all := lw_g (lw_at lw_m5 194 rfl) rfl
theorem q1220 : (Jvm.Cond.code ({ cls := "Taxmaze$Leave", name := "<init>", desc := "(LTaxmaze$Contract;I)V" } : Jvm.MethodName) prog_12_method_1_code (3 : Nat) (Option.none : Option Jvm.ClassFile.FieldType)) ∈ lw_all := lw_g (lw_at lw_m5 195 rfl) rfl
theorem q1221 : (Jvm.Cond.methodLink "Taxmaze$Leave" (1 : Nat) ({ cls := "java/lang/Object", name := "<init>", desc := "()V" } : Jvm.MethodName)) ∈ lw_all := lw_g (lw_at lw_m5 196 rfl) rfl
theorem q1222 : (Jvm.Cond.fieldLink "Taxmaze$Leave" (7 : Nat) "Taxmaze$Leave" "contract" "LTaxmaze$Contract;") ∈ lw_all := lw_g (lw_at lw_m5 197 rfl) rfl
theorem q1225 : (Jvm.Cond.fieldLink "Taxmaze$Leave" (13 : Nat) "Taxmaze$Leave" "day" "I") ∈ lw_all := lw_g (lw_at lw_m5 200 rfl) rfl
theorem q1230 : (Jvm.Cond.laysFinal "Taxmaze$Leave" "Taxmaze$Leave" "contract" "LTaxmaze$Contract;") ∈ lw_all := lw_g (lw_at lw_m5 205 rfl) rfl
theorem q1231 : (Jvm.Cond.soleField "Taxmaze$Leave" "contract") ∈ lw_all := lw_g (lw_at lw_m5 206 rfl) rfl
theorem q1232 : (Jvm.Cond.laysFinal "Taxmaze$Leave" "Taxmaze$Leave" "day" "I") ∈ lw_all := lw_g (lw_at lw_m5 207 rfl) rfl
theorem q1233 : (Jvm.Cond.soleField "Taxmaze$Leave" "day") ∈ lw_all := lw_g (lw_at lw_m5 208 rfl) rfl
theorem q1234 : (Jvm.Cond.lays "Taxmaze$Leave" "Taxmaze$Leave" "paid" "Z") ∈ lw_all := lw_g (lw_at lw_m5 209 rfl) rfl
theorem q1235 : (Jvm.Cond.soleField "Taxmaze$Leave" "paid") ∈ lw_all := lw_g (lw_at lw_m5 210 rfl) rfl
theorem q1236 : (Jvm.Cond.superclass "Taxmaze$Leave" "java/lang/Object") ∈ lw_all := lw_g (lw_at lw_m5 211 rfl) rfl
theorem q2807 : (Jvm.Cond.castable "Taxmaze$Leave" "java/lang/Object") ∈ lw_tbl := lw_at lw_m12 102 rfl
theorem q104 : (Jvm.Cond.initialized "Taxmaze$Plain") ∈ lw_all := lw_g (lw_at lw_m1 39 rfl) rfl
theorem q277 : (Jvm.Cond.selects "Taxmaze$Plain" ({ cls := "java/lang/Object", name := "getClass", desc := "()Ljava/lang/Class;" } : Jvm.MethodName) ({ cls := "java/lang/Object", name := "getClass", desc := "()Ljava/lang/Class;" } : Jvm.MethodName)) ∈ lw_all := lw_g (lw_at lw_m1 212 rfl) rfl
theorem q1252 : (Jvm.Cond.instantiable "Taxmaze$Plain" (1 : Nat)) ∈ lw_all := lw_g (lw_at lw_m5 227 rfl) rfl
theorem q1254 : (Jvm.Cond.instanceMethod ({ cls := "Taxmaze$Plain", name := "<init>", desc := "(I)V" } : Jvm.MethodName)) ∈ lw_all := lw_g (lw_at lw_m5 229 rfl) rfl
theorem q1255 : (Jvm.Cond.code ({ cls := "Taxmaze$Plain", name := "<init>", desc := "(I)V" } : Jvm.MethodName) prog_15_method_1_code (2 : Nat) (Option.none : Option Jvm.ClassFile.FieldType)) ∈ lw_all := lw_g (lw_at lw_m5 230 rfl) rfl
theorem q1256 : (Jvm.Cond.methodLink "Taxmaze$Plain" (1 : Nat) ({ cls := "java/lang/Record", name := "<init>", desc := "()V" } : Jvm.MethodName)) ∈ lw_all := lw_g (lw_at lw_m5 231 rfl) rfl
theorem q1257 : (Jvm.Cond.fieldLink "Taxmaze$Plain" (7 : Nat) "Taxmaze$Plain" "what" "I") ∈ lw_all := lw_g (lw_at lw_m5 232 rfl) rfl
theorem q1258 : (Jvm.Cond.laysFinal "Taxmaze$Plain" "Taxmaze$Plain" "what" "I") ∈ lw_all := lw_g (lw_at lw_m5 233 rfl) rfl
theorem q1259 : (Jvm.Cond.soleField "Taxmaze$Plain" "what") ∈ lw_all := lw_g (lw_at lw_m5 234 rfl) rfl
theorem q1260 : (Jvm.Cond.superclass "Taxmaze$Plain" "java/lang/Record") ∈ lw_all := lw_g (lw_at lw_m5 235 rfl) rfl
theorem q1297 : (Jvm.Cond.instanceMethod ({ cls := "Taxmaze$Plain", name := "what", desc := "()I" } : Jvm.MethodName)) ∈ lw_all := lw_g (lw_at lw_m6 32 rfl) rfl
theorem q1298 : (Jvm.Cond.selects "Taxmaze$Plain" ({ cls := "Taxmaze$Plain", name := "what", desc := "()I" } : Jvm.MethodName) ({ cls := "Taxmaze$Plain", name := "what", desc := "()I" } : Jvm.MethodName)) ∈ lw_all := lw_g (lw_at lw_m6 33 rfl) rfl
theorem q1299 : (Jvm.Cond.code ({ cls := "Taxmaze$Plain", name := "what", desc := "()I" } : Jvm.MethodName) prog_15_method_5_code (1 : Nat) (Option.some Jvm.ClassFile.FieldType.int)) ∈ lw_all := lw_g (lw_at lw_m6 34 rfl) rfl
theorem q2788 : (Jvm.Cond.castable "Taxmaze$Plain" "Taxmaze$Word") ∈ lw_tbl := lw_at lw_m12 83 rfl
theorem q2808 : (Jvm.Cond.castable "Taxmaze$Plain" "java/lang/Object") ∈ lw_tbl := lw_at lw_m12 103 rfl
theorem q105 : (Jvm.Cond.initialized "Taxmaze$Asking") ∈ lw_all := lw_g (lw_at lw_m1 40 rfl) rfl
theorem q266 : (Jvm.Cond.selects "Taxmaze$Asking" ({ cls := "java/lang/Object", name := "getClass", desc := "()Ljava/lang/Class;" } : Jvm.MethodName) ({ cls := "java/lang/Object", name := "getClass", desc := "()Ljava/lang/Class;" } : Jvm.MethodName)) ∈ lw_all := lw_g (lw_at lw_m1 201 rfl) rfl
theorem q1262 : (Jvm.Cond.instantiable "Taxmaze$Asking" (1 : Nat)) ∈ lw_all := lw_g (lw_at lw_m5 237 rfl) rfl
theorem q1264 : (Jvm.Cond.instanceMethod ({ cls := "Taxmaze$Asking", name := "<init>", desc := "(I)V" } : Jvm.MethodName)) ∈ lw_all := lw_g (lw_at lw_m5 239 rfl) rfl
theorem q1265 : (Jvm.Cond.code ({ cls := "Taxmaze$Asking", name := "<init>", desc := "(I)V" } : Jvm.MethodName) prog_4_method_1_code (2 : Nat) (Option.none : Option Jvm.ClassFile.FieldType)) ∈ lw_all := lw_g (lw_at lw_m6 0 rfl) rfl
theorem q1266 : (Jvm.Cond.methodLink "Taxmaze$Asking" (1 : Nat) ({ cls := "java/lang/Record", name := "<init>", desc := "()V" } : Jvm.MethodName)) ∈ lw_all := lw_g (lw_at lw_m6 1 rfl) rfl
theorem q1267 : (Jvm.Cond.fieldLink "Taxmaze$Asking" (7 : Nat) "Taxmaze$Asking" "element" "I") ∈ lw_all := lw_g (lw_at lw_m6 2 rfl) rfl
theorem q1268 : (Jvm.Cond.laysFinal "Taxmaze$Asking" "Taxmaze$Asking" "element" "I") ∈ lw_all := lw_g (lw_at lw_m6 3 rfl) rfl
theorem q1269 : (Jvm.Cond.soleField "Taxmaze$Asking" "element") ∈ lw_all := lw_g (lw_at lw_m6 4 rfl) rfl
theorem q1270 : (Jvm.Cond.superclass "Taxmaze$Asking" "java/lang/Record") ∈ lw_all := lw_g (lw_at lw_m6 5 rfl) rfl
theorem q1407 : (Jvm.Cond.instanceMethod ({ cls := "Taxmaze$Asking", name := "element", desc := "()I" } : Jvm.MethodName)) ∈ lw_all := lw_g (lw_at lw_m6 142 rfl) rfl
theorem q1408 : (Jvm.Cond.selects "Taxmaze$Asking" ({ cls := "Taxmaze$Asking", name := "element", desc := "()I" } : Jvm.MethodName) ({ cls := "Taxmaze$Asking", name := "element", desc := "()I" } : Jvm.MethodName)) ∈ lw_all := lw_g (lw_at lw_m6 143 rfl) rfl
theorem q1409 : (Jvm.Cond.code ({ cls := "Taxmaze$Asking", name := "element", desc := "()I" } : Jvm.MethodName) prog_4_method_5_code (1 : Nat) (Option.some Jvm.ClassFile.FieldType.int)) ∈ lw_all := lw_g (lw_at lw_m6 144 rfl) rfl
theorem q2787 : (Jvm.Cond.castable "Taxmaze$Asking" "Taxmaze$Word") ∈ lw_tbl := lw_at lw_m12 82 rfl
theorem q2809 : (Jvm.Cond.castable "Taxmaze$Asking" "java/lang/Object") ∈ lw_tbl := lw_at lw_m12 104 rfl
theorem q106 : (Jvm.Cond.initialized "Taxmaze$Whole") ∈ lw_all := lw_g (lw_at lw_m1 41 rfl) rfl
theorem q279 : (Jvm.Cond.selects "Taxmaze$Whole" ({ cls := "java/lang/Object", name := "getClass", desc := "()Ljava/lang/Class;" } : Jvm.MethodName) ({ cls := "java/lang/Object", name := "getClass", desc := "()Ljava/lang/Class;" } : Jvm.MethodName)) ∈ lw_all := lw_g (lw_at lw_m1 214 rfl) rfl
theorem q1272 : (Jvm.Cond.instantiable "Taxmaze$Whole" (1 : Nat)) ∈ lw_all := lw_g (lw_at lw_m6 7 rfl) rfl
theorem q1275 : (Jvm.Cond.instanceMethod ({ cls := "Taxmaze$Whole", name := "<init>", desc := "(I)V" } : Jvm.MethodName)) ∈ lw_all := lw_g (lw_at lw_m6 10 rfl) rfl
theorem q1276 : (Jvm.Cond.code ({ cls := "Taxmaze$Whole", name := "<init>", desc := "(I)V" } : Jvm.MethodName) prog_17_method_1_code (2 : Nat) (Option.none : Option Jvm.ClassFile.FieldType)) ∈ lw_all := lw_g (lw_at lw_m6 11 rfl) rfl
theorem q1277 : (Jvm.Cond.methodLink "Taxmaze$Whole" (1 : Nat) ({ cls := "java/lang/Record", name := "<init>", desc := "()V" } : Jvm.MethodName)) ∈ lw_all := lw_g (lw_at lw_m6 12 rfl) rfl
theorem q1278 : (Jvm.Cond.fieldLink "Taxmaze$Whole" (7 : Nat) "Taxmaze$Whole" "number" "I") ∈ lw_all := lw_g (lw_at lw_m6 13 rfl) rfl
theorem q1279 : (Jvm.Cond.laysFinal "Taxmaze$Whole" "Taxmaze$Whole" "number" "I") ∈ lw_all := lw_g (lw_at lw_m6 14 rfl) rfl
theorem q1280 : (Jvm.Cond.soleField "Taxmaze$Whole" "number") ∈ lw_all := lw_g (lw_at lw_m6 15 rfl) rfl
theorem q1281 : (Jvm.Cond.superclass "Taxmaze$Whole" "java/lang/Record") ∈ lw_all := lw_g (lw_at lw_m6 16 rfl) rfl
theorem q1618 : (Jvm.Cond.instanceMethod ({ cls := "Taxmaze$Whole", name := "number", desc := "()I" } : Jvm.MethodName)) ∈ lw_all := lw_g (lw_at lw_m7 113 rfl) rfl
theorem q1619 : (Jvm.Cond.selects "Taxmaze$Whole" ({ cls := "Taxmaze$Whole", name := "number", desc := "()I" } : Jvm.MethodName) ({ cls := "Taxmaze$Whole", name := "number", desc := "()I" } : Jvm.MethodName)) ∈ lw_all := lw_g (lw_at lw_m7 114 rfl) rfl
theorem q1620 : (Jvm.Cond.code ({ cls := "Taxmaze$Whole", name := "number", desc := "()I" } : Jvm.MethodName) prog_17_method_5_code (1 : Nat) (Option.some Jvm.ClassFile.FieldType.int)) ∈ lw_all := lw_g (lw_at lw_m7 115 rfl) rfl
theorem q2789 : (Jvm.Cond.castable "Taxmaze$Whole" "Taxmaze$Word") ∈ lw_tbl := lw_at lw_m12 84 rfl
theorem q2810 : (Jvm.Cond.castable "Taxmaze$Whole" "java/lang/Object") ∈ lw_tbl := lw_at lw_m12 105 rfl
theorem q107 : (Jvm.Cond.initialized "Taxmaze$Element") ∈ lw_all := lw_g (lw_at lw_m1 42 rfl) rfl
theorem q272 : (Jvm.Cond.selects "Taxmaze$Element" ({ cls := "java/lang/Object", name := "getClass", desc := "()Ljava/lang/Class;" } : Jvm.MethodName) ({ cls := "java/lang/Object", name := "getClass", desc := "()Ljava/lang/Class;" } : Jvm.MethodName)) ∈ lw_all := lw_g (lw_at lw_m1 207 rfl) rfl
theorem q1336 : (Jvm.Cond.instantiable "Taxmaze$Element" (2 : Nat)) ∈ lw_all := lw_g (lw_at lw_m6 71 rfl) rfl
theorem q1338 : (Jvm.Cond.instanceMethod ({ cls := "Taxmaze$Element", name := "<init>", desc := "(Ljava/util/List;I)V" } : Jvm.MethodName)) ∈ lw_all := lw_g (lw_at lw_m6 73 rfl) rfl
theorem q1339 : (Jvm.Cond.code ({ cls := "Taxmaze$Element", name := "<init>", desc := "(Ljava/util/List;I)V" } : Jvm.MethodName) prog_10_method_1_code (3 : Nat) (Option.none : Option Jvm.ClassFile.FieldType)) ∈ lw_all := lw_g (lw_at lw_m6 74 rfl) rfl
theorem q1340 : (Jvm.Cond.methodLink "Taxmaze$Element" (3 : Nat) ({ cls := "java/lang/Object", name := "<init>", desc := "()V" } : Jvm.MethodName)) ∈ lw_all := lw_g (lw_at lw_m6 75 rfl) rfl
theorem q1341 : (Jvm.Cond.fieldLink "Taxmaze$Element" (9 : Nat) "Taxmaze$Element" "words" "Ljava/util/List;") ∈ lw_all := lw_g (lw_at lw_m6 76 rfl) rfl
theorem q1342 : (Jvm.Cond.fieldLink "Taxmaze$Element" (15 : Nat) "Taxmaze$Element" "people" "I") ∈ lw_all := lw_g (lw_at lw_m6 77 rfl) rfl
theorem q1343 : (Jvm.Cond.laysFinal "Taxmaze$Element" "Taxmaze$Element" "words" "Ljava/util/List;") ∈ lw_all := lw_g (lw_at lw_m6 78 rfl) rfl
theorem q1344 : (Jvm.Cond.soleField "Taxmaze$Element" "words") ∈ lw_all := lw_g (lw_at lw_m6 79 rfl) rfl
theorem q1345 : (Jvm.Cond.laysFinal "Taxmaze$Element" "Taxmaze$Element" "people" "I") ∈ lw_all := lw_g (lw_at lw_m6 80 rfl) rfl
theorem q1346 : (Jvm.Cond.soleField "Taxmaze$Element" "people") ∈ lw_all := lw_g (lw_at lw_m6 81 rfl) rfl
theorem q1347 : (Jvm.Cond.superclass "Taxmaze$Element" "java/lang/Object") ∈ lw_all := lw_g (lw_at lw_m6 82 rfl) rfl
theorem q1398 : (Jvm.Cond.instanceMethod ({ cls := "Taxmaze$Element", name := "needs", desc := "(I)Z" } : Jvm.MethodName)) ∈ lw_all := lw_g (lw_at lw_m6 133 rfl) rfl
theorem q1399 : (Jvm.Cond.selects "Taxmaze$Element" ({ cls := "Taxmaze$Element", name := "needs", desc := "(I)Z" } : Jvm.MethodName) ({ cls := "Taxmaze$Element", name := "needs", desc := "(I)Z" } : Jvm.MethodName)) ∈ lw_all := lw_g (lw_at lw_m6 134 rfl) rfl
theorem q1400 : (Jvm.Cond.code ({ cls := "Taxmaze$Element", name := "needs", desc := "(I)Z" } : Jvm.MethodName) prog_10_method_3_code (6 : Nat) (Option.some Jvm.ClassFile.FieldType.boolean)) ∈ lw_all := lw_g (lw_at lw_m6 135 rfl) rfl
theorem q1401 : (Jvm.Cond.interfaceEntry "Taxmaze$Element" (19 : Nat)) ∈ lw_tbl := lw_at lw_m6 136 rfl
theorem q1402 : (Jvm.Cond.methodLink "Taxmaze$Element" (19 : Nat) ({ cls := "java/util/List", name := "size", desc := "()I" } : Jvm.MethodName)) ∈ lw_all := lw_g (lw_at lw_m6 137 rfl) rfl
theorem q1403 : (Jvm.Cond.interfaceEntry "Taxmaze$Element" (25 : Nat)) ∈ lw_tbl := lw_at lw_m6 138 rfl
theorem q1404 : (Jvm.Cond.methodLink "Taxmaze$Element" (25 : Nat) ({ cls := "java/util/List", name := "get", desc := "(I)Ljava/lang/Object;" } : Jvm.MethodName)) ∈ lw_all := lw_g (lw_at lw_m6 139 rfl) rfl
theorem q1405 : (Jvm.Cond.classLink "Taxmaze$Element" (29 : Nat) "Taxmaze$Asking") ∈ lw_all := lw_g (lw_at lw_m6 140 rfl) rfl
theorem q1406 : (Jvm.Cond.methodLink "Taxmaze$Element" (31 : Nat) ({ cls := "Taxmaze$Asking", name := "element", desc := "()I" } : Jvm.MethodName)) ∈ lw_all := lw_g (lw_at lw_m6 141 rfl) rfl
theorem q1607 : (Jvm.Cond.instanceMethod ({ cls := "Taxmaze$Element", name := "isFor", desc := "(I)Z" } : Jvm.MethodName)) ∈ lw_all := lw_g (lw_at lw_m7 102 rfl) rfl
theorem q1608 : (Jvm.Cond.selects "Taxmaze$Element" ({ cls := "Taxmaze$Element", name := "isFor", desc := "(I)Z" } : Jvm.MethodName) ({ cls := "Taxmaze$Element", name := "isFor", desc := "(I)Z" } : Jvm.MethodName)) ∈ lw_all := lw_g (lw_at lw_m7 103 rfl) rfl
theorem q1609 : (Jvm.Cond.code ({ cls := "Taxmaze$Element", name := "isFor", desc := "(I)Z" } : Jvm.MethodName) prog_10_method_2_code (2 : Nat) (Option.some Jvm.ClassFile.FieldType.boolean)) ∈ lw_all := lw_g (lw_at lw_m7 104 rfl) rfl
theorem q1612 : (Jvm.Cond.instanceMethod ({ cls := "Taxmaze$Element", name := "value", desc := "(JJ[JI[J)J" } : Jvm.MethodName)) ∈ lw_all := lw_g (lw_at lw_m7 107 rfl) rfl
theorem q1613 : (Jvm.Cond.selects "Taxmaze$Element" ({ cls := "Taxmaze$Element", name := "value", desc := "(JJ[JI[J)J" } : Jvm.MethodName) ({ cls := "Taxmaze$Element", name := "value", desc := "(JJ[JI[J)J" } : Jvm.MethodName)) ∈ lw_all := lw_g (lw_at lw_m7 108 rfl) rfl
theorem q1614 : (Jvm.Cond.code ({ cls := "Taxmaze$Element", name := "value", desc := "(JJ[JI[J)J" } : Jvm.MethodName) prog_10_method_4_code (15 : Nat) (Option.some Jvm.ClassFile.FieldType.long)) ∈ lw_all := lw_g (lw_at lw_m7 109 rfl) rfl
theorem q1615 : (Jvm.Cond.classLink "Taxmaze$Element" (34 : Nat) "Taxmaze$Word") ∈ lw_all := lw_g (lw_at lw_m7 110 rfl) rfl
theorem q1616 : (Jvm.Cond.classLink "Taxmaze$Element" (36 : Nat) "Taxmaze$Whole") ∈ lw_all := lw_g (lw_at lw_m7 111 rfl) rfl
theorem q1617 : (Jvm.Cond.methodLink "Taxmaze$Element" (38 : Nat) ({ cls := "Taxmaze$Whole", name := "number", desc := "()I" } : Jvm.MethodName)) ∈ lw_all := lw_g (lw_at lw_m7 112 rfl) rfl
theorem q1621 : (Jvm.Cond.methodLinkNest "Taxmaze$Element" (41 : Nat) ({ cls := "Taxmaze", name := "bounded", desc := "(J)J" } : Jvm.MethodName) "Taxmaze") ∈ lw_tbl := lw_at lw_m7 116 rfl
theorem q1626 : (Jvm.Cond.classLink "Taxmaze$Element" (45 : Nat) "Taxmaze$Plain") ∈ lw_all := lw_g (lw_at lw_m7 121 rfl) rfl
theorem q1627 : (Jvm.Cond.methodLink "Taxmaze$Element" (47 : Nat) ({ cls := "Taxmaze$Plain", name := "what", desc := "()I" } : Jvm.MethodName)) ∈ lw_all := lw_g (lw_at lw_m7 122 rfl) rfl
theorem q1628 : (Jvm.Cond.methodLinkNest "Taxmaze$Element" (50 : Nat) ({ cls := "Taxmaze", name := "nameOf", desc := "(I)Ljava/lang/String;" } : Jvm.MethodName) "Taxmaze") ∈ lw_tbl := lw_at lw_m7 123 rfl
theorem q1637 : (Jvm.Cond.methodLinkNest "Taxmaze$Element" (54 : Nat) ({ cls := "Taxmaze", name := "join", desc := "(Ljava/lang/String;JJ)J" } : Jvm.MethodName) "Taxmaze") ∈ lw_tbl := lw_at lw_m7 132 rfl
theorem q2811 : (Jvm.Cond.castable "Taxmaze$Element" "java/lang/Object") ∈ lw_tbl := lw_at lw_m12 106 rfl
theorem q108 : (Jvm.Cond.initialized "java/util/AbstractQueue") ∈ lw_all := lw_g (lw_at lw_m1 43 rfl) rfl
theorem q1369 : (Jvm.Cond.instanceMethod ({ cls := "java/util/AbstractQueue", name := "<init>", desc := "()V" } : Jvm.MethodName)) ∈ lw_all := lw_g (lw_at lw_m6 104 rfl) rfl
theorem q1370 : (Jvm.Cond.code ({ cls := "java/util/AbstractQueue", name := "<init>", desc := "()V" } : Jvm.MethodName) prog_52_method_1_code (1 : Nat) (Option.none : Option Jvm.ClassFile.FieldType)) ∈ lw_all := lw_g (lw_at lw_m6 105 rfl) rfl
theorem q1371 : (Jvm.Cond.methodLink "java/util/AbstractQueue" (1 : Nat) ({ cls := "java/util/AbstractCollection", name := "<init>", desc := "()V" } : Jvm.MethodName)) ∈ lw_all := lw_g (lw_at lw_m6 106 rfl) rfl
theorem q109 : (Jvm.Cond.initialized "java/util/PriorityQueue") ∈ lw_all := lw_g (lw_at lw_m1 44 rfl) rfl
theorem q291 : (Jvm.Cond.selects "java/util/PriorityQueue" ({ cls := "java/lang/Object", name := "getClass", desc := "()Ljava/lang/Class;" } : Jvm.MethodName) ({ cls := "java/lang/Object", name := "getClass", desc := "()Ljava/lang/Class;" } : Jvm.MethodName)) ∈ lw_all := lw_g (lw_at lw_m1 226 rfl) rfl
theorem q1327 : (Jvm.Cond.castable "java/util/PriorityQueue" "java/util/Collection") ∈ lw_tbl := lw_at lw_m6 62 rfl
theorem q1328 : (Jvm.Cond.selects "java/util/PriorityQueue" ({ cls := "java/util/Collection", name := "toArray", desc := "()[Ljava/lang/Object;" } : Jvm.MethodName) ({ cls := "java/util/PriorityQueue", name := "toArray", desc := "()[Ljava/lang/Object;" } : Jvm.MethodName)) ∈ lw_all := lw_g (lw_at lw_m6 63 rfl) rfl
theorem q1329 : (Jvm.Cond.unhidden "java/util/PriorityQueue" "toArray" "()[Ljava/lang/Object;") ∈ lw_tbl := lw_at lw_m6 64 rfl
theorem q1330 : (Jvm.Cond.instanceMethod ({ cls := "java/util/PriorityQueue", name := "toArray", desc := "()[Ljava/lang/Object;" } : Jvm.MethodName)) ∈ lw_all := lw_g (lw_at lw_m6 65 rfl) rfl
theorem q1331 : (Jvm.Cond.publicMethod ({ cls := "java/util/PriorityQueue", name := "toArray", desc := "()[Ljava/lang/Object;" } : Jvm.MethodName)) ∈ lw_tbl := lw_at lw_m6 66 rfl
theorem q1332 : (Jvm.Cond.code ({ cls := "java/util/PriorityQueue", name := "toArray", desc := "()[Ljava/lang/Object;" } : Jvm.MethodName) prog_64_method_20_code (1 : Nat) (Option.some (Jvm.ClassFile.FieldType.array (Jvm.ClassFile.FieldType.object "java/lang/Object")))) ∈ lw_all := lw_g (lw_at lw_m6 67 rfl) rfl
theorem q1333 : (Jvm.Cond.methodLink "java/util/PriorityQueue" (86 : Nat) ({ cls := "java/util/Arrays", name := "copyOf", desc := "([Ljava/lang/Object;I)[Ljava/lang/Object;" } : Jvm.MethodName)) ∈ lw_all := lw_g (lw_at lw_m6 68 rfl) rfl
theorem q1361 : (Jvm.Cond.instantiable "java/util/PriorityQueue" (4 : Nat)) ∈ lw_all := lw_g (lw_at lw_m6 96 rfl) rfl
theorem q1363 : (Jvm.Cond.instanceMethod ({ cls := "java/util/PriorityQueue", name := "<init>", desc := "()V" } : Jvm.MethodName)) ∈ lw_all := lw_g (lw_at lw_m6 98 rfl) rfl
theorem q1364 : (Jvm.Cond.code ({ cls := "java/util/PriorityQueue", name := "<init>", desc := "()V" } : Jvm.MethodName) prog_64_method_1_code (1 : Nat) (Option.none : Option Jvm.ClassFile.FieldType)) ∈ lw_all := lw_g (lw_at lw_m6 99 rfl) rfl
theorem q1365 : (Jvm.Cond.methodLink "java/util/PriorityQueue" (3 : Nat) ({ cls := "java/util/PriorityQueue", name := "<init>", desc := "(ILjava/util/Comparator;)V" } : Jvm.MethodName)) ∈ lw_all := lw_g (lw_at lw_m6 100 rfl) rfl
theorem q1366 : (Jvm.Cond.instanceMethod ({ cls := "java/util/PriorityQueue", name := "<init>", desc := "(ILjava/util/Comparator;)V" } : Jvm.MethodName)) ∈ lw_all := lw_g (lw_at lw_m6 101 rfl) rfl
theorem q1367 : (Jvm.Cond.code ({ cls := "java/util/PriorityQueue", name := "<init>", desc := "(ILjava/util/Comparator;)V" } : Jvm.MethodName) prog_64_method_4_code (3 : Nat) (Option.none : Option Jvm.ClassFile.FieldType)) ∈ lw_all := lw_g (lw_at lw_m6 102 rfl) rfl
theorem q1368 : (Jvm.Cond.methodLink "java/util/PriorityQueue" (7 : Nat) ({ cls := "java/util/AbstractQueue", name := "<init>", desc := "()V" } : Jvm.MethodName)) ∈ lw_all := lw_g (lw_at lw_m6 103 rfl) rfl
theorem q1372 : (Jvm.Cond.classLink "java/util/PriorityQueue" (12 : Nat) "java/lang/IllegalArgumentException") ∈ lw_all := lw_g (lw_at lw_m6 107 rfl) rfl
theorem q1373 : (Jvm.Cond.methodLink "java/util/PriorityQueue" (14 : Nat) ({ cls := "java/lang/IllegalArgumentException", name := "<init>", desc := "()V" } : Jvm.MethodName)) ∈ lw_all := lw_g (lw_at lw_m6 108 rfl) rfl
theorem q1383 : (Jvm.Cond.classLink "java/util/PriorityQueue" (15 : Nat) "java/lang/Object") ∈ lw_all := lw_g (lw_at lw_m6 118 rfl) rfl
theorem q1384 : (Jvm.Cond.fieldLink "java/util/PriorityQueue" (17 : Nat) "java/util/PriorityQueue" "queue" "[Ljava/lang/Object;") ∈ lw_all := lw_g (lw_at lw_m6 119 rfl) rfl
theorem q1385 : (Jvm.Cond.fieldLink "java/util/PriorityQueue" (58 : Nat) "java/util/PriorityQueue" "size" "I") ∈ lw_all := lw_g (lw_at lw_m6 120 rfl) rfl
theorem q1386 : (Jvm.Cond.fieldLink "java/util/PriorityQueue" (21 : Nat) "java/util/PriorityQueue" "comparator" "Ljava/util/Comparator;") ∈ lw_all := lw_g (lw_at lw_m6 121 rfl) rfl
theorem q1387 : (Jvm.Cond.fieldLink "java/util/PriorityQueue" (93 : Nat) "java/util/PriorityQueue" "modCount" "I") ∈ lw_all := lw_g (lw_at lw_m6 122 rfl) rfl
theorem q1388 : (Jvm.Cond.lays "java/util/PriorityQueue" "java/util/PriorityQueue" "queue" "[Ljava/lang/Object;") ∈ lw_all := lw_g (lw_at lw_m6 123 rfl) rfl
theorem q1389 : (Jvm.Cond.soleField "java/util/PriorityQueue" "queue") ∈ lw_all := lw_g (lw_at lw_m6 124 rfl) rfl
theorem q1390 : (Jvm.Cond.lays "java/util/PriorityQueue" "java/util/PriorityQueue" "size" "I") ∈ lw_all := lw_g (lw_at lw_m6 125 rfl) rfl
theorem q1391 : (Jvm.Cond.soleField "java/util/PriorityQueue" "size") ∈ lw_all := lw_g (lw_at lw_m6 126 rfl) rfl
theorem q1392 : (Jvm.Cond.laysFinal "java/util/PriorityQueue" "java/util/PriorityQueue" "comparator" "Ljava/util/Comparator;") ∈ lw_all := lw_g (lw_at lw_m6 127 rfl) rfl
theorem q1393 : (Jvm.Cond.soleField "java/util/PriorityQueue" "comparator") ∈ lw_all := lw_g (lw_at lw_m6 128 rfl) rfl
theorem q1394 : (Jvm.Cond.lays "java/util/PriorityQueue" "java/util/PriorityQueue" "modCount" "I") ∈ lw_all := lw_g (lw_at lw_m6 129 rfl) rfl
theorem q1395 : (Jvm.Cond.soleField "java/util/PriorityQueue" "modCount") ∈ lw_all := lw_g (lw_at lw_m6 130 rfl) rfl
theorem q1396 : (Jvm.Cond.superclass "java/util/PriorityQueue" "java/util/AbstractQueue") ∈ lw_all := lw_g (lw_at lw_m6 131 rfl) rfl
theorem q1411 : (Jvm.Cond.instanceMethod ({ cls := "java/util/PriorityQueue", name := "add", desc := "(Ljava/lang/Object;)Z" } : Jvm.MethodName)) ∈ lw_all := lw_g (lw_at lw_m6 146 rfl) rfl
theorem q1412 : (Jvm.Cond.selects "java/util/PriorityQueue" ({ cls := "java/util/PriorityQueue", name := "add", desc := "(Ljava/lang/Object;)Z" } : Jvm.MethodName) ({ cls := "java/util/PriorityQueue", name := "add", desc := "(Ljava/lang/Object;)Z" } : Jvm.MethodName)) ∈ lw_all := lw_g (lw_at lw_m6 147 rfl) rfl
theorem q1413 : (Jvm.Cond.code ({ cls := "java/util/PriorityQueue", name := "add", desc := "(Ljava/lang/Object;)Z" } : Jvm.MethodName) prog_64_method_13_code (2 : Nat) (Option.some Jvm.ClassFile.FieldType.boolean)) ∈ lw_all := lw_g (lw_at lw_m6 148 rfl) rfl
theorem q1414 : (Jvm.Cond.methodLink "java/util/PriorityQueue" (89 : Nat) ({ cls := "java/util/PriorityQueue", name := "offer", desc := "(Ljava/lang/Object;)Z" } : Jvm.MethodName)) ∈ lw_all := lw_g (lw_at lw_m6 149 rfl) rfl
theorem q1415 : (Jvm.Cond.instanceMethod ({ cls := "java/util/PriorityQueue", name := "offer", desc := "(Ljava/lang/Object;)Z" } : Jvm.MethodName)) ∈ lw_all := lw_g (lw_at lw_m6 150 rfl) rfl
theorem q1416 : (Jvm.Cond.selects "java/util/PriorityQueue" ({ cls := "java/util/PriorityQueue", name := "offer", desc := "(Ljava/lang/Object;)Z" } : Jvm.MethodName) ({ cls := "java/util/PriorityQueue", name := "offer", desc := "(Ljava/lang/Object;)Z" } : Jvm.MethodName)) ∈ lw_all := lw_g (lw_at lw_m6 151 rfl) rfl
theorem q1417 : (Jvm.Cond.code ({ cls := "java/util/PriorityQueue", name := "offer", desc := "(Ljava/lang/Object;)Z" } : Jvm.MethodName) prog_64_method_14_code (3 : Nat) (Option.some Jvm.ClassFile.FieldType.boolean)) ∈ lw_all := lw_g (lw_at lw_m6 152 rfl) rfl
theorem q1418 : (Jvm.Cond.methodLink "java/util/PriorityQueue" (96 : Nat) ({ cls := "java/util/PriorityQueue", name := "grow", desc := "(I)V" } : Jvm.MethodName)) ∈ lw_all := lw_g (lw_at lw_m6 153 rfl) rfl
theorem q1419 : (Jvm.Cond.privateMethod ({ cls := "java/util/PriorityQueue", name := "grow", desc := "(I)V" } : Jvm.MethodName)) ∈ lw_tbl := lw_at lw_m6 154 rfl
theorem q1420 : (Jvm.Cond.instanceMethod ({ cls := "java/util/PriorityQueue", name := "grow", desc := "(I)V" } : Jvm.MethodName)) ∈ lw_all := lw_g (lw_at lw_m6 155 rfl) rfl
theorem q1421 : (Jvm.Cond.code ({ cls := "java/util/PriorityQueue", name := "grow", desc := "(I)V" } : Jvm.MethodName) prog_64_method_12_code (4 : Nat) (Option.none : Option Jvm.ClassFile.FieldType)) ∈ lw_all := lw_g (lw_at lw_m6 156 rfl) rfl
theorem q1422 : (Jvm.Cond.methodLink "java/util/PriorityQueue" (80 : Nat) ({ cls := "jdk/internal/util/ArraysSupport", name := "newLength", desc := "(III)I" } : Jvm.MethodName)) ∈ lw_all := lw_g (lw_at lw_m6 157 rfl) rfl
theorem q1423 : (Jvm.Cond.methodLink "java/util/PriorityQueue" (100 : Nat) ({ cls := "java/util/PriorityQueue", name := "siftUp", desc := "(ILjava/lang/Object;)V" } : Jvm.MethodName)) ∈ lw_all := lw_g (lw_at lw_m6 158 rfl) rfl
theorem q1424 : (Jvm.Cond.privateMethod ({ cls := "java/util/PriorityQueue", name := "siftUp", desc := "(ILjava/lang/Object;)V" } : Jvm.MethodName)) ∈ lw_tbl := lw_at lw_m6 159 rfl
theorem q1425 : (Jvm.Cond.instanceMethod ({ cls := "java/util/PriorityQueue", name := "siftUp", desc := "(ILjava/lang/Object;)V" } : Jvm.MethodName)) ∈ lw_all := lw_g (lw_at lw_m6 160 rfl) rfl
theorem q1426 : (Jvm.Cond.code ({ cls := "java/util/PriorityQueue", name := "siftUp", desc := "(ILjava/lang/Object;)V" } : Jvm.MethodName) prog_64_method_27_code (3 : Nat) (Option.none : Option Jvm.ClassFile.FieldType)) ∈ lw_all := lw_g (lw_at lw_m6 161 rfl) rfl
theorem q1427 : (Jvm.Cond.methodLink "java/util/PriorityQueue" (136 : Nat) ({ cls := "java/util/PriorityQueue", name := "siftUpUsingComparator", desc := "(ILjava/lang/Object;[Ljava/lang/Object;Ljava/util/Comparator;)V" } : Jvm.MethodName)) ∈ lw_all := lw_g (lw_at lw_m6 162 rfl) rfl
theorem q1428 : (Jvm.Cond.static ({ cls := "java/util/PriorityQueue", name := "siftUpUsingComparator", desc := "(ILjava/lang/Object;[Ljava/lang/Object;Ljava/util/Comparator;)V" } : Jvm.MethodName)) ∈ lw_all := lw_g (lw_at lw_m6 163 rfl) rfl
theorem q1429 : (Jvm.Cond.code ({ cls := "java/util/PriorityQueue", name := "siftUpUsingComparator", desc := "(ILjava/lang/Object;[Ljava/lang/Object;Ljava/util/Comparator;)V" } : Jvm.MethodName) prog_64_method_29_code (6 : Nat) (Option.none : Option Jvm.ClassFile.FieldType)) ∈ lw_all := lw_g (lw_at lw_m6 164 rfl) rfl
theorem q1430 : (Jvm.Cond.interfaceEntry "java/util/PriorityQueue" (149 : Nat)) ∈ lw_tbl := lw_at lw_m6 165 rfl
theorem q1431 : (Jvm.Cond.methodLink "java/util/PriorityQueue" (149 : Nat) ({ cls := "java/util/Comparator", name := "compare", desc := "(Ljava/lang/Object;Ljava/lang/Object;)I" } : Jvm.MethodName)) ∈ lw_all := lw_g (lw_at lw_m6 166 rfl) rfl
theorem q1432 : (Jvm.Cond.methodLink "java/util/PriorityQueue" (140 : Nat) ({ cls := "java/util/PriorityQueue", name := "siftUpComparable", desc := "(ILjava/lang/Object;[Ljava/lang/Object;)V" } : Jvm.MethodName)) ∈ lw_all := lw_g (lw_at lw_m6 167 rfl) rfl
theorem q1433 : (Jvm.Cond.static ({ cls := "java/util/PriorityQueue", name := "siftUpComparable", desc := "(ILjava/lang/Object;[Ljava/lang/Object;)V" } : Jvm.MethodName)) ∈ lw_all := lw_g (lw_at lw_m6 168 rfl) rfl
theorem q1434 : (Jvm.Cond.code ({ cls := "java/util/PriorityQueue", name := "siftUpComparable", desc := "(ILjava/lang/Object;[Ljava/lang/Object;)V" } : Jvm.MethodName) prog_64_method_28_code (6 : Nat) (Option.none : Option Jvm.ClassFile.FieldType)) ∈ lw_all := lw_g (lw_at lw_m6 169 rfl) rfl
theorem q1435 : (Jvm.Cond.classLink "java/util/PriorityQueue" (144 : Nat) "java/lang/Comparable") ∈ lw_all := lw_g (lw_at lw_m6 170 rfl) rfl
theorem q1436 : (Jvm.Cond.interfaceEntry "java/util/PriorityQueue" (146 : Nat)) ∈ lw_tbl := lw_at lw_m6 171 rfl
theorem q1437 : (Jvm.Cond.methodLink "java/util/PriorityQueue" (146 : Nat) ({ cls := "java/lang/Comparable", name := "compareTo", desc := "(Ljava/lang/Object;)I" } : Jvm.MethodName)) ∈ lw_all := lw_g (lw_at lw_m6 172 rfl) rfl
theorem q1439 : (Jvm.Cond.sameMethod "java/util/PriorityQueue" "java/util/AbstractCollection" "isEmpty" "()Z") ∈ lw_all := lw_g (lw_at lw_m6 174 rfl) rfl
theorem q1441 : (Jvm.Cond.selects "java/util/PriorityQueue" ({ cls := "java/util/PriorityQueue", name := "isEmpty", desc := "()Z" } : Jvm.MethodName) ({ cls := "java/util/AbstractCollection", name := "isEmpty", desc := "()Z" } : Jvm.MethodName)) ∈ lw_all := lw_g (lw_at lw_m6 176 rfl) rfl
theorem q1448 : (Jvm.Cond.selects "java/util/PriorityQueue" ({ cls := "java/util/AbstractCollection", name := "size", desc := "()I" } : Jvm.MethodName) ({ cls := "java/util/PriorityQueue", name := "size", desc := "()I" } : Jvm.MethodName)) ∈ lw_all := lw_g (lw_at lw_m6 183 rfl) rfl
theorem q1449 : (Jvm.Cond.instanceMethod ({ cls := "java/util/PriorityQueue", name := "size", desc := "()I" } : Jvm.MethodName)) ∈ lw_all := lw_g (lw_at lw_m6 184 rfl) rfl
theorem q1450 : (Jvm.Cond.code ({ cls := "java/util/PriorityQueue", name := "size", desc := "()I" } : Jvm.MethodName) prog_64_method_23_code (1 : Nat) (Option.some Jvm.ClassFile.FieldType.int)) ∈ lw_all := lw_g (lw_at lw_m6 185 rfl) rfl
theorem q1452 : (Jvm.Cond.instanceMethod ({ cls := "java/util/PriorityQueue", name := "poll", desc := "()Ljava/lang/Object;" } : Jvm.MethodName)) ∈ lw_all := lw_g (lw_at lw_m6 187 rfl) rfl
theorem q1453 : (Jvm.Cond.selects "java/util/PriorityQueue" ({ cls := "java/util/PriorityQueue", name := "poll", desc := "()Ljava/lang/Object;" } : Jvm.MethodName) ({ cls := "java/util/PriorityQueue", name := "poll", desc := "()Ljava/lang/Object;" } : Jvm.MethodName)) ∈ lw_all := lw_g (lw_at lw_m6 188 rfl) rfl
theorem q1454 : (Jvm.Cond.code ({ cls := "java/util/PriorityQueue", name := "poll", desc := "()Ljava/lang/Object;" } : Jvm.MethodName) prog_64_method_25_code (6 : Nat) (Option.some (Jvm.ClassFile.FieldType.object "java/lang/Object"))) ∈ lw_all := lw_g (lw_at lw_m6 189 rfl) rfl
theorem q1455 : (Jvm.Cond.methodLink "java/util/PriorityQueue" (125 : Nat) ({ cls := "java/util/PriorityQueue", name := "siftDownComparable", desc := "(ILjava/lang/Object;[Ljava/lang/Object;I)V" } : Jvm.MethodName)) ∈ lw_all := lw_g (lw_at lw_m6 190 rfl) rfl
theorem q1456 : (Jvm.Cond.static ({ cls := "java/util/PriorityQueue", name := "siftDownComparable", desc := "(ILjava/lang/Object;[Ljava/lang/Object;I)V" } : Jvm.MethodName)) ∈ lw_all := lw_g (lw_at lw_m6 191 rfl) rfl
theorem q1457 : (Jvm.Cond.code ({ cls := "java/util/PriorityQueue", name := "siftDownComparable", desc := "(ILjava/lang/Object;[Ljava/lang/Object;I)V" } : Jvm.MethodName) prog_64_method_31_code (9 : Nat) (Option.none : Option Jvm.ClassFile.FieldType)) ∈ lw_all := lw_g (lw_at lw_m6 192 rfl) rfl
theorem q1458 : (Jvm.Cond.methodLink "java/util/PriorityQueue" (129 : Nat) ({ cls := "java/util/PriorityQueue", name := "siftDownUsingComparator", desc := "(ILjava/lang/Object;[Ljava/lang/Object;ILjava/util/Comparator;)V" } : Jvm.MethodName)) ∈ lw_all := lw_g (lw_at lw_m6 193 rfl) rfl
theorem q1459 : (Jvm.Cond.static ({ cls := "java/util/PriorityQueue", name := "siftDownUsingComparator", desc := "(ILjava/lang/Object;[Ljava/lang/Object;ILjava/util/Comparator;)V" } : Jvm.MethodName)) ∈ lw_all := lw_g (lw_at lw_m6 194 rfl) rfl
theorem q1460 : (Jvm.Cond.code ({ cls := "java/util/PriorityQueue", name := "siftDownUsingComparator", desc := "(ILjava/lang/Object;[Ljava/lang/Object;ILjava/util/Comparator;)V" } : Jvm.MethodName) prog_64_method_32_code (9 : Nat) (Option.none : Option Jvm.ClassFile.FieldType)) ∈ lw_all := lw_g (lw_at lw_m6 195 rfl) rfl
theorem q2812 : (Jvm.Cond.castable "java/util/PriorityQueue" "java/lang/Object") ∈ lw_tbl := lw_at lw_m12 107 rfl
theorem q110 : (Jvm.Cond.initialized "Taxmaze$Bracket") ∈ lw_all := lw_g (lw_at lw_m1 45 rfl) rfl
theorem q267 : (Jvm.Cond.selects "Taxmaze$Bracket" ({ cls := "java/lang/Object", name := "getClass", desc := "()Ljava/lang/Class;" } : Jvm.MethodName) ({ cls := "java/lang/Object", name := "getClass", desc := "()Ljava/lang/Class;" } : Jvm.MethodName)) ∈ lw_all := lw_g (lw_at lw_m1 202 rfl) rfl
theorem q1509 : (Jvm.Cond.instanceMethod ({ cls := "Taxmaze$Bracket", name := "end", desc := "()I" } : Jvm.MethodName)) ∈ lw_all := lw_g (lw_at lw_m7 4 rfl) rfl
theorem q1510 : (Jvm.Cond.selects "Taxmaze$Bracket" ({ cls := "Taxmaze$Bracket", name := "end", desc := "()I" } : Jvm.MethodName) ({ cls := "Taxmaze$Bracket", name := "end", desc := "()I" } : Jvm.MethodName)) ∈ lw_all := lw_g (lw_at lw_m7 5 rfl) rfl
theorem q1511 : (Jvm.Cond.code ({ cls := "Taxmaze$Bracket", name := "end", desc := "()I" } : Jvm.MethodName) prog_5_method_5_code (1 : Nat) (Option.some Jvm.ClassFile.FieldType.int)) ∈ lw_all := lw_g (lw_at lw_m7 6 rfl) rfl
theorem q1512 : (Jvm.Cond.instantiable "Taxmaze$Bracket" (2 : Nat)) ∈ lw_all := lw_g (lw_at lw_m7 7 rfl) rfl
theorem q1514 : (Jvm.Cond.instanceMethod ({ cls := "Taxmaze$Bracket", name := "<init>", desc := "(II)V" } : Jvm.MethodName)) ∈ lw_all := lw_g (lw_at lw_m7 9 rfl) rfl
theorem q1515 : (Jvm.Cond.code ({ cls := "Taxmaze$Bracket", name := "<init>", desc := "(II)V" } : Jvm.MethodName) prog_5_method_1_code (3 : Nat) (Option.none : Option Jvm.ClassFile.FieldType)) ∈ lw_all := lw_g (lw_at lw_m7 10 rfl) rfl
theorem q1516 : (Jvm.Cond.methodLink "Taxmaze$Bracket" (1 : Nat) ({ cls := "java/lang/Record", name := "<init>", desc := "()V" } : Jvm.MethodName)) ∈ lw_all := lw_g (lw_at lw_m7 11 rfl) rfl
theorem q1517 : (Jvm.Cond.fieldLink "Taxmaze$Bracket" (7 : Nat) "Taxmaze$Bracket" "end" "I") ∈ lw_all := lw_g (lw_at lw_m7 12 rfl) rfl
theorem q1518 : (Jvm.Cond.fieldLink "Taxmaze$Bracket" (13 : Nat) "Taxmaze$Bracket" "thousandths" "I") ∈ lw_all := lw_g (lw_at lw_m7 13 rfl) rfl
theorem q1519 : (Jvm.Cond.laysFinal "Taxmaze$Bracket" "Taxmaze$Bracket" "end" "I") ∈ lw_all := lw_g (lw_at lw_m7 14 rfl) rfl
theorem q1520 : (Jvm.Cond.soleField "Taxmaze$Bracket" "end") ∈ lw_all := lw_g (lw_at lw_m7 15 rfl) rfl
theorem q1521 : (Jvm.Cond.laysFinal "Taxmaze$Bracket" "Taxmaze$Bracket" "thousandths" "I") ∈ lw_all := lw_g (lw_at lw_m7 16 rfl) rfl
theorem q1522 : (Jvm.Cond.soleField "Taxmaze$Bracket" "thousandths") ∈ lw_all := lw_g (lw_at lw_m7 17 rfl) rfl
theorem q1523 : (Jvm.Cond.superclass "Taxmaze$Bracket" "java/lang/Record") ∈ lw_all := lw_g (lw_at lw_m7 18 rfl) rfl
theorem q1569 : (Jvm.Cond.instanceMethod ({ cls := "Taxmaze$Bracket", name := "thousandths", desc := "()I" } : Jvm.MethodName)) ∈ lw_all := lw_g (lw_at lw_m7 64 rfl) rfl
theorem q1570 : (Jvm.Cond.selects "Taxmaze$Bracket" ({ cls := "Taxmaze$Bracket", name := "thousandths", desc := "()I" } : Jvm.MethodName) ({ cls := "Taxmaze$Bracket", name := "thousandths", desc := "()I" } : Jvm.MethodName)) ∈ lw_all := lw_g (lw_at lw_m7 65 rfl) rfl
theorem q1571 : (Jvm.Cond.code ({ cls := "Taxmaze$Bracket", name := "thousandths", desc := "()I" } : Jvm.MethodName) prog_5_method_6_code (1 : Nat) (Option.some Jvm.ClassFile.FieldType.int)) ∈ lw_all := lw_g (lw_at lw_m7 66 rfl) rfl
theorem q2813 : (Jvm.Cond.castable "Taxmaze$Bracket" "java/lang/Object") ∈ lw_tbl := lw_at lw_m12 108 rfl
theorem q111 : (Jvm.Cond.initialized "Taxmaze$Ledger") ∈ lw_all := lw_g (lw_at lw_m1 46 rfl) rfl
theorem q275 : (Jvm.Cond.selects "Taxmaze$Ledger" ({ cls := "java/lang/Object", name := "getClass", desc := "()Ljava/lang/Class;" } : Jvm.MethodName) ({ cls := "java/lang/Object", name := "getClass", desc := "()Ljava/lang/Class;" } : Jvm.MethodName)) ∈ lw_all := lw_g (lw_at lw_m1 210 rfl) rfl
theorem q331 : (Jvm.Cond.fieldLinkNest "Taxmaze$Ledger" (88 : Nat) "Taxmaze" "contracts" "Ljava/util/List;" "Taxmaze") ∈ lw_tbl := lw_at lw_m2 26 rfl
theorem q343 : (Jvm.Cond.fieldLinkNest "Taxmaze$Ledger" (73 : Nat) "Taxmaze" "elements" "Ljava/util/List;" "Taxmaze") ∈ lw_tbl := lw_at lw_m2 38 rfl
theorem q345 : (Jvm.Cond.fieldLinkNest "Taxmaze$Ledger" (149 : Nat) "Taxmaze" "bonuses" "[[[I" "Taxmaze") ∈ lw_tbl := lw_at lw_m2 40 rfl
theorem q347 : (Jvm.Cond.fieldLinkNest "Taxmaze$Ledger" (153 : Nat) "Taxmaze" "contributions" "Ljava/util/List;" "Taxmaze") ∈ lw_tbl := lw_at lw_m2 42 rfl
theorem q350 : (Jvm.Cond.fieldLinkNest "Taxmaze$Ledger" (185 : Nat) "Taxmaze" "states" "Ljava/util/List;" "Taxmaze") ∈ lw_tbl := lw_at lw_m2 45 rfl
theorem q352 : (Jvm.Cond.fieldLinkNest "Taxmaze$Ledger" (180 : Nat) "Taxmaze" "pensions" "Ljava/util/List;" "Taxmaze") ∈ lw_tbl := lw_at lw_m2 47 rfl
theorem q355 : (Jvm.Cond.fieldLinkNest "Taxmaze$Ledger" (194 : Nat) "Taxmaze" "byRank" "Ljava/util/List;" "Taxmaze") ∈ lw_tbl := lw_at lw_m2 50 rfl
theorem q358 : (Jvm.Cond.fieldLinkNest "Taxmaze$Ledger" (221 : Nat) "Taxmaze" "advances" "Ljava/util/List;" "Taxmaze") ∈ lw_tbl := lw_at lw_m2 53 rfl
theorem q918 : (Jvm.Cond.fieldLinkNest "Taxmaze$Ledger" (103 : Nat) "Taxmaze$Contract" "person" "I" "Taxmaze") ∈ lw_tbl := lw_at lw_m4 133 rfl
theorem q921 : (Jvm.Cond.fieldLinkNest "Taxmaze$Ledger" (108 : Nat) "Taxmaze$Contract" "place" "I" "Taxmaze") ∈ lw_tbl := lw_at lw_m4 136 rfl
theorem q930 : (Jvm.Cond.fieldLinkNest "Taxmaze$Ledger" (115 : Nat) "Taxmaze$Contract" "minutes" "[I" "Taxmaze") ∈ lw_tbl := lw_at lw_m4 145 rfl
theorem q1581 : (Jvm.Cond.instantiable "Taxmaze$Ledger" (18 : Nat)) ∈ lw_all := lw_g (lw_at lw_m7 76 rfl) rfl
theorem q1583 : (Jvm.Cond.instanceMethod ({ cls := "Taxmaze$Ledger", name := "<init>", desc := "(LTaxmaze;I)V" } : Jvm.MethodName)) ∈ lw_all := lw_g (lw_at lw_m7 78 rfl) rfl
theorem q1584 : (Jvm.Cond.code ({ cls := "Taxmaze$Ledger", name := "<init>", desc := "(LTaxmaze;I)V" } : Jvm.MethodName) prog_13_method_1_code (6 : Nat) (Option.none : Option Jvm.ClassFile.FieldType)) ∈ lw_all := lw_g (lw_at lw_m7 79 rfl) rfl
theorem q1585 : (Jvm.Cond.methodLink "Taxmaze$Ledger" (9 : Nat) ({ cls := "java/lang/Object", name := "<init>", desc := "()V" } : Jvm.MethodName)) ∈ lw_all := lw_g (lw_at lw_m7 80 rfl) rfl
theorem q1586 : (Jvm.Cond.methodLinkNest "Taxmaze$Ledger" (69 : Nat) ({ cls := "Taxmaze", name := "findLeave", desc := "(I)V" } : Jvm.MethodName) "Taxmaze") ∈ lw_tbl := lw_at lw_m7 81 rfl
theorem q1587 : (Jvm.Cond.methodLinkNest "Taxmaze$Ledger" (77 : Nat) ({ cls := "Taxmaze", name := "orderOf", desc := "(Ljava/util/List;)Ljava/util/List;" } : Jvm.MethodName) "Taxmaze") ∈ lw_tbl := lw_at lw_m7 82 rfl
theorem q1588 : (Jvm.Cond.methodLink "Taxmaze$Ledger" (81 : Nat) ({ cls := "Taxmaze$Ledger", name := "findPlain", desc := "(ILjava/util/List;[J)V" } : Jvm.MethodName)) ∈ lw_all := lw_g (lw_at lw_m7 83 rfl) rfl
theorem q1589 : (Jvm.Cond.privateMethod ({ cls := "Taxmaze$Ledger", name := "findPlain", desc := "(ILjava/util/List;[J)V" } : Jvm.MethodName)) ∈ lw_tbl := lw_at lw_m7 84 rfl
theorem q1590 : (Jvm.Cond.instanceMethod ({ cls := "Taxmaze$Ledger", name := "findPlain", desc := "(ILjava/util/List;[J)V" } : Jvm.MethodName)) ∈ lw_all := lw_g (lw_at lw_m7 85 rfl) rfl
theorem q1591 : (Jvm.Cond.code ({ cls := "Taxmaze$Ledger", name := "findPlain", desc := "(ILjava/util/List;[J)V" } : Jvm.MethodName) prog_13_method_2_code (14 : Nat) (Option.none : Option Jvm.ClassFile.FieldType)) ∈ lw_all := lw_g (lw_at lw_m7 86 rfl) rfl
theorem q1592 : (Jvm.Cond.interfaceEntry "Taxmaze$Ledger" (91 : Nat)) ∈ lw_tbl := lw_at lw_m7 87 rfl
theorem q1593 : (Jvm.Cond.methodLink "Taxmaze$Ledger" (91 : Nat) ({ cls := "java/util/List", name := "size", desc := "()I" } : Jvm.MethodName)) ∈ lw_all := lw_g (lw_at lw_m7 88 rfl) rfl
theorem q1594 : (Jvm.Cond.interfaceEntry "Taxmaze$Ledger" (97 : Nat)) ∈ lw_tbl := lw_at lw_m7 89 rfl
theorem q1595 : (Jvm.Cond.methodLink "Taxmaze$Ledger" (97 : Nat) ({ cls := "java/util/List", name := "get", desc := "(I)Ljava/lang/Object;" } : Jvm.MethodName)) ∈ lw_all := lw_g (lw_at lw_m7 90 rfl) rfl
theorem q1596 : (Jvm.Cond.classLink "Taxmaze$Ledger" (101 : Nat) "Taxmaze$Contract") ∈ lw_all := lw_g (lw_at lw_m7 91 rfl) rfl
theorem q1597 : (Jvm.Cond.methodLinkNest "Taxmaze$Ledger" (104 : Nat) ({ cls := "Taxmaze", name := "baseOf", desc := "(LTaxmaze$Contract;I)J" } : Jvm.MethodName) "Taxmaze") ∈ lw_tbl := lw_at lw_m7 92 rfl
theorem q1598 : (Jvm.Cond.methodLink "Taxmaze$Ledger" (111 : Nat) ({ cls := "Taxmaze$Contract", name := "hasDayIn", desc := "(I)Z" } : Jvm.MethodName)) ∈ lw_all := lw_g (lw_at lw_m7 93 rfl) rfl
theorem q1602 : (Jvm.Cond.methodLink "Taxmaze$Ledger" (118 : Nat) ({ cls := "java/lang/Math", name := "max", desc := "(II)I" } : Jvm.MethodName)) ∈ lw_all := lw_g (lw_at lw_m7 97 rfl) rfl
theorem q1603 : (Jvm.Cond.classLink "Taxmaze$Ledger" (124 : Nat) "java/lang/Integer") ∈ lw_all := lw_g (lw_at lw_m7 98 rfl) rfl
theorem q1604 : (Jvm.Cond.methodLink "Taxmaze$Ledger" (126 : Nat) ({ cls := "java/lang/Integer", name := "intValue", desc := "()I" } : Jvm.MethodName)) ∈ lw_all := lw_g (lw_at lw_m7 99 rfl) rfl
theorem q1605 : (Jvm.Cond.classLink "Taxmaze$Ledger" (129 : Nat) "Taxmaze$Element") ∈ lw_all := lw_g (lw_at lw_m7 100 rfl) rfl
theorem q1606 : (Jvm.Cond.methodLink "Taxmaze$Ledger" (131 : Nat) ({ cls := "Taxmaze$Element", name := "isFor", desc := "(I)Z" } : Jvm.MethodName)) ∈ lw_all := lw_g (lw_at lw_m7 101 rfl) rfl
theorem q1610 : (Jvm.Cond.constantLong "Taxmaze$Ledger" (134 : Nat) (60 : Int64)) ∈ lw_all := lw_g (lw_at lw_m7 105 rfl) rfl
theorem q1611 : (Jvm.Cond.methodLink "Taxmaze$Ledger" (136 : Nat) ({ cls := "Taxmaze$Element", name := "value", desc := "(JJ[JI[J)J" } : Jvm.MethodName)) ∈ lw_all := lw_g (lw_at lw_m7 106 rfl) rfl
theorem q1900 : (Jvm.Cond.methodLink "Taxmaze$Ledger" (85 : Nat) ({ cls := "Taxmaze$Ledger", name := "go", desc := "(I)V" } : Jvm.MethodName)) ∈ lw_all := lw_g (lw_at lw_m8 155 rfl) rfl
theorem q1901 : (Jvm.Cond.instanceMethod ({ cls := "Taxmaze$Ledger", name := "go", desc := "(I)V" } : Jvm.MethodName)) ∈ lw_all := lw_g (lw_at lw_m8 156 rfl) rfl
theorem q1902 : (Jvm.Cond.selects "Taxmaze$Ledger" ({ cls := "Taxmaze$Ledger", name := "go", desc := "(I)V" } : Jvm.MethodName) ({ cls := "Taxmaze$Ledger", name := "go", desc := "(I)V" } : Jvm.MethodName)) ∈ lw_all := lw_g (lw_at lw_m8 157 rfl) rfl
theorem q1903 : (Jvm.Cond.code ({ cls := "Taxmaze$Ledger", name := "go", desc := "(I)V" } : Jvm.MethodName) prog_13_method_3_code (4 : Nat) (Option.none : Option Jvm.ClassFile.FieldType)) ∈ lw_all := lw_g (lw_at lw_m8 158 rfl) rfl
theorem q1904 : (Jvm.Cond.methodLink "Taxmaze$Ledger" (140 : Nat) ({ cls := "Taxmaze$Ledger", name := "findGross", desc := "(I)V" } : Jvm.MethodName)) ∈ lw_all := lw_g (lw_at lw_m8 159 rfl) rfl
theorem q1905 : (Jvm.Cond.privateMethod ({ cls := "Taxmaze$Ledger", name := "findGross", desc := "(I)V" } : Jvm.MethodName)) ∈ lw_tbl := lw_at lw_m8 160 rfl
theorem q1906 : (Jvm.Cond.instanceMethod ({ cls := "Taxmaze$Ledger", name := "findGross", desc := "(I)V" } : Jvm.MethodName)) ∈ lw_all := lw_g (lw_at lw_m8 161 rfl) rfl
theorem q1907 : (Jvm.Cond.code ({ cls := "Taxmaze$Ledger", name := "findGross", desc := "(I)V" } : Jvm.MethodName) prog_13_method_4_code (9 : Nat) (Option.none : Option Jvm.ClassFile.FieldType)) ∈ lw_all := lw_g (lw_at lw_m8 162 rfl) rfl
theorem q1908 : (Jvm.Cond.classLink "Taxmaze$Ledger" (156 : Nat) "Taxmaze$Dated") ∈ lw_all := lw_g (lw_at lw_m8 163 rfl) rfl
theorem q1909 : (Jvm.Cond.methodLink "Taxmaze$Ledger" (158 : Nat) ({ cls := "Taxmaze$Dated", name := "at", desc := "(I)Ljava/lang/Object;" } : Jvm.MethodName)) ∈ lw_all := lw_g (lw_at lw_m8 164 rfl) rfl
theorem q1910 : (Jvm.Cond.classLink "Taxmaze$Ledger" (161 : Nat) "Taxmaze$Contribution") ∈ lw_all := lw_g (lw_at lw_m8 165 rfl) rfl
theorem q1911 : (Jvm.Cond.methodLink "Taxmaze$Ledger" (163 : Nat) ({ cls := "Taxmaze$Contribution", name := "ceiling", desc := "()I" } : Jvm.MethodName)) ∈ lw_all := lw_g (lw_at lw_m8 166 rfl) rfl
theorem q1915 : (Jvm.Cond.methodLink "Taxmaze$Ledger" (166 : Nat) ({ cls := "java/lang/Math", name := "min", desc := "(JJ)J" } : Jvm.MethodName)) ∈ lw_all := lw_g (lw_at lw_m8 170 rfl) rfl
theorem q1916 : (Jvm.Cond.methodLink "Taxmaze$Ledger" (170 : Nat) ({ cls := "java/lang/Math", name := "max", desc := "(JJ)J" } : Jvm.MethodName)) ∈ lw_all := lw_g (lw_at lw_m8 171 rfl) rfl
theorem q1917 : (Jvm.Cond.methodLink "Taxmaze$Ledger" (172 : Nat) ({ cls := "Taxmaze$Contribution", name := "thousandths", desc := "()I" } : Jvm.MethodName)) ∈ lw_all := lw_g (lw_at lw_m8 172 rfl) rfl
theorem q1921 : (Jvm.Cond.constantLong "Taxmaze$Ledger" (175 : Nat) (1000 : Int64)) ∈ lw_all := lw_g (lw_at lw_m8 176 rfl) rfl
theorem q1922 : (Jvm.Cond.methodLinkNest "Taxmaze$Ledger" (177 : Nat) ({ cls := "Taxmaze", name := "rounded", desc := "(JJ)J" } : Jvm.MethodName) "Taxmaze") ∈ lw_tbl := lw_at lw_m8 177 rfl
theorem q1923 : (Jvm.Cond.methodLink "Taxmaze$Ledger" (183 : Nat) ({ cls := "java/lang/Math", name := "min", desc := "(II)I" } : Jvm.MethodName)) ∈ lw_all := lw_g (lw_at lw_m8 178 rfl) rfl
theorem q1924 : (Jvm.Cond.methodLink "Taxmaze$Ledger" (143 : Nat) ({ cls := "Taxmaze$Ledger", name := "findTax", desc := "(I)V" } : Jvm.MethodName)) ∈ lw_all := lw_g (lw_at lw_m8 179 rfl) rfl
theorem q1925 : (Jvm.Cond.privateMethod ({ cls := "Taxmaze$Ledger", name := "findTax", desc := "(I)V" } : Jvm.MethodName)) ∈ lw_tbl := lw_at lw_m8 180 rfl
theorem q1926 : (Jvm.Cond.instanceMethod ({ cls := "Taxmaze$Ledger", name := "findTax", desc := "(I)V" } : Jvm.MethodName)) ∈ lw_all := lw_g (lw_at lw_m8 181 rfl) rfl
theorem q1927 : (Jvm.Cond.code ({ cls := "Taxmaze$Ledger", name := "findTax", desc := "(I)V" } : Jvm.MethodName) prog_13_method_5_code (8 : Nat) (Option.none : Option Jvm.ClassFile.FieldType)) ∈ lw_all := lw_g (lw_at lw_m8 182 rfl) rfl
theorem q1928 : (Jvm.Cond.constantLong "Taxmaze$Ledger" (188 : Nat) (12 : Int64)) ∈ lw_all := lw_g (lw_at lw_m8 183 rfl) rfl
theorem q1929 : (Jvm.Cond.methodLinkNest "Taxmaze$Ledger" (190 : Nat) ({ cls := "Taxmaze", name := "taxOf", desc := "(IIIJ)J" } : Jvm.MethodName) "Taxmaze") ∈ lw_tbl := lw_at lw_m8 184 rfl
theorem q1930 : (Jvm.Cond.methodLink "Taxmaze$Ledger" (146 : Nat) ({ cls := "Taxmaze$Ledger", name := "findPayout", desc := "(I)V" } : Jvm.MethodName)) ∈ lw_all := lw_g (lw_at lw_m8 185 rfl) rfl
theorem q1931 : (Jvm.Cond.privateMethod ({ cls := "Taxmaze$Ledger", name := "findPayout", desc := "(I)V" } : Jvm.MethodName)) ∈ lw_tbl := lw_at lw_m8 186 rfl
theorem q1932 : (Jvm.Cond.instanceMethod ({ cls := "Taxmaze$Ledger", name := "findPayout", desc := "(I)V" } : Jvm.MethodName)) ∈ lw_all := lw_g (lw_at lw_m8 187 rfl) rfl
theorem q1933 : (Jvm.Cond.code ({ cls := "Taxmaze$Ledger", name := "findPayout", desc := "(I)V" } : Jvm.MethodName) prog_13_method_7_code (11 : Nat) (Option.none : Option Jvm.ClassFile.FieldType)) ∈ lw_all := lw_g (lw_at lw_m8 188 rfl) rfl
theorem q1934 : (Jvm.Cond.classLink "Taxmaze$Ledger" (197 : Nat) "Taxmaze$Garnishment") ∈ lw_all := lw_g (lw_at lw_m8 189 rfl) rfl
theorem q1935 : (Jvm.Cond.methodLink "Taxmaze$Ledger" (208 : Nat) ({ cls := "java/lang/Math", name := "floorDiv", desc := "(JJ)J" } : Jvm.MethodName)) ∈ lw_all := lw_g (lw_at lw_m8 190 rfl) rfl
theorem q1936 : (Jvm.Cond.methodLink "Taxmaze$Ledger" (214 : Nat) ({ cls := "Taxmaze$Ledger", name := "takenBefore", desc := "(II)J" } : Jvm.MethodName)) ∈ lw_all := lw_g (lw_at lw_m8 191 rfl) rfl
theorem q1937 : (Jvm.Cond.privateMethod ({ cls := "Taxmaze$Ledger", name := "takenBefore", desc := "(II)J" } : Jvm.MethodName)) ∈ lw_tbl := lw_at lw_m8 192 rfl
theorem q1938 : (Jvm.Cond.instanceMethod ({ cls := "Taxmaze$Ledger", name := "takenBefore", desc := "(II)J" } : Jvm.MethodName)) ∈ lw_all := lw_g (lw_at lw_m8 193 rfl) rfl
theorem q1939 : (Jvm.Cond.code ({ cls := "Taxmaze$Ledger", name := "takenBefore", desc := "(II)J" } : Jvm.MethodName) prog_13_method_6_code (6 : Nat) (Option.some Jvm.ClassFile.FieldType.long)) ∈ lw_all := lw_g (lw_at lw_m8 194 rfl) rfl
theorem q1940 : (Jvm.Cond.classLink "Taxmaze$Ledger" (224 : Nat) "Taxmaze$Advance") ∈ lw_all := lw_g (lw_at lw_m8 195 rfl) rfl
theorem q1941 : (Jvm.Cond.methodLink "Taxmaze$Ledger" (226 : Nat) ({ cls := "Taxmaze$Advance", name := "person", desc := "()I" } : Jvm.MethodName)) ∈ lw_all := lw_g (lw_at lw_m8 196 rfl) rfl
theorem q1945 : (Jvm.Cond.methodLink "Taxmaze$Ledger" (228 : Nat) ({ cls := "Taxmaze$Advance", name := "month", desc := "()I" } : Jvm.MethodName)) ∈ lw_all := lw_g (lw_at lw_m8 200 rfl) rfl
theorem q1949 : (Jvm.Cond.methodLink "Taxmaze$Ledger" (230 : Nat) ({ cls := "Taxmaze$Advance", name := "cents", desc := "()I" } : Jvm.MethodName)) ∈ lw_all := lw_g (lw_at lw_m8 204 rfl) rfl
theorem q1953 : (Jvm.Cond.fieldLink "Taxmaze$Ledger" (65 : Nat) "Taxmaze$Ledger" "person" "I") ∈ lw_all := lw_g (lw_at lw_m8 208 rfl) rfl
theorem q1954 : (Jvm.Cond.fieldLink "Taxmaze$Ledger" (15 : Nat) "Taxmaze$Ledger" "plain" "[J") ∈ lw_all := lw_g (lw_at lw_m8 209 rfl) rfl
theorem q1955 : (Jvm.Cond.fieldLink "Taxmaze$Ledger" (19 : Nat) "Taxmaze$Ledger" "values" "[J") ∈ lw_all := lw_g (lw_at lw_m8 210 rfl) rfl
theorem q1957 : (Jvm.Cond.fieldLink "Taxmaze$Ledger" (22 : Nat) "Taxmaze$Ledger" "homes" "[I") ∈ lw_all := lw_g (lw_at lw_m8 212 rfl) rfl
theorem q1958 : (Jvm.Cond.fieldLink "Taxmaze$Ledger" (26 : Nat) "Taxmaze$Ledger" "gross" "[J") ∈ lw_all := lw_g (lw_at lw_m8 213 rfl) rfl
theorem q1960 : (Jvm.Cond.fieldLink "Taxmaze$Ledger" (29 : Nat) "Taxmaze$Ledger" "contribution" "[J") ∈ lw_all := lw_g (lw_at lw_m8 215 rfl) rfl
theorem q1962 : (Jvm.Cond.fieldLink "Taxmaze$Ledger" (32 : Nat) "Taxmaze$Ledger" "tax" "[J") ∈ lw_all := lw_g (lw_at lw_m8 217 rfl) rfl
theorem q1964 : (Jvm.Cond.fieldLink "Taxmaze$Ledger" (35 : Nat) "Taxmaze$Ledger" "counted" "[J") ∈ lw_all := lw_g (lw_at lw_m8 219 rfl) rfl
theorem q1965 : (Jvm.Cond.fieldLink "Taxmaze$Ledger" (38 : Nat) "Taxmaze$Ledger" "grossSoFar" "[J") ∈ lw_all := lw_g (lw_at lw_m8 220 rfl) rfl
theorem q1966 : (Jvm.Cond.fieldLink "Taxmaze$Ledger" (41 : Nat) "Taxmaze$Ledger" "taxedSoFar" "[J") ∈ lw_all := lw_g (lw_at lw_m8 221 rfl) rfl
theorem q1967 : (Jvm.Cond.fieldLink "Taxmaze$Ledger" (44 : Nat) "Taxmaze$Ledger" "taxSoFar" "[J") ∈ lw_all := lw_g (lw_at lw_m8 222 rfl) rfl
theorem q1968 : (Jvm.Cond.fieldLink "Taxmaze$Ledger" (47 : Nat) "Taxmaze$Ledger" "pension" "[J") ∈ lw_all := lw_g (lw_at lw_m8 223 rfl) rfl
theorem q1970 : (Jvm.Cond.fieldLink "Taxmaze$Ledger" (50 : Nat) "Taxmaze$Ledger" "match" "[J") ∈ lw_all := lw_g (lw_at lw_m8 225 rfl) rfl
theorem q1972 : (Jvm.Cond.fieldLink "Taxmaze$Ledger" (53 : Nat) "Taxmaze$Ledger" "net" "[J") ∈ lw_all := lw_g (lw_at lw_m8 227 rfl) rfl
theorem q1974 : (Jvm.Cond.fieldLink "Taxmaze$Ledger" (56 : Nat) "Taxmaze$Ledger" "payout" "[J") ∈ lw_all := lw_g (lw_at lw_m8 229 rfl) rfl
theorem q1976 : (Jvm.Cond.fieldLink "Taxmaze$Ledger" (59 : Nat) "Taxmaze$Ledger" "taken" "[J") ∈ lw_all := lw_g (lw_at lw_m8 231 rfl) rfl
theorem q1977 : (Jvm.Cond.fieldLink "Taxmaze$Ledger" (62 : Nat) "Taxmaze$Ledger" "back" "[J") ∈ lw_all := lw_g (lw_at lw_m8 232 rfl) rfl
theorem q1978 : (Jvm.Cond.fieldLink "Taxmaze$Ledger" (3 : Nat) "Taxmaze$Ledger" "this$0" "LTaxmaze;") ∈ lw_all := lw_g (lw_at lw_m8 233 rfl) rfl
theorem q1979 : (Jvm.Cond.laysFinal "Taxmaze$Ledger" "Taxmaze$Ledger" "person" "I") ∈ lw_all := lw_g (lw_at lw_m8 234 rfl) rfl
theorem q1980 : (Jvm.Cond.soleField "Taxmaze$Ledger" "person") ∈ lw_all := lw_g (lw_at lw_m8 235 rfl) rfl
theorem q1981 : (Jvm.Cond.laysFinal "Taxmaze$Ledger" "Taxmaze$Ledger" "plain" "[J") ∈ lw_all := lw_g (lw_at lw_m8 236 rfl) rfl
theorem q1982 : (Jvm.Cond.soleField "Taxmaze$Ledger" "plain") ∈ lw_all := lw_g (lw_at lw_m8 237 rfl) rfl
theorem q1983 : (Jvm.Cond.laysFinal "Taxmaze$Ledger" "Taxmaze$Ledger" "values" "[J") ∈ lw_all := lw_g (lw_at lw_m8 238 rfl) rfl
theorem q1984 : (Jvm.Cond.soleField "Taxmaze$Ledger" "values") ∈ lw_all := lw_g (lw_at lw_m8 239 rfl) rfl
theorem q1985 : (Jvm.Cond.laysFinal "Taxmaze$Ledger" "Taxmaze$Ledger" "homes" "[I") ∈ lw_all := lw_g (lw_at lw_m9 0 rfl) rfl
theorem q1986 : (Jvm.Cond.soleField "Taxmaze$Ledger" "homes") ∈ lw_all := lw_g (lw_at lw_m9 1 rfl) rfl
theorem q1987 : (Jvm.Cond.laysFinal "Taxmaze$Ledger" "Taxmaze$Ledger" "gross" "[J") ∈ lw_all := lw_g (lw_at lw_m9 2 rfl) rfl
theorem q1988 : (Jvm.Cond.soleField "Taxmaze$Ledger" "gross") ∈ lw_all := lw_g (lw_at lw_m9 3 rfl) rfl
theorem q1989 : (Jvm.Cond.laysFinal "Taxmaze$Ledger" "Taxmaze$Ledger" "contribution" "[J") ∈ lw_all := lw_g (lw_at lw_m9 4 rfl) rfl
theorem q1990 : (Jvm.Cond.soleField "Taxmaze$Ledger" "contribution") ∈ lw_all := lw_g (lw_at lw_m9 5 rfl) rfl
theorem q1991 : (Jvm.Cond.laysFinal "Taxmaze$Ledger" "Taxmaze$Ledger" "tax" "[J") ∈ lw_all := lw_g (lw_at lw_m9 6 rfl) rfl
theorem q1992 : (Jvm.Cond.soleField "Taxmaze$Ledger" "tax") ∈ lw_all := lw_g (lw_at lw_m9 7 rfl) rfl
theorem q1993 : (Jvm.Cond.laysFinal "Taxmaze$Ledger" "Taxmaze$Ledger" "counted" "[J") ∈ lw_all := lw_g (lw_at lw_m9 8 rfl) rfl
theorem q1994 : (Jvm.Cond.soleField "Taxmaze$Ledger" "counted") ∈ lw_all := lw_g (lw_at lw_m9 9 rfl) rfl
theorem q1995 : (Jvm.Cond.laysFinal "Taxmaze$Ledger" "Taxmaze$Ledger" "grossSoFar" "[J") ∈ lw_all := lw_g (lw_at lw_m9 10 rfl) rfl
theorem q1996 : (Jvm.Cond.soleField "Taxmaze$Ledger" "grossSoFar") ∈ lw_all := lw_g (lw_at lw_m9 11 rfl) rfl
theorem q1997 : (Jvm.Cond.laysFinal "Taxmaze$Ledger" "Taxmaze$Ledger" "taxedSoFar" "[J") ∈ lw_all := lw_g (lw_at lw_m9 12 rfl) rfl
theorem q1998 : (Jvm.Cond.soleField "Taxmaze$Ledger" "taxedSoFar") ∈ lw_all := lw_g (lw_at lw_m9 13 rfl) rfl
theorem q1999 : (Jvm.Cond.laysFinal "Taxmaze$Ledger" "Taxmaze$Ledger" "taxSoFar" "[J") ∈ lw_all := lw_g (lw_at lw_m9 14 rfl) rfl
theorem q2000 : (Jvm.Cond.soleField "Taxmaze$Ledger" "taxSoFar") ∈ lw_all := lw_g (lw_at lw_m9 15 rfl) rfl
theorem q2001 : (Jvm.Cond.laysFinal "Taxmaze$Ledger" "Taxmaze$Ledger" "pension" "[J") ∈ lw_all := lw_g (lw_at lw_m9 16 rfl) rfl
theorem q2002 : (Jvm.Cond.soleField "Taxmaze$Ledger" "pension") ∈ lw_all := lw_g (lw_at lw_m9 17 rfl) rfl
theorem q2003 : (Jvm.Cond.laysFinal "Taxmaze$Ledger" "Taxmaze$Ledger" "match" "[J") ∈ lw_all := lw_g (lw_at lw_m9 18 rfl) rfl
theorem q2004 : (Jvm.Cond.soleField "Taxmaze$Ledger" "match") ∈ lw_all := lw_g (lw_at lw_m9 19 rfl) rfl
theorem q2005 : (Jvm.Cond.laysFinal "Taxmaze$Ledger" "Taxmaze$Ledger" "net" "[J") ∈ lw_all := lw_g (lw_at lw_m9 20 rfl) rfl
theorem q2006 : (Jvm.Cond.soleField "Taxmaze$Ledger" "net") ∈ lw_all := lw_g (lw_at lw_m9 21 rfl) rfl
theorem q2007 : (Jvm.Cond.laysFinal "Taxmaze$Ledger" "Taxmaze$Ledger" "payout" "[J") ∈ lw_all := lw_g (lw_at lw_m9 22 rfl) rfl
theorem q2008 : (Jvm.Cond.soleField "Taxmaze$Ledger" "payout") ∈ lw_all := lw_g (lw_at lw_m9 23 rfl) rfl
theorem q2009 : (Jvm.Cond.laysFinal "Taxmaze$Ledger" "Taxmaze$Ledger" "taken" "[J") ∈ lw_all := lw_g (lw_at lw_m9 24 rfl) rfl
theorem q2010 : (Jvm.Cond.soleField "Taxmaze$Ledger" "taken") ∈ lw_all := lw_g (lw_at lw_m9 25 rfl) rfl
theorem q2011 : (Jvm.Cond.laysFinal "Taxmaze$Ledger" "Taxmaze$Ledger" "back" "[J") ∈ lw_all := lw_g (lw_at lw_m9 26 rfl) rfl
theorem q2012 : (Jvm.Cond.soleField "Taxmaze$Ledger" "back") ∈ lw_all := lw_g (lw_at lw_m9 27 rfl) rfl
theorem q2013 : (Jvm.Cond.laysFinal "Taxmaze$Ledger" "Taxmaze$Ledger" "this$0" "LTaxmaze;") ∈ lw_all := lw_g (lw_at lw_m9 28 rfl) rfl
theorem q2014 : (Jvm.Cond.soleField "Taxmaze$Ledger" "this$0") ∈ lw_all := lw_g (lw_at lw_m9 29 rfl) rfl
theorem q2015 : (Jvm.Cond.superclass "Taxmaze$Ledger" "java/lang/Object") ∈ lw_all := lw_g (lw_at lw_m9 30 rfl) rfl
theorem q2017 : (Jvm.Cond.instanceMethod ({ cls := "Taxmaze$Ledger", name := "in", desc := "(I[J)J" } : Jvm.MethodName)) ∈ lw_all := lw_g (lw_at lw_m9 32 rfl) rfl
theorem q2018 : (Jvm.Cond.selects "Taxmaze$Ledger" ({ cls := "Taxmaze$Ledger", name := "in", desc := "(I[J)J" } : Jvm.MethodName) ({ cls := "Taxmaze$Ledger", name := "in", desc := "(I[J)J" } : Jvm.MethodName)) ∈ lw_all := lw_g (lw_at lw_m9 33 rfl) rfl
theorem q2019 : (Jvm.Cond.code ({ cls := "Taxmaze$Ledger", name := "in", desc := "(I[J)J" } : Jvm.MethodName) prog_13_method_8_code (6 : Nat) (Option.some Jvm.ClassFile.FieldType.long)) ∈ lw_all := lw_g (lw_at lw_m9 34 rfl) rfl
theorem q2021 : (Jvm.Cond.instanceMethod ({ cls := "Taxmaze$Ledger", name := "allTaken", desc := "(I)J" } : Jvm.MethodName)) ∈ lw_all := lw_g (lw_at lw_m9 36 rfl) rfl
theorem q2022 : (Jvm.Cond.selects "Taxmaze$Ledger" ({ cls := "Taxmaze$Ledger", name := "allTaken", desc := "(I)J" } : Jvm.MethodName) ({ cls := "Taxmaze$Ledger", name := "allTaken", desc := "(I)J" } : Jvm.MethodName)) ∈ lw_all := lw_g (lw_at lw_m9 37 rfl) rfl
theorem q2023 : (Jvm.Cond.code ({ cls := "Taxmaze$Ledger", name := "allTaken", desc := "(I)J" } : Jvm.MethodName) prog_13_method_9_code (5 : Nat) (Option.some Jvm.ClassFile.FieldType.long)) ∈ lw_all := lw_g (lw_at lw_m9 38 rfl) rfl
theorem q2069 : (Jvm.Cond.fieldLinkNest "Taxmaze$Ledger" (199 : Nat) "Taxmaze$Garnishment" "number" "I" "Taxmaze") ∈ lw_tbl := lw_at lw_m9 84 rfl
theorem q2072 : (Jvm.Cond.fieldLinkNest "Taxmaze$Ledger" (202 : Nat) "Taxmaze$Garnishment" "person" "I" "Taxmaze") ∈ lw_tbl := lw_at lw_m9 87 rfl
theorem q2075 : (Jvm.Cond.fieldLinkNest "Taxmaze$Ledger" (203 : Nat) "Taxmaze$Garnishment" "month" "I" "Taxmaze") ∈ lw_tbl := lw_at lw_m9 90 rfl
theorem q2079 : (Jvm.Cond.fieldLinkNest "Taxmaze$Ledger" (211 : Nat) "Taxmaze$Garnishment" "total" "I" "Taxmaze") ∈ lw_tbl := lw_at lw_m9 94 rfl
theorem q2081 : (Jvm.Cond.fieldLinkNest "Taxmaze$Ledger" (206 : Nat) "Taxmaze$Garnishment" "thousandths" "I" "Taxmaze") ∈ lw_tbl := lw_at lw_m9 96 rfl
theorem q2083 : (Jvm.Cond.fieldLinkNest "Taxmaze$Ledger" (218 : Nat) "Taxmaze$Garnishment" "kept" "I" "Taxmaze") ∈ lw_tbl := lw_at lw_m9 98 rfl
theorem q2175 : (Jvm.Cond.instanceMethod ({ cls := "Taxmaze$Ledger", name := "payouts", desc := "(I)J" } : Jvm.MethodName)) ∈ lw_all := lw_g (lw_at lw_m9 190 rfl) rfl
theorem q2176 : (Jvm.Cond.selects "Taxmaze$Ledger" ({ cls := "Taxmaze$Ledger", name := "payouts", desc := "(I)J" } : Jvm.MethodName) ({ cls := "Taxmaze$Ledger", name := "payouts", desc := "(I)J" } : Jvm.MethodName)) ∈ lw_all := lw_g (lw_at lw_m9 191 rfl) rfl
theorem q2177 : (Jvm.Cond.code ({ cls := "Taxmaze$Ledger", name := "payouts", desc := "(I)J" } : Jvm.MethodName) prog_13_method_10_code (5 : Nat) (Option.some Jvm.ClassFile.FieldType.long)) ∈ lw_all := lw_g (lw_at lw_m9 192 rfl) rfl
theorem q2814 : (Jvm.Cond.castable "Taxmaze$Ledger" "java/lang/Object") ∈ lw_tbl := lw_at lw_m12 109 rfl
theorem q112 : (Jvm.Cond.initialized "java/lang/AbstractStringBuilder") ∈ lw_all := lw_g (lw_at lw_m1 47 rfl) rfl
theorem q790 : (Jvm.Cond.instanceMethod ({ cls := "java/lang/AbstractStringBuilder", name := "compareTo", desc := "(Ljava/lang/AbstractStringBuilder;)I" } : Jvm.MethodName)) ∈ lw_all := lw_g (lw_at lw_m4 5 rfl) rfl
theorem q791 : (Jvm.Cond.code ({ cls := "java/lang/AbstractStringBuilder", name := "compareTo", desc := "(Ljava/lang/AbstractStringBuilder;)I" } : Jvm.MethodName) prog_22_method_5_code (6 : Nat) (Option.some Jvm.ClassFile.FieldType.int)) ∈ lw_all := lw_g (lw_at lw_m4 6 rfl) rfl
theorem q792 : (Jvm.Cond.methodLink "java/lang/AbstractStringBuilder" (83 : Nat) ({ cls := "java/lang/AbstractStringBuilder", name := "isLatin1", desc := "()Z" } : Jvm.MethodName)) ∈ lw_all := lw_g (lw_at lw_m4 7 rfl) rfl
theorem q793 : (Jvm.Cond.instanceMethod ({ cls := "java/lang/AbstractStringBuilder", name := "isLatin1", desc := "()Z" } : Jvm.MethodName)) ∈ lw_all := lw_g (lw_at lw_m4 8 rfl) rfl
theorem q794 : (Jvm.Cond.sameMethod "java/lang/AbstractStringBuilder" "java/lang/AbstractStringBuilder" "isLatin1" "()Z") ∈ lw_all := lw_g (lw_at lw_m4 9 rfl) rfl
theorem q796 : (Jvm.Cond.code ({ cls := "java/lang/AbstractStringBuilder", name := "isLatin1", desc := "()Z" } : Jvm.MethodName) prog_22_method_68_code (1 : Nat) (Option.some Jvm.ClassFile.FieldType.boolean)) ∈ lw_all := lw_g (lw_at lw_m4 11 rfl) rfl
theorem q797 : (Jvm.Cond.fieldLink "java/lang/AbstractStringBuilder" (18 : Nat) "java/lang/String" "COMPACT_STRINGS" "Z") ∈ lw_all := lw_g (lw_at lw_m4 12 rfl) rfl
theorem q798 : (Jvm.Cond.methodLink "java/lang/AbstractStringBuilder" (87 : Nat) ({ cls := "java/lang/StringLatin1", name := "compareTo", desc := "([B[BII)I" } : Jvm.MethodName)) ∈ lw_all := lw_g (lw_at lw_m4 13 rfl) rfl
theorem q799 : (Jvm.Cond.methodLink "java/lang/AbstractStringBuilder" (93 : Nat) ({ cls := "java/lang/StringUTF16", name := "compareTo", desc := "([B[BII)I" } : Jvm.MethodName)) ∈ lw_all := lw_g (lw_at lw_m4 14 rfl) rfl
theorem q813 : (Jvm.Cond.methodLink "java/lang/AbstractStringBuilder" (94 : Nat) ({ cls := "java/lang/StringLatin1", name := "compareToUTF16", desc := "([B[BII)I" } : Jvm.MethodName)) ∈ lw_all := lw_g (lw_at lw_m4 28 rfl) rfl
theorem q817 : (Jvm.Cond.methodLink "java/lang/AbstractStringBuilder" (97 : Nat) ({ cls := "java/lang/StringUTF16", name := "compareToLatin1", desc := "([B[BII)I" } : Jvm.MethodName)) ∈ lw_all := lw_g (lw_at lw_m4 32 rfl) rfl
theorem q1696 : (Jvm.Cond.instanceMethod ({ cls := "java/lang/AbstractStringBuilder", name := "<init>", desc := "(I)V" } : Jvm.MethodName)) ∈ lw_all := lw_g (lw_at lw_m7 191 rfl) rfl
theorem q1697 : (Jvm.Cond.code ({ cls := "java/lang/AbstractStringBuilder", name := "<init>", desc := "(I)V" } : Jvm.MethodName) prog_22_method_2_code (2 : Nat) (Option.none : Option Jvm.ClassFile.FieldType)) ∈ lw_all := lw_g (lw_at lw_m7 192 rfl) rfl
theorem q1698 : (Jvm.Cond.methodLink "java/lang/AbstractStringBuilder" (3 : Nat) ({ cls := "java/lang/Object", name := "<init>", desc := "()V" } : Jvm.MethodName)) ∈ lw_all := lw_g (lw_at lw_m7 193 rfl) rfl
theorem q1699 : (Jvm.Cond.methodLink "java/lang/AbstractStringBuilder" (26 : Nat) ({ cls := "java/lang/StringUTF16", name := "newBytesFor", desc := "(I)[B" } : Jvm.MethodName)) ∈ lw_all := lw_g (lw_at lw_m7 194 rfl) rfl
theorem q1706 : (Jvm.Cond.fieldLink "java/lang/AbstractStringBuilder" (15 : Nat) "java/lang/AbstractStringBuilder" "value" "[B") ∈ lw_all := lw_g (lw_at lw_m7 201 rfl) rfl
theorem q1707 : (Jvm.Cond.fieldLink "java/lang/AbstractStringBuilder" (22 : Nat) "java/lang/AbstractStringBuilder" "coder" "B") ∈ lw_all := lw_g (lw_at lw_m7 202 rfl) rfl
theorem q1709 : (Jvm.Cond.fieldLink "java/lang/AbstractStringBuilder" (79 : Nat) "java/lang/AbstractStringBuilder" "count" "I") ∈ lw_all := lw_g (lw_at lw_m7 204 rfl) rfl
theorem q1711 : (Jvm.Cond.soleField "java/lang/AbstractStringBuilder" "value") ∈ lw_all := lw_g (lw_at lw_m7 206 rfl) rfl
theorem q1713 : (Jvm.Cond.soleField "java/lang/AbstractStringBuilder" "coder") ∈ lw_all := lw_g (lw_at lw_m7 208 rfl) rfl
theorem q1715 : (Jvm.Cond.soleField "java/lang/AbstractStringBuilder" "maybeLatin1") ∈ lw_all := lw_g (lw_at lw_m7 210 rfl) rfl
theorem q1717 : (Jvm.Cond.soleField "java/lang/AbstractStringBuilder" "count") ∈ lw_all := lw_g (lw_at lw_m7 212 rfl) rfl
theorem q1724 : (Jvm.Cond.instanceMethod ({ cls := "java/lang/AbstractStringBuilder", name := "append", desc := "(Ljava/lang/String;)Ljava/lang/AbstractStringBuilder;" } : Jvm.MethodName)) ∈ lw_all := lw_g (lw_at lw_m7 219 rfl) rfl
theorem q1725 : (Jvm.Cond.code ({ cls := "java/lang/AbstractStringBuilder", name := "append", desc := "(Ljava/lang/String;)Ljava/lang/AbstractStringBuilder;" } : Jvm.MethodName) prog_22_method_22_code (3 : Nat) (Option.some (Jvm.ClassFile.FieldType.object "java/lang/AbstractStringBuilder"))) ∈ lw_all := lw_g (lw_at lw_m7 220 rfl) rfl
theorem q1726 : (Jvm.Cond.methodLink "java/lang/AbstractStringBuilder" (204 : Nat) ({ cls := "java/lang/AbstractStringBuilder", name := "appendNull", desc := "()Ljava/lang/AbstractStringBuilder;" } : Jvm.MethodName)) ∈ lw_all := lw_g (lw_at lw_m7 221 rfl) rfl
theorem q1727 : (Jvm.Cond.privateMethod ({ cls := "java/lang/AbstractStringBuilder", name := "appendNull", desc := "()Ljava/lang/AbstractStringBuilder;" } : Jvm.MethodName)) ∈ lw_tbl := lw_at lw_m7 222 rfl
theorem q1728 : (Jvm.Cond.instanceMethod ({ cls := "java/lang/AbstractStringBuilder", name := "appendNull", desc := "()Ljava/lang/AbstractStringBuilder;" } : Jvm.MethodName)) ∈ lw_all := lw_g (lw_at lw_m7 223 rfl) rfl
theorem q1729 : (Jvm.Cond.code ({ cls := "java/lang/AbstractStringBuilder", name := "appendNull", desc := "()Ljava/lang/AbstractStringBuilder;" } : Jvm.MethodName) prog_22_method_26_code (3 : Nat) (Option.some (Jvm.ClassFile.FieldType.object "java/lang/AbstractStringBuilder"))) ∈ lw_all := lw_g (lw_at lw_m7 224 rfl) rfl
theorem q1730 : (Jvm.Cond.methodLink "java/lang/AbstractStringBuilder" (100 : Nat) ({ cls := "java/lang/AbstractStringBuilder", name := "ensureCapacityInternal", desc := "(I)V" } : Jvm.MethodName)) ∈ lw_all := lw_g (lw_at lw_m7 225 rfl) rfl
theorem q1731 : (Jvm.Cond.privateMethod ({ cls := "java/lang/AbstractStringBuilder", name := "ensureCapacityInternal", desc := "(I)V" } : Jvm.MethodName)) ∈ lw_tbl := lw_at lw_m7 226 rfl
theorem q1732 : (Jvm.Cond.instanceMethod ({ cls := "java/lang/AbstractStringBuilder", name := "ensureCapacityInternal", desc := "(I)V" } : Jvm.MethodName)) ∈ lw_all := lw_g (lw_at lw_m7 227 rfl) rfl
theorem q1733 : (Jvm.Cond.code ({ cls := "java/lang/AbstractStringBuilder", name := "ensureCapacityInternal", desc := "(I)V" } : Jvm.MethodName) prog_22_method_9_code (3 : Nat) (Option.none : Option Jvm.ClassFile.FieldType)) ∈ lw_all := lw_g (lw_at lw_m7 228 rfl) rfl
theorem q1734 : (Jvm.Cond.methodLink "java/lang/AbstractStringBuilder" (104 : Nat) ({ cls := "java/lang/AbstractStringBuilder", name := "newCapacity", desc := "(I)I" } : Jvm.MethodName)) ∈ lw_all := lw_g (lw_at lw_m7 229 rfl) rfl
theorem q1735 : (Jvm.Cond.privateMethod ({ cls := "java/lang/AbstractStringBuilder", name := "newCapacity", desc := "(I)I" } : Jvm.MethodName)) ∈ lw_tbl := lw_at lw_m7 230 rfl
theorem q1736 : (Jvm.Cond.instanceMethod ({ cls := "java/lang/AbstractStringBuilder", name := "newCapacity", desc := "(I)I" } : Jvm.MethodName)) ∈ lw_all := lw_g (lw_at lw_m7 231 rfl) rfl
theorem q1737 : (Jvm.Cond.code ({ cls := "java/lang/AbstractStringBuilder", name := "newCapacity", desc := "(I)I" } : Jvm.MethodName) prog_22_method_10_code (6 : Nat) (Option.some Jvm.ClassFile.FieldType.int)) ∈ lw_all := lw_g (lw_at lw_m7 232 rfl) rfl
theorem q1738 : (Jvm.Cond.methodLink "java/lang/AbstractStringBuilder" (114 : Nat) ({ cls := "jdk/internal/util/ArraysSupport", name := "newLength", desc := "(III)I" } : Jvm.MethodName)) ∈ lw_all := lw_g (lw_at lw_m7 233 rfl) rfl
theorem q1739 : (Jvm.Cond.constant "java/lang/AbstractStringBuilder" (39 : Nat) (2147483647 : Int32)) ∈ lw_all := lw_g (lw_at lw_m7 234 rfl) rfl
theorem q1740 : (Jvm.Cond.methodLink "java/lang/AbstractStringBuilder" (108 : Nat) ({ cls := "java/util/Arrays", name := "copyOf", desc := "([BI)[B" } : Jvm.MethodName)) ∈ lw_all := lw_g (lw_at lw_m7 235 rfl) rfl
theorem q1750 : (Jvm.Cond.methodLink "java/lang/AbstractStringBuilder" (226 : Nat) ({ cls := "java/lang/StringUTF16", name := "putCharsAt", desc := "([BICCCC)I" } : Jvm.MethodName)) ∈ lw_all := lw_g (lw_at lw_m8 5 rfl) rfl
theorem q1762 : (Jvm.Cond.methodLink "java/lang/AbstractStringBuilder" (32 : Nat) ({ cls := "java/lang/String", name := "length", desc := "()I" } : Jvm.MethodName)) ∈ lw_all := lw_g (lw_at lw_m8 17 rfl) rfl
theorem q1766 : (Jvm.Cond.methodLink "java/lang/AbstractStringBuilder" (208 : Nat) ({ cls := "java/lang/AbstractStringBuilder", name := "putStringAt", desc := "(ILjava/lang/String;)V" } : Jvm.MethodName)) ∈ lw_all := lw_g (lw_at lw_m8 21 rfl) rfl
theorem q1767 : (Jvm.Cond.privateMethod ({ cls := "java/lang/AbstractStringBuilder", name := "putStringAt", desc := "(ILjava/lang/String;)V" } : Jvm.MethodName)) ∈ lw_tbl := lw_at lw_m8 22 rfl
theorem q1768 : (Jvm.Cond.instanceMethod ({ cls := "java/lang/AbstractStringBuilder", name := "putStringAt", desc := "(ILjava/lang/String;)V" } : Jvm.MethodName)) ∈ lw_all := lw_g (lw_at lw_m8 23 rfl) rfl
theorem q1769 : (Jvm.Cond.code ({ cls := "java/lang/AbstractStringBuilder", name := "putStringAt", desc := "(ILjava/lang/String;)V" } : Jvm.MethodName) prog_22_method_73_code (3 : Nat) (Option.none : Option Jvm.ClassFile.FieldType)) ∈ lw_all := lw_g (lw_at lw_m8 24 rfl) rfl
theorem q1770 : (Jvm.Cond.methodLink "java/lang/AbstractStringBuilder" (397 : Nat) ({ cls := "java/lang/AbstractStringBuilder", name := "inflateIfNeededFor", desc := "(Ljava/lang/String;)V" } : Jvm.MethodName)) ∈ lw_all := lw_g (lw_at lw_m8 25 rfl) rfl
theorem q1771 : (Jvm.Cond.privateMethod ({ cls := "java/lang/AbstractStringBuilder", name := "inflateIfNeededFor", desc := "(Ljava/lang/String;)V" } : Jvm.MethodName)) ∈ lw_tbl := lw_at lw_m8 26 rfl
theorem q1772 : (Jvm.Cond.instanceMethod ({ cls := "java/lang/AbstractStringBuilder", name := "inflateIfNeededFor", desc := "(Ljava/lang/String;)V" } : Jvm.MethodName)) ∈ lw_all := lw_g (lw_at lw_m8 27 rfl) rfl
theorem q1773 : (Jvm.Cond.code ({ cls := "java/lang/AbstractStringBuilder", name := "inflateIfNeededFor", desc := "(Ljava/lang/String;)V" } : Jvm.MethodName) prog_22_method_71_code (2 : Nat) (Option.none : Option Jvm.ClassFile.FieldType)) ∈ lw_all := lw_g (lw_at lw_m8 28 rfl) rfl
theorem q1774 : (Jvm.Cond.methodLink "java/lang/AbstractStringBuilder" (40 : Nat) ({ cls := "java/lang/String", name := "coder", desc := "()B" } : Jvm.MethodName)) ∈ lw_all := lw_g (lw_at lw_m8 29 rfl) rfl
theorem q1775 : (Jvm.Cond.methodLink "java/lang/AbstractStringBuilder" (195 : Nat) ({ cls := "java/lang/AbstractStringBuilder", name := "inflate", desc := "()V" } : Jvm.MethodName)) ∈ lw_all := lw_g (lw_at lw_m8 30 rfl) rfl
theorem q1776 : (Jvm.Cond.privateMethod ({ cls := "java/lang/AbstractStringBuilder", name := "inflate", desc := "()V" } : Jvm.MethodName)) ∈ lw_tbl := lw_at lw_m8 31 rfl
theorem q1777 : (Jvm.Cond.instanceMethod ({ cls := "java/lang/AbstractStringBuilder", name := "inflate", desc := "()V" } : Jvm.MethodName)) ∈ lw_all := lw_g (lw_at lw_m8 32 rfl) rfl
theorem q1778 : (Jvm.Cond.code ({ cls := "java/lang/AbstractStringBuilder", name := "inflate", desc := "()V" } : Jvm.MethodName) prog_22_method_11_code (2 : Nat) (Option.none : Option Jvm.ClassFile.FieldType)) ∈ lw_all := lw_g (lw_at lw_m8 33 rfl) rfl
theorem q1779 : (Jvm.Cond.methodLink "java/lang/AbstractStringBuilder" (125 : Nat) ({ cls := "java/lang/StringLatin1", name := "inflate", desc := "([BI[BII)V" } : Jvm.MethodName)) ∈ lw_all := lw_g (lw_at lw_m8 34 rfl) rfl
theorem q1794 : (Jvm.Cond.methodLink "java/lang/AbstractStringBuilder" (399 : Nat) ({ cls := "java/lang/String", name := "getBytes", desc := "([BIB)V" } : Jvm.MethodName)) ∈ lw_all := lw_g (lw_at lw_m8 49 rfl) rfl
theorem q1805 : (Jvm.Cond.instanceMethod ({ cls := "java/lang/AbstractStringBuilder", name := "append", desc := "(I)Ljava/lang/AbstractStringBuilder;" } : Jvm.MethodName)) ∈ lw_all := lw_g (lw_at lw_m8 60 rfl) rfl
theorem q1806 : (Jvm.Cond.code ({ cls := "java/lang/AbstractStringBuilder", name := "append", desc := "(I)Ljava/lang/AbstractStringBuilder;" } : Jvm.MethodName) prog_22_method_32_code (4 : Nat) (Option.some (Jvm.ClassFile.FieldType.object "java/lang/AbstractStringBuilder"))) ∈ lw_all := lw_g (lw_at lw_m8 61 rfl) rfl
theorem q1807 : (Jvm.Cond.methodLink "java/lang/AbstractStringBuilder" (245 : Nat) ({ cls := "java/lang/Integer", name := "stringSize", desc := "(I)I" } : Jvm.MethodName)) ∈ lw_all := lw_g (lw_at lw_m8 62 rfl) rfl
theorem q1810 : (Jvm.Cond.methodLink "java/lang/AbstractStringBuilder" (248 : Nat) ({ cls := "java/lang/Integer", name := "getChars", desc := "(II[B)I" } : Jvm.MethodName)) ∈ lw_all := lw_g (lw_at lw_m8 65 rfl) rfl
theorem q1817 : (Jvm.Cond.methodLink "java/lang/AbstractStringBuilder" (251 : Nat) ({ cls := "java/lang/StringUTF16", name := "getChars", desc := "(III[B)I" } : Jvm.MethodName)) ∈ lw_all := lw_g (lw_at lw_m8 72 rfl) rfl
theorem q1838 : (Jvm.Cond.instanceMethod ({ cls := "java/lang/AbstractStringBuilder", name := "getValue", desc := "()[B" } : Jvm.MethodName)) ∈ lw_all := lw_g (lw_at lw_m8 93 rfl) rfl
theorem q1839 : (Jvm.Cond.sameMethod "java/lang/AbstractStringBuilder" "java/lang/AbstractStringBuilder" "getValue" "()[B") ∈ lw_all := lw_g (lw_at lw_m8 94 rfl) rfl
theorem q1841 : (Jvm.Cond.code ({ cls := "java/lang/AbstractStringBuilder", name := "getValue", desc := "()[B" } : Jvm.MethodName) prog_22_method_64_code (1 : Nat) (Option.some (Jvm.ClassFile.FieldType.array Jvm.ClassFile.FieldType.byte))) ∈ lw_all := lw_g (lw_at lw_m8 96 rfl) rfl
theorem q1843 : (Jvm.Cond.instanceMethod ({ cls := "java/lang/AbstractStringBuilder", name := "length", desc := "()I" } : Jvm.MethodName)) ∈ lw_all := lw_g (lw_at lw_m8 98 rfl) rfl
theorem q1844 : (Jvm.Cond.sameMethod "java/lang/AbstractStringBuilder" "java/lang/AbstractStringBuilder" "length" "()I") ∈ lw_all := lw_g (lw_at lw_m8 99 rfl) rfl
theorem q1849 : (Jvm.Cond.code ({ cls := "java/lang/AbstractStringBuilder", name := "length", desc := "()I" } : Jvm.MethodName) prog_22_method_6_code (1 : Nat) (Option.some Jvm.ClassFile.FieldType.int)) ∈ lw_all := lw_g (lw_at lw_m8 104 rfl) rfl
theorem q2776 : (Jvm.Cond.sameMethod "java/lang/AbstractStringBuilder" "java/lang/AbstractStringBuilder" "compareTo" "(Ljava/lang/AbstractStringBuilder;)I") ∈ lw_all := lw_g (lw_at lw_m12 71 rfl) rfl
theorem q2777 : (Jvm.Cond.sameMethod "java/lang/AbstractStringBuilder" "java/lang/AbstractStringBuilder" "append" "(Ljava/lang/String;)Ljava/lang/AbstractStringBuilder;") ∈ lw_all := lw_g (lw_at lw_m12 72 rfl) rfl
theorem q2778 : (Jvm.Cond.sameMethod "java/lang/AbstractStringBuilder" "java/lang/AbstractStringBuilder" "appendNull" "()Ljava/lang/AbstractStringBuilder;") ∈ lw_all := lw_g (lw_at lw_m12 73 rfl) rfl
theorem q2779 : (Jvm.Cond.sameMethod "java/lang/AbstractStringBuilder" "java/lang/AbstractStringBuilder" "ensureCapacityInternal" "(I)V") ∈ lw_all := lw_g (lw_at lw_m12 74 rfl) rfl
theorem q2780 : (Jvm.Cond.sameMethod "java/lang/AbstractStringBuilder" "java/lang/AbstractStringBuilder" "newCapacity" "(I)I") ∈ lw_all := lw_g (lw_at lw_m12 75 rfl) rfl
theorem q2781 : (Jvm.Cond.sameMethod "java/lang/AbstractStringBuilder" "java/lang/AbstractStringBuilder" "putStringAt" "(ILjava/lang/String;)V") ∈ lw_all := lw_g (lw_at lw_m12 76 rfl) rfl
theorem q2782 : (Jvm.Cond.sameMethod "java/lang/AbstractStringBuilder" "java/lang/AbstractStringBuilder" "inflateIfNeededFor" "(Ljava/lang/String;)V") ∈ lw_all := lw_g (lw_at lw_m12 77 rfl) rfl
theorem q2783 : (Jvm.Cond.sameMethod "java/lang/AbstractStringBuilder" "java/lang/AbstractStringBuilder" "inflate" "()V") ∈ lw_all := lw_g (lw_at lw_m12 78 rfl) rfl
theorem q2784 : (Jvm.Cond.sameMethod "java/lang/AbstractStringBuilder" "java/lang/AbstractStringBuilder" "append" "(I)Ljava/lang/AbstractStringBuilder;") ∈ lw_all := lw_g (lw_at lw_m12 79 rfl) rfl
theorem q113 : (Jvm.Cond.initialized "java/lang/StringBuilder") ∈ lw_all := lw_g (lw_at lw_m1 48 rfl) rfl
theorem q287 : (Jvm.Cond.selects "java/lang/StringBuilder" ({ cls := "java/lang/Object", name := "getClass", desc := "()Ljava/lang/Class;" } : Jvm.MethodName) ({ cls := "java/lang/Object", name := "getClass", desc := "()Ljava/lang/Class;" } : Jvm.MethodName)) ∈ lw_all := lw_g (lw_at lw_m1 222 rfl) rfl
theorem q777 : (Jvm.Cond.castable "java/lang/StringBuilder" "java/lang/Comparable") ∈ lw_tbl := lw_at lw_m3 232 rfl
theorem q778 : (Jvm.Cond.selects "java/lang/StringBuilder" ({ cls := "java/lang/Comparable", name := "compareTo", desc := "(Ljava/lang/Object;)I" } : Jvm.MethodName) ({ cls := "java/lang/StringBuilder", name := "compareTo", desc := "(Ljava/lang/Object;)I" } : Jvm.MethodName)) ∈ lw_all := lw_g (lw_at lw_m3 233 rfl) rfl
theorem q779 : (Jvm.Cond.unhidden "java/lang/StringBuilder" "compareTo" "(Ljava/lang/Object;)I") ∈ lw_tbl := lw_at lw_m3 234 rfl
theorem q780 : (Jvm.Cond.instanceMethod ({ cls := "java/lang/StringBuilder", name := "compareTo", desc := "(Ljava/lang/Object;)I" } : Jvm.MethodName)) ∈ lw_all := lw_g (lw_at lw_m3 235 rfl) rfl
theorem q781 : (Jvm.Cond.publicMethod ({ cls := "java/lang/StringBuilder", name := "compareTo", desc := "(Ljava/lang/Object;)I" } : Jvm.MethodName)) ∈ lw_tbl := lw_at lw_m3 236 rfl
theorem q782 : (Jvm.Cond.code ({ cls := "java/lang/StringBuilder", name := "compareTo", desc := "(Ljava/lang/Object;)I" } : Jvm.MethodName) prog_41_method_97_code (2 : Nat) (Option.some Jvm.ClassFile.FieldType.int)) ∈ lw_all := lw_g (lw_at lw_m3 237 rfl) rfl
theorem q783 : (Jvm.Cond.classLink "java/lang/StringBuilder" (24 : Nat) "java/lang/StringBuilder") ∈ lw_all := lw_g (lw_at lw_m3 238 rfl) rfl
theorem q784 : (Jvm.Cond.methodLink "java/lang/StringBuilder" (346 : Nat) ({ cls := "java/lang/StringBuilder", name := "compareTo", desc := "(Ljava/lang/StringBuilder;)I" } : Jvm.MethodName)) ∈ lw_all := lw_g (lw_at lw_m3 239 rfl) rfl
theorem q785 : (Jvm.Cond.instanceMethod ({ cls := "java/lang/StringBuilder", name := "compareTo", desc := "(Ljava/lang/StringBuilder;)I" } : Jvm.MethodName)) ∈ lw_all := lw_g (lw_at lw_m4 0 rfl) rfl
theorem q786 : (Jvm.Cond.selects "java/lang/StringBuilder" ({ cls := "java/lang/StringBuilder", name := "compareTo", desc := "(Ljava/lang/StringBuilder;)I" } : Jvm.MethodName) ({ cls := "java/lang/StringBuilder", name := "compareTo", desc := "(Ljava/lang/StringBuilder;)I" } : Jvm.MethodName)) ∈ lw_all := lw_g (lw_at lw_m4 1 rfl) rfl
theorem q787 : (Jvm.Cond.code ({ cls := "java/lang/StringBuilder", name := "compareTo", desc := "(Ljava/lang/StringBuilder;)I" } : Jvm.MethodName) prog_41_method_5_code (2 : Nat) (Option.some Jvm.ClassFile.FieldType.int)) ∈ lw_all := lw_g (lw_at lw_m4 2 rfl) rfl
theorem q788 : (Jvm.Cond.methodLink "java/lang/StringBuilder" (13 : Nat) ({ cls := "java/lang/AbstractStringBuilder", name := "compareTo", desc := "(Ljava/lang/AbstractStringBuilder;)I" } : Jvm.MethodName)) ∈ lw_all := lw_g (lw_at lw_m4 3 rfl) rfl
theorem q789 : (Jvm.Cond.superclass "java/lang/StringBuilder" "java/lang/AbstractStringBuilder") ∈ lw_all := lw_g (lw_at lw_m4 4 rfl) rfl
theorem q795 : (Jvm.Cond.selects "java/lang/StringBuilder" ({ cls := "java/lang/AbstractStringBuilder", name := "isLatin1", desc := "()Z" } : Jvm.MethodName) ({ cls := "java/lang/AbstractStringBuilder", name := "isLatin1", desc := "()Z" } : Jvm.MethodName)) ∈ lw_all := lw_g (lw_at lw_m4 10 rfl) rfl
theorem q1691 : (Jvm.Cond.instantiable "java/lang/StringBuilder" (4 : Nat)) ∈ lw_all := lw_g (lw_at lw_m7 186 rfl) rfl
theorem q1693 : (Jvm.Cond.instanceMethod ({ cls := "java/lang/StringBuilder", name := "<init>", desc := "()V" } : Jvm.MethodName)) ∈ lw_all := lw_g (lw_at lw_m7 188 rfl) rfl
theorem q1694 : (Jvm.Cond.code ({ cls := "java/lang/StringBuilder", name := "<init>", desc := "()V" } : Jvm.MethodName) prog_41_method_1_code (1 : Nat) (Option.none : Option Jvm.ClassFile.FieldType)) ∈ lw_all := lw_g (lw_at lw_m7 189 rfl) rfl
theorem q1695 : (Jvm.Cond.methodLink "java/lang/StringBuilder" (1 : Nat) ({ cls := "java/lang/AbstractStringBuilder", name := "<init>", desc := "(I)V" } : Jvm.MethodName)) ∈ lw_all := lw_g (lw_at lw_m7 190 rfl) rfl
theorem q1710 : (Jvm.Cond.lays "java/lang/StringBuilder" "java/lang/AbstractStringBuilder" "value" "[B") ∈ lw_all := lw_g (lw_at lw_m7 205 rfl) rfl
theorem q1712 : (Jvm.Cond.lays "java/lang/StringBuilder" "java/lang/AbstractStringBuilder" "coder" "B") ∈ lw_all := lw_g (lw_at lw_m7 207 rfl) rfl
theorem q1714 : (Jvm.Cond.lays "java/lang/StringBuilder" "java/lang/AbstractStringBuilder" "maybeLatin1" "Z") ∈ lw_all := lw_g (lw_at lw_m7 209 rfl) rfl
theorem q1716 : (Jvm.Cond.lays "java/lang/StringBuilder" "java/lang/AbstractStringBuilder" "count" "I") ∈ lw_all := lw_g (lw_at lw_m7 211 rfl) rfl
theorem q1720 : (Jvm.Cond.instanceMethod ({ cls := "java/lang/StringBuilder", name := "append", desc := "(Ljava/lang/String;)Ljava/lang/StringBuilder;" } : Jvm.MethodName)) ∈ lw_all := lw_g (lw_at lw_m7 215 rfl) rfl
theorem q1721 : (Jvm.Cond.selects "java/lang/StringBuilder" ({ cls := "java/lang/StringBuilder", name := "append", desc := "(Ljava/lang/String;)Ljava/lang/StringBuilder;" } : Jvm.MethodName) ({ cls := "java/lang/StringBuilder", name := "append", desc := "(Ljava/lang/String;)Ljava/lang/StringBuilder;" } : Jvm.MethodName)) ∈ lw_all := lw_g (lw_at lw_m7 216 rfl) rfl
theorem q1722 : (Jvm.Cond.code ({ cls := "java/lang/StringBuilder", name := "append", desc := "(Ljava/lang/String;)Ljava/lang/StringBuilder;" } : Jvm.MethodName) prog_41_method_7_code (2 : Nat) (Option.some (Jvm.ClassFile.FieldType.object "java/lang/StringBuilder"))) ∈ lw_all := lw_g (lw_at lw_m7 217 rfl) rfl
theorem q1723 : (Jvm.Cond.methodLink "java/lang/StringBuilder" (29 : Nat) ({ cls := "java/lang/AbstractStringBuilder", name := "append", desc := "(Ljava/lang/String;)Ljava/lang/AbstractStringBuilder;" } : Jvm.MethodName)) ∈ lw_all := lw_g (lw_at lw_m7 218 rfl) rfl
theorem q1801 : (Jvm.Cond.instanceMethod ({ cls := "java/lang/StringBuilder", name := "append", desc := "(I)Ljava/lang/StringBuilder;" } : Jvm.MethodName)) ∈ lw_all := lw_g (lw_at lw_m8 56 rfl) rfl
theorem q1802 : (Jvm.Cond.selects "java/lang/StringBuilder" ({ cls := "java/lang/StringBuilder", name := "append", desc := "(I)Ljava/lang/StringBuilder;" } : Jvm.MethodName) ({ cls := "java/lang/StringBuilder", name := "append", desc := "(I)Ljava/lang/StringBuilder;" } : Jvm.MethodName)) ∈ lw_all := lw_g (lw_at lw_m8 57 rfl) rfl
theorem q1803 : (Jvm.Cond.code ({ cls := "java/lang/StringBuilder", name := "append", desc := "(I)Ljava/lang/StringBuilder;" } : Jvm.MethodName) prog_41_method_15_code (2 : Nat) (Option.some (Jvm.ClassFile.FieldType.object "java/lang/StringBuilder"))) ∈ lw_all := lw_g (lw_at lw_m8 58 rfl) rfl
theorem q1804 : (Jvm.Cond.methodLink "java/lang/StringBuilder" (53 : Nat) ({ cls := "java/lang/AbstractStringBuilder", name := "append", desc := "(I)Ljava/lang/AbstractStringBuilder;" } : Jvm.MethodName)) ∈ lw_all := lw_g (lw_at lw_m8 59 rfl) rfl
theorem q1826 : (Jvm.Cond.instanceMethod ({ cls := "java/lang/StringBuilder", name := "toString", desc := "()Ljava/lang/String;" } : Jvm.MethodName)) ∈ lw_all := lw_g (lw_at lw_m8 81 rfl) rfl
theorem q1827 : (Jvm.Cond.selects "java/lang/StringBuilder" ({ cls := "java/lang/StringBuilder", name := "toString", desc := "()Ljava/lang/String;" } : Jvm.MethodName) ({ cls := "java/lang/StringBuilder", name := "toString", desc := "()Ljava/lang/String;" } : Jvm.MethodName)) ∈ lw_all := lw_g (lw_at lw_m8 82 rfl) rfl
theorem q1828 : (Jvm.Cond.code ({ cls := "java/lang/StringBuilder", name := "toString", desc := "()Ljava/lang/String;" } : Jvm.MethodName) prog_41_method_42_code (1 : Nat) (Option.some (Jvm.ClassFile.FieldType.object "java/lang/String"))) ∈ lw_all := lw_g (lw_at lw_m8 83 rfl) rfl
theorem q1829 : (Jvm.Cond.classLink "java/lang/StringBuilder" (18 : Nat) "java/lang/String") ∈ lw_all := lw_g (lw_at lw_m8 84 rfl) rfl
theorem q1830 : (Jvm.Cond.methodLink "java/lang/StringBuilder" (137 : Nat) ({ cls := "java/lang/String", name := "<init>", desc := "(Ljava/lang/StringBuilder;)V" } : Jvm.MethodName)) ∈ lw_all := lw_g (lw_at lw_m8 85 rfl) rfl
theorem q1840 : (Jvm.Cond.selects "java/lang/StringBuilder" ({ cls := "java/lang/AbstractStringBuilder", name := "getValue", desc := "()[B" } : Jvm.MethodName) ({ cls := "java/lang/AbstractStringBuilder", name := "getValue", desc := "()[B" } : Jvm.MethodName)) ∈ lw_all := lw_g (lw_at lw_m8 95 rfl) rfl
theorem q1845 : (Jvm.Cond.selects "java/lang/StringBuilder" ({ cls := "java/lang/AbstractStringBuilder", name := "length", desc := "()I" } : Jvm.MethodName) ({ cls := "java/lang/StringBuilder", name := "length", desc := "()I" } : Jvm.MethodName)) ∈ lw_all := lw_g (lw_at lw_m8 100 rfl) rfl
theorem q1846 : (Jvm.Cond.instanceMethod ({ cls := "java/lang/StringBuilder", name := "length", desc := "()I" } : Jvm.MethodName)) ∈ lw_all := lw_g (lw_at lw_m8 101 rfl) rfl
theorem q1847 : (Jvm.Cond.code ({ cls := "java/lang/StringBuilder", name := "length", desc := "()I" } : Jvm.MethodName) prog_41_method_93_code (1 : Nat) (Option.some Jvm.ClassFile.FieldType.int)) ∈ lw_all := lw_g (lw_at lw_m8 102 rfl) rfl
theorem q1848 : (Jvm.Cond.methodLink "java/lang/StringBuilder" (343 : Nat) ({ cls := "java/lang/AbstractStringBuilder", name := "length", desc := "()I" } : Jvm.MethodName)) ∈ lw_all := lw_g (lw_at lw_m8 103 rfl) rfl
theorem q2816 : (Jvm.Cond.castable "java/lang/StringBuilder" "java/lang/Object") ∈ lw_tbl := lw_at lw_m12 111 rfl
theorem q114 : (Jvm.Cond.initialized "Taxmaze$Garnishment") ∈ lw_all := lw_g (lw_at lw_m1 49 rfl) rfl
theorem q273 : (Jvm.Cond.selects "Taxmaze$Garnishment" ({ cls := "java/lang/Object", name := "getClass", desc := "()Ljava/lang/Class;" } : Jvm.MethodName) ({ cls := "java/lang/Object", name := "getClass", desc := "()Ljava/lang/Class;" } : Jvm.MethodName)) ∈ lw_all := lw_g (lw_at lw_m1 208 rfl) rfl
theorem q2062 : (Jvm.Cond.instantiable "Taxmaze$Garnishment" (7 : Nat)) ∈ lw_all := lw_g (lw_at lw_m9 77 rfl) rfl
theorem q2064 : (Jvm.Cond.instanceMethod ({ cls := "Taxmaze$Garnishment", name := "<init>", desc := "(IIIIIII)V" } : Jvm.MethodName)) ∈ lw_all := lw_g (lw_at lw_m9 79 rfl) rfl
theorem q2065 : (Jvm.Cond.code ({ cls := "Taxmaze$Garnishment", name := "<init>", desc := "(IIIIIII)V" } : Jvm.MethodName) prog_11_method_1_code (8 : Nat) (Option.none : Option Jvm.ClassFile.FieldType)) ∈ lw_all := lw_g (lw_at lw_m9 80 rfl) rfl
theorem q2066 : (Jvm.Cond.methodLink "Taxmaze$Garnishment" (1 : Nat) ({ cls := "java/lang/Object", name := "<init>", desc := "()V" } : Jvm.MethodName)) ∈ lw_all := lw_g (lw_at lw_m9 81 rfl) rfl
theorem q2067 : (Jvm.Cond.fieldLink "Taxmaze$Garnishment" (7 : Nat) "Taxmaze$Garnishment" "number" "I") ∈ lw_all := lw_g (lw_at lw_m9 82 rfl) rfl
theorem q2071 : (Jvm.Cond.fieldLink "Taxmaze$Garnishment" (13 : Nat) "Taxmaze$Garnishment" "person" "I") ∈ lw_all := lw_g (lw_at lw_m9 86 rfl) rfl
theorem q2074 : (Jvm.Cond.fieldLink "Taxmaze$Garnishment" (16 : Nat) "Taxmaze$Garnishment" "month" "I") ∈ lw_all := lw_g (lw_at lw_m9 89 rfl) rfl
theorem q2076 : (Jvm.Cond.fieldLink "Taxmaze$Garnishment" (19 : Nat) "Taxmaze$Garnishment" "rank" "I") ∈ lw_all := lw_g (lw_at lw_m9 91 rfl) rfl
theorem q2078 : (Jvm.Cond.fieldLink "Taxmaze$Garnishment" (22 : Nat) "Taxmaze$Garnishment" "total" "I") ∈ lw_all := lw_g (lw_at lw_m9 93 rfl) rfl
theorem q2080 : (Jvm.Cond.fieldLink "Taxmaze$Garnishment" (25 : Nat) "Taxmaze$Garnishment" "thousandths" "I") ∈ lw_all := lw_g (lw_at lw_m9 95 rfl) rfl
theorem q2082 : (Jvm.Cond.fieldLink "Taxmaze$Garnishment" (28 : Nat) "Taxmaze$Garnishment" "kept" "I") ∈ lw_all := lw_g (lw_at lw_m9 97 rfl) rfl
theorem q2084 : (Jvm.Cond.laysFinal "Taxmaze$Garnishment" "Taxmaze$Garnishment" "number" "I") ∈ lw_all := lw_g (lw_at lw_m9 99 rfl) rfl
theorem q2085 : (Jvm.Cond.soleField "Taxmaze$Garnishment" "number") ∈ lw_all := lw_g (lw_at lw_m9 100 rfl) rfl
theorem q2086 : (Jvm.Cond.laysFinal "Taxmaze$Garnishment" "Taxmaze$Garnishment" "person" "I") ∈ lw_all := lw_g (lw_at lw_m9 101 rfl) rfl
theorem q2087 : (Jvm.Cond.soleField "Taxmaze$Garnishment" "person") ∈ lw_all := lw_g (lw_at lw_m9 102 rfl) rfl
theorem q2088 : (Jvm.Cond.laysFinal "Taxmaze$Garnishment" "Taxmaze$Garnishment" "month" "I") ∈ lw_all := lw_g (lw_at lw_m9 103 rfl) rfl
theorem q2089 : (Jvm.Cond.soleField "Taxmaze$Garnishment" "month") ∈ lw_all := lw_g (lw_at lw_m9 104 rfl) rfl
theorem q2090 : (Jvm.Cond.laysFinal "Taxmaze$Garnishment" "Taxmaze$Garnishment" "rank" "I") ∈ lw_all := lw_g (lw_at lw_m9 105 rfl) rfl
theorem q2091 : (Jvm.Cond.soleField "Taxmaze$Garnishment" "rank") ∈ lw_all := lw_g (lw_at lw_m9 106 rfl) rfl
theorem q2092 : (Jvm.Cond.laysFinal "Taxmaze$Garnishment" "Taxmaze$Garnishment" "total" "I") ∈ lw_all := lw_g (lw_at lw_m9 107 rfl) rfl
theorem q2093 : (Jvm.Cond.soleField "Taxmaze$Garnishment" "total") ∈ lw_all := lw_g (lw_at lw_m9 108 rfl) rfl
theorem q2094 : (Jvm.Cond.laysFinal "Taxmaze$Garnishment" "Taxmaze$Garnishment" "thousandths" "I") ∈ lw_all := lw_g (lw_at lw_m9 109 rfl) rfl
theorem q2095 : (Jvm.Cond.soleField "Taxmaze$Garnishment" "thousandths") ∈ lw_all := lw_g (lw_at lw_m9 110 rfl) rfl
theorem q2096 : (Jvm.Cond.laysFinal "Taxmaze$Garnishment" "Taxmaze$Garnishment" "kept" "I") ∈ lw_all := lw_g (lw_at lw_m9 111 rfl) rfl
theorem q2097 : (Jvm.Cond.soleField "Taxmaze$Garnishment" "kept") ∈ lw_all := lw_g (lw_at lw_m9 112 rfl) rfl
theorem q2098 : (Jvm.Cond.superclass "Taxmaze$Garnishment" "java/lang/Object") ∈ lw_all := lw_g (lw_at lw_m9 113 rfl) rfl
theorem q2818 : (Jvm.Cond.castable "Taxmaze$Garnishment" "java/lang/Object") ∈ lw_tbl := lw_at lw_m12 113 rfl
theorem q115 : (Jvm.Cond.initialized "Taxmaze$ByRank") ∈ lw_all := lw_g (lw_at lw_m1 50 rfl) rfl
theorem q268 : (Jvm.Cond.selects "Taxmaze$ByRank" ({ cls := "java/lang/Object", name := "getClass", desc := "()Ljava/lang/Class;" } : Jvm.MethodName) ({ cls := "java/lang/Object", name := "getClass", desc := "()Ljava/lang/Class;" } : Jvm.MethodName)) ∈ lw_all := lw_g (lw_at lw_m1 203 rfl) rfl
theorem q825 : (Jvm.Cond.castable "Taxmaze$ByRank" "java/util/Comparator") ∈ lw_tbl := lw_at lw_m4 40 rfl
theorem q826 : (Jvm.Cond.selects "Taxmaze$ByRank" ({ cls := "java/util/Comparator", name := "compare", desc := "(Ljava/lang/Object;Ljava/lang/Object;)I" } : Jvm.MethodName) ({ cls := "Taxmaze$ByRank", name := "compare", desc := "(Ljava/lang/Object;Ljava/lang/Object;)I" } : Jvm.MethodName)) ∈ lw_all := lw_g (lw_at lw_m4 41 rfl) rfl
theorem q827 : (Jvm.Cond.unhidden "Taxmaze$ByRank" "compare" "(Ljava/lang/Object;Ljava/lang/Object;)I") ∈ lw_tbl := lw_at lw_m4 42 rfl
theorem q828 : (Jvm.Cond.instanceMethod ({ cls := "Taxmaze$ByRank", name := "compare", desc := "(Ljava/lang/Object;Ljava/lang/Object;)I" } : Jvm.MethodName)) ∈ lw_all := lw_g (lw_at lw_m4 43 rfl) rfl
theorem q829 : (Jvm.Cond.publicMethod ({ cls := "Taxmaze$ByRank", name := "compare", desc := "(Ljava/lang/Object;Ljava/lang/Object;)I" } : Jvm.MethodName)) ∈ lw_tbl := lw_at lw_m4 44 rfl
theorem q830 : (Jvm.Cond.code ({ cls := "Taxmaze$ByRank", name := "compare", desc := "(Ljava/lang/Object;Ljava/lang/Object;)I" } : Jvm.MethodName) prog_6_method_3_code (3 : Nat) (Option.some Jvm.ClassFile.FieldType.int)) ∈ lw_all := lw_g (lw_at lw_m4 45 rfl) rfl
theorem q831 : (Jvm.Cond.classLink "Taxmaze$ByRank" (8 : Nat) "Taxmaze$Garnishment") ∈ lw_all := lw_g (lw_at lw_m4 46 rfl) rfl
theorem q832 : (Jvm.Cond.methodLink "Taxmaze$ByRank" (16 : Nat) ({ cls := "Taxmaze$ByRank", name := "compare", desc := "(LTaxmaze$Garnishment;LTaxmaze$Garnishment;)I" } : Jvm.MethodName)) ∈ lw_all := lw_g (lw_at lw_m4 47 rfl) rfl
theorem q833 : (Jvm.Cond.instanceMethod ({ cls := "Taxmaze$ByRank", name := "compare", desc := "(LTaxmaze$Garnishment;LTaxmaze$Garnishment;)I" } : Jvm.MethodName)) ∈ lw_all := lw_g (lw_at lw_m4 48 rfl) rfl
theorem q834 : (Jvm.Cond.selects "Taxmaze$ByRank" ({ cls := "Taxmaze$ByRank", name := "compare", desc := "(LTaxmaze$Garnishment;LTaxmaze$Garnishment;)I" } : Jvm.MethodName) ({ cls := "Taxmaze$ByRank", name := "compare", desc := "(LTaxmaze$Garnishment;LTaxmaze$Garnishment;)I" } : Jvm.MethodName)) ∈ lw_all := lw_g (lw_at lw_m4 49 rfl) rfl
theorem q835 : (Jvm.Cond.code ({ cls := "Taxmaze$ByRank", name := "compare", desc := "(LTaxmaze$Garnishment;LTaxmaze$Garnishment;)I" } : Jvm.MethodName) prog_6_method_2_code (3 : Nat) (Option.some Jvm.ClassFile.FieldType.int)) ∈ lw_all := lw_g (lw_at lw_m4 50 rfl) rfl
theorem q2068 : (Jvm.Cond.fieldLinkNest "Taxmaze$ByRank" (13 : Nat) "Taxmaze$Garnishment" "number" "I" "Taxmaze") ∈ lw_tbl := lw_at lw_m9 83 rfl
theorem q2077 : (Jvm.Cond.fieldLinkNest "Taxmaze$ByRank" (7 : Nat) "Taxmaze$Garnishment" "rank" "I" "Taxmaze") ∈ lw_tbl := lw_at lw_m9 92 rfl
theorem q2100 : (Jvm.Cond.instantiable "Taxmaze$ByRank" (0 : Nat)) ∈ lw_all := lw_g (lw_at lw_m9 115 rfl) rfl
theorem q2102 : (Jvm.Cond.instanceMethod ({ cls := "Taxmaze$ByRank", name := "<init>", desc := "()V" } : Jvm.MethodName)) ∈ lw_all := lw_g (lw_at lw_m9 117 rfl) rfl
theorem q2103 : (Jvm.Cond.code ({ cls := "Taxmaze$ByRank", name := "<init>", desc := "()V" } : Jvm.MethodName) prog_6_method_1_code (1 : Nat) (Option.none : Option Jvm.ClassFile.FieldType)) ∈ lw_all := lw_g (lw_at lw_m9 118 rfl) rfl
theorem q2104 : (Jvm.Cond.methodLink "Taxmaze$ByRank" (1 : Nat) ({ cls := "java/lang/Object", name := "<init>", desc := "()V" } : Jvm.MethodName)) ∈ lw_all := lw_g (lw_at lw_m9 119 rfl) rfl
theorem q2105 : (Jvm.Cond.superclass "Taxmaze$ByRank" "java/lang/Object") ∈ lw_all := lw_g (lw_at lw_m9 120 rfl) rfl
theorem q2819 : (Jvm.Cond.castable "Taxmaze$ByRank" "java/lang/Object") ∈ lw_tbl := lw_at lw_m12 114 rfl
theorem q116 : (Jvm.Cond.initialized "Taxmaze$Advance") ∈ lw_all := lw_g (lw_at lw_m1 51 rfl) rfl
theorem q265 : (Jvm.Cond.selects "Taxmaze$Advance" ({ cls := "java/lang/Object", name := "getClass", desc := "()Ljava/lang/Class;" } : Jvm.MethodName) ({ cls := "java/lang/Object", name := "getClass", desc := "()Ljava/lang/Class;" } : Jvm.MethodName)) ∈ lw_all := lw_g (lw_at lw_m1 200 rfl) rfl
theorem q1942 : (Jvm.Cond.instanceMethod ({ cls := "Taxmaze$Advance", name := "person", desc := "()I" } : Jvm.MethodName)) ∈ lw_all := lw_g (lw_at lw_m8 197 rfl) rfl
theorem q1943 : (Jvm.Cond.selects "Taxmaze$Advance" ({ cls := "Taxmaze$Advance", name := "person", desc := "()I" } : Jvm.MethodName) ({ cls := "Taxmaze$Advance", name := "person", desc := "()I" } : Jvm.MethodName)) ∈ lw_all := lw_g (lw_at lw_m8 198 rfl) rfl
theorem q1944 : (Jvm.Cond.code ({ cls := "Taxmaze$Advance", name := "person", desc := "()I" } : Jvm.MethodName) prog_3_method_5_code (1 : Nat) (Option.some Jvm.ClassFile.FieldType.int)) ∈ lw_all := lw_g (lw_at lw_m8 199 rfl) rfl
theorem q1946 : (Jvm.Cond.instanceMethod ({ cls := "Taxmaze$Advance", name := "month", desc := "()I" } : Jvm.MethodName)) ∈ lw_all := lw_g (lw_at lw_m8 201 rfl) rfl
theorem q1947 : (Jvm.Cond.selects "Taxmaze$Advance" ({ cls := "Taxmaze$Advance", name := "month", desc := "()I" } : Jvm.MethodName) ({ cls := "Taxmaze$Advance", name := "month", desc := "()I" } : Jvm.MethodName)) ∈ lw_all := lw_g (lw_at lw_m8 202 rfl) rfl
theorem q1948 : (Jvm.Cond.code ({ cls := "Taxmaze$Advance", name := "month", desc := "()I" } : Jvm.MethodName) prog_3_method_6_code (1 : Nat) (Option.some Jvm.ClassFile.FieldType.int)) ∈ lw_all := lw_g (lw_at lw_m8 203 rfl) rfl
theorem q1950 : (Jvm.Cond.instanceMethod ({ cls := "Taxmaze$Advance", name := "cents", desc := "()I" } : Jvm.MethodName)) ∈ lw_all := lw_g (lw_at lw_m8 205 rfl) rfl
theorem q1951 : (Jvm.Cond.selects "Taxmaze$Advance" ({ cls := "Taxmaze$Advance", name := "cents", desc := "()I" } : Jvm.MethodName) ({ cls := "Taxmaze$Advance", name := "cents", desc := "()I" } : Jvm.MethodName)) ∈ lw_all := lw_g (lw_at lw_m8 206 rfl) rfl
theorem q1952 : (Jvm.Cond.code ({ cls := "Taxmaze$Advance", name := "cents", desc := "()I" } : Jvm.MethodName) prog_3_method_7_code (1 : Nat) (Option.some Jvm.ClassFile.FieldType.int)) ∈ lw_all := lw_g (lw_at lw_m8 207 rfl) rfl
theorem q2150 : (Jvm.Cond.instantiable "Taxmaze$Advance" (3 : Nat)) ∈ lw_all := lw_g (lw_at lw_m9 165 rfl) rfl
theorem q2152 : (Jvm.Cond.instanceMethod ({ cls := "Taxmaze$Advance", name := "<init>", desc := "(III)V" } : Jvm.MethodName)) ∈ lw_all := lw_g (lw_at lw_m9 167 rfl) rfl
theorem q2153 : (Jvm.Cond.code ({ cls := "Taxmaze$Advance", name := "<init>", desc := "(III)V" } : Jvm.MethodName) prog_3_method_1_code (4 : Nat) (Option.none : Option Jvm.ClassFile.FieldType)) ∈ lw_all := lw_g (lw_at lw_m9 168 rfl) rfl
theorem q2154 : (Jvm.Cond.methodLink "Taxmaze$Advance" (1 : Nat) ({ cls := "java/lang/Record", name := "<init>", desc := "()V" } : Jvm.MethodName)) ∈ lw_all := lw_g (lw_at lw_m9 169 rfl) rfl
theorem q2155 : (Jvm.Cond.fieldLink "Taxmaze$Advance" (7 : Nat) "Taxmaze$Advance" "person" "I") ∈ lw_all := lw_g (lw_at lw_m9 170 rfl) rfl
theorem q2156 : (Jvm.Cond.fieldLink "Taxmaze$Advance" (13 : Nat) "Taxmaze$Advance" "month" "I") ∈ lw_all := lw_g (lw_at lw_m9 171 rfl) rfl
theorem q2157 : (Jvm.Cond.fieldLink "Taxmaze$Advance" (16 : Nat) "Taxmaze$Advance" "cents" "I") ∈ lw_all := lw_g (lw_at lw_m9 172 rfl) rfl
theorem q2158 : (Jvm.Cond.laysFinal "Taxmaze$Advance" "Taxmaze$Advance" "person" "I") ∈ lw_all := lw_g (lw_at lw_m9 173 rfl) rfl
theorem q2159 : (Jvm.Cond.soleField "Taxmaze$Advance" "person") ∈ lw_all := lw_g (lw_at lw_m9 174 rfl) rfl
theorem q2160 : (Jvm.Cond.laysFinal "Taxmaze$Advance" "Taxmaze$Advance" "month" "I") ∈ lw_all := lw_g (lw_at lw_m9 175 rfl) rfl
theorem q2161 : (Jvm.Cond.soleField "Taxmaze$Advance" "month") ∈ lw_all := lw_g (lw_at lw_m9 176 rfl) rfl
theorem q2162 : (Jvm.Cond.laysFinal "Taxmaze$Advance" "Taxmaze$Advance" "cents" "I") ∈ lw_all := lw_g (lw_at lw_m9 177 rfl) rfl
theorem q2163 : (Jvm.Cond.soleField "Taxmaze$Advance" "cents") ∈ lw_all := lw_g (lw_at lw_m9 178 rfl) rfl
theorem q2164 : (Jvm.Cond.superclass "Taxmaze$Advance" "java/lang/Record") ∈ lw_all := lw_g (lw_at lw_m9 179 rfl) rfl
theorem q2820 : (Jvm.Cond.castable "Taxmaze$Advance" "java/lang/Object") ∈ lw_tbl := lw_at lw_m12 115 rfl
theorem q117 : (Jvm.Cond.initialized "Taxmaze$Payment") ∈ lw_all := lw_g (lw_at lw_m1 52 rfl) rfl
theorem q276 : (Jvm.Cond.selects "Taxmaze$Payment" ({ cls := "java/lang/Object", name := "getClass", desc := "()Ljava/lang/Class;" } : Jvm.MethodName) ({ cls := "java/lang/Object", name := "getClass", desc := "()Ljava/lang/Class;" } : Jvm.MethodName)) ∈ lw_all := lw_g (lw_at lw_m1 211 rfl) rfl
theorem q2183 : (Jvm.Cond.instantiable "Taxmaze$Payment" (4 : Nat)) ∈ lw_all := lw_g (lw_at lw_m9 198 rfl) rfl
theorem q2185 : (Jvm.Cond.instanceMethod ({ cls := "Taxmaze$Payment", name := "<init>", desc := "(IIJ)V" } : Jvm.MethodName)) ∈ lw_all := lw_g (lw_at lw_m9 200 rfl) rfl
theorem q2186 : (Jvm.Cond.code ({ cls := "Taxmaze$Payment", name := "<init>", desc := "(IIJ)V" } : Jvm.MethodName) prog_14_method_1_code (5 : Nat) (Option.none : Option Jvm.ClassFile.FieldType)) ∈ lw_all := lw_g (lw_at lw_m9 201 rfl) rfl
theorem q2187 : (Jvm.Cond.methodLink "Taxmaze$Payment" (1 : Nat) ({ cls := "java/lang/Object", name := "<init>", desc := "()V" } : Jvm.MethodName)) ∈ lw_all := lw_g (lw_at lw_m9 202 rfl) rfl
theorem q2188 : (Jvm.Cond.fieldLink "Taxmaze$Payment" (7 : Nat) "Taxmaze$Payment" "person" "I") ∈ lw_all := lw_g (lw_at lw_m9 203 rfl) rfl
theorem q2190 : (Jvm.Cond.fieldLink "Taxmaze$Payment" (13 : Nat) "Taxmaze$Payment" "month" "I") ∈ lw_all := lw_g (lw_at lw_m9 205 rfl) rfl
theorem q2192 : (Jvm.Cond.fieldLink "Taxmaze$Payment" (16 : Nat) "Taxmaze$Payment" "cents" "J") ∈ lw_all := lw_g (lw_at lw_m9 207 rfl) rfl
theorem q2195 : (Jvm.Cond.laysFinal "Taxmaze$Payment" "Taxmaze$Payment" "person" "I") ∈ lw_all := lw_g (lw_at lw_m9 210 rfl) rfl
theorem q2196 : (Jvm.Cond.soleField "Taxmaze$Payment" "person") ∈ lw_all := lw_g (lw_at lw_m9 211 rfl) rfl
theorem q2197 : (Jvm.Cond.laysFinal "Taxmaze$Payment" "Taxmaze$Payment" "month" "I") ∈ lw_all := lw_g (lw_at lw_m9 212 rfl) rfl
theorem q2198 : (Jvm.Cond.soleField "Taxmaze$Payment" "month") ∈ lw_all := lw_g (lw_at lw_m9 213 rfl) rfl
theorem q2199 : (Jvm.Cond.laysFinal "Taxmaze$Payment" "Taxmaze$Payment" "cents" "J") ∈ lw_all := lw_g (lw_at lw_m9 214 rfl) rfl
theorem q2200 : (Jvm.Cond.soleField "Taxmaze$Payment" "cents") ∈ lw_all := lw_g (lw_at lw_m9 215 rfl) rfl
theorem q2201 : (Jvm.Cond.lays "Taxmaze$Payment" "Taxmaze$Payment" "cameBack" "Z") ∈ lw_all := lw_g (lw_at lw_m9 216 rfl) rfl
theorem q2202 : (Jvm.Cond.soleField "Taxmaze$Payment" "cameBack") ∈ lw_all := lw_g (lw_at lw_m9 217 rfl) rfl
theorem q2203 : (Jvm.Cond.superclass "Taxmaze$Payment" "java/lang/Object") ∈ lw_all := lw_g (lw_at lw_m9 218 rfl) rfl
theorem q2821 : (Jvm.Cond.castable "Taxmaze$Payment" "java/lang/Object") ∈ lw_tbl := lw_at lw_m12 116 rfl
theorem q124 : (Jvm.Cond.instanceMethod ({ cls := "java/lang/Object", name := "<init>", desc := "()V" } : Jvm.MethodName)) ∈ lw_all := lw_g (lw_at lw_m1 59 rfl) rfl
theorem q125 : (Jvm.Cond.code ({ cls := "java/lang/Object", name := "<init>", desc := "()V" } : Jvm.MethodName) object_method_1_code (1 : Nat) (Option.none : Option Jvm.ClassFile.FieldType)) ∈ lw_all := lw_g (lw_at lw_m1 60 rfl) rfl
theorem q261 : (Jvm.Cond.instanceMethod ({ cls := "java/lang/Object", name := "getClass", desc := "()Ljava/lang/Class;" } : Jvm.MethodName)) ∈ lw_all := lw_g (lw_at lw_m1 196 rfl) rfl
theorem q262 : (Jvm.Cond.sameMethod "java/lang/Object" "java/lang/Object" "getClass" "()Ljava/lang/Class;") ∈ lw_all := lw_g (lw_at lw_m1 197 rfl) rfl
theorem q295 : (Jvm.Cond.native ({ cls := "java/lang/Object", name := "getClass", desc := "()Ljava/lang/Class;" } : Jvm.MethodName)) ∈ lw_all := lw_g (lw_at lw_m1 230 rfl) rfl
theorem q1745 : (Jvm.Cond.native ({ cls := "java/lang/Object", name := "clone", desc := "()Ljava/lang/Object;" } : Jvm.MethodName)) ∈ lw_all := lw_g (lw_at lw_m8 0 rfl) rfl
theorem q1746 : (Jvm.Cond.instanceMethod ({ cls := "java/lang/Object", name := "clone", desc := "()Ljava/lang/Object;" } : Jvm.MethodName)) ∈ lw_all := lw_g (lw_at lw_m8 1 rfl) rfl
theorem q2785 : (Jvm.Cond.initialized "java/lang/Object") ∈ lw_all := lw_g (lw_at lw_m12 80 rfl) rfl
theorem q2825 : (Jvm.Cond.declares ({ cls := "java/lang/Object", name := "getClass", desc := "()Ljava/lang/Class;" } : Jvm.MethodName)) ∈ lw_tbl := lw_at lw_m12 120 rfl
theorem q288 : (Jvm.Cond.selects "java/lang/System$2" ({ cls := "java/lang/Object", name := "getClass", desc := "()Ljava/lang/Class;" } : Jvm.MethodName) ({ cls := "java/lang/Object", name := "getClass", desc := "()Ljava/lang/Class;" } : Jvm.MethodName)) ∈ lw_all := lw_g (lw_at lw_m1 223 rfl) rfl
theorem q1667 : (Jvm.Cond.castable "java/lang/System$2" "jdk/internal/access/JavaLangAccess") ∈ lw_tbl := lw_at lw_m7 162 rfl
theorem q1668 : (Jvm.Cond.selects "java/lang/System$2" ({ cls := "jdk/internal/access/JavaLangAccess", name := "getUTF16Char", desc := "([BI)C" } : Jvm.MethodName) ({ cls := "java/lang/System$2", name := "getUTF16Char", desc := "([BI)C" } : Jvm.MethodName)) ∈ lw_all := lw_g (lw_at lw_m7 163 rfl) rfl
theorem q1669 : (Jvm.Cond.unhidden "java/lang/System$2" "getUTF16Char" "([BI)C") ∈ lw_tbl := lw_at lw_m7 164 rfl
theorem q1670 : (Jvm.Cond.instanceMethod ({ cls := "java/lang/System$2", name := "getUTF16Char", desc := "([BI)C" } : Jvm.MethodName)) ∈ lw_all := lw_g (lw_at lw_m7 165 rfl) rfl
theorem q1671 : (Jvm.Cond.publicMethod ({ cls := "java/lang/System$2", name := "getUTF16Char", desc := "([BI)C" } : Jvm.MethodName)) ∈ lw_tbl := lw_at lw_m7 166 rfl
theorem q1672 : (Jvm.Cond.code ({ cls := "java/lang/System$2", name := "getUTF16Char", desc := "([BI)C" } : Jvm.MethodName) prog_45_method_45_code (3 : Nat) (Option.some Jvm.ClassFile.FieldType.char)) ∈ lw_all := lw_g (lw_at lw_m7 167 rfl) rfl
theorem q1673 : (Jvm.Cond.methodLink "java/lang/System$2" (185 : Nat) ({ cls := "java/lang/StringUTF16", name := "getChar", desc := "([BI)C" } : Jvm.MethodName)) ∈ lw_all := lw_g (lw_at lw_m7 168 rfl) rfl
theorem q2815 : (Jvm.Cond.castable "java/lang/System$2" "java/lang/Object") ∈ lw_tbl := lw_at lw_m12 110 rfl
theorem q156 : (Jvm.Cond.arrayOver (Jvm.ClassFile.FieldType.array (Jvm.ClassFile.FieldType.array Jvm.ClassFile.FieldType.int))) ∈ lw_tbl := lw_at lw_m1 91 rfl
theorem q157 : (Jvm.Cond.arrayOver (Jvm.ClassFile.FieldType.array Jvm.ClassFile.FieldType.int)) ∈ lw_tbl := lw_at lw_m1 92 rfl
theorem q159 : (Jvm.Cond.arrayOver (Jvm.ClassFile.FieldType.array (Jvm.ClassFile.FieldType.array Jvm.ClassFile.FieldType.long))) ∈ lw_tbl := lw_at lw_m1 94 rfl
theorem q160 : (Jvm.Cond.arrayOver (Jvm.ClassFile.FieldType.array Jvm.ClassFile.FieldType.long)) ∈ lw_tbl := lw_at lw_m1 95 rfl
theorem q180 : (Jvm.Cond.arrayClass Jvm.ClassFile.FieldType.int) ∈ lw_all := lw_g (lw_at lw_m1 115 rfl) rfl
theorem q181 : (Jvm.Cond.arrayClass Jvm.ClassFile.FieldType.long) ∈ lw_all := lw_g (lw_at lw_m1 116 rfl) rfl
theorem q300 : (Jvm.Cond.arrayOver (Jvm.ClassFile.FieldType.object "java/lang/Object")) ∈ lw_tbl := lw_at lw_m1 235 rfl
theorem q496 : (Jvm.Cond.arrayClass Jvm.ClassFile.FieldType.byte) ∈ lw_all := lw_g (lw_at lw_m2 191 rfl) rfl
theorem q2834 : (Jvm.Cond.arrayClass Jvm.ClassFile.FieldType.char) ∈ lw_all := lw_g (lw_at lw_m12 129 rfl) rfl
theorem q2835 : (Jvm.Cond.arrayClass Jvm.ClassFile.FieldType.short) ∈ lw_all := lw_g (lw_at lw_m12 130 rfl) rfl
theorem q78 : (Jvm.Cond.initialized "java/lang/System") ∈ lw_all := lw_g (lw_at lw_m1 13 rfl) rfl
theorem q306 : (Jvm.Cond.static ({ cls := "java/lang/System", name := "arraycopy", desc := "(Ljava/lang/Object;ILjava/lang/Object;II)V" } : Jvm.MethodName)) ∈ lw_all := lw_g (lw_at lw_m2 1 rfl) rfl
theorem q307 : (Jvm.Cond.native ({ cls := "java/lang/System", name := "arraycopy", desc := "(Ljava/lang/Object;ILjava/lang/Object;II)V" } : Jvm.MethodName)) ∈ lw_all := lw_g (lw_at lw_m2 2 rfl) rfl
theorem q81 : (Jvm.Cond.initialized "java/lang/Integer$IntegerCache") ∈ lw_all := lw_g (lw_at lw_m1 16 rfl) rfl
theorem q314 : (Jvm.Cond.laysStatic "java/lang/Integer$IntegerCache" "high" "I") ∈ lw_tbl := lw_at lw_m2 9 rfl
theorem q316 : (Jvm.Cond.laysStatic "java/lang/Integer$IntegerCache" "cache" "[Ljava/lang/Integer;") ∈ lw_tbl := lw_at lw_m2 11 rfl
theorem q94 : (Jvm.Cond.initialized "jdk/internal/misc/UnsafeConstants") ∈ lw_all := lw_g (lw_at lw_m1 29 rfl) rfl
theorem q676 : (Jvm.Cond.laysStatic "jdk/internal/misc/UnsafeConstants" "BIG_ENDIAN" "Z") ∈ lw_tbl := lw_at lw_m3 131 rfl
theorem q227 : (Jvm.Cond.interfaceMethod "java/util/List" "java/util/List" "add" "(Ljava/lang/Object;)Z") ∈ lw_tbl := lw_at lw_m1 162 rfl
theorem q228 : (Jvm.Cond.declares ({ cls := "java/util/List", name := "add", desc := "(Ljava/lang/Object;)Z" } : Jvm.MethodName)) ∈ lw_tbl := lw_at lw_m1 163 rfl
theorem q414 : (Jvm.Cond.interfaceMethod "java/util/List" "java/util/List" "size" "()I") ∈ lw_tbl := lw_at lw_m2 109 rfl
theorem q415 : (Jvm.Cond.declares ({ cls := "java/util/List", name := "size", desc := "()I" } : Jvm.MethodName)) ∈ lw_tbl := lw_at lw_m2 110 rfl
theorem q966 : (Jvm.Cond.interfaceMethod "java/util/List" "java/util/List" "get" "(I)Ljava/lang/Object;") ∈ lw_tbl := lw_at lw_m4 181 rfl
theorem q967 : (Jvm.Cond.declares ({ cls := "java/util/List", name := "get", desc := "(I)Ljava/lang/Object;" } : Jvm.MethodName)) ∈ lw_tbl := lw_at lw_m4 182 rfl
theorem q1024 : (Jvm.Cond.interfaceMethod "java/util/List" "java/util/List" "iterator" "()Ljava/util/Iterator;") ∈ lw_tbl := lw_at lw_m4 239 rfl
theorem q1025 : (Jvm.Cond.declares ({ cls := "java/util/List", name := "iterator", desc := "()Ljava/util/Iterator;" } : Jvm.MethodName)) ∈ lw_tbl := lw_at lw_m5 0 rfl
theorem q1310 : (Jvm.Cond.interfaceMethod "java/util/List" "java/util/List" "addAll" "(Ljava/util/Collection;)Z") ∈ lw_tbl := lw_at lw_m6 45 rfl
theorem q1311 : (Jvm.Cond.declares ({ cls := "java/util/List", name := "addAll", desc := "(Ljava/util/Collection;)Z" } : Jvm.MethodName)) ∈ lw_tbl := lw_at lw_m6 46 rfl
theorem q1350 : (Jvm.Cond.interfaceMethod "java/util/List" "java/util/List" "set" "(ILjava/lang/Object;)Ljava/lang/Object;") ∈ lw_tbl := lw_at lw_m6 85 rfl
theorem q1351 : (Jvm.Cond.declares ({ cls := "java/util/List", name := "set", desc := "(ILjava/lang/Object;)Ljava/lang/Object;" } : Jvm.MethodName)) ∈ lw_tbl := lw_at lw_m6 86 rfl
theorem q2110 : (Jvm.Cond.interfaceMethod "java/util/List" "java/util/List" "add" "(ILjava/lang/Object;)V") ∈ lw_tbl := lw_at lw_m9 125 rfl
theorem q2111 : (Jvm.Cond.declares ({ cls := "java/util/List", name := "add", desc := "(ILjava/lang/Object;)V" } : Jvm.MethodName)) ∈ lw_tbl := lw_at lw_m9 126 rfl
theorem q597 : (Jvm.Cond.interfaceMethod "java/lang/Comparable" "java/lang/Comparable" "compareTo" "(Ljava/lang/Object;)I") ∈ lw_tbl := lw_at lw_m3 52 rfl
theorem q598 : (Jvm.Cond.declares ({ cls := "java/lang/Comparable", name := "compareTo", desc := "(Ljava/lang/Object;)I" } : Jvm.MethodName)) ∈ lw_tbl := lw_at lw_m3 53 rfl
theorem q823 : (Jvm.Cond.interfaceMethod "java/util/Comparator" "java/util/Comparator" "compare" "(Ljava/lang/Object;Ljava/lang/Object;)I") ∈ lw_tbl := lw_at lw_m4 38 rfl
theorem q824 : (Jvm.Cond.declares ({ cls := "java/util/Comparator", name := "compare", desc := "(Ljava/lang/Object;Ljava/lang/Object;)I" } : Jvm.MethodName)) ∈ lw_tbl := lw_at lw_m4 39 rfl
theorem q1052 : (Jvm.Cond.interfaceMethod "java/util/Iterator" "java/util/Iterator" "hasNext" "()Z") ∈ lw_tbl := lw_at lw_m5 27 rfl
theorem q1053 : (Jvm.Cond.declares ({ cls := "java/util/Iterator", name := "hasNext", desc := "()Z" } : Jvm.MethodName)) ∈ lw_tbl := lw_at lw_m5 28 rfl
theorem q1062 : (Jvm.Cond.interfaceMethod "java/util/Iterator" "java/util/Iterator" "next" "()Ljava/lang/Object;") ∈ lw_tbl := lw_at lw_m5 37 rfl
theorem q1063 : (Jvm.Cond.declares ({ cls := "java/util/Iterator", name := "next", desc := "()Ljava/lang/Object;" } : Jvm.MethodName)) ∈ lw_tbl := lw_at lw_m5 38 rfl
theorem q1319 : (Jvm.Cond.interfaceMethod "java/util/Collection" "java/util/Collection" "toArray" "()[Ljava/lang/Object;") ∈ lw_tbl := lw_at lw_m6 54 rfl
theorem q1320 : (Jvm.Cond.declares ({ cls := "java/util/Collection", name := "toArray", desc := "()[Ljava/lang/Object;" } : Jvm.MethodName)) ∈ lw_tbl := lw_at lw_m6 55 rfl
theorem q1665 : (Jvm.Cond.interfaceMethod "jdk/internal/access/JavaLangAccess" "jdk/internal/access/JavaLangAccess" "getUTF16Char" "([BI)C") ∈ lw_tbl := lw_at lw_m7 160 rfl
theorem q1666 : (Jvm.Cond.declares ({ cls := "jdk/internal/access/JavaLangAccess", name := "getUTF16Char", desc := "([BI)C" } : Jvm.MethodName)) ∈ lw_tbl := lw_at lw_m7 161 rfl
theorem q1744 : (Jvm.Cond.sameMethod "[B" "java/lang/Object" "clone" "()Ljava/lang/Object;") ∈ lw_all := lw_g (lw_at lw_m7 239 rfl) rfl
theorem q1747 : (Jvm.Cond.selects "[B" ({ cls := "[B", name := "clone", desc := "()Ljava/lang/Object;" } : Jvm.MethodName) ({ cls := "java/lang/Object", name := "clone", desc := "()Ljava/lang/Object;" } : Jvm.MethodName)) ∈ lw_all := lw_g (lw_at lw_m8 2 rfl) rfl
theorem q1748 : (Jvm.Cond.castable "[B" "java/lang/Cloneable") ∈ lw_tbl := lw_at lw_m8 3 rfl
theorem q2833 : (Jvm.Cond.castable "[B" "java/lang/Object") ∈ lw_tbl := lw_at lw_m12 128 rfl
theorem q2823 : (Jvm.Cond.sameMethod "[Ljava/lang/Object;" "java/lang/Object" "getClass" "()Ljava/lang/Class;") ∈ lw_all := lw_g (lw_at lw_m12 118 rfl) rfl
theorem q2824 : (Jvm.Cond.selects "[Ljava/lang/Object;" ({ cls := "java/lang/Object", name := "getClass", desc := "()Ljava/lang/Class;" } : Jvm.MethodName) ({ cls := "java/lang/Object", name := "getClass", desc := "()Ljava/lang/Class;" } : Jvm.MethodName)) ∈ lw_all := lw_g (lw_at lw_m12 119 rfl) rfl
theorem q2832 : (Jvm.Cond.castable "[Ljava/lang/Object;" "java/lang/Object") ∈ lw_tbl := lw_at lw_m12 127 rfl
theorem q2826 : (Jvm.Cond.castable "[[[I" "java/lang/Object") ∈ lw_tbl := lw_at lw_m12 121 rfl
theorem q2827 : (Jvm.Cond.castable "[[I" "java/lang/Object") ∈ lw_tbl := lw_at lw_m12 122 rfl
theorem q2828 : (Jvm.Cond.castable "[[[J" "java/lang/Object") ∈ lw_tbl := lw_at lw_m12 123 rfl
theorem q2829 : (Jvm.Cond.castable "[[J" "java/lang/Object") ∈ lw_tbl := lw_at lw_m12 124 rfl
theorem q2830 : (Jvm.Cond.castable "[I" "java/lang/Object") ∈ lw_tbl := lw_at lw_m12 125 rfl
theorem q2831 : (Jvm.Cond.castable "[J" "java/lang/Object") ∈ lw_tbl := lw_at lw_m12 126 rfl
theorem in_X1 : ∀ w ∈ wsX10, w ∈ lw_all := lw_in wsX10 [363, 365, 367, 369, 371, 373, 375, 377, 379, 381, 383, 385, 387, 389, 391, 393, 395, 397, 399, 401] (by decide +kernel) (by decide +kernel)
theorem in_J2 : ∀ w ∈ wsJ20, w ∈ lw_all := lw_in wsJ20 [152, 148, 150] (by decide +kernel) (by decide +kernel)
theorem in_X2 : ∀ w ∈ wsX20, w ∈ lw_all := lw_in wsX20 [220, 222] (by decide +kernel) (by decide +kernel)
theorem in_X3 : ∀ w ∈ wsX30, w ∈ lw_all := lw_in wsX30 [175, 177] (by decide +kernel) (by decide +kernel)
theorem in_J5 : ∀ w ∈ wsJ50, w ∈ lw_all := lw_in wsJ50 [213, 215, 199, 201, 203, 205, 207, 209, 211] (by decide +kernel) (by decide +kernel)
theorem in_J10 : ∀ w ∈ wsJ100, w ∈ lw_all := lw_in wsJ100 [327] (by decide +kernel) (by decide +kernel)
theorem in_X4 : ∀ w ∈ wsX40, w ∈ lw_all := lw_in wsX40 [2315, 2317, 2319, 2321, 2323, 2325, 2327, 2329, 2331, 2333, 2335, 2337, 2339, 2341, 2343, 2345, 2347, 2349, 2351, 2353, 2355, 2357, 2359, 2361, 2363, 2365, 2367, 2369, 2371, 2373, 2375, 2377, 2379, 2381, 2383, 2385, 2387, 2389, 2391, 2393, 2395, 2397, 2399, 2401, 2403, 2405, 2407, 2409, 2411, 2413, 2415, 2417, 2419, 2421, 2423, 2425, 2427, 2429, 2431, 2433, 2435, 2437, 2439, 2441, 2443, 2445, 2447, 2449, 2451, 2453] (by decide +kernel) (by decide +kernel)
theorem in_J11 : ∀ w ∈ wsJ110, w ∈ lw_all := lw_in wsJ110 [486, 487, 488, 489, 490] (by decide +kernel) (by decide +kernel)
theorem in_J14 : ∀ w ∈ wsJ140, w ∈ lw_all := lw_in wsJ140 [514, 515, 516, 517, 518, 521] (by decide +kernel) (by decide +kernel)
theorem in_J15 : ∀ w ∈ wsJ150, w ∈ lw_all := lw_in wsJ150 [463, 465, 467, 469, 471, 473] (by decide +kernel) (by decide +kernel)
theorem in_J16 : ∀ w ∈ wsJ160, w ∈ lw_all := lw_in wsJ160 [497, 499, 1882, 1884] (by decide +kernel) (by decide +kernel)
theorem in_J17 : ∀ w ∈ wsJ170, w ∈ lw_all := lw_in wsJ170 [530, 531, 532, 533, 534, 540] (by decide +kernel) (by decide +kernel)
theorem in_J18 : ∀ w ∈ wsJ180, w ∈ lw_all := lw_in wsJ180 [550, 551, 552, 553, 554, 560] (by decide +kernel) (by decide +kernel)
theorem in_X5 : ∀ w ∈ wsX50, w ∈ lw_all := lw_in wsX50 [932, 934, 936, 938, 940, 942, 944, 946, 948, 950] (by decide +kernel) (by decide +kernel)
theorem in_J24 : ∀ w ∈ wsJ240, w ∈ lw_all := lw_in wsJ240 [852, 854, 856, 858, 860, 862] (by decide +kernel) (by decide +kernel)
theorem in_X6 : ∀ w ∈ wsX60, w ∈ lw_all := lw_in wsX60 [1013, 1015] (by decide +kernel) (by decide +kernel)
theorem in_J26 : ∀ w ∈ wsJ260, w ∈ lw_all := lw_in wsJ260 [1041, 1043, 1045, 1047] (by decide +kernel) (by decide +kernel)
theorem in_X7 : ∀ w ∈ wsX70, w ∈ lw_all := lw_in wsX70 [1140, 1142, 1144, 1146] (by decide +kernel) (by decide +kernel)
theorem in_X8 : ∀ w ∈ wsX80, w ∈ lw_all := lw_in wsX80 [1230, 1232, 1234] (by decide +kernel) (by decide +kernel)
theorem in_X9 : ∀ w ∈ wsX90, w ∈ lw_all := lw_in wsX90 [1258] (by decide +kernel) (by decide +kernel)
theorem in_X10 : ∀ w ∈ wsX100, w ∈ lw_all := lw_in wsX100 [1268] (by decide +kernel) (by decide +kernel)
theorem in_X11 : ∀ w ∈ wsX110, w ∈ lw_all := lw_in wsX110 [1279] (by decide +kernel) (by decide +kernel)
theorem in_X12 : ∀ w ∈ wsX120, w ∈ lw_all := lw_in wsX120 [1343, 1345] (by decide +kernel) (by decide +kernel)
theorem in_J28 : ∀ w ∈ wsJ280, w ∈ lw_all := lw_in wsJ280 [1388, 1390, 1392, 1394] (by decide +kernel) (by decide +kernel)
theorem in_X13 : ∀ w ∈ wsX130, w ∈ lw_all := lw_in wsX130 [1519, 1521] (by decide +kernel) (by decide +kernel)
theorem in_X14 : ∀ w ∈ wsX140, w ∈ lw_all := lw_in wsX140 [1979, 1981, 1983, 1985, 1987, 1989, 1991, 1993, 1995, 1997, 1999, 2001, 2003, 2005, 2007, 2009, 2011, 2013] (by decide +kernel) (by decide +kernel)
theorem in_J30 : ∀ w ∈ wsJ300, w ∈ lw_all := lw_in wsJ300 [1710, 1712, 1714, 1716] (by decide +kernel) (by decide +kernel)
theorem in_X15 : ∀ w ∈ wsX150, w ∈ lw_all := lw_in wsX150 [2084, 2086, 2088, 2090, 2092, 2094, 2096] (by decide +kernel) (by decide +kernel)
theorem in_X17 : ∀ w ∈ wsX170, w ∈ lw_all := lw_in wsX170 [2158, 2160, 2162] (by decide +kernel) (by decide +kernel)
theorem in_X18 : ∀ w ∈ wsX180, w ∈ lw_all := lw_in wsX180 [2195, 2197, 2199, 2201] (by decide +kernel) (by decide +kernel)
abbrev cX0_contract : ByteArray := method_3_code
def yX0_contract : MethodName := ⟨RX0, "contract", "(LTaxmaze;IIIIZII[J)I"⟩
abbrev cX0_pay : ByteArray := method_4_code
def yX0_pay : MethodName := ⟨RX0, "pay", "(LTaxmaze;III[J)I"⟩
abbrev cX0_shift : ByteArray := method_5_code
def yX0_shift : MethodName := ⟨RX0, "shift", "(LTaxmaze;IIII[J)I"⟩
abbrev cX0_minutes : ByteArray := method_6_code
def yX0_minutes : MethodName := ⟨RX0, "minutes", "(LTaxmaze;II[J)I"⟩
abbrev cX0_overtime : ByteArray := method_7_code
def yX0_overtime : MethodName := ⟨RX0, "overtime", "(LTaxmaze;II[J)I"⟩
abbrev cX0_base : ByteArray := method_8_code
def yX0_base : MethodName := ⟨RX0, "base", "(LTaxmaze;II[J)I"⟩
abbrev cX0_leaveRule : ByteArray := method_9_code
def yX0_leaveRule : MethodName := ⟨RX0, "leaveRule", "(LTaxmaze;III)I"⟩
abbrev cX0_leave : ByteArray := method_10_code
def yX0_leave : MethodName := ⟨RX0, "leave", "(LTaxmaze;II[J)I"⟩
abbrev cX0_leaveLeft : ByteArray := method_11_code
def yX0_leaveLeft : MethodName := ⟨RX0, "leaveLeft", "(LTaxmaze;II[J)I"⟩
abbrev cX0_word : ByteArray := method_12_code
def yX0_word : MethodName := ⟨RX0, "word", "(LTaxmaze;II[J)I"⟩
abbrev cX0_element : ByteArray := method_13_code
def yX0_element : MethodName := ⟨RX0, "element", "(LTaxmaze;II[J)I"⟩
abbrev cX0_order : ByteArray := method_14_code
def yX0_order : MethodName := ⟨RX0, "order", "(LTaxmaze;I[J)I"⟩
abbrev cX0_bonus : ByteArray := method_15_code
def yX0_bonus : MethodName := ⟨RX0, "bonus", "(LTaxmaze;IIII[J)I"⟩
abbrev cX0_contribution : ByteArray := method_16_code
def yX0_contribution : MethodName := ⟨RX0, "contribution", "(LTaxmaze;IIII)I"⟩
abbrev cX0_bracket : ByteArray := method_17_code
def yX0_bracket : MethodName := ⟨RX0, "bracket", "(LTaxmaze;IIIII[J)I"⟩
abbrev cX0_state : ByteArray := method_18_code
def yX0_state : MethodName := ⟨RX0, "state", "(LTaxmaze;III)I"⟩
abbrev cX0_pension : ByteArray := method_19_code
def yX0_pension : MethodName := ⟨RX0, "pension", "(LTaxmaze;III)I"⟩
abbrev cX0_yearTax : ByteArray := method_20_code
def yX0_yearTax : MethodName := ⟨RX0, "yearTax", "(LTaxmaze;IIIJ[J)I"⟩
abbrev cX0_slip : ByteArray := method_21_code
def yX0_slip : MethodName := ⟨RX0, "slip", "(LTaxmaze;III[J)I"⟩
abbrev cX0_slipIn : ByteArray := method_22_code
def yX0_slipIn : MethodName := ⟨RX0, "slipIn", "(LTaxmaze;IIII[J)I"⟩
abbrev cX0_elementOf : ByteArray := method_23_code
def yX0_elementOf : MethodName := ⟨RX0, "elementOf", "(LTaxmaze;III[J)I"⟩
abbrev cX0_pensionOf : ByteArray := method_24_code
def yX0_pensionOf : MethodName := ⟨RX0, "pensionOf", "(LTaxmaze;II[J)I"⟩
abbrev cX0_grossFor : ByteArray := method_25_code
def yX0_grossFor : MethodName := ⟨RX0, "grossFor", "(LTaxmaze;IIII[J)I"⟩
abbrev cX0_garnish : ByteArray := method_26_code
def yX0_garnish : MethodName := ⟨RX0, "garnish", "(LTaxmaze;IIIIII[J)I"⟩
abbrev cX0_takenBy : ByteArray := method_27_code
def yX0_takenBy : MethodName := ⟨RX0, "takenBy", "(LTaxmaze;II[J)I"⟩
abbrev cX0_advance : ByteArray := method_28_code
def yX0_advance : MethodName := ⟨RX0, "advance", "(LTaxmaze;II[J)I"⟩
abbrev cX0_close : ByteArray := method_29_code
def yX0_close : MethodName := ⟨RX0, "close", "(LTaxmaze;[J)I"⟩
abbrev cX0_payment : ByteArray := method_30_code
def yX0_payment : MethodName := ⟨RX0, "payment", "(LTaxmaze;II[J)I"⟩
abbrev cX0_comeBack : ByteArray := method_31_code
def yX0_comeBack : MethodName := ⟨RX0, "comeBack", "(LTaxmaze;I[J)I"⟩
abbrev cX0_owed : ByteArray := method_32_code
def yX0_owed : MethodName := ⟨RX0, "owed", "(LTaxmaze;I[J)I"⟩
abbrev cX0_filed : ByteArray := method_33_code
def yX0_filed : MethodName := ⟨RX0, "filed", "(LTaxmaze;IIZ[J)I"⟩
abbrev cX0_corrections : ByteArray := method_34_code
def yX0_corrections : MethodName := ⟨RX0, "corrections", "(LTaxmaze;II[J)I"⟩
abbrev cX1_init : ByteArray := prog_1_method_7_code
def yX1_init : MethodName := ⟨RX1, "<init>", "()V"⟩
abbrev cX1_open : ByteArray := prog_1_method_44_code
def yX1_open : MethodName := ⟨RX1, "open", "()I"⟩
abbrev cX1_payments : ByteArray := prog_1_method_46_code
def yX1_payments : MethodName := ⟨RX1, "payments", "()I"⟩
abbrev cX1_contract : ByteArray := prog_1_method_17_code
def yX1_contract : MethodName := ⟨RX1, "contract", "(IIIIZII)I"⟩
abbrev cX1_at : ByteArray := prog_1_method_12_code
def yX1_at : MethodName := ⟨RX1, "at", "(II)I"⟩
abbrev cX1_in : ByteArray := prog_1_method_13_code
def yX1_in : MethodName := ⟨RX1, "in", "(III)I"⟩
abbrev cX1_must : ByteArray := prog_1_method_14_code
def yX1_must : MethodName := ⟨RX1, "must", "(Z)V"⟩
abbrev cX1_pay : ByteArray := prog_1_method_18_code
def yX1_pay : MethodName := ⟨RX1, "pay", "(III)I"⟩
abbrev cX1_contractAt : ByteArray := prog_1_method_15_code
def yX1_contractAt : MethodName := ⟨RX1, "contractAt", "(I)LTaxmaze$Contract;"⟩
abbrev cX1_shift : ByteArray := prog_1_method_19_code
def yX1_shift : MethodName := ⟨RX1, "shift", "(IIII)I"⟩
abbrev cX1_contractOn : ByteArray := prog_1_method_16_code
def yX1_contractOn : MethodName := ⟨RX1, "contractOn", "(II)LTaxmaze$Contract;"⟩
abbrev cX1_minutes : ByteArray := prog_1_method_20_code
def yX1_minutes : MethodName := ⟨RX1, "minutes", "(II)I"⟩
abbrev cX1_overtime : ByteArray := prog_1_method_21_code
def yX1_overtime : MethodName := ⟨RX1, "overtime", "(II)I"⟩
abbrev cX1_base : ByteArray := prog_1_method_22_code
def yX1_base : MethodName := ⟨RX1, "base", "(II)J"⟩
abbrev cX1_findLeave : ByteArray := prog_1_method_9_code
def yX1_findLeave : MethodName := ⟨RX1, "findLeave", "(I)V"⟩
abbrev cX1_baseOf : ByteArray := prog_1_method_10_code
def yX1_baseOf : MethodName := ⟨RX1, "baseOf", "(LTaxmaze$Contract;I)J"⟩
abbrev cX1_rounded : ByteArray := prog_1_method_1_code
def yX1_rounded : MethodName := ⟨RX1, "rounded", "(JJ)J"⟩
abbrev cX1_leaveRule : ByteArray := prog_1_method_23_code
def yX1_leaveRule : MethodName := ⟨RX1, "leaveRule", "(III)V"⟩
abbrev cX1_leave : ByteArray := prog_1_method_24_code
def yX1_leave : MethodName := ⟨RX1, "leave", "(II)Z"⟩
abbrev cX1_leaveLeft : ByteArray := prog_1_method_25_code
def yX1_leaveLeft : MethodName := ⟨RX1, "leaveLeft", "(II)I"⟩
abbrev cX1_word : ByteArray := prog_1_method_27_code
def yX1_word : MethodName := ⟨RX1, "word", "(II)I"⟩
abbrev cX1_high : ByteArray := prog_1_method_26_code
def yX1_high : MethodName := ⟨RX1, "high", "()I"⟩
abbrev cX1_takes : ByteArray := prog_1_method_2_code
def yX1_takes : MethodName := ⟨RX1, "takes", "(LTaxmaze$Word;)I"⟩
abbrev cX1_element : ByteArray := prog_1_method_28_code
def yX1_element : MethodName := ⟨RX1, "element", "(II)I"⟩
abbrev cX1_orderOf : ByteArray := prog_1_method_6_code
def yX1_orderOf : MethodName := ⟨RX1, "orderOf", "(Ljava/util/List;)Ljava/util/List;"⟩
abbrev cX1_order : ByteArray := prog_1_method_29_code
def yX1_order : MethodName := ⟨RX1, "order", "(I)I"⟩
abbrev cX1_bonus : ByteArray := prog_1_method_30_code
def yX1_bonus : MethodName := ⟨RX1, "bonus", "(IIII)I"⟩
abbrev cX1_contribution : ByteArray := prog_1_method_31_code
def yX1_contribution : MethodName := ⟨RX1, "contribution", "(IIII)V"⟩
abbrev cX1_bracket : ByteArray := prog_1_method_32_code
def yX1_bracket : MethodName := ⟨RX1, "bracket", "(IIIII)I"⟩
abbrev cX1_state : ByteArray := prog_1_method_33_code
def yX1_state : MethodName := ⟨RX1, "state", "(III)V"⟩
abbrev cX1_pension : ByteArray := prog_1_method_34_code
def yX1_pension : MethodName := ⟨RX1, "pension", "(III)V"⟩
abbrev cX1_yearTax : ByteArray := prog_1_method_35_code
def yX1_yearTax : MethodName := ⟨RX1, "yearTax", "(IIIJ)J"⟩
abbrev cX1_taxOf : ByteArray := prog_1_method_8_code
def yX1_taxOf : MethodName := ⟨RX1, "taxOf", "(IIIJ)J"⟩
abbrev cX1_slip : ByteArray := prog_1_method_36_code
def yX1_slip : MethodName := ⟨RX1, "slip", "(III)J"⟩
abbrev cX1_bounded : ByteArray := prog_1_method_5_code
def yX1_bounded : MethodName := ⟨RX1, "bounded", "(J)J"⟩
abbrev cX1_nameOf : ByteArray := prog_1_method_3_code
def yX1_nameOf : MethodName := ⟨RX1, "nameOf", "(I)Ljava/lang/String;"⟩
abbrev cX1_join : ByteArray := prog_1_method_4_code
def yX1_join : MethodName := ⟨RX1, "join", "(Ljava/lang/String;JJ)J"⟩
abbrev cX1_slipIn : ByteArray := prog_1_method_37_code
def yX1_slipIn : MethodName := ⟨RX1, "slipIn", "(IIII)J"⟩
abbrev cX1_elementOf : ByteArray := prog_1_method_38_code
def yX1_elementOf : MethodName := ⟨RX1, "elementOf", "(III)J"⟩
abbrev cX1_pensionOf : ByteArray := prog_1_method_39_code
def yX1_pensionOf : MethodName := ⟨RX1, "pensionOf", "(II)J"⟩
abbrev cX1_grossFor : ByteArray := prog_1_method_40_code
def yX1_grossFor : MethodName := ⟨RX1, "grossFor", "(IIII)I"⟩
abbrev cX1_garnish : ByteArray := prog_1_method_41_code
def yX1_garnish : MethodName := ⟨RX1, "garnish", "(IIIIII)I"⟩
abbrev cX1_takenBy : ByteArray := prog_1_method_42_code
def yX1_takenBy : MethodName := ⟨RX1, "takenBy", "(II)J"⟩
abbrev cX1_advance : ByteArray := prog_1_method_43_code
def yX1_advance : MethodName := ⟨RX1, "advance", "(II)J"⟩
abbrev cX1_close : ByteArray := prog_1_method_45_code
def yX1_close : MethodName := ⟨RX1, "close", "()I"⟩
abbrev cX1_paidTo : ByteArray := prog_1_method_11_code
def yX1_paidTo : MethodName := ⟨RX1, "paidTo", "(I)J"⟩
abbrev cX1_payment : ByteArray := prog_1_method_47_code
def yX1_payment : MethodName := ⟨RX1, "payment", "(II)J"⟩
abbrev cX1_comeBack : ByteArray := prog_1_method_48_code
def yX1_comeBack : MethodName := ⟨RX1, "comeBack", "(I)J"⟩
abbrev cX1_owed : ByteArray := prog_1_method_49_code
def yX1_owed : MethodName := ⟨RX1, "owed", "(I)J"⟩
abbrev cX1_filed : ByteArray := prog_1_method_50_code
def yX1_filed : MethodName := ⟨RX1, "filed", "(IIZ)J"⟩
abbrev cX1_corrections : ByteArray := prog_1_method_51_code
def yX1_corrections : MethodName := ⟨RX1, "corrections", "(II)I"⟩
abbrev cJ0_init : ByteArray := prog_49_method_1_code
def yJ0_init : MethodName := ⟨RJ0, "<init>", "()V"⟩
abbrev cJ0_isEmpty : ByteArray := prog_49_method_4_code
def yJ0_isEmpty : MethodName := ⟨RJ0, "isEmpty", "()Z"⟩
abbrev cJ1_init : ByteArray := prog_50_method_1_code
def yJ1_init : MethodName := ⟨RJ1, "<init>", "()V"⟩
abbrev cJ2_init : ByteArray := prog_53_method_2_code
def yJ2_init : MethodName := ⟨RJ2, "<init>", "()V"⟩
abbrev cJ2_add : ByteArray := prog_53_method_25_code
def yJ2_add : MethodName := ⟨RJ2, "add", "(Ljava/lang/Object;)Z"⟩
abbrev cJ2_add_2 : ByteArray := prog_53_method_24_code
def yJ2_add_2 : MethodName := ⟨RJ2, "add", "(Ljava/lang/Object;[Ljava/lang/Object;I)V"⟩
abbrev cJ2_grow : ByteArray := prog_53_method_7_code
def yJ2_grow : MethodName := ⟨RJ2, "grow", "()[Ljava/lang/Object;"⟩
abbrev cJ2_grow_2 : ByteArray := prog_53_method_6_code
def yJ2_grow_2 : MethodName := ⟨RJ2, "grow", "(I)[Ljava/lang/Object;"⟩
abbrev cJ2_size : ByteArray := prog_53_method_8_code
def yJ2_size : MethodName := ⟨RJ2, "size", "()I"⟩
abbrev cJ2_get : ByteArray := prog_53_method_20_code
def yJ2_get : MethodName := ⟨RJ2, "get", "(I)Ljava/lang/Object;"⟩
abbrev cJ2_elementData : ByteArray := prog_53_method_18_code
def yJ2_elementData : MethodName := ⟨RJ2, "elementData", "(I)Ljava/lang/Object;"⟩
abbrev cJ2_iterator : ByteArray := prog_53_method_55_code
def yJ2_iterator : MethodName := ⟨RJ2, "iterator", "()Ljava/util/Iterator;"⟩
abbrev cJ2_addAll : ByteArray := prog_53_method_41_code
def yJ2_addAll : MethodName := ⟨RJ2, "addAll", "(Ljava/util/Collection;)Z"⟩
abbrev cJ2_toArray : ByteArray := prog_53_method_16_code
def yJ2_toArray : MethodName := ⟨RJ2, "toArray", "()[Ljava/lang/Object;"⟩
abbrev cJ2_set : ByteArray := prog_53_method_23_code
def yJ2_set : MethodName := ⟨RJ2, "set", "(ILjava/lang/Object;)Ljava/lang/Object;"⟩
abbrev cJ2_add_3 : ByteArray := prog_53_method_26_code
def yJ2_add_3 : MethodName := ⟨RJ2, "add", "(ILjava/lang/Object;)V"⟩
abbrev cJ2_rangeCheckForAdd : ByteArray := prog_53_method_45_code
def yJ2_rangeCheckForAdd : MethodName := ⟨RJ2, "rangeCheckForAdd", "(I)V"⟩
abbrev cJ2_outOfBoundsMsg : ByteArray := prog_53_method_46_code
def yJ2_outOfBoundsMsg : MethodName := ⟨RJ2, "outOfBoundsMsg", "(I)Ljava/lang/String;"⟩
abbrev cX2_init : ByteArray := prog_9_method_1_code
def yX2_init : MethodName := ⟨RX2, "<init>", "(Ljava/lang/Object;)V"⟩
abbrev cX2_tell : ByteArray := prog_9_method_2_code
def yX2_tell : MethodName := ⟨RX2, "tell", "(ILjava/lang/Object;)V"⟩
abbrev cX2_from : ByteArray := prog_9_method_4_code
def yX2_from : MethodName := ⟨RX2, "from", "(I)Ljava/lang/Object;"⟩
abbrev cX2_at : ByteArray := prog_9_method_3_code
def yX2_at : MethodName := ⟨RX2, "at", "(I)Ljava/lang/Object;"⟩
abbrev cJ3_init : ByteArray := prog_38_method_1_code
def yJ3_init : MethodName := ⟨RJ3, "<init>", "()V"⟩
abbrev cX3_init : ByteArray := prog_8_method_1_code
def yX3_init : MethodName := ⟨RX3, "<init>", "(II)V"⟩
abbrev cX3_ceiling : ByteArray := prog_8_method_6_code
def yX3_ceiling : MethodName := ⟨RX3, "ceiling", "()I"⟩
abbrev cX3_thousandths : ByteArray := prog_8_method_5_code
def yX3_thousandths : MethodName := ⟨RX3, "thousandths", "()I"⟩
abbrev cJ4_init : ByteArray := prog_51_method_1_code
def yJ4_init : MethodName := ⟨RJ4, "<init>", "()V"⟩
abbrev cJ5_init : ByteArray := prog_70_method_1_code
def yJ5_init : MethodName := ⟨RJ5, "<init>", "()V"⟩
abbrev cJ5_put : ByteArray := prog_70_method_21_code
def yJ5_put : MethodName := ⟨RJ5, "put", "(Ljava/lang/Object;Ljava/lang/Object;)Ljava/lang/Object;"⟩
abbrev cJ5_put_2 : ByteArray := prog_70_method_31_code
def yJ5_put_2 : MethodName := ⟨RJ5, "put", "(Ljava/lang/Object;Ljava/lang/Object;Z)Ljava/lang/Object;"⟩
abbrev cJ5_addEntryToEmptyMap : ByteArray := prog_70_method_30_code
def yJ5_addEntryToEmptyMap : MethodName := ⟨RJ5, "addEntryToEmptyMap", "(Ljava/lang/Object;Ljava/lang/Object;)V"⟩
abbrev cJ5_compare : ByteArray := prog_70_method_67_code
def yJ5_compare : MethodName := ⟨RJ5, "compare", "(Ljava/lang/Object;Ljava/lang/Object;)I"⟩
abbrev cJ5_addEntry : ByteArray := prog_70_method_29_code
def yJ5_addEntry : MethodName := ⟨RJ5, "addEntry", "(Ljava/lang/Object;Ljava/lang/Object;Ljava/util/TreeMap$Entry;Z)V"⟩
abbrev cJ5_fixAfterInsertion : ByteArray := prog_70_method_83_code
def yJ5_fixAfterInsertion : MethodName := ⟨RJ5, "fixAfterInsertion", "(Ljava/util/TreeMap$Entry;)V"⟩
abbrev cJ5_parentOf : ByteArray := prog_70_method_77_code
def yJ5_parentOf : MethodName := ⟨RJ5, "parentOf", "(Ljava/util/TreeMap$Entry;)Ljava/util/TreeMap$Entry;"⟩
abbrev cJ5_leftOf : ByteArray := prog_70_method_79_code
def yJ5_leftOf : MethodName := ⟨RJ5, "leftOf", "(Ljava/util/TreeMap$Entry;)Ljava/util/TreeMap$Entry;"⟩
abbrev cJ5_rightOf : ByteArray := prog_70_method_80_code
def yJ5_rightOf : MethodName := ⟨RJ5, "rightOf", "(Ljava/util/TreeMap$Entry;)Ljava/util/TreeMap$Entry;"⟩
abbrev cJ5_colorOf : ByteArray := prog_70_method_76_code
def yJ5_colorOf : MethodName := ⟨RJ5, "colorOf", "(Ljava/util/TreeMap$Entry;)Z"⟩
abbrev cJ5_setColor : ByteArray := prog_70_method_78_code
def yJ5_setColor : MethodName := ⟨RJ5, "setColor", "(Ljava/util/TreeMap$Entry;Z)V"⟩
abbrev cJ5_rotateLeft : ByteArray := prog_70_method_81_code
def yJ5_rotateLeft : MethodName := ⟨RJ5, "rotateLeft", "(Ljava/util/TreeMap$Entry;)V"⟩
abbrev cJ5_rotateRight : ByteArray := prog_70_method_82_code
def yJ5_rotateRight : MethodName := ⟨RJ5, "rotateRight", "(Ljava/util/TreeMap$Entry;)V"⟩
abbrev cJ5_get : ByteArray := prog_70_method_8_code
def yJ5_get : MethodName := ⟨RJ5, "get", "(Ljava/lang/Object;)Ljava/lang/Object;"⟩
abbrev cJ5_getEntry : ByteArray := prog_70_method_15_code
def yJ5_getEntry : MethodName := ⟨RJ5, "getEntry", "(Ljava/lang/Object;)Ljava/util/TreeMap$Entry;"⟩
abbrev cJ5_getEntryUsingComparator : ByteArray := prog_70_method_16_code
def yJ5_getEntryUsingComparator : MethodName := ⟨RJ5, "getEntryUsingComparator", "(Ljava/lang/Object;)Ljava/util/TreeMap$Entry;"⟩
abbrev cJ5_floorKey : ByteArray := prog_70_method_44_code
def yJ5_floorKey : MethodName := ⟨RJ5, "floorKey", "(Ljava/lang/Object;)Ljava/lang/Object;"⟩
abbrev cJ5_getFloorEntry : ByteArray := prog_70_method_18_code
def yJ5_getFloorEntry : MethodName := ⟨RJ5, "getFloorEntry", "(Ljava/lang/Object;)Ljava/util/TreeMap$Entry;"⟩
abbrev cJ5_keyOrNull : ByteArray := prog_70_method_70_code
def yJ5_keyOrNull : MethodName := ⟨RJ5, "keyOrNull", "(Ljava/util/TreeMap$Entry;)Ljava/lang/Object;"⟩
abbrev cJ6_newLength : ByteArray := prog_75_method_27_code
def yJ6_newLength : MethodName := ⟨RJ6, "newLength", "(III)I"⟩
abbrev cJ6_hugeLength : ByteArray := prog_75_method_28_code
def yJ6_hugeLength : MethodName := ⟨RJ6, "hugeLength", "(II)I"⟩
abbrev cJ6_mismatch : ByteArray := prog_75_method_13_code
def yJ6_mismatch : MethodName := ⟨RJ6, "mismatch", "([B[BI)I"⟩
abbrev cJ6_vectorizedMismatch : ByteArray := prog_75_method_3_code
def yJ6_vectorizedMismatch : MethodName := ⟨RJ6, "vectorizedMismatch", "(Ljava/lang/Object;JLjava/lang/Object;JII)I"⟩
abbrev cJ6_vectorizedHashCode : ByteArray := prog_75_method_4_code
def yJ6_vectorizedHashCode : MethodName := ⟨RJ6, "vectorizedHashCode", "(Ljava/lang/Object;IIII)I"⟩
abbrev cJ6_signedHashCode : ByteArray := prog_75_method_5_code
def yJ6_signedHashCode : MethodName := ⟨RJ6, "signedHashCode", "(I[BII)I"⟩
abbrev cJ6_utf16hashCode : ByteArray := prog_75_method_10_code
def yJ6_utf16hashCode : MethodName := ⟨RJ6, "utf16hashCode", "(I[BII)I"⟩
abbrev cJ6_hashCode : ByteArray := prog_75_method_7_code
def yJ6_hashCode : MethodName := ⟨RJ6, "hashCode", "(I[CII)I"⟩
abbrev cJ6_hashCode_2 : ByteArray := prog_75_method_6_code
def yJ6_hashCode_2 : MethodName := ⟨RJ6, "hashCode", "(I[BII)I"⟩
abbrev cJ6_hashCode_3 : ByteArray := prog_75_method_8_code
def yJ6_hashCode_3 : MethodName := ⟨RJ6, "hashCode", "(I[SII)I"⟩
abbrev cJ6_hashCode_4 : ByteArray := prog_75_method_9_code
def yJ6_hashCode_4 : MethodName := ⟨RJ6, "hashCode", "(I[III)I"⟩
abbrev cJ7_max : ByteArray := prog_36_method_65_code
def yJ7_max : MethodName := ⟨RJ7, "max", "(II)I"⟩
abbrev cJ7_min : ByteArray := prog_36_method_69_code
def yJ7_min : MethodName := ⟨RJ7, "min", "(II)I"⟩
abbrev cJ7_max_2 : ByteArray := prog_36_method_66_code
def yJ7_max_2 : MethodName := ⟨RJ7, "max", "(JJ)J"⟩
abbrev cJ7_min_2 : ByteArray := prog_36_method_70_code
def yJ7_min_2 : MethodName := ⟨RJ7, "min", "(JJ)J"⟩
abbrev cJ7_floorDiv : ByteArray := prog_36_method_49_code
def yJ7_floorDiv : MethodName := ⟨RJ7, "floorDiv", "(JJ)J"⟩
abbrev cJ8_copyOf : ByteArray := prog_55_method_119_code
def yJ8_copyOf : MethodName := ⟨RJ8, "copyOf", "([Ljava/lang/Object;I)[Ljava/lang/Object;"⟩
abbrev cJ8_copyOf_2 : ByteArray := prog_55_method_120_code
def yJ8_copyOf_2 : MethodName := ⟨RJ8, "copyOf", "([Ljava/lang/Object;ILjava/lang/Class;)[Ljava/lang/Object;"⟩
abbrev cJ8_copyOf_3 : ByteArray := prog_55_method_121_code
def yJ8_copyOf_3 : MethodName := ⟨RJ8, "copyOf", "([BI)[B"⟩
abbrev cJ8_copyOfRange : ByteArray := prog_55_method_132_code
def yJ8_copyOfRange : MethodName := ⟨RJ8, "copyOfRange", "([BII)[B"⟩
abbrev cJ8_copyOfRangeByte : ByteArray := prog_55_method_133_code
def yJ8_copyOfRangeByte : MethodName := ⟨RJ8, "copyOfRangeByte", "([BII)[B"⟩
abbrev cJ8_checkLength : ByteArray := prog_55_method_131_code
def yJ8_checkLength : MethodName := ⟨RJ8, "checkLength", "(II)V"⟩
abbrev cJ9_init : ByteArray := prog_37_method_1_code
def yJ9_init : MethodName := ⟨RJ9, "<init>", "()V"⟩
abbrev cJ10_valueOf : ByteArray := prog_32_method_22_code
def yJ10_valueOf : MethodName := ⟨RJ10, "valueOf", "(I)Ljava/lang/Integer;"⟩
abbrev cJ10_init : ByteArray := prog_32_method_23_code
def yJ10_init : MethodName := ⟨RJ10, "<init>", "(I)V"⟩
abbrev cJ10_compareTo : ByteArray := prog_32_method_63_code
def yJ10_compareTo : MethodName := ⟨RJ10, "compareTo", "(Ljava/lang/Object;)I"⟩
abbrev cJ10_compareTo_2 : ByteArray := prog_32_method_39_code
def yJ10_compareTo_2 : MethodName := ⟨RJ10, "compareTo", "(Ljava/lang/Integer;)I"⟩
abbrev cJ10_compare : ByteArray := prog_32_method_40_code
def yJ10_compare : MethodName := ⟨RJ10, "compare", "(II)I"⟩
abbrev cJ10_numberOfLeadingZeros : ByteArray := prog_32_method_47_code
def yJ10_numberOfLeadingZeros : MethodName := ⟨RJ10, "numberOfLeadingZeros", "(I)I"⟩
abbrev cJ10_numberOfTrailingZeros : ByteArray := prog_32_method_48_code
def yJ10_numberOfTrailingZeros : MethodName := ⟨RJ10, "numberOfTrailingZeros", "(I)I"⟩
abbrev cJ10_intValue : ByteArray := prog_32_method_27_code
def yJ10_intValue : MethodName := ⟨RJ10, "intValue", "()I"⟩
abbrev cJ10_stringSize : ByteArray := prog_32_method_13_code
def yJ10_stringSize : MethodName := ⟨RJ10, "stringSize", "(I)I"⟩
abbrev cJ10_getChars : ByteArray := prog_32_method_12_code
def yJ10_getChars : MethodName := ⟨RJ10, "getChars", "(II[B)I"⟩
abbrev cX4_init : ByteArray := prog_20_method_1_code
def yX4_init : MethodName := ⟨RX4, "<init>", "()V"⟩
abbrev cX4_thrown : ByteArray := prog_20_method_2_code
def yX4_thrown : MethodName := ⟨RX4, "thrown", "()I"⟩
abbrev cX4_contract : ByteArray := prog_20_method_14_code
def yX4_contract : MethodName := ⟨RX4, "contract", "(IIIIZII)I"⟩
abbrev cX4_isPerson : ByteArray := prog_20_method_5_code
def yX4_isPerson : MethodName := ⟨RX4, "isPerson", "(I)Z"⟩
abbrev cX4_in : ByteArray := prog_20_method_4_code
def yX4_in : MethodName := ⟨RX4, "in", "(JJJ)Z"⟩
abbrev cX4_isPlace : ByteArray := prog_20_method_6_code
def yX4_isPlace : MethodName := ⟨RX4, "isPlace", "(I)Z"⟩
abbrev cX4_isDay : ByteArray := prog_20_method_8_code
def yX4_isDay : MethodName := ⟨RX4, "isDay", "(I)Z"⟩
abbrev cX4_holds : ByteArray := prog_20_method_3_code
def yX4_holds : MethodName := ⟨RX4, "holds", "(I)Z"⟩
abbrev cX4_spread : ByteArray := prog_20_method_13_code
def yX4_spread : MethodName := ⟨RX4, "spread", "(I)V"⟩
abbrev cX4_pay : ByteArray := prog_20_method_16_code
def yX4_pay : MethodName := ⟨RX4, "pay", "(III)I"⟩
abbrev cX4_isContract : ByteArray := prog_20_method_9_code
def yX4_isContract : MethodName := ⟨RX4, "isContract", "(I)Z"⟩
abbrev cX4_payOn : ByteArray := prog_20_method_15_code
def yX4_payOn : MethodName := ⟨RX4, "payOn", "(II)J"⟩
abbrev cX4_shift : ByteArray := prog_20_method_18_code
def yX4_shift : MethodName := ⟨RX4, "shift", "(IIII)I"⟩
abbrev cX4_isOf : ByteArray := prog_20_method_10_code
def yX4_isOf : MethodName := ⟨RX4, "isOf", "(II)Z"⟩
abbrev cX4_meets : ByteArray := prog_20_method_17_code
def yX4_meets : MethodName := ⟨RX4, "meets", "(III)Z"⟩
abbrev cX4_minutes : ByteArray := prog_20_method_19_code
def yX4_minutes : MethodName := ⟨RX4, "minutes", "(II)I"⟩
abbrev cX4_overtime : ByteArray := prog_20_method_21_code
def yX4_overtime : MethodName := ⟨RX4, "overtime", "(II)I"⟩
abbrev cX4_over : ByteArray := prog_20_method_20_code
def yX4_over : MethodName := ⟨RX4, "over", "(II)I"⟩
abbrev cX4_base : ByteArray := prog_20_method_24_code
def yX4_base : MethodName := ⟨RX4, "base", "(II)J"⟩
abbrev cX4_isMonth : ByteArray := prog_20_method_7_code
def yX4_isMonth : MethodName := ⟨RX4, "isMonth", "(I)Z"⟩
abbrev cX4_takes : ByteArray := prog_20_method_27_code
def yX4_takes : MethodName := ⟨RX4, "takes", "(II)V"⟩
abbrev cX4_works : ByteArray := prog_20_method_26_code
def yX4_works : MethodName := ⟨RX4, "works", "(II)Z"⟩
abbrev cX4_baseOf : ByteArray := prog_20_method_23_code
def yX4_baseOf : MethodName := ⟨RX4, "baseOf", "(II)J"⟩
abbrev cX4_round : ByteArray := prog_20_method_12_code
def yX4_round : MethodName := ⟨RX4, "round", "(JJ)J"⟩
abbrev cX4_down : ByteArray := prog_20_method_11_code
def yX4_down : MethodName := ⟨RX4, "down", "(JJ)J"⟩
abbrev cX4_overPay : ByteArray := prog_20_method_22_code
def yX4_overPay : MethodName := ⟨RX4, "overPay", "(II)J"⟩
abbrev cX4_leaveRule : ByteArray := prog_20_method_25_code
def yX4_leaveRule : MethodName := ⟨RX4, "leaveRule", "(III)V"⟩
abbrev cX4_leave : ByteArray := prog_20_method_28_code
def yX4_leave : MethodName := ⟨RX4, "leave", "(II)Z"⟩
abbrev cX4_leaveLeft : ByteArray := prog_20_method_29_code
def yX4_leaveLeft : MethodName := ⟨RX4, "leaveLeft", "(II)I"⟩
abbrev cX4_word : ByteArray := prog_20_method_31_code
def yX4_word : MethodName := ⟨RX4, "word", "(II)I"⟩
abbrev cX4_depth : ByteArray := prog_20_method_30_code
def yX4_depth : MethodName := ⟨RX4, "depth", "(I)I"⟩
abbrev cX4_element : ByteArray := prog_20_method_34_code
def yX4_element : MethodName := ⟨RX4, "element", "(II)I"⟩
abbrev cX4_rings : ByteArray := prog_20_method_33_code
def yX4_rings : MethodName := ⟨RX4, "rings", "(I)Z"⟩
abbrev cX4_needs : ByteArray := prog_20_method_32_code
def yX4_needs : MethodName := ⟨RX4, "needs", "(I)I"⟩
abbrev cX4_arrange : ByteArray := prog_20_method_35_code
def yX4_arrange : MethodName := ⟨RX4, "arrange", "()V"⟩
abbrev cX4_order : ByteArray := prog_20_method_36_code
def yX4_order : MethodName := ⟨RX4, "order", "(I)I"⟩
abbrev cX4_bonus : ByteArray := prog_20_method_40_code
def yX4_bonus : MethodName := ⟨RX4, "bonus", "(IIII)I"⟩
abbrev cX4_contribution : ByteArray := prog_20_method_41_code
def yX4_contribution : MethodName := ⟨RX4, "contribution", "(IIII)V"⟩
abbrev cX4_bracket : ByteArray := prog_20_method_42_code
def yX4_bracket : MethodName := ⟨RX4, "bracket", "(IIIII)I"⟩
abbrev cX4_state : ByteArray := prog_20_method_43_code
def yX4_state : MethodName := ⟨RX4, "state", "(III)V"⟩
abbrev cX4_pension : ByteArray := prog_20_method_44_code
def yX4_pension : MethodName := ⟨RX4, "pension", "(III)V"⟩
abbrev cX4_yearTax : ByteArray := prog_20_method_47_code
def yX4_yearTax : MethodName := ⟨RX4, "yearTax", "(IIIJ)J"⟩
abbrev cX4_yearly : ByteArray := prog_20_method_46_code
def yX4_yearly : MethodName := ⟨RX4, "yearly", "(IIIJ)J"⟩
abbrev cX4_lastOf : ByteArray := prog_20_method_45_code
def yX4_lastOf : MethodName := ⟨RX4, "lastOf", "(III)I"⟩
abbrev cX4_slip : ByteArray := prog_20_method_56_code
def yX4_slip : MethodName := ⟨RX4, "slip", "(III)J"⟩
abbrev cX4_slips : ByteArray := prog_20_method_54_code
def yX4_slips : MethodName := ⟨RX4, "slips", "(I)V"⟩
abbrev cX4_grossOf : ByteArray := prog_20_method_49_code
def yX4_grossOf : MethodName := ⟨RX4, "grossOf", "(II)V"⟩
abbrev cX4_formula : ByteArray := prog_20_method_39_code
def yX4_formula : MethodName := ⟨RX4, "formula", "(IJJ)J"⟩
abbrev cX4_kept : ByteArray := prog_20_method_37_code
def yX4_kept : MethodName := ⟨RX4, "kept", "(J)J"⟩
abbrev cX4_joined : ByteArray := prog_20_method_38_code
def yX4_joined : MethodName := ⟨RX4, "joined", "(IJJ)J"⟩
abbrev cX4_home : ByteArray := prog_20_method_48_code
def yX4_home : MethodName := ⟨RX4, "home", "(II)I"⟩
abbrev cX4_contribute : ByteArray := prog_20_method_51_code
def yX4_contribute : MethodName := ⟨RX4, "contribute", "(II)V"⟩
abbrev cX4_yearSum : ByteArray := prog_20_method_50_code
def yX4_yearSum : MethodName := ⟨RX4, "yearSum", "(III)J"⟩
abbrev cX4_taxes : ByteArray := prog_20_method_52_code
def yX4_taxes : MethodName := ⟨RX4, "taxes", "(III)V"⟩
abbrev cX4_garnished : ByteArray := prog_20_method_53_code
def yX4_garnished : MethodName := ⟨RX4, "garnished", "(II)V"⟩
abbrev cX4_sumOf : ByteArray := prog_20_method_55_code
def yX4_sumOf : MethodName := ⟨RX4, "sumOf", "(II)J"⟩
abbrev cX4_slipIn : ByteArray := prog_20_method_57_code
def yX4_slipIn : MethodName := ⟨RX4, "slipIn", "(IIII)J"⟩
abbrev cX4_elementOf : ByteArray := prog_20_method_58_code
def yX4_elementOf : MethodName := ⟨RX4, "elementOf", "(III)J"⟩
abbrev cX4_pensionOf : ByteArray := prog_20_method_59_code
def yX4_pensionOf : MethodName := ⟨RX4, "pensionOf", "(II)J"⟩
abbrev cX4_grossFor : ByteArray := prog_20_method_60_code
def yX4_grossFor : MethodName := ⟨RX4, "grossFor", "(IIII)I"⟩
abbrev cX4_garnish : ByteArray := prog_20_method_61_code
def yX4_garnish : MethodName := ⟨RX4, "garnish", "(IIIIII)I"⟩
abbrev cX4_takenBy : ByteArray := prog_20_method_62_code
def yX4_takenBy : MethodName := ⟨RX4, "takenBy", "(II)J"⟩
abbrev cX4_advance : ByteArray := prog_20_method_63_code
def yX4_advance : MethodName := ⟨RX4, "advance", "(II)J"⟩
abbrev cX4_open : ByteArray := prog_20_method_64_code
def yX4_open : MethodName := ⟨RX4, "open", "()I"⟩
abbrev cX4_close : ByteArray := prog_20_method_67_code
def yX4_close : MethodName := ⟨RX4, "close", "()I"⟩
abbrev cX4_owes : ByteArray := prog_20_method_65_code
def yX4_owes : MethodName := ⟨RX4, "owes", "(II)J"⟩
abbrev cX4_file : ByteArray := prog_20_method_66_code
def yX4_file : MethodName := ⟨RX4, "file", "()V"⟩
abbrev cX4_payments : ByteArray := prog_20_method_68_code
def yX4_payments : MethodName := ⟨RX4, "payments", "()I"⟩
abbrev cX4_payment : ByteArray := prog_20_method_69_code
def yX4_payment : MethodName := ⟨RX4, "payment", "(II)J"⟩
abbrev cX4_comeBack : ByteArray := prog_20_method_70_code
def yX4_comeBack : MethodName := ⟨RX4, "comeBack", "(I)J"⟩
abbrev cX4_owed : ByteArray := prog_20_method_71_code
def yX4_owed : MethodName := ⟨RX4, "owed", "(I)J"⟩
abbrev cX4_filed : ByteArray := prog_20_method_72_code
def yX4_filed : MethodName := ⟨RX4, "filed", "(IIZ)J"⟩
abbrev cX4_corrections : ByteArray := prog_20_method_73_code
def yX4_corrections : MethodName := ⟨RX4, "corrections", "(II)I"⟩
abbrev cJ11_init : ByteArray := prog_46_method_2_code
def yJ11_init : MethodName := ⟨RJ11, "<init>", "(Ljava/lang/String;)V"⟩
abbrev cJ11_init_2 : ByteArray := prog_46_method_1_code
def yJ11_init_2 : MethodName := ⟨RJ11, "<init>", "()V"⟩
abbrev cJ12_init : ByteArray := prog_28_method_2_code
def yJ12_init : MethodName := ⟨RJ12, "<init>", "(Ljava/lang/String;)V"⟩
abbrev cJ12_init_2 : ByteArray := prog_28_method_1_code
def yJ12_init_2 : MethodName := ⟨RJ12, "<init>", "()V"⟩
abbrev cJ13_init : ByteArray := prog_39_method_2_code
def yJ13_init : MethodName := ⟨RJ13, "<init>", "(Ljava/lang/String;)V"⟩
abbrev cJ13_init_2 : ByteArray := prog_39_method_1_code
def yJ13_init_2 : MethodName := ⟨RJ13, "<init>", "()V"⟩
abbrev cJ14_init : ByteArray := prog_31_method_2_code
def yJ14_init : MethodName := ⟨RJ14, "<init>", "(Ljava/lang/String;)V"⟩
abbrev cJ15_init : ByteArray := prog_24_method_2_code
def yJ15_init : MethodName := ⟨RJ15, "<init>", "(Ljava/lang/String;)V"⟩
abbrev cJ16_compareTo : ByteArray := prog_40_method_162_code
def yJ16_compareTo : MethodName := ⟨RJ16, "compareTo", "(Ljava/lang/Object;)I"⟩
abbrev cJ16_compareTo_2 : ByteArray := prog_40_method_71_code
def yJ16_compareTo_2 : MethodName := ⟨RJ16, "compareTo", "(Ljava/lang/String;)I"⟩
abbrev cJ16_coder : ByteArray := prog_40_method_152_code
def yJ16_coder : MethodName := ⟨RJ16, "coder", "()B"⟩
abbrev cJ16_checkOffset : ByteArray := prog_40_method_156_code
def yJ16_checkOffset : MethodName := ⟨RJ16, "checkOffset", "(II)V"⟩
abbrev cJ16_hashCode : ByteArray := prog_40_method_78_code
def yJ16_hashCode : MethodName := ⟨RJ16, "hashCode", "()I"⟩
abbrev cJ16_isLatin1 : ByteArray := prog_40_method_154_code
def yJ16_isLatin1 : MethodName := ⟨RJ16, "isLatin1", "()Z"⟩
abbrev cJ16_checkBoundsBeginEnd : ByteArray := prog_40_method_158_code
def yJ16_checkBoundsBeginEnd : MethodName := ⟨RJ16, "checkBoundsBeginEnd", "(III)V"⟩
abbrev cJ16_length : ByteArray := prog_40_method_54_code
def yJ16_length : MethodName := ⟨RJ16, "length", "()I"⟩
abbrev cJ16_checkBoundsOffCount : ByteArray := prog_40_method_157_code
def yJ16_checkBoundsOffCount : MethodName := ⟨RJ16, "checkBoundsOffCount", "(III)I"⟩
abbrev cJ16_getBytes : ByteArray := prog_40_method_147_code
def yJ16_getBytes : MethodName := ⟨RJ16, "getBytes", "([BIB)V"⟩
abbrev cJ16_init : ByteArray := prog_40_method_53_code
def yJ16_init : MethodName := ⟨RJ16, "<init>", "(Ljava/lang/StringBuilder;)V"⟩
abbrev cJ16_init_2 : ByteArray := prog_40_method_150_code
def yJ16_init_2 : MethodName := ⟨RJ16, "<init>", "(Ljava/lang/AbstractStringBuilder;Ljava/lang/Void;)V"⟩
abbrev cJ16_equals : ByteArray := prog_40_method_66_code
def yJ16_equals : MethodName := ⟨RJ16, "equals", "(Ljava/lang/Object;)Z"⟩
abbrev cJ17_init : ByteArray := prog_29_method_2_code
def yJ17_init : MethodName := ⟨RJ17, "<init>", "(Ljava/lang/String;)V"⟩
abbrev cJ17_init_2 : ByteArray := prog_29_method_1_code
def yJ17_init_2 : MethodName := ⟨RJ17, "<init>", "()V"⟩
abbrev cJ18_init : ByteArray := prog_30_method_2_code
def yJ18_init : MethodName := ⟨RJ18, "<init>", "(Ljava/lang/String;)V"⟩
abbrev cX5_init : ByteArray := prog_7_method_1_code
def yX5_init : MethodName := ⟨RX5, "<init>", "(IIIIZII)V"⟩
abbrev cX5_tell : ByteArray := prog_7_method_4_code
def yX5_tell : MethodName := ⟨RX5, "tell", "(II)V"⟩
abbrev cX5_payAt : ByteArray := prog_7_method_5_code
def yX5_payAt : MethodName := ⟨RX5, "payAt", "(I)I"⟩
abbrev cX5_has : ByteArray := prog_7_method_2_code
def yX5_has : MethodName := ⟨RX5, "has", "(I)Z"⟩
abbrev cX5_canAdd : ByteArray := prog_7_method_6_code
def yX5_canAdd : MethodName := ⟨RX5, "canAdd", "(LTaxmaze$Shift;)Z"⟩
abbrev cX5_add : ByteArray := prog_7_method_7_code
def yX5_add : MethodName := ⟨RX5, "add", "(LTaxmaze$Shift;)V"⟩
abbrev cX5_overtime : ByteArray := prog_7_method_8_code
def yX5_overtime : MethodName := ⟨RX5, "overtime", "(I)I"⟩
abbrev cX5_base : ByteArray := prog_7_method_11_code
def yX5_base : MethodName := ⟨RX5, "base", "(I)J"⟩
abbrev cX5_hourly : ByteArray := prog_7_method_9_code
def yX5_hourly : MethodName := ⟨RX5, "hourly", "(I)J"⟩
abbrev cX5_leavePay : ByteArray := prog_7_method_10_code
def yX5_leavePay : MethodName := ⟨RX5, "leavePay", "(I)J"⟩
abbrev cX5_hasDayIn : ByteArray := prog_7_method_3_code
def yX5_hasDayIn : MethodName := ⟨RX5, "hasDayIn", "(I)Z"⟩
abbrev cJ19_compareTo : ByteArray := prog_42_method_14_code
def yJ19_compareTo : MethodName := ⟨RJ19, "compareTo", "([B[B)I"⟩
abbrev cJ19_compareTo_2 : ByteArray := prog_42_method_15_code
def yJ19_compareTo_2 : MethodName := ⟨RJ19, "compareTo", "([B[BII)I"⟩
abbrev cJ19_getChar : ByteArray := prog_42_method_44_code
def yJ19_getChar : MethodName := ⟨RJ19, "getChar", "([BI)C"⟩
abbrev cJ19_compareToUTF16 : ByteArray := prog_42_method_16_code
def yJ19_compareToUTF16 : MethodName := ⟨RJ19, "compareToUTF16", "([B[B)I"⟩
abbrev cJ19_length : ByteArray := prog_42_method_5_code
def yJ19_length : MethodName := ⟨RJ19, "length", "([B)I"⟩
abbrev cJ19_compareToUTF16Values : ByteArray := prog_42_method_18_code
def yJ19_compareToUTF16Values : MethodName := ⟨RJ19, "compareToUTF16Values", "([B[BII)I"⟩
abbrev cJ19_compareToUTF16_2 : ByteArray := prog_42_method_17_code
def yJ19_compareToUTF16_2 : MethodName := ⟨RJ19, "compareToUTF16", "([B[BII)I"⟩
abbrev cJ19_hashCode : ByteArray := prog_42_method_21_code
def yJ19_hashCode : MethodName := ⟨RJ19, "hashCode", "([B)I"⟩
abbrev cJ19_inflate : ByteArray := prog_42_method_50_code
def yJ19_inflate : MethodName := ⟨RJ19, "inflate", "([BI[BII)V"⟩
abbrev cJ19_equals : ByteArray := prog_42_method_13_code
def yJ19_equals : MethodName := ⟨RJ19, "equals", "([B[B)Z"⟩
abbrev cJ20_getLongUnaligned : ByteArray := prog_73_method_334_code
def yJ20_getLongUnaligned : MethodName := ⟨RJ20, "getLongUnaligned", "(Ljava/lang/Object;J)J"⟩
abbrev cJ20_makeLong : ByteArray := prog_73_method_353_code
def yJ20_makeLong : MethodName := ⟨RJ20, "makeLong", "(II)J"⟩
abbrev cJ20_toUnsignedLong : ByteArray := prog_73_method_370_code
def yJ20_toUnsignedLong : MethodName := ⟨RJ20, "toUnsignedLong", "(I)J"⟩
abbrev cJ20_pickPos : ByteArray := prog_73_method_350_code
def yJ20_pickPos : MethodName := ⟨RJ20, "pickPos", "(II)I"⟩
abbrev cJ20_makeLong_2 : ByteArray := prog_73_method_352_code
def yJ20_makeLong_2 : MethodName := ⟨RJ20, "makeLong", "(SSSS)J"⟩
abbrev cJ20_toUnsignedLong_2 : ByteArray := prog_73_method_369_code
def yJ20_toUnsignedLong_2 : MethodName := ⟨RJ20, "toUnsignedLong", "(S)J"⟩
abbrev cJ20_makeLong_3 : ByteArray := prog_73_method_351_code
def yJ20_makeLong_3 : MethodName := ⟨RJ20, "makeLong", "(BBBBBBBB)J"⟩
abbrev cJ20_toUnsignedLong_3 : ByteArray := prog_73_method_368_code
def yJ20_toUnsignedLong_3 : MethodName := ⟨RJ20, "toUnsignedLong", "(B)J"⟩
abbrev cJ20_getIntUnaligned : ByteArray := prog_73_method_336_code
def yJ20_getIntUnaligned : MethodName := ⟨RJ20, "getIntUnaligned", "(Ljava/lang/Object;J)I"⟩
abbrev cJ20_makeInt : ByteArray := prog_73_method_354_code
def yJ20_makeInt : MethodName := ⟨RJ20, "makeInt", "(SS)I"⟩
abbrev cJ20_toUnsignedInt : ByteArray := prog_73_method_367_code
def yJ20_toUnsignedInt : MethodName := ⟨RJ20, "toUnsignedInt", "(S)I"⟩
abbrev cJ20_makeInt_2 : ByteArray := prog_73_method_355_code
def yJ20_makeInt_2 : MethodName := ⟨RJ20, "makeInt", "(BBBB)I"⟩
abbrev cJ20_toUnsignedInt_2 : ByteArray := prog_73_method_366_code
def yJ20_toUnsignedInt_2 : MethodName := ⟨RJ20, "toUnsignedInt", "(B)I"⟩
abbrev cJ21_numberOfLeadingZeros : ByteArray := prog_35_method_48_code
def yJ21_numberOfLeadingZeros : MethodName := ⟨RJ21, "numberOfLeadingZeros", "(J)I"⟩
abbrev cJ21_numberOfTrailingZeros : ByteArray := prog_35_method_49_code
def yJ21_numberOfTrailingZeros : MethodName := ⟨RJ21, "numberOfTrailingZeros", "(J)I"⟩
abbrev cJ22_compareTo : ByteArray := prog_43_method_29_code
def yJ22_compareTo : MethodName := ⟨RJ22, "compareTo", "([B[B)I"⟩
abbrev cJ22_length : ByteArray := prog_43_method_6_code
def yJ22_length : MethodName := ⟨RJ22, "length", "([B)I"⟩
abbrev cJ22_compareValues : ByteArray := prog_43_method_31_code
def yJ22_compareValues : MethodName := ⟨RJ22, "compareValues", "([B[BII)I"⟩
abbrev cJ22_getChar : ByteArray := prog_43_method_5_code
def yJ22_getChar : MethodName := ⟨RJ22, "getChar", "([BI)C"⟩
abbrev cJ22_compareToLatin1 : ByteArray := prog_43_method_32_code
def yJ22_compareToLatin1 : MethodName := ⟨RJ22, "compareToLatin1", "([B[B)I"⟩
abbrev cJ22_compareTo_2 : ByteArray := prog_43_method_30_code
def yJ22_compareTo_2 : MethodName := ⟨RJ22, "compareTo", "([B[BII)I"⟩
abbrev cJ22_checkOffset : ByteArray := prog_43_method_92_code
def yJ22_checkOffset : MethodName := ⟨RJ22, "checkOffset", "(I[B)V"⟩
abbrev cJ22_compareToLatin1_2 : ByteArray := prog_43_method_33_code
def yJ22_compareToLatin1_2 : MethodName := ⟨RJ22, "compareToLatin1", "([B[BII)I"⟩
abbrev cJ22_newBytesFor : ByteArray := prog_43_method_2_code
def yJ22_newBytesFor : MethodName := ⟨RJ22, "newBytesFor", "(I)[B"⟩
abbrev cJ22_newBytesLength : ByteArray := prog_43_method_3_code
def yJ22_newBytesLength : MethodName := ⟨RJ22, "newBytesLength", "(I)I"⟩
abbrev cJ22_putCharsAt : ByteArray := prog_43_method_81_code
def yJ22_putCharsAt : MethodName := ⟨RJ22, "putCharsAt", "([BICCCC)I"⟩
abbrev cJ22_checkBoundsBeginEnd : ByteArray := prog_43_method_93_code
def yJ22_checkBoundsBeginEnd : MethodName := ⟨RJ22, "checkBoundsBeginEnd", "(II[B)V"⟩
abbrev cJ22_putChar : ByteArray := prog_43_method_4_code
def yJ22_putChar : MethodName := ⟨RJ22, "putChar", "([BII)V"⟩
abbrev cJ22_inflate : ByteArray := prog_43_method_86_code
def yJ22_inflate : MethodName := ⟨RJ22, "inflate", "([BI[BII)V"⟩
abbrev cJ22_checkBoundsOffCount : ByteArray := prog_43_method_94_code
def yJ22_checkBoundsOffCount : MethodName := ⟨RJ22, "checkBoundsOffCount", "(II[B)V"⟩
abbrev cJ22_getChars : ByteArray := prog_43_method_77_code
def yJ22_getChars : MethodName := ⟨RJ22, "getChars", "(III[B)I"⟩
abbrev cJ22_getChars_2 : ByteArray := prog_43_method_89_code
def yJ22_getChars_2 : MethodName := ⟨RJ22, "getChars", "(II[B)I"⟩
abbrev cJ22_compress : ByteArray := prog_43_method_17_code
def yJ22_compress : MethodName := ⟨RJ22, "compress", "([BII)[B"⟩
abbrev cJ22_compress_2 : ByteArray := prog_43_method_22_code
def yJ22_compress_2 : MethodName := ⟨RJ22, "compress", "([BI[BII)I"⟩
abbrev cJ22_coderFromArrayLen : ByteArray := prog_43_method_15_code
def yJ22_coderFromArrayLen : MethodName := ⟨RJ22, "coderFromArrayLen", "([BI)B"⟩
abbrev cJ22_hashCode : ByteArray := prog_43_method_39_code
def yJ22_hashCode : MethodName := ⟨RJ22, "hashCode", "([B)I"⟩
abbrev cJ23_checkFromToIndex : ByteArray := prog_76_method_12_code
def yJ23_checkFromToIndex : MethodName := ⟨RJ23, "checkFromToIndex", "(IIILjava/util/function/BiFunction;)I"⟩
abbrev cJ23_checkIndex : ByteArray := prog_76_method_11_code
def yJ23_checkIndex : MethodName := ⟨RJ23, "checkIndex", "(IILjava/util/function/BiFunction;)I"⟩
abbrev cJ23_checkFromIndexSize : ByteArray := prog_76_method_13_code
def yJ23_checkFromIndexSize : MethodName := ⟨RJ23, "checkFromIndexSize", "(IIILjava/util/function/BiFunction;)I"⟩
abbrev cJ24_init : ByteArray := prog_71_method_1_code
def yJ24_init : MethodName := ⟨RJ24, "<init>", "(Ljava/lang/Object;Ljava/lang/Object;Ljava/util/TreeMap$Entry;)V"⟩
abbrev cJ25_requireNonNull : ByteArray := prog_63_method_10_code
def yJ25_requireNonNull : MethodName := ⟨RJ25, "requireNonNull", "(Ljava/lang/Object;)Ljava/lang/Object;"⟩
abbrev cJ25_checkIndex : ByteArray := prog_63_method_17_code
def yJ25_checkIndex : MethodName := ⟨RJ25, "checkIndex", "(II)I"⟩
abbrev cX6_init : ByteArray := prog_16_method_1_code
def yX6_init : MethodName := ⟨RX6, "<init>", "(JJ)V"⟩
abbrev cX6_meets : ByteArray := prog_16_method_2_code
def yX6_meets : MethodName := ⟨RX6, "meets", "(LTaxmaze$Shift;)Z"⟩
abbrev cX6_to : ByteArray := prog_16_method_7_code
def yX6_to : MethodName := ⟨RX6, "to", "()J"⟩
abbrev cX6_from : ByteArray := prog_16_method_6_code
def yX6_from : MethodName := ⟨RX6, "from", "()J"⟩
abbrev cJ26_init : ByteArray := prog_54_method_1_code
def yJ26_init : MethodName := ⟨RJ26, "<init>", "(Ljava/util/ArrayList;)V"⟩
abbrev cJ26_hasNext : ByteArray := prog_54_method_2_code
def yJ26_hasNext : MethodName := ⟨RJ26, "hasNext", "()Z"⟩
abbrev cJ26_next : ByteArray := prog_54_method_3_code
def yJ26_next : MethodName := ⟨RJ26, "next", "()Ljava/lang/Object;"⟩
abbrev cJ26_checkForComodification : ByteArray := prog_54_method_6_code
def yJ26_checkForComodification : MethodName := ⟨RJ26, "checkForComodification", "()V"⟩
abbrev cX7_init : ByteArray := prog_2_method_1_code
def yX7_init : MethodName := ⟨RX7, "<init>", "(LTaxmaze;I)V"⟩
abbrev cX7_upTo : ByteArray := prog_2_method_5_code
def yX7_upTo : MethodName := ⟨RX7, "upTo", "(I)I"⟩
abbrev cX7_begin : ByteArray := prog_2_method_3_code
def yX7_begin : MethodName := ⟨RX7, "begin", "(I)V"⟩
abbrev cX7_hasContractOn : ByteArray := prog_2_method_2_code
def yX7_hasContractOn : MethodName := ⟨RX7, "hasContractOn", "(I)Z"⟩
abbrev cX7_take : ByteArray := prog_2_method_4_code
def yX7_take : MethodName := ⟨RX7, "take", "(I)V"⟩
abbrev cX8_init : ByteArray := prog_12_method_1_code
def yX8_init : MethodName := ⟨RX8, "<init>", "(LTaxmaze$Contract;I)V"⟩
abbrev cX9_init : ByteArray := prog_15_method_1_code
def yX9_init : MethodName := ⟨RX9, "<init>", "(I)V"⟩
abbrev cX9_what : ByteArray := prog_15_method_5_code
def yX9_what : MethodName := ⟨RX9, "what", "()I"⟩
abbrev cX10_init : ByteArray := prog_4_method_1_code
def yX10_init : MethodName := ⟨RX10, "<init>", "(I)V"⟩
abbrev cX10_element : ByteArray := prog_4_method_5_code
def yX10_element : MethodName := ⟨RX10, "element", "()I"⟩
abbrev cX11_init : ByteArray := prog_17_method_1_code
def yX11_init : MethodName := ⟨RX11, "<init>", "(I)V"⟩
abbrev cX11_number : ByteArray := prog_17_method_5_code
def yX11_number : MethodName := ⟨RX11, "number", "()I"⟩
abbrev cX12_init : ByteArray := prog_10_method_1_code
def yX12_init : MethodName := ⟨RX12, "<init>", "(Ljava/util/List;I)V"⟩
abbrev cX12_needs : ByteArray := prog_10_method_3_code
def yX12_needs : MethodName := ⟨RX12, "needs", "(I)Z"⟩
abbrev cX12_isFor : ByteArray := prog_10_method_2_code
def yX12_isFor : MethodName := ⟨RX12, "isFor", "(I)Z"⟩
abbrev cX12_value : ByteArray := prog_10_method_4_code
def yX12_value : MethodName := ⟨RX12, "value", "(JJ[JI[J)J"⟩
abbrev cJ27_init : ByteArray := prog_52_method_1_code
def yJ27_init : MethodName := ⟨RJ27, "<init>", "()V"⟩
abbrev cJ28_toArray : ByteArray := prog_64_method_20_code
def yJ28_toArray : MethodName := ⟨RJ28, "toArray", "()[Ljava/lang/Object;"⟩
abbrev cJ28_init : ByteArray := prog_64_method_1_code
def yJ28_init : MethodName := ⟨RJ28, "<init>", "()V"⟩
abbrev cJ28_init_2 : ByteArray := prog_64_method_4_code
def yJ28_init_2 : MethodName := ⟨RJ28, "<init>", "(ILjava/util/Comparator;)V"⟩
abbrev cJ28_add : ByteArray := prog_64_method_13_code
def yJ28_add : MethodName := ⟨RJ28, "add", "(Ljava/lang/Object;)Z"⟩
abbrev cJ28_offer : ByteArray := prog_64_method_14_code
def yJ28_offer : MethodName := ⟨RJ28, "offer", "(Ljava/lang/Object;)Z"⟩
abbrev cJ28_grow : ByteArray := prog_64_method_12_code
def yJ28_grow : MethodName := ⟨RJ28, "grow", "(I)V"⟩
abbrev cJ28_siftUp : ByteArray := prog_64_method_27_code
def yJ28_siftUp : MethodName := ⟨RJ28, "siftUp", "(ILjava/lang/Object;)V"⟩
abbrev cJ28_siftUpUsingComparator : ByteArray := prog_64_method_29_code
def yJ28_siftUpUsingComparator : MethodName := ⟨RJ28, "siftUpUsingComparator", "(ILjava/lang/Object;[Ljava/lang/Object;Ljava/util/Comparator;)V"⟩
abbrev cJ28_siftUpComparable : ByteArray := prog_64_method_28_code
def yJ28_siftUpComparable : MethodName := ⟨RJ28, "siftUpComparable", "(ILjava/lang/Object;[Ljava/lang/Object;)V"⟩
abbrev cJ28_size : ByteArray := prog_64_method_23_code
def yJ28_size : MethodName := ⟨RJ28, "size", "()I"⟩
abbrev cJ28_poll : ByteArray := prog_64_method_25_code
def yJ28_poll : MethodName := ⟨RJ28, "poll", "()Ljava/lang/Object;"⟩
abbrev cJ28_siftDownComparable : ByteArray := prog_64_method_31_code
def yJ28_siftDownComparable : MethodName := ⟨RJ28, "siftDownComparable", "(ILjava/lang/Object;[Ljava/lang/Object;I)V"⟩
abbrev cJ28_siftDownUsingComparator : ByteArray := prog_64_method_32_code
def yJ28_siftDownUsingComparator : MethodName := ⟨RJ28, "siftDownUsingComparator", "(ILjava/lang/Object;[Ljava/lang/Object;ILjava/util/Comparator;)V"⟩
abbrev cX13_end : ByteArray := prog_5_method_5_code
def yX13_end : MethodName := ⟨RX13, "end", "()I"⟩
abbrev cX13_init : ByteArray := prog_5_method_1_code
def yX13_init : MethodName := ⟨RX13, "<init>", "(II)V"⟩
abbrev cX13_thousandths : ByteArray := prog_5_method_6_code
def yX13_thousandths : MethodName := ⟨RX13, "thousandths", "()I"⟩
abbrev cX14_init : ByteArray := prog_13_method_1_code
def yX14_init : MethodName := ⟨RX14, "<init>", "(LTaxmaze;I)V"⟩
abbrev cX14_findPlain : ByteArray := prog_13_method_2_code
def yX14_findPlain : MethodName := ⟨RX14, "findPlain", "(ILjava/util/List;[J)V"⟩
abbrev cX14_go : ByteArray := prog_13_method_3_code
def yX14_go : MethodName := ⟨RX14, "go", "(I)V"⟩
abbrev cX14_findGross : ByteArray := prog_13_method_4_code
def yX14_findGross : MethodName := ⟨RX14, "findGross", "(I)V"⟩
abbrev cX14_findTax : ByteArray := prog_13_method_5_code
def yX14_findTax : MethodName := ⟨RX14, "findTax", "(I)V"⟩
abbrev cX14_findPayout : ByteArray := prog_13_method_7_code
def yX14_findPayout : MethodName := ⟨RX14, "findPayout", "(I)V"⟩
abbrev cX14_takenBefore : ByteArray := prog_13_method_6_code
def yX14_takenBefore : MethodName := ⟨RX14, "takenBefore", "(II)J"⟩
abbrev cX14_in : ByteArray := prog_13_method_8_code
def yX14_in : MethodName := ⟨RX14, "in", "(I[J)J"⟩
abbrev cX14_allTaken : ByteArray := prog_13_method_9_code
def yX14_allTaken : MethodName := ⟨RX14, "allTaken", "(I)J"⟩
abbrev cX14_payouts : ByteArray := prog_13_method_10_code
def yX14_payouts : MethodName := ⟨RX14, "payouts", "(I)J"⟩
abbrev cJ29_compareTo : ByteArray := prog_22_method_5_code
def yJ29_compareTo : MethodName := ⟨RJ29, "compareTo", "(Ljava/lang/AbstractStringBuilder;)I"⟩
abbrev cJ29_isLatin1 : ByteArray := prog_22_method_68_code
def yJ29_isLatin1 : MethodName := ⟨RJ29, "isLatin1", "()Z"⟩
abbrev cJ29_init : ByteArray := prog_22_method_2_code
def yJ29_init : MethodName := ⟨RJ29, "<init>", "(I)V"⟩
abbrev cJ29_append : ByteArray := prog_22_method_22_code
def yJ29_append : MethodName := ⟨RJ29, "append", "(Ljava/lang/String;)Ljava/lang/AbstractStringBuilder;"⟩
abbrev cJ29_appendNull : ByteArray := prog_22_method_26_code
def yJ29_appendNull : MethodName := ⟨RJ29, "appendNull", "()Ljava/lang/AbstractStringBuilder;"⟩
abbrev cJ29_ensureCapacityInternal : ByteArray := prog_22_method_9_code
def yJ29_ensureCapacityInternal : MethodName := ⟨RJ29, "ensureCapacityInternal", "(I)V"⟩
abbrev cJ29_newCapacity : ByteArray := prog_22_method_10_code
def yJ29_newCapacity : MethodName := ⟨RJ29, "newCapacity", "(I)I"⟩
abbrev cJ29_putStringAt : ByteArray := prog_22_method_73_code
def yJ29_putStringAt : MethodName := ⟨RJ29, "putStringAt", "(ILjava/lang/String;)V"⟩
abbrev cJ29_inflateIfNeededFor : ByteArray := prog_22_method_71_code
def yJ29_inflateIfNeededFor : MethodName := ⟨RJ29, "inflateIfNeededFor", "(Ljava/lang/String;)V"⟩
abbrev cJ29_inflate : ByteArray := prog_22_method_11_code
def yJ29_inflate : MethodName := ⟨RJ29, "inflate", "()V"⟩
abbrev cJ29_append_2 : ByteArray := prog_22_method_32_code
def yJ29_append_2 : MethodName := ⟨RJ29, "append", "(I)Ljava/lang/AbstractStringBuilder;"⟩
abbrev cJ29_getValue : ByteArray := prog_22_method_64_code
def yJ29_getValue : MethodName := ⟨RJ29, "getValue", "()[B"⟩
abbrev cJ29_length : ByteArray := prog_22_method_6_code
def yJ29_length : MethodName := ⟨RJ29, "length", "()I"⟩
abbrev cJ30_compareTo : ByteArray := prog_41_method_97_code
def yJ30_compareTo : MethodName := ⟨RJ30, "compareTo", "(Ljava/lang/Object;)I"⟩
abbrev cJ30_compareTo_2 : ByteArray := prog_41_method_5_code
def yJ30_compareTo_2 : MethodName := ⟨RJ30, "compareTo", "(Ljava/lang/StringBuilder;)I"⟩
abbrev cJ30_init : ByteArray := prog_41_method_1_code
def yJ30_init : MethodName := ⟨RJ30, "<init>", "()V"⟩
abbrev cJ30_append : ByteArray := prog_41_method_7_code
def yJ30_append : MethodName := ⟨RJ30, "append", "(Ljava/lang/String;)Ljava/lang/StringBuilder;"⟩
abbrev cJ30_append_2 : ByteArray := prog_41_method_15_code
def yJ30_append_2 : MethodName := ⟨RJ30, "append", "(I)Ljava/lang/StringBuilder;"⟩
abbrev cJ30_toString : ByteArray := prog_41_method_42_code
def yJ30_toString : MethodName := ⟨RJ30, "toString", "()Ljava/lang/String;"⟩
abbrev cJ30_length : ByteArray := prog_41_method_93_code
def yJ30_length : MethodName := ⟨RJ30, "length", "()I"⟩
abbrev cX15_init : ByteArray := prog_11_method_1_code
def yX15_init : MethodName := ⟨RX15, "<init>", "(IIIIIII)V"⟩
abbrev cX16_compare : ByteArray := prog_6_method_3_code
def yX16_compare : MethodName := ⟨RX16, "compare", "(Ljava/lang/Object;Ljava/lang/Object;)I"⟩
abbrev cX16_compare_2 : ByteArray := prog_6_method_2_code
def yX16_compare_2 : MethodName := ⟨RX16, "compare", "(LTaxmaze$Garnishment;LTaxmaze$Garnishment;)I"⟩
abbrev cX16_init : ByteArray := prog_6_method_1_code
def yX16_init : MethodName := ⟨RX16, "<init>", "()V"⟩
abbrev cX17_person : ByteArray := prog_3_method_5_code
def yX17_person : MethodName := ⟨RX17, "person", "()I"⟩
abbrev cX17_month : ByteArray := prog_3_method_6_code
def yX17_month : MethodName := ⟨RX17, "month", "()I"⟩
abbrev cX17_cents : ByteArray := prog_3_method_7_code
def yX17_cents : MethodName := ⟨RX17, "cents", "()I"⟩
abbrev cX17_init : ByteArray := prog_3_method_1_code
def yX17_init : MethodName := ⟨RX17, "<init>", "(III)V"⟩
abbrev cX18_init : ByteArray := prog_14_method_1_code
def yX18_init : MethodName := ⟨RX18, "<init>", "(IIJ)V"⟩
abbrev cJ31_init : ByteArray := object_method_1_code
def yJ31_init : MethodName := ⟨RJ31, "<init>", "()V"⟩
abbrev cJ32_getUTF16Char : ByteArray := prog_45_method_45_code
def yJ32_getUTF16Char : MethodName := ⟨RJ32, "getUTF16Char", "([BI)C"⟩
