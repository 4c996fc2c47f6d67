/-! THE CLASSES: names, fields, their words; the table of tags -/
set_option maxRecDepth 100000
def RX0 : String := "LionGateLaw"
def RX1 : String := "LionGate"
def TX1 : u_T := fun k => match k with
  | 0 => ("LionGate", "queue", "LLionGate$Queue;", false)
  | 1 => ("LionGate", "snapshot", "LLionGate$Queue;", false)
  | 2 => ("LionGate", "history", "Ljava/util/LinkedList;", true)
  | 3 => ("LionGate", "script", "Ljava/lang/StringBuilder;", true)
  | 4 => ("LionGate", "errorPosition", "I", false)
  | 5 => ("LionGate", "failedCommand", "I", false)
  | 6 => ("LionGate", "failureKind", "C", false)
  | _ => ("LionGate", "output", "Ljava/lang/String;", false)
def tyX1 : Nat → FieldType := fun k => match k with
  | 0 => .object "LionGate$Queue"
  | 1 => .object "LionGate$Queue"
  | 2 => .object "java/util/LinkedList"
  | 3 => .object "java/lang/StringBuilder"
  | 4 => .int
  | 5 => .int
  | 6 => .char
  | _ => .object "java/lang/String"
abbrev wsX10 : List Cond := u_ws RX1 TX1 8
theorem nmX1 : ∀ a, a < 8 → ∀ b, b < 8 → a ≠ b → (TX1 a).2.1 ≠ (TX1 b).2.1 := by decide +kernel
theorem tyX1_ok : ∀ k, k < 8 → parseFieldDescriptor (TX1 k).2.2.1 = some (tyX1 k) := by decide +kernel
theorem in_X1 : ∀ w ∈ wsX10, w ∈ lw_all := lw_in wsX10 [379, 381, 383, 385, 387, 389, 391, 393] (by decide +kernel) (by decide +kernel)
def RX2 : String := "LionGate$Queue"
def TX2 : u_T := fun k => match k with
  | 0 => ("LionGate$Queue", "lions", "Ljava/util/TreeMap;", true)
  | 1 => ("LionGate$Queue", "keepers", "LLionGate$Keepers;", false)
  | 2 => ("LionGate$Queue", "heap", "LLionGate$Node;", false)
  | 3 => ("LionGate$Queue", "size", "I", false)
  | 4 => ("LionGate$Queue", "nextLion", "I", false)
  | 5 => ("LionGate$Queue", "drawn", "I", false)
  | 6 => ("LionGate$Queue", "thrown", "I", false)
  | 7 => ("LionGate$Queue", "hour", "I", false)
  | 8 => ("LionGate$Queue", "served", "I", false)
  | 9 => ("LionGate$Queue", "late", "I", false)
  | _ => ("LionGate$Queue", "portions", "I", false)
def tyX2 : Nat → FieldType := fun k => match k with
  | 0 => .object "java/util/TreeMap"
  | 1 => .object "LionGate$Keepers"
  | 2 => .object "LionGate$Node"
  | 3 => .int
  | 4 => .int
  | 5 => .int
  | 6 => .int
  | 7 => .int
  | 8 => .int
  | 9 => .int
  | _ => .int
abbrev wsX20 : List Cond := u_ws RX2 TX2 11
theorem nmX2 : ∀ a, a < 11 → ∀ b, b < 11 → a ≠ b → (TX2 a).2.1 ≠ (TX2 b).2.1 := by decide +kernel
theorem tyX2_ok : ∀ k, k < 11 → parseFieldDescriptor (TX2 k).2.2.1 = some (tyX2 k) := by decide +kernel
theorem in_X2 : ∀ w ∈ wsX20, w ∈ lw_all := lw_in wsX20 [293, 295, 297, 299, 301, 303, 305, 307, 309, 311, 313] (by decide +kernel) (by decide +kernel)
def RJ0 : String := "java/util/AbstractMap"
def RJ1 : String := "java/util/TreeMap"
def TJ1 : u_T := fun k => match k with
  | 0 => ("java/util/AbstractMap", "keySet", "Ljava/util/Set;", false)
  | 1 => ("java/util/AbstractMap", "values", "Ljava/util/Collection;", false)
  | 2 => ("java/util/TreeMap", "comparator", "Ljava/util/Comparator;", true)
  | 3 => ("java/util/TreeMap", "root", "Ljava/util/TreeMap$Entry;", false)
  | 4 => ("java/util/TreeMap", "size", "I", false)
  | 5 => ("java/util/TreeMap", "modCount", "I", false)
  | 6 => ("java/util/TreeMap", "entrySet", "Ljava/util/TreeMap$EntrySet;", false)
  | 7 => ("java/util/TreeMap", "navigableKeySet", "Ljava/util/TreeMap$KeySet;", false)
  | _ => ("java/util/TreeMap", "descendingMap", "Ljava/util/NavigableMap;", false)
def tyJ1 : Nat → FieldType := fun k => match k with
  | 0 => .object "java/util/Set"
  | 1 => .object "java/util/Collection"
  | 2 => .object "java/util/Comparator"
  | 3 => .object "java/util/TreeMap$Entry"
  | 4 => .int
  | 5 => .int
  | 6 => .object "java/util/TreeMap$EntrySet"
  | 7 => .object "java/util/TreeMap$KeySet"
  | _ => .object "java/util/NavigableMap"
abbrev wsJ10 : List Cond := u_ws RJ1 TJ1 9
theorem nmJ1 : ∀ a, a < 9 → ∀ b, b < 9 → a ≠ b → (TJ1 a).2.1 ≠ (TJ1 b).2.1 := by decide +kernel
theorem tyJ1_ok : ∀ k, k < 9 → parseFieldDescriptor (TJ1 k).2.2.1 = some (tyJ1 k) := by decide +kernel
theorem in_J1 : ∀ w ∈ wsJ10, w ∈ lw_all := lw_in wsJ10 [223, 225, 209, 211, 213, 215, 217, 219, 221] (by decide +kernel) (by decide +kernel)
def RX3 : String := "LionGate$Keepers"
def TX3 : u_T := fun k => match k with
  | _ => ("LionGate$Keepers", "keepers", "Ljava/util/List;", true)
def tyX3 : Nat → FieldType := fun k => match k with
  | _ => .object "java/util/List"
abbrev wsX30 : List Cond := u_ws RX3 TX3 1
theorem nmX3 : ∀ a, a < 1 → ∀ b, b < 1 → a ≠ b → (TX3 a).2.1 ≠ (TX3 b).2.1 := by decide +kernel
theorem tyX3_ok : ∀ k, k < 1 → parseFieldDescriptor (TX3 k).2.2.1 = some (tyX3 k) := by decide +kernel
theorem in_X3 : ∀ w ∈ wsX30, w ∈ lw_all := lw_in wsX30 [269] (by decide +kernel) (by decide +kernel)
def RJ2 : String := "java/util/AbstractCollection"
def RJ3 : String := "java/util/AbstractList"
def RJ4 : String := "java/util/ArrayList"
def TJ4 : u_T := fun k => match k with
  | 0 => ("java/util/AbstractList", "modCount", "I", false)
  | 1 => ("java/util/ArrayList", "elementData", "[Ljava/lang/Object;", false)
  | _ => ("java/util/ArrayList", "size", "I", false)
def tyJ4 : Nat → FieldType := fun k => match k with
  | 0 => .int
  | 1 => .array (.object "java/lang/Object")
  | _ => .int
abbrev wsJ40 : List Cond := u_ws RJ4 TJ4 3
theorem nmJ4 : ∀ a, a < 3 → ∀ b, b < 3 → a ≠ b → (TJ4 a).2.1 ≠ (TJ4 b).2.1 := by decide +kernel
theorem tyJ4_ok : ∀ k, k < 3 → parseFieldDescriptor (TJ4 k).2.2.1 = some (tyJ4 k) := by decide +kernel
theorem in_J4 : ∀ w ∈ wsJ40, w ∈ lw_all := lw_in wsJ40 [264, 260, 262] (by decide +kernel) (by decide +kernel)
def RJ5 : String := "java/util/AbstractSequentialList"
def RJ6 : String := "java/util/LinkedList"
def TJ6 : u_T := fun k => match k with
  | 0 => ("java/util/AbstractList", "modCount", "I", false)
  | 1 => ("java/util/LinkedList", "size", "I", false)
  | 2 => ("java/util/LinkedList", "first", "Ljava/util/LinkedList$Node;", false)
  | _ => ("java/util/LinkedList", "last", "Ljava/util/LinkedList$Node;", false)
def tyJ6 : Nat → FieldType := fun k => match k with
  | 0 => .int
  | 1 => .int
  | 2 => .object "java/util/LinkedList$Node"
  | _ => .object "java/util/LinkedList$Node"
abbrev wsJ60 : List Cond := u_ws RJ6 TJ6 4
theorem nmJ6 : ∀ a, a < 4 → ∀ b, b < 4 → a ≠ b → (TJ6 a).2.1 ≠ (TJ6 b).2.1 := by decide +kernel
theorem tyJ6_ok : ∀ k, k < 4 → parseFieldDescriptor (TJ6 k).2.2.1 = some (tyJ6 k) := by decide +kernel
theorem in_J6 : ∀ w ∈ wsJ60, w ∈ lw_all := lw_in wsJ60 [335, 329, 331, 333] (by decide +kernel) (by decide +kernel)
def RJ7 : String := "java/lang/AbstractStringBuilder"
def RJ8 : String := "java/lang/StringBuilder"
def TJ8 : u_T := fun k => match k with
  | 0 => ("java/lang/AbstractStringBuilder", "value", "[B", false)
  | 1 => ("java/lang/AbstractStringBuilder", "coder", "B", false)
  | 2 => ("java/lang/AbstractStringBuilder", "maybeLatin1", "Z", false)
  | _ => ("java/lang/AbstractStringBuilder", "count", "I", false)
def tyJ8 : Nat → FieldType := fun k => match k with
  | 0 => .array .byte
  | 1 => .byte
  | 2 => .boolean
  | _ => .int
abbrev wsJ80 : List Cond := u_ws RJ8 TJ8 4
theorem nmJ8 : ∀ a, a < 4 → ∀ b, b < 4 → a ≠ b → (TJ8 a).2.1 ≠ (TJ8 b).2.1 := by decide +kernel
theorem tyJ8_ok : ∀ k, k < 4 → parseFieldDescriptor (TJ8 k).2.2.1 = some (tyJ8 k) := by decide +kernel
theorem in_J8 : ∀ w ∈ wsJ80, w ∈ lw_all := lw_in wsJ80 [360, 362, 364, 366] (by decide +kernel) (by decide +kernel)
def RJ9 : String := "java/lang/String"
def TJ9 : u_T := fun k => match k with
  | 0 => ("java/lang/String", "value", "[B", true)
  | 1 => ("java/lang/String", "coder", "B", true)
  | 2 => ("java/lang/String", "hash", "I", false)
  | _ => ("java/lang/String", "hashIsZero", "Z", false)
def tyJ9 : Nat → FieldType := fun k => match k with
  | 0 => .array .byte
  | 1 => .byte
  | 2 => .int
  | _ => .boolean
abbrev wsJ90 : List Cond := u_ws RJ9 TJ9 4
theorem nmJ9 : ∀ a, a < 4 → ∀ b, b < 4 → a ≠ b → (TJ9 a).2.1 ≠ (TJ9 b).2.1 := by decide +kernel
theorem tyJ9_ok : ∀ k, k < 4 → parseFieldDescriptor (TJ9 k).2.2.1 = some (tyJ9 k) := by decide +kernel
theorem in_J9 : ∀ w ∈ wsJ90, w ∈ lw_all := lw_in wsJ90 [847, 849, 851, 853] (by decide +kernel) (by decide +kernel)
def RJ10 : String := "java/lang/StringUTF16"
def RX4 : String := "LionGateModel"
def TX4 : u_T := fun k => match k with
  | 0 => ("LionGateModel", "thrown", "I", false)
  | 1 => ("LionGateModel", "changes", "I", false)
  | 2 => ("LionGateModel", "errorAt", "I", false)
  | 3 => ("LionGateModel", "failedAt", "I", false)
  | 4 => ("LionGateModel", "failure", "I", false)
  | 5 => ("LionGateModel", "isSaved", "Z", false)
  | 6 => ("LionGateModel", "v", "[I", true)
  | 7 => ("LionGateModel", "before", "[I", true)
  | 8 => ("LionGateModel", "saved", "[I", true)
  | 9 => ("LionGateModel", "past", "[I", true)
  | 10 => ("LionGateModel", "order", "[I", true)
  | 11 => ("LionGateModel", "text", "[I", true)
  | 12 => ("LionGateModel", "line", "[I", true)
  | 13 => ("LionGateModel", "isLeft", "[I", true)
  | 14 => ("LionGateModel", "words", "[I", true)
  | 15 => ("LionGateModel", "wordAt", "[I", true)
  | 16 => ("LionGateModel", "kinds", "[I", true)
  | 17 => ("LionGateModel", "textN", "I", false)
  | 18 => ("LionGateModel", "here", "I", false)
  | 19 => ("LionGateModel", "end", "I", false)
  | 20 => ("LionGateModel", "lineN", "I", false)
  | 21 => ("LionGateModel", "last", "I", false)
  | 22 => ("LionGateModel", "isWrong", "Z", false)
  | _ => ("LionGateModel", "isDoing", "Z", false)
def tyX4 : Nat → FieldType := fun k => match k with
  | 0 => .int
  | 1 => .int
  | 2 => .int
  | 3 => .int
  | 4 => .int
  | 5 => .boolean
  | 6 => .array .int
  | 7 => .array .int
  | 8 => .array .int
  | 9 => .array .int
  | 10 => .array .int
  | 11 => .array .int
  | 12 => .array .int
  | 13 => .array .int
  | 14 => .array .int
  | 15 => .array .int
  | 16 => .array .int
  | 17 => .int
  | 18 => .int
  | 19 => .int
  | 20 => .int
  | 21 => .int
  | 22 => .boolean
  | _ => .boolean
abbrev wsX40 : List Cond := u_ws RX4 TX4 24
theorem nmX4 : ∀ a, a < 24 → ∀ b, b < 24 → a ≠ b → (TX4 a).2.1 ≠ (TX4 b).2.1 := by decide +kernel
theorem tyX4_ok : ∀ k, k < 24 → parseFieldDescriptor (TX4 k).2.2.1 = some (tyX4 k) := by decide +kernel
theorem in_X4 : ∀ w ∈ wsX40, w ∈ lw_all := lw_in wsX40 [3903, 3905, 3907, 3909, 3911, 3913, 3915, 3917, 3919, 3921, 3923, 3925, 3927, 3929, 3931, 3933, 3935, 3937, 3939, 3941, 3943, 3945, 3947, 3949] (by decide +kernel) (by decide +kernel)
def RJ11 : String := "java/util/TreeMap$Values"
def TJ11 : u_T := fun k => match k with
  | _ => ("java/util/TreeMap$Values", "this$0", "Ljava/util/TreeMap;", true)
def tyJ11 : Nat → FieldType := fun k => match k with
  | _ => .object "java/util/TreeMap"
abbrev wsJ110 : List Cond := u_ws RJ11 TJ11 1
theorem nmJ11 : ∀ a, a < 1 → ∀ b, b < 1 → a ≠ b → (TJ11 a).2.1 ≠ (TJ11 b).2.1 := by decide +kernel
theorem tyJ11_ok : ∀ k, k < 1 → parseFieldDescriptor (TJ11 k).2.2.1 = some (tyJ11 k) := by decide +kernel
theorem in_J11 : ∀ w ∈ wsJ110, w ∈ lw_all := lw_in wsJ110 [423] (by decide +kernel) (by decide +kernel)
def RJ12 : String := "java/util/ArrayDeque$DeqIterator"
def RJ13 : String := "java/util/ArrayDeque"
def TJ13 : u_T := fun k => match k with
  | 0 => ("java/util/ArrayDeque", "elements", "[Ljava/lang/Object;", false)
  | 1 => ("java/util/ArrayDeque", "head", "I", false)
  | _ => ("java/util/ArrayDeque", "tail", "I", false)
def tyJ13 : Nat → FieldType := fun k => match k with
  | 0 => .array (.object "java/lang/Object")
  | 1 => .int
  | _ => .int
abbrev wsJ130 : List Cond := u_ws RJ13 TJ13 3
theorem nmJ13 : ∀ a, a < 3 → ∀ b, b < 3 → a ≠ b → (TJ13 a).2.1 ≠ (TJ13 b).2.1 := by decide +kernel
theorem tyJ13_ok : ∀ k, k < 3 → parseFieldDescriptor (TJ13 k).2.2.1 = some (tyJ13 k) := by decide +kernel
theorem in_J13 : ∀ w ∈ wsJ130, w ∈ lw_all := lw_in wsJ130 [2081, 2083, 2085] (by decide +kernel) (by decide +kernel)
def RJ14 : String := "java/util/ArrayList$Itr"
def TJ14 : u_T := fun k => match k with
  | 0 => ("java/util/ArrayList$Itr", "cursor", "I", false)
  | 1 => ("java/util/ArrayList$Itr", "lastRet", "I", false)
  | 2 => ("java/util/ArrayList$Itr", "expectedModCount", "I", false)
  | _ => ("java/util/ArrayList$Itr", "this$0", "Ljava/util/ArrayList;", true)
def tyJ14 : Nat → FieldType := fun k => match k with
  | 0 => .int
  | 1 => .int
  | 2 => .int
  | _ => .object "java/util/ArrayList"
abbrev wsJ140 : List Cond := u_ws RJ14 TJ14 4
theorem nmJ14 : ∀ a, a < 4 → ∀ b, b < 4 → a ≠ b → (TJ14 a).2.1 ≠ (TJ14 b).2.1 := by decide +kernel
theorem tyJ14_ok : ∀ k, k < 4 → parseFieldDescriptor (TJ14 k).2.2.1 = some (tyJ14 k) := by decide +kernel
theorem in_J14 : ∀ w ∈ wsJ140, w ∈ lw_all := lw_in wsJ140 [481, 483, 485, 487] (by decide +kernel) (by decide +kernel)
def RJ15 : String := "java/util/ImmutableCollections$ListItr"
def TJ15 : u_T := fun k => match k with
  | 0 => ("java/util/ImmutableCollections$ListItr", "list", "Ljava/util/List;", true)
  | 1 => ("java/util/ImmutableCollections$ListItr", "size", "I", true)
  | 2 => ("java/util/ImmutableCollections$ListItr", "isListIterator", "Z", true)
  | _ => ("java/util/ImmutableCollections$ListItr", "cursor", "I", false)
def tyJ15 : Nat → FieldType := fun k => match k with
  | 0 => .object "java/util/List"
  | 1 => .int
  | 2 => .boolean
  | _ => .int
abbrev wsJ150 : List Cond := u_ws RJ15 TJ15 4
theorem nmJ15 : ∀ a, a < 4 → ∀ b, b < 4 → a ≠ b → (TJ15 a).2.1 ≠ (TJ15 b).2.1 := by decide +kernel
theorem tyJ15_ok : ∀ k, k < 4 → parseFieldDescriptor (TJ15 k).2.2.1 = some (tyJ15 k) := by decide +kernel
theorem in_J15 : ∀ w ∈ wsJ150, w ∈ lw_all := lw_in wsJ150 [517, 519, 521, 523] (by decide +kernel) (by decide +kernel)
def RJ16 : String := "java/util/ImmutableCollections"
def RJ17 : String := "java/lang/Throwable"
def RJ18 : String := "java/lang/Exception"
def RJ19 : String := "java/lang/RuntimeException"
def RJ20 : String := "java/lang/IndexOutOfBoundsException"
def TJ20 : u_T := fun k => match k with
  | 0 => ("java/lang/Throwable", "cause", "Ljava/lang/Throwable;", false)
  | 1 => ("java/lang/Throwable", "stackTrace", "[Ljava/lang/StackTraceElement;", false)
  | 2 => ("java/lang/Throwable", "suppressedExceptions", "Ljava/util/List;", false)
  | 3 => ("java/lang/Throwable", "detailMessage", "Ljava/lang/String;", false)
  | 4 => ("java/lang/Throwable", "backtrace", "Ljava/lang/Object;", false)
  | _ => ("java/lang/Throwable", "depth", "I", false)
def tyJ20 : Nat → FieldType := fun k => match k with
  | 0 => .object "java/lang/Throwable"
  | 1 => .array (.object "java/lang/StackTraceElement")
  | 2 => .object "java/util/List"
  | 3 => .object "java/lang/String"
  | 4 => .object "java/lang/Object"
  | _ => .int
abbrev wsJ200 : List Cond := u_ws RJ20 TJ20 6
theorem nmJ20 : ∀ a, a < 6 → ∀ b, b < 6 → a ≠ b → (TJ20 a).2.1 ≠ (TJ20 b).2.1 := by decide +kernel
theorem tyJ20_ok : ∀ k, k < 6 → parseFieldDescriptor (TJ20 k).2.2.1 = some (tyJ20 k) := by decide +kernel
theorem in_J20 : ∀ w ∈ wsJ200, w ∈ lw_all := lw_in wsJ200 [562, 564, 566, 568, 570, 860] (by decide +kernel) (by decide +kernel)
def RJ21 : String := "jdk/internal/util/ArraysSupport"
def RJ22 : String := "java/lang/Math"
def RJ23 : String := "java/util/Arrays"
def RJ24 : String := "jdk/internal/util/Preconditions"
def RJ25 : String := "java/lang/StringLatin1"
def RJ26 : String := "java/lang/Number"
def RJ27 : String := "java/lang/Integer"
def TJ27 : u_T := fun k => match k with
  | _ => ("java/lang/Integer", "value", "I", true)
def tyJ27 : Nat → FieldType := fun k => match k with
  | _ => .int
abbrev wsJ270 : List Cond := u_ws RJ27 TJ27 1
theorem nmJ27 : ∀ a, a < 1 → ∀ b, b < 1 → a ≠ b → (TJ27 a).2.1 ≠ (TJ27 b).2.1 := by decide +kernel
theorem tyJ27_ok : ∀ k, k < 1 → parseFieldDescriptor (TJ27 k).2.2.1 = some (tyJ27 k) := by decide +kernel
theorem in_J27 : ∀ w ∈ wsJ270, w ∈ lw_all := lw_in wsJ270 [1445] (by decide +kernel) (by decide +kernel)
def RJ28 : String := "java/lang/IllegalArgumentException"
def TJ28 : u_T := fun k => match k with
  | 0 => ("java/lang/Throwable", "cause", "Ljava/lang/Throwable;", false)
  | 1 => ("java/lang/Throwable", "stackTrace", "[Ljava/lang/StackTraceElement;", false)
  | 2 => ("java/lang/Throwable", "suppressedExceptions", "Ljava/util/List;", false)
  | 3 => ("java/lang/Throwable", "detailMessage", "Ljava/lang/String;", false)
  | 4 => ("java/lang/Throwable", "backtrace", "Ljava/lang/Object;", false)
  | _ => ("java/lang/Throwable", "depth", "I", false)
def tyJ28 : Nat → FieldType := fun k => match k with
  | 0 => .object "java/lang/Throwable"
  | 1 => .array (.object "java/lang/StackTraceElement")
  | 2 => .object "java/util/List"
  | 3 => .object "java/lang/String"
  | 4 => .object "java/lang/Object"
  | _ => .int
abbrev wsJ280 : List Cond := u_ws RJ28 TJ28 6
theorem nmJ28 : ∀ a, a < 6 → ∀ b, b < 6 → a ≠ b → (TJ28 a).2.1 ≠ (TJ28 b).2.1 := by decide +kernel
theorem tyJ28_ok : ∀ k, k < 6 → parseFieldDescriptor (TJ28 k).2.2.1 = some (tyJ28 k) := by decide +kernel
theorem in_J28 : ∀ w ∈ wsJ280, w ∈ lw_all := lw_in wsJ280 [794, 795, 796, 797, 798, 826] (by decide +kernel) (by decide +kernel)
def RJ29 : String := "java/util/AbstractList$Itr"
def RJ30 : String := "java/util/ArrayList$ListItr"
def RJ31 : String := "java/util/LinkedList$ListItr"
def RJ32 : String := "java/util/PriorityQueue$Itr"
def RJ33 : String := "java/util/TreeMap$PrivateEntryIterator"
def RJ34 : String := "java/util/TreeMap$EntryIterator"
def RJ35 : String := "java/util/TreeMap$KeyIterator"
def TJ35 : u_T := fun k => match k with
  | 0 => ("java/util/TreeMap$PrivateEntryIterator", "next", "Ljava/util/TreeMap$Entry;", false)
  | 1 => ("java/util/TreeMap$PrivateEntryIterator", "lastReturned", "Ljava/util/TreeMap$Entry;", false)
  | 2 => ("java/util/TreeMap$PrivateEntryIterator", "expectedModCount", "I", false)
  | _ => ("java/util/TreeMap$PrivateEntryIterator", "this$0", "Ljava/util/TreeMap;", true)
def tyJ35 : Nat → FieldType := fun k => match k with
  | 0 => .object "java/util/TreeMap$Entry"
  | 1 => .object "java/util/TreeMap$Entry"
  | 2 => .int
  | _ => .object "java/util/TreeMap"
abbrev wsJ350 : List Cond := u_ws RJ35 TJ35 4
theorem nmJ35 : ∀ a, a < 4 → ∀ b, b < 4 → a ≠ b → (TJ35 a).2.1 ≠ (TJ35 b).2.1 := by decide +kernel
theorem tyJ35_ok : ∀ k, k < 4 → parseFieldDescriptor (TJ35 k).2.2.1 = some (tyJ35 k) := by decide +kernel
theorem in_J35 : ∀ w ∈ wsJ350, w ∈ lw_all := lw_in wsJ350 [1008, 1009, 1010, 1011] (by decide +kernel) (by decide +kernel)
def RJ36 : String := "java/util/TreeMap$ValueIterator"
def TJ36 : u_T := fun k => match k with
  | 0 => ("java/util/TreeMap$PrivateEntryIterator", "next", "Ljava/util/TreeMap$Entry;", false)
  | 1 => ("java/util/TreeMap$PrivateEntryIterator", "lastReturned", "Ljava/util/TreeMap$Entry;", false)
  | 2 => ("java/util/TreeMap$PrivateEntryIterator", "expectedModCount", "I", false)
  | _ => ("java/util/TreeMap$PrivateEntryIterator", "this$0", "Ljava/util/TreeMap;", true)
def tyJ36 : Nat → FieldType := fun k => match k with
  | 0 => .object "java/util/TreeMap$Entry"
  | 1 => .object "java/util/TreeMap$Entry"
  | 2 => .int
  | _ => .object "java/util/TreeMap"
abbrev wsJ360 : List Cond := u_ws RJ36 TJ36 4
theorem nmJ36 : ∀ a, a < 4 → ∀ b, b < 4 → a ≠ b → (TJ36 a).2.1 ≠ (TJ36 b).2.1 := by decide +kernel
theorem tyJ36_ok : ∀ k, k < 4 → parseFieldDescriptor (TJ36 k).2.2.1 = some (tyJ36 k) := by decide +kernel
theorem in_J36 : ∀ w ∈ wsJ360, w ∈ lw_all := lw_in wsJ360 [1030, 1031, 1032, 1033] (by decide +kernel) (by decide +kernel)
def RJ37 : String := "java/util/Objects"
def RJ38 : String := "java/util/NoSuchElementException"
def TJ38 : u_T := fun k => match k with
  | 0 => ("java/lang/Throwable", "cause", "Ljava/lang/Throwable;", false)
  | 1 => ("java/lang/Throwable", "stackTrace", "[Ljava/lang/StackTraceElement;", false)
  | 2 => ("java/lang/Throwable", "suppressedExceptions", "Ljava/util/List;", false)
  | 3 => ("java/lang/Throwable", "detailMessage", "Ljava/lang/String;", false)
  | 4 => ("java/lang/Throwable", "backtrace", "Ljava/lang/Object;", false)
  | _ => ("java/lang/Throwable", "depth", "I", false)
def tyJ38 : Nat → FieldType := fun k => match k with
  | 0 => .object "java/lang/Throwable"
  | 1 => .array (.object "java/lang/StackTraceElement")
  | 2 => .object "java/util/List"
  | 3 => .object "java/lang/String"
  | 4 => .object "java/lang/Object"
  | _ => .int
abbrev wsJ380 : List Cond := u_ws RJ38 TJ38 6
theorem nmJ38 : ∀ a, a < 6 → ∀ b, b < 6 → a ≠ b → (TJ38 a).2.1 ≠ (TJ38 b).2.1 := by decide +kernel
theorem tyJ38_ok : ∀ k, k < 6 → parseFieldDescriptor (TJ38 k).2.2.1 = some (tyJ38 k) := by decide +kernel
theorem in_J38 : ∀ w ∈ wsJ380, w ∈ lw_all := lw_in wsJ380 [1148, 1149, 1150, 1151, 1152, 1275] (by decide +kernel) (by decide +kernel)
def RJ39 : String := "jdk/internal/misc/Unsafe"
def RJ40 : String := "java/lang/Long"
def RJ41 : String := "java/util/TreeMap$Entry"
def TJ41 : u_T := fun k => match k with
  | 0 => ("java/util/TreeMap$Entry", "key", "Ljava/lang/Object;", false)
  | 1 => ("java/util/TreeMap$Entry", "value", "Ljava/lang/Object;", false)
  | 2 => ("java/util/TreeMap$Entry", "left", "Ljava/util/TreeMap$Entry;", false)
  | 3 => ("java/util/TreeMap$Entry", "right", "Ljava/util/TreeMap$Entry;", false)
  | 4 => ("java/util/TreeMap$Entry", "parent", "Ljava/util/TreeMap$Entry;", false)
  | _ => ("java/util/TreeMap$Entry", "color", "Z", false)
def tyJ41 : Nat → FieldType := fun k => match k with
  | 0 => .object "java/lang/Object"
  | 1 => .object "java/lang/Object"
  | 2 => .object "java/util/TreeMap$Entry"
  | 3 => .object "java/util/TreeMap$Entry"
  | 4 => .object "java/util/TreeMap$Entry"
  | _ => .boolean
abbrev wsJ410 : List Cond := u_ws RJ41 TJ41 6
theorem nmJ41 : ∀ a, a < 6 → ∀ b, b < 6 → a ≠ b → (TJ41 a).2.1 ≠ (TJ41 b).2.1 := by decide +kernel
theorem tyJ41_ok : ∀ k, k < 6 → parseFieldDescriptor (TJ41 k).2.2.1 = some (tyJ41 k) := by decide +kernel
theorem in_J41 : ∀ w ∈ wsJ410, w ∈ lw_all := lw_in wsJ410 [1707, 1709, 1711, 1713, 1715, 1717] (by decide +kernel) (by decide +kernel)
def RJ42 : String := "java/lang/UnsupportedOperationException"
def TJ42 : u_T := fun k => match k with
  | 0 => ("java/lang/Throwable", "cause", "Ljava/lang/Throwable;", false)
  | 1 => ("java/lang/Throwable", "stackTrace", "[Ljava/lang/StackTraceElement;", false)
  | 2 => ("java/lang/Throwable", "suppressedExceptions", "Ljava/util/List;", false)
  | 3 => ("java/lang/Throwable", "detailMessage", "Ljava/lang/String;", false)
  | 4 => ("java/lang/Throwable", "backtrace", "Ljava/lang/Object;", false)
  | _ => ("java/lang/Throwable", "depth", "I", false)
def tyJ42 : Nat → FieldType := fun k => match k with
  | 0 => .object "java/lang/Throwable"
  | 1 => .array (.object "java/lang/StackTraceElement")
  | 2 => .object "java/util/List"
  | 3 => .object "java/lang/String"
  | 4 => .object "java/lang/Object"
  | _ => .int
abbrev wsJ420 : List Cond := u_ws RJ42 TJ42 6
theorem nmJ42 : ∀ a, a < 6 → ∀ b, b < 6 → a ≠ b → (TJ42 a).2.1 ≠ (TJ42 b).2.1 := by decide +kernel
theorem tyJ42_ok : ∀ k, k < 6 → parseFieldDescriptor (TJ42 k).2.2.1 = some (tyJ42 k) := by decide +kernel
theorem in_J42 : ∀ w ∈ wsJ420, w ∈ lw_all := lw_in wsJ420 [1819, 1820, 1821, 1822, 1823, 1828] (by decide +kernel) (by decide +kernel)
def RJ43 : String := "java/util/LinkedList$Node"
def TJ43 : u_T := fun k => match k with
  | 0 => ("java/util/LinkedList$Node", "item", "Ljava/lang/Object;", false)
  | 1 => ("java/util/LinkedList$Node", "next", "Ljava/util/LinkedList$Node;", false)
  | _ => ("java/util/LinkedList$Node", "prev", "Ljava/util/LinkedList$Node;", false)
def tyJ43 : Nat → FieldType := fun k => match k with
  | 0 => .object "java/lang/Object"
  | 1 => .object "java/util/LinkedList$Node"
  | _ => .object "java/util/LinkedList$Node"
abbrev wsJ430 : List Cond := u_ws RJ43 TJ43 3
theorem nmJ43 : ∀ a, a < 3 → ∀ b, b < 3 → a ≠ b → (TJ43 a).2.1 ≠ (TJ43 b).2.1 := by decide +kernel
theorem tyJ43_ok : ∀ k, k < 3 → parseFieldDescriptor (TJ43 k).2.2.1 = some (tyJ43 k) := by decide +kernel
theorem in_J43 : ∀ w ∈ wsJ430, w ∈ lw_all := lw_in wsJ430 [1855, 1857, 1859] (by decide +kernel) (by decide +kernel)
def RX5 : String := "LionGate$Command"
def TX5 : u_T := fun k => match k with
  | 0 => ("LionGate$Command", "word", "Ljava/lang/String;", true)
  | _ => ("LionGate$Command", "arguments", "[I", true)
def tyX5 : Nat → FieldType := fun k => match k with
  | 0 => .object "java/lang/String"
  | _ => .array .int
abbrev wsX50 : List Cond := u_ws RX5 TX5 2
theorem nmX5 : ∀ a, a < 2 → ∀ b, b < 2 → a ≠ b → (TX5 a).2.1 ≠ (TX5 b).2.1 := by decide +kernel
theorem tyX5_ok : ∀ k, k < 2 → parseFieldDescriptor (TX5 k).2.2.1 = some (tyX5 k) := by decide +kernel
theorem in_X5 : ∀ w ∈ wsX50, w ∈ lw_all := lw_in wsX50 [1870, 1872] (by decide +kernel) (by decide +kernel)
def RX6 : String := "LionGate$Failure"
def RX7 : String := "LionGate$ConditionFailure"
def TX7 : u_T := fun k => match k with
  | 0 => ("java/lang/Throwable", "cause", "Ljava/lang/Throwable;", false)
  | 1 => ("java/lang/Throwable", "stackTrace", "[Ljava/lang/StackTraceElement;", false)
  | 2 => ("java/lang/Throwable", "suppressedExceptions", "Ljava/util/List;", false)
  | 3 => ("java/lang/Throwable", "detailMessage", "Ljava/lang/String;", false)
  | 4 => ("java/lang/Throwable", "backtrace", "Ljava/lang/Object;", false)
  | 5 => ("java/lang/Throwable", "depth", "I", false)
  | _ => ("LionGate$ConditionFailure", "kind", "C", true)
def tyX7 : Nat → FieldType := fun k => match k with
  | 0 => .object "java/lang/Throwable"
  | 1 => .array (.object "java/lang/StackTraceElement")
  | 2 => .object "java/util/List"
  | 3 => .object "java/lang/String"
  | 4 => .object "java/lang/Object"
  | 5 => .int
  | _ => .char
abbrev wsX70 : List Cond := u_ws RX7 TX7 7
theorem nmX7 : ∀ a, a < 7 → ∀ b, b < 7 → a ≠ b → (TX7 a).2.1 ≠ (TX7 b).2.1 := by decide +kernel
theorem tyX7_ok : ∀ k, k < 7 → parseFieldDescriptor (TX7 k).2.2.1 = some (tyX7 k) := by decide +kernel
theorem in_X7 : ∀ w ∈ wsX70, w ∈ lw_all := lw_in wsX70 [1972, 1973, 1974, 1975, 1976, 1992, 1990] (by decide +kernel) (by decide +kernel)
def RX8 : String := "LionGate$Lion"
def TX8 : u_T := fun k => match k with
  | 0 => ("LionGate$Lion", "id", "I", true)
  | 1 => ("LionGate$Lion", "portion", "I", true)
  | 2 => ("LionGate$Lion", "deadline", "I", true)
  | _ => ("LionGate$Lion", "ticket", "LLionGate$Ticket;", true)
def tyX8 : Nat → FieldType := fun k => match k with
  | 0 => .int
  | 1 => .int
  | 2 => .int
  | _ => .object "LionGate$Ticket"
abbrev wsX80 : List Cond := u_ws RX8 TX8 4
theorem nmX8 : ∀ a, a < 4 → ∀ b, b < 4 → a ≠ b → (TX8 a).2.1 ≠ (TX8 b).2.1 := by decide +kernel
theorem tyX8_ok : ∀ k, k < 4 → parseFieldDescriptor (TX8 k).2.2.1 = some (tyX8 k) := by decide +kernel
theorem in_X8 : ∀ w ∈ wsX80, w ∈ lw_all := lw_in wsX80 [2020, 2022, 2024, 2026] (by decide +kernel) (by decide +kernel)
def RX9 : String := "LionGate$Ticket"
def TX9 : u_T := fun k => match k with
  | 0 => ("LionGate$Ticket", "number", "I", true)
  | 1 => ("LionGate$Ticket", "lion", "I", true)
  | _ => ("LionGate$Ticket", "hunger", "I", true)
def tyX9 : Nat → FieldType := fun k => match k with
  | 0 => .int
  | 1 => .int
  | _ => .int
abbrev wsX90 : List Cond := u_ws RX9 TX9 3
theorem nmX9 : ∀ a, a < 3 → ∀ b, b < 3 → a ≠ b → (TX9 a).2.1 ≠ (TX9 b).2.1 := by decide +kernel
theorem tyX9_ok : ∀ k, k < 3 → parseFieldDescriptor (TX9 k).2.2.1 = some (tyX9 k) := by decide +kernel
theorem in_X9 : ∀ w ∈ wsX90, w ∈ lw_all := lw_in wsX90 [2047, 2049, 2051] (by decide +kernel) (by decide +kernel)
def RJ44 : String := "java/lang/IllegalStateException"
def TJ44 : u_T := fun k => match k with
  | 0 => ("java/lang/Throwable", "cause", "Ljava/lang/Throwable;", false)
  | 1 => ("java/lang/Throwable", "stackTrace", "[Ljava/lang/StackTraceElement;", false)
  | 2 => ("java/lang/Throwable", "suppressedExceptions", "Ljava/util/List;", false)
  | 3 => ("java/lang/Throwable", "detailMessage", "Ljava/lang/String;", false)
  | 4 => ("java/lang/Throwable", "backtrace", "Ljava/lang/Object;", false)
  | _ => ("java/lang/Throwable", "depth", "I", false)
def tyJ44 : Nat → FieldType := fun k => match k with
  | 0 => .object "java/lang/Throwable"
  | 1 => .array (.object "java/lang/StackTraceElement")
  | 2 => .object "java/util/List"
  | 3 => .object "java/lang/String"
  | 4 => .object "java/lang/Object"
  | _ => .int
abbrev wsJ440 : List Cond := u_ws RJ44 TJ44 6
theorem nmJ44 : ∀ a, a < 6 → ∀ b, b < 6 → a ≠ b → (TJ44 a).2.1 ≠ (TJ44 b).2.1 := by decide +kernel
theorem tyJ44_ok : ∀ k, k < 6 → parseFieldDescriptor (TJ44 k).2.2.1 = some (tyJ44 k) := by decide +kernel
theorem in_J44 : ∀ w ∈ wsJ440, w ∈ lw_all := lw_in wsJ440 [2112, 2113, 2114, 2115, 2116, 2122] (by decide +kernel) (by decide +kernel)
def RJ45 : String := "java/util/ConcurrentModificationException"
def RJ46 : String := "java/util/AbstractQueue"
def RJ47 : String := "java/util/PriorityQueue"
def TJ47 : u_T := fun k => match k with
  | 0 => ("java/util/PriorityQueue", "queue", "[Ljava/lang/Object;", false)
  | 1 => ("java/util/PriorityQueue", "size", "I", false)
  | 2 => ("java/util/PriorityQueue", "comparator", "Ljava/util/Comparator;", true)
  | _ => ("java/util/PriorityQueue", "modCount", "I", false)
def tyJ47 : Nat → FieldType := fun k => match k with
  | 0 => .array (.object "java/lang/Object")
  | 1 => .int
  | 2 => .object "java/util/Comparator"
  | _ => .int
abbrev wsJ470 : List Cond := u_ws RJ47 TJ47 4
theorem nmJ47 : ∀ a, a < 4 → ∀ b, b < 4 → a ≠ b → (TJ47 a).2.1 ≠ (TJ47 b).2.1 := by decide +kernel
theorem tyJ47_ok : ∀ k, k < 4 → parseFieldDescriptor (TJ47 k).2.2.1 = some (tyJ47 k) := by decide +kernel
theorem in_J47 : ∀ w ∈ wsJ470, w ∈ lw_all := lw_in wsJ470 [2819, 2821, 2823, 2825] (by decide +kernel) (by decide +kernel)
def RX10 : String := "LionGate$Node"
def TX10 : u_T := fun k => match k with
  | 0 => ("LionGate$Node", "ticket", "LLionGate$Ticket;", true)
  | 1 => ("LionGate$Node", "left", "LLionGate$Node;", true)
  | 2 => ("LionGate$Node", "right", "LLionGate$Node;", true)
  | _ => ("LionGate$Node", "way", "I", true)
def tyX10 : Nat → FieldType := fun k => match k with
  | 0 => .object "LionGate$Ticket"
  | 1 => .object "LionGate$Node"
  | 2 => .object "LionGate$Node"
  | _ => .int
abbrev wsX100 : List Cond := u_ws RX10 TX10 4
theorem nmX10 : ∀ a, a < 4 → ∀ b, b < 4 → a ≠ b → (TX10 a).2.1 ≠ (TX10 b).2.1 := by decide +kernel
theorem tyX10_ok : ∀ k, k < 4 → parseFieldDescriptor (TX10 k).2.2.1 = some (tyX10 k) := by decide +kernel
theorem in_X10 : ∀ w ∈ wsX100, w ∈ lw_all := lw_in wsX100 [2400, 2402, 2404, 2406] (by decide +kernel) (by decide +kernel)
def RJ48 : String := "java/util/AbstractSet"
def RJ49 : String := "java/util/TreeMap$EntrySet"
def RX11 : String := "LionGate$Keeper"
def TX11 : u_T := fun k => match k with
  | 0 => ("LionGate$Keeper", "start", "I", true)
  | _ => ("LionGate$Keeper", "end", "I", true)
def tyX11 : Nat → FieldType := fun k => match k with
  | 0 => .int
  | _ => .int
abbrev wsX110 : List Cond := u_ws RX11 TX11 2
theorem nmX11 : ∀ a, a < 2 → ∀ b, b < 2 → a ≠ b → (TX11 a).2.1 ≠ (TX11 b).2.1 := by decide +kernel
theorem tyX11_ok : ∀ k, k < 2 → parseFieldDescriptor (TX11 k).2.2.1 = some (tyX11 k) := by decide +kernel
theorem in_X11 : ∀ w ∈ wsX110, w ∈ lw_all := lw_in wsX110 [2499, 2501] (by decide +kernel) (by decide +kernel)
def RJ50 : String := "java/lang/ArrayIndexOutOfBoundsException"
def RJ51 : String := "java/util/TreeMap$KeySet"
def TJ51 : u_T := fun k => match k with
  | _ => ("java/util/TreeMap$KeySet", "m", "Ljava/util/NavigableMap;", true)
def tyJ51 : Nat → FieldType := fun k => match k with
  | _ => .object "java/util/NavigableMap"
abbrev wsJ510 : List Cond := u_ws RJ51 TJ51 1
theorem nmJ51 : ∀ a, a < 1 → ∀ b, b < 1 → a ≠ b → (TJ51 a).2.1 ≠ (TJ51 b).2.1 := by decide +kernel
theorem tyJ51_ok : ∀ k, k < 1 → parseFieldDescriptor (TJ51 k).2.2.1 = some (tyJ51 k) := by decide +kernel
theorem in_J51 : ∀ w ∈ wsJ510, w ∈ lw_all := lw_in wsJ510 [3157] (by decide +kernel) (by decide +kernel)
def RX12 : String := "LionGate$Feeding"
def TX12 : u_T := fun k => match k with
  | 0 => ("LionGate$Feeding", "lions", "Ljava/util/List;", true)
  | _ => ("LionGate$Feeding", "hour", "I", true)
def tyX12 : Nat → FieldType := fun k => match k with
  | 0 => .object "java/util/List"
  | _ => .int
abbrev wsX120 : List Cond := u_ws RX12 TX12 2
theorem nmX12 : ∀ a, a < 2 → ∀ b, b < 2 → a ≠ b → (TX12 a).2.1 ≠ (TX12 b).2.1 := by decide +kernel
theorem tyX12_ok : ∀ k, k < 2 → parseFieldDescriptor (TX12 k).2.2.1 = some (tyX12 k) := by decide +kernel
theorem in_X12 : ∀ w ∈ wsX120, w ∈ lw_all := lw_in wsX120 [2770, 2772] (by decide +kernel) (by decide +kernel)
def RX13 : String := "LionGate$ByDeadline"
def TX13 : u_T := fun _ => ("", "", "", false)
def RX14 : String := "LionGate$ByPortion"
def TX14 : u_T := fun _ => ("", "", "", false)
def RJ52 : String := "java/util/BitSet"
def TJ52 : u_T := fun k => match k with
  | 0 => ("java/util/BitSet", "words", "[J", false)
  | 1 => ("java/util/BitSet", "wordsInUse", "I", false)
  | _ => ("java/util/BitSet", "sizeIsSticky", "Z", false)
def tyJ52 : Nat → FieldType := fun k => match k with
  | 0 => .array .long
  | 1 => .int
  | _ => .boolean
abbrev wsJ520 : List Cond := u_ws RJ52 TJ52 3
theorem nmJ52 : ∀ a, a < 3 → ∀ b, b < 3 → a ≠ b → (TJ52 a).2.1 ≠ (TJ52 b).2.1 := by decide +kernel
theorem tyJ52_ok : ∀ k, k < 3 → parseFieldDescriptor (TJ52 k).2.2.1 = some (tyJ52 k) := by decide +kernel
theorem in_J52 : ∀ w ∈ wsJ520, w ∈ lw_all := lw_in wsJ520 [2944, 2946, 2948] (by decide +kernel) (by decide +kernel)
def RJ53 : String := "java/lang/ArithmeticException"
def TJ53 : u_T := fun k => match k with
  | 0 => ("java/lang/Throwable", "backtrace", "Ljava/lang/Object;", false)
  | 1 => ("java/lang/Throwable", "detailMessage", "Ljava/lang/String;", false)
  | 2 => ("java/lang/Throwable", "cause", "Ljava/lang/Throwable;", false)
  | 3 => ("java/lang/Throwable", "stackTrace", "[Ljava/lang/StackTraceElement;", false)
  | 4 => ("java/lang/Throwable", "depth", "I", false)
  | _ => ("java/lang/Throwable", "suppressedExceptions", "Ljava/util/List;", false)
def tyJ53 : Nat → FieldType := fun k => match k with
  | 0 => .object "java/lang/Object"
  | 1 => .object "java/lang/String"
  | 2 => .object "java/lang/Throwable"
  | 3 => .array (.object "java/lang/StackTraceElement")
  | 4 => .int
  | _ => .object "java/util/List"
abbrev wsJ530 : List Cond := u_ws RJ53 TJ53 6
theorem nmJ53 : ∀ a, a < 6 → ∀ b, b < 6 → a ≠ b → (TJ53 a).2.1 ≠ (TJ53 b).2.1 := by decide +kernel
theorem tyJ53_ok : ∀ k, k < 6 → parseFieldDescriptor (TJ53 k).2.2.1 = some (tyJ53 k) := by decide +kernel
theorem in_J53 : ∀ w ∈ wsJ530, w ∈ lw_all := lw_in wsJ530 [3337, 3338, 3339, 3340, 3341, 3342] (by decide +kernel) (by decide +kernel)
def RX15 : String := "LionGate$Parser"
def TX15 : u_T := fun k => match k with
  | 0 => ("LionGate$Parser", "words", "Ljava/util/List;", true)
  | 1 => ("LionGate$Parser", "text", "Ljava/lang/String;", true)
  | _ => ("LionGate$Parser", "at", "I", false)
def tyX15 : Nat → FieldType := fun k => match k with
  | 0 => .object "java/util/List"
  | 1 => .object "java/lang/String"
  | _ => .int
abbrev wsX150 : List Cond := u_ws RX15 TX15 3
theorem nmX15 : ∀ a, a < 3 → ∀ b, b < 3 → a ≠ b → (TX15 a).2.1 ≠ (TX15 b).2.1 := by decide +kernel
theorem tyX15_ok : ∀ k, k < 3 → parseFieldDescriptor (TX15 k).2.2.1 = some (tyX15 k) := by decide +kernel
theorem in_X15 : ∀ w ∈ wsX150, w ∈ lw_all := lw_in wsX150 [3519, 3521, 3523] (by decide +kernel) (by decide +kernel)
def RJ54 : String := "java/util/List"
def RJ55 : String := "java/util/ImmutableCollections$AbstractImmutableCollection"
def RJ56 : String := "java/util/ImmutableCollections$AbstractImmutableList"
def RJ57 : String := "java/util/ImmutableCollections$List12"
def RJ58 : String := "java/util/ImmutableCollections$ListN"
def TJ58 : u_T := fun k => match k with
  | 0 => ("java/util/ImmutableCollections$ListN", "elements", "[Ljava/lang/Object;", true)
  | _ => ("java/util/ImmutableCollections$ListN", "allowNulls", "Z", true)
def tyJ58 : Nat → FieldType := fun k => match k with
  | 0 => .array (.object "java/lang/Object")
  | _ => .boolean
abbrev wsJ580 : List Cond := u_ws RJ58 TJ58 2
theorem nmJ58 : ∀ a, a < 2 → ∀ b, b < 2 → a ≠ b → (TJ58 a).2.1 ≠ (TJ58 b).2.1 := by decide +kernel
theorem tyJ58_ok : ∀ k, k < 2 → parseFieldDescriptor (TJ58 k).2.2.1 = some (tyJ58 k) := by decide +kernel
theorem in_J58 : ∀ w ∈ wsJ580, w ∈ lw_all := lw_in wsJ580 [3511, 3513] (by decide +kernel) (by decide +kernel)
def RX16 : String := "LionGate$SyntaxFailure"
def TX16 : u_T := fun k => match k with
  | 0 => ("java/lang/Throwable", "cause", "Ljava/lang/Throwable;", false)
  | 1 => ("java/lang/Throwable", "stackTrace", "[Ljava/lang/StackTraceElement;", false)
  | 2 => ("java/lang/Throwable", "suppressedExceptions", "Ljava/util/List;", false)
  | 3 => ("java/lang/Throwable", "detailMessage", "Ljava/lang/String;", false)
  | 4 => ("java/lang/Throwable", "backtrace", "Ljava/lang/Object;", false)
  | 5 => ("java/lang/Throwable", "depth", "I", false)
  | _ => ("LionGate$SyntaxFailure", "position", "I", true)
def tyX16 : Nat → FieldType := fun k => match k with
  | 0 => .object "java/lang/Throwable"
  | 1 => .array (.object "java/lang/StackTraceElement")
  | 2 => .object "java/util/List"
  | 3 => .object "java/lang/String"
  | 4 => .object "java/lang/Object"
  | 5 => .int
  | _ => .int
abbrev wsX160 : List Cond := u_ws RX16 TX16 7
theorem nmX16 : ∀ a, a < 7 → ∀ b, b < 7 → a ≠ b → (TX16 a).2.1 ≠ (TX16 b).2.1 := by decide +kernel
theorem tyX16_ok : ∀ k, k < 7 → parseFieldDescriptor (TX16 k).2.2.1 = some (tyX16 k) := by decide +kernel
theorem in_X16 : ∀ w ∈ wsX160, w ∈ lw_all := lw_in wsX160 [3582, 3583, 3584, 3585, 3586, 3594, 3592] (by decide +kernel) (by decide +kernel)
def RX17 : String := "LionGate$CommandFailure"
def TX17 : u_T := fun k => match k with
  | 0 => ("java/lang/Throwable", "cause", "Ljava/lang/Throwable;", false)
  | 1 => ("java/lang/Throwable", "stackTrace", "[Ljava/lang/StackTraceElement;", false)
  | 2 => ("java/lang/Throwable", "suppressedExceptions", "Ljava/util/List;", false)
  | 3 => ("java/lang/Throwable", "detailMessage", "Ljava/lang/String;", false)
  | 4 => ("java/lang/Throwable", "backtrace", "Ljava/lang/Object;", false)
  | 5 => ("java/lang/Throwable", "depth", "I", false)
  | _ => ("LionGate$CommandFailure", "index", "I", true)
def tyX17 : Nat → FieldType := fun k => match k with
  | 0 => .object "java/lang/Throwable"
  | 1 => .array (.object "java/lang/StackTraceElement")
  | 2 => .object "java/util/List"
  | 3 => .object "java/lang/String"
  | 4 => .object "java/lang/Object"
  | 5 => .int
  | _ => .int
abbrev wsX170 : List Cond := u_ws RX17 TX17 7
theorem nmX17 : ∀ a, a < 7 → ∀ b, b < 7 → a ≠ b → (TX17 a).2.1 ≠ (TX17 b).2.1 := by decide +kernel
theorem tyX17_ok : ∀ k, k < 7 → parseFieldDescriptor (TX17 k).2.2.1 = some (tyX17 k) := by decide +kernel
theorem in_X17 : ∀ w ∈ wsX170, w ∈ lw_all := lw_in wsX170 [3713, 3714, 3715, 3716, 3717, 3725, 3723] (by decide +kernel) (by decide +kernel)
def RJ59 : String := "java/lang/StringIndexOutOfBoundsException"
def RJ60 : String := "java/lang/Object"
def RJ61 : String := "java/lang/System$2"
def cl_tab : List vw_C := [(RX1, TX1, 8), (RX4, TX4, 24), (RX2, TX2, 11), (RX3, TX3, 1), (RX11, TX11, 2), (RX8, TX8, 4), (RX9, TX9, 3), (RX10, TX10, 4), (RX12, TX12, 2), (RX13, TX13, 0), (RX14, TX14, 0), (RX5, TX5, 2), (RX15, TX15, 3), (RX7, TX7, 7), (RX17, TX17, 7), (RX16, TX16, 7), (RJ4, TJ4, 3), (RJ14, TJ14, 4), (RJ1, TJ1, 9), (RJ41, TJ41, 6), (RJ11, TJ11, 1), (RJ51, TJ51, 1), (RJ36, TJ36, 4), (RJ35, TJ35, 4), (RJ6, TJ6, 4), (RJ43, TJ43, 3), (RJ13, TJ13, 3), (RJ47, TJ47, 4), (RJ52, TJ52, 3), (RJ8, TJ8, 4), (RJ9, TJ9, 4), (RJ27, TJ27, 1), (RJ58, TJ58, 2), (RJ15, TJ15, 4), (RJ38, TJ38, 0), (RJ28, TJ28, 0), (RJ44, TJ44, 0), (RJ20, TJ20, 0), (RJ42, TJ42, 0), (RJ53, TJ53, 0)]
def cl_ok (t : Nat) (C : String) (T : u_T) (N : Nat) : Prop := t < 100 ∧ cl_tab[t]? = some (C, T, N) ∧ (∀ w ∈ u_ws C T N, w ∈ lw_all) ∧ (∃ ty : Nat → FieldType, ∀ k, k < N → parseFieldDescriptor (T k).2.2.1 = some (ty k)) ∧ ∀ a, a < N → ∀ b, b < N → a ≠ b → (T a).2.1 ≠ (T b).2.1
theorem cl_0 : cl_ok 0 RX1 TX1 8 := ⟨by decide, rfl, in_X1, ⟨tyX1, tyX1_ok⟩, nmX1⟩
theorem cl_1 : cl_ok 1 RX4 TX4 24 := ⟨by decide, rfl, in_X4, ⟨tyX4, tyX4_ok⟩, nmX4⟩
theorem cl_2 : cl_ok 2 RX2 TX2 11 := ⟨by decide, rfl, in_X2, ⟨tyX2, tyX2_ok⟩, nmX2⟩
theorem cl_3 : cl_ok 3 RX3 TX3 1 := ⟨by decide, rfl, in_X3, ⟨tyX3, tyX3_ok⟩, nmX3⟩
theorem cl_4 : cl_ok 4 RX11 TX11 2 := ⟨by decide, rfl, in_X11, ⟨tyX11, tyX11_ok⟩, nmX11⟩
theorem cl_5 : cl_ok 5 RX8 TX8 4 := ⟨by decide, rfl, in_X8, ⟨tyX8, tyX8_ok⟩, nmX8⟩
theorem cl_6 : cl_ok 6 RX9 TX9 3 := ⟨by decide, rfl, in_X9, ⟨tyX9, tyX9_ok⟩, nmX9⟩
theorem cl_7 : cl_ok 7 RX10 TX10 4 := ⟨by decide, rfl, in_X10, ⟨tyX10, tyX10_ok⟩, nmX10⟩
theorem cl_8 : cl_ok 8 RX12 TX12 2 := ⟨by decide, rfl, in_X12, ⟨tyX12, tyX12_ok⟩, nmX12⟩
theorem cl_9 : cl_ok 9 RX13 TX13 0 := ⟨by decide, rfl, fun w h => by simp [u_ws] at h, ⟨fun _ => .int, fun k h => absurd h (Nat.not_lt_zero k)⟩, fun a h => absurd h (Nat.not_lt_zero a)⟩
theorem cl_10 : cl_ok 10 RX14 TX14 0 := ⟨by decide, rfl, fun w h => by simp [u_ws] at h, ⟨fun _ => .int, fun k h => absurd h (Nat.not_lt_zero k)⟩, fun a h => absurd h (Nat.not_lt_zero a)⟩
theorem cl_11 : cl_ok 11 RX5 TX5 2 := ⟨by decide, rfl, in_X5, ⟨tyX5, tyX5_ok⟩, nmX5⟩
theorem cl_12 : cl_ok 12 RX15 TX15 3 := ⟨by decide, rfl, in_X15, ⟨tyX15, tyX15_ok⟩, nmX15⟩
theorem cl_13 : cl_ok 13 RX7 TX7 7 := ⟨by decide, rfl, in_X7, ⟨tyX7, tyX7_ok⟩, nmX7⟩
theorem cl_14 : cl_ok 14 RX17 TX17 7 := ⟨by decide, rfl, in_X17, ⟨tyX17, tyX17_ok⟩, nmX17⟩
theorem cl_15 : cl_ok 15 RX16 TX16 7 := ⟨by decide, rfl, in_X16, ⟨tyX16, tyX16_ok⟩, nmX16⟩
theorem cl_16 : cl_ok 16 RJ4 TJ4 3 := ⟨by decide, rfl, in_J4, ⟨tyJ4, tyJ4_ok⟩, nmJ4⟩
theorem cl_17 : cl_ok 17 RJ14 TJ14 4 := ⟨by decide, rfl, in_J14, ⟨tyJ14, tyJ14_ok⟩, nmJ14⟩
theorem cl_18 : cl_ok 18 RJ1 TJ1 9 := ⟨by decide, rfl, in_J1, ⟨tyJ1, tyJ1_ok⟩, nmJ1⟩
theorem cl_19 : cl_ok 19 RJ41 TJ41 6 := ⟨by decide, rfl, in_J41, ⟨tyJ41, tyJ41_ok⟩, nmJ41⟩
theorem cl_20 : cl_ok 20 RJ11 TJ11 1 := ⟨by decide, rfl, in_J11, ⟨tyJ11, tyJ11_ok⟩, nmJ11⟩
theorem cl_21 : cl_ok 21 RJ51 TJ51 1 := ⟨by decide, rfl, in_J51, ⟨tyJ51, tyJ51_ok⟩, nmJ51⟩
theorem cl_22 : cl_ok 22 RJ36 TJ36 4 := ⟨by decide, rfl, in_J36, ⟨tyJ36, tyJ36_ok⟩, nmJ36⟩
theorem cl_23 : cl_ok 23 RJ35 TJ35 4 := ⟨by decide, rfl, in_J35, ⟨tyJ35, tyJ35_ok⟩, nmJ35⟩
theorem cl_24 : cl_ok 24 RJ6 TJ6 4 := ⟨by decide, rfl, in_J6, ⟨tyJ6, tyJ6_ok⟩, nmJ6⟩
theorem cl_25 : cl_ok 25 RJ43 TJ43 3 := ⟨by decide, rfl, in_J43, ⟨tyJ43, tyJ43_ok⟩, nmJ43⟩
theorem cl_26 : cl_ok 26 RJ13 TJ13 3 := ⟨by decide, rfl, in_J13, ⟨tyJ13, tyJ13_ok⟩, nmJ13⟩
theorem cl_27 : cl_ok 27 RJ47 TJ47 4 := ⟨by decide, rfl, in_J47, ⟨tyJ47, tyJ47_ok⟩, nmJ47⟩
theorem cl_28 : cl_ok 28 RJ52 TJ52 3 := ⟨by decide, rfl, in_J52, ⟨tyJ52, tyJ52_ok⟩, nmJ52⟩
theorem cl_29 : cl_ok 29 RJ8 TJ8 4 := ⟨by decide, rfl, in_J8, ⟨tyJ8, tyJ8_ok⟩, nmJ8⟩
theorem cl_30 : cl_ok 30 RJ9 TJ9 4 := ⟨by decide, rfl, in_J9, ⟨tyJ9, tyJ9_ok⟩, nmJ9⟩
theorem cl_31 : cl_ok 31 RJ27 TJ27 1 := ⟨by decide, rfl, in_J27, ⟨tyJ27, tyJ27_ok⟩, nmJ27⟩
theorem cl_32 : cl_ok 32 RJ58 TJ58 2 := ⟨by decide, rfl, in_J58, ⟨tyJ58, tyJ58_ok⟩, nmJ58⟩
theorem cl_33 : cl_ok 33 RJ15 TJ15 4 := ⟨by decide, rfl, in_J15, ⟨tyJ15, tyJ15_ok⟩, nmJ15⟩
theorem cl_34 : cl_ok 34 RJ38 TJ38 0 := ⟨by decide, rfl, fun w h => by simp [u_ws] at h, ⟨fun _ => .int, fun k h => absurd h (Nat.not_lt_zero k)⟩, fun a h => absurd h (Nat.not_lt_zero a)⟩
theorem cl_35 : cl_ok 35 RJ28 TJ28 0 := ⟨by decide, rfl, fun w h => by simp [u_ws] at h, ⟨fun _ => .int, fun k h => absurd h (Nat.not_lt_zero k)⟩, fun a h => absurd h (Nat.not_lt_zero a)⟩
theorem cl_36 : cl_ok 36 RJ44 TJ44 0 := ⟨by decide, rfl, fun w h => by simp [u_ws] at h, ⟨fun _ => .int, fun k h => absurd h (Nat.not_lt_zero k)⟩, fun a h => absurd h (Nat.not_lt_zero a)⟩
theorem cl_37 : cl_ok 37 RJ20 TJ20 0 := ⟨by decide, rfl, fun w h => by simp [u_ws] at h, ⟨fun _ => .int, fun k h => absurd h (Nat.not_lt_zero k)⟩, fun a h => absurd h (Nat.not_lt_zero a)⟩
theorem cl_38 : cl_ok 38 RJ42 TJ42 0 := ⟨by decide, rfl, fun w h => by simp [u_ws] at h, ⟨fun _ => .int, fun k h => absurd h (Nat.not_lt_zero k)⟩, fun a h => absurd h (Nat.not_lt_zero a)⟩
theorem cl_39 : cl_ok 39 RJ53 TJ53 0 := ⟨by decide, rfl, fun w h => by simp [u_ws] at h, ⟨fun _ => .int, fun k h => absurd h (Nat.not_lt_zero k)⟩, fun a h => absurd h (Nat.not_lt_zero a)⟩
/-- the array classes: their tags, what they hold -/
def cl_arr (a : Nat → ClassId) : List (ClassId × FieldType) := [(a 100, .int), (a 101, .byte), (a 102, .long), (a 103, .double), (a 104, .object "java/lang/Object")]
theorem cl_q4361 : (Jvm.Cond.castable "LionGate" "java/lang/Object") ∈ lw_tbl := lw_at lw_m18 186 rfl
theorem cl_q4368 : (Jvm.Cond.castable "LionGateModel" "java/lang/Object") ∈ lw_tbl := lw_at lw_m18 193 rfl
theorem cl_q4362 : (Jvm.Cond.castable "LionGate$Queue" "java/lang/Object") ∈ lw_tbl := lw_at lw_m18 187 rfl
theorem cl_q4364 : (Jvm.Cond.castable "LionGate$Keepers" "java/lang/Object") ∈ lw_tbl := lw_at lw_m18 189 rfl
theorem cl_q4394 : (Jvm.Cond.castable "LionGate$Keeper" "java/lang/Object") ∈ lw_tbl := lw_at lw_m18 219 rfl
theorem cl_q4386 : (Jvm.Cond.castable "LionGate$Lion" "java/lang/Object") ∈ lw_tbl := lw_at lw_m18 211 rfl
theorem cl_q4387 : (Jvm.Cond.castable "LionGate$Ticket" "java/lang/Object") ∈ lw_tbl := lw_at lw_m18 212 rfl
theorem cl_q4392 : (Jvm.Cond.castable "LionGate$Node" "java/lang/Object") ∈ lw_tbl := lw_at lw_m18 217 rfl
theorem cl_q4400 : (Jvm.Cond.castable "LionGate$Feeding" "java/lang/Object") ∈ lw_tbl := lw_at lw_m18 225 rfl
theorem cl_q4401 : (Jvm.Cond.castable "LionGate$ByDeadline" "java/lang/Object") ∈ lw_tbl := lw_at lw_m18 226 rfl
theorem cl_q4403 : (Jvm.Cond.castable "LionGate$ByPortion" "java/lang/Object") ∈ lw_tbl := lw_at lw_m18 228 rfl
theorem cl_q4383 : (Jvm.Cond.castable "LionGate$Command" "java/lang/Object") ∈ lw_tbl := lw_at lw_m18 208 rfl
theorem cl_q4407 : (Jvm.Cond.castable "LionGate$Parser" "java/lang/Object") ∈ lw_tbl := lw_at lw_m18 232 rfl
theorem cl_q4385 : (Jvm.Cond.castable "LionGate$ConditionFailure" "java/lang/Object") ∈ lw_tbl := lw_at lw_m18 210 rfl
theorem cl_q4412 : (Jvm.Cond.castable "LionGate$CommandFailure" "java/lang/Object") ∈ lw_tbl := lw_at lw_m18 237 rfl
theorem cl_q4411 : (Jvm.Cond.castable "LionGate$SyntaxFailure" "java/lang/Object") ∈ lw_tbl := lw_at lw_m18 236 rfl
theorem cl_q4365 : (Jvm.Cond.castable "java/util/ArrayList" "java/lang/Object") ∈ lw_tbl := lw_at lw_m18 190 rfl
theorem cl_q4370 : (Jvm.Cond.castable "java/util/ArrayList$Itr" "java/lang/Object") ∈ lw_tbl := lw_at lw_m18 195 rfl
theorem cl_q4363 : (Jvm.Cond.castable "java/util/TreeMap" "java/lang/Object") ∈ lw_tbl := lw_at lw_m18 188 rfl
theorem cl_q4381 : (Jvm.Cond.castable "java/util/TreeMap$Entry" "java/lang/Object") ∈ lw_tbl := lw_at lw_m18 206 rfl
theorem cl_q4369 : (Jvm.Cond.castable "java/util/TreeMap$Values" "java/lang/Object") ∈ lw_tbl := lw_at lw_m18 194 rfl
theorem cl_q4398 : (Jvm.Cond.castable "java/util/TreeMap$KeySet" "java/lang/Object") ∈ lw_tbl := lw_at lw_m18 223 rfl
theorem cl_q4377 : (Jvm.Cond.castable "java/util/TreeMap$ValueIterator" "java/lang/Object") ∈ lw_tbl := lw_at lw_m18 202 rfl
theorem cl_q4399 : (Jvm.Cond.castable "java/util/TreeMap$KeyIterator" "java/lang/Object") ∈ lw_tbl := lw_at lw_m18 224 rfl
theorem cl_q4366 : (Jvm.Cond.castable "java/util/LinkedList" "java/lang/Object") ∈ lw_tbl := lw_at lw_m18 191 rfl
theorem cl_q4382 : (Jvm.Cond.castable "java/util/LinkedList$Node" "java/lang/Object") ∈ lw_tbl := lw_at lw_m18 207 rfl
theorem cl_q4388 : (Jvm.Cond.castable "java/util/ArrayDeque" "java/lang/Object") ∈ lw_tbl := lw_at lw_m18 213 rfl
theorem cl_q4402 : (Jvm.Cond.castable "java/util/PriorityQueue" "java/lang/Object") ∈ lw_tbl := lw_at lw_m18 227 rfl
theorem cl_q4404 : (Jvm.Cond.castable "java/util/BitSet" "java/lang/Object") ∈ lw_tbl := lw_at lw_m18 229 rfl
theorem cl_q4367 : (Jvm.Cond.castable "java/lang/StringBuilder" "java/lang/Object") ∈ lw_tbl := lw_at lw_m18 192 rfl
theorem cl_q4372 : (Jvm.Cond.castable "java/lang/String" "java/lang/Object") ∈ lw_tbl := lw_at lw_m18 197 rfl
theorem cl_q4379 : (Jvm.Cond.castable "java/lang/Integer" "java/lang/Object") ∈ lw_tbl := lw_at lw_m18 204 rfl
theorem cl_q4408 : (Jvm.Cond.castable "java/util/ImmutableCollections$ListN" "java/lang/Object") ∈ lw_tbl := lw_at lw_m18 233 rfl
theorem cl_q4410 : (Jvm.Cond.castable "java/util/ImmutableCollections$ListItr" "java/lang/Object") ∈ lw_tbl := lw_at lw_m18 235 rfl
theorem cl_q4378 : (Jvm.Cond.castable "java/util/NoSuchElementException" "java/lang/Object") ∈ lw_tbl := lw_at lw_m18 203 rfl
theorem cl_q4373 : (Jvm.Cond.castable "java/lang/IllegalArgumentException" "java/lang/Object") ∈ lw_tbl := lw_at lw_m18 198 rfl
theorem cl_q4389 : (Jvm.Cond.castable "java/lang/IllegalStateException" "java/lang/Object") ∈ lw_tbl := lw_at lw_m18 214 rfl
theorem cl_q4371 : (Jvm.Cond.castable "java/lang/IndexOutOfBoundsException" "java/lang/Object") ∈ lw_tbl := lw_at lw_m18 196 rfl
theorem cl_q4390 : (Jvm.Cond.castable "java/lang/UnsupportedOperationException" "java/lang/Object") ∈ lw_tbl := lw_at lw_m18 215 rfl
theorem cl_q4405 : (Jvm.Cond.castable "java/lang/ArithmeticException" "java/lang/Object") ∈ lw_tbl := lw_at lw_m18 230 rfl
theorem cl_obj : ∀ q ∈ cl_tab, Cond.castable q.1 "java/lang/Object" ∈ lw_tbl := List.forall_mem_cons.mpr ⟨cl_q4361, List.forall_mem_cons.mpr ⟨cl_q4368, List.forall_mem_cons.mpr ⟨cl_q4362, List.forall_mem_cons.mpr ⟨cl_q4364, List.forall_mem_cons.mpr ⟨cl_q4394, List.forall_mem_cons.mpr ⟨cl_q4386, List.forall_mem_cons.mpr ⟨cl_q4387, List.forall_mem_cons.mpr ⟨cl_q4392, List.forall_mem_cons.mpr ⟨cl_q4400, List.forall_mem_cons.mpr ⟨cl_q4401, List.forall_mem_cons.mpr ⟨cl_q4403, List.forall_mem_cons.mpr ⟨cl_q4383, List.forall_mem_cons.mpr ⟨cl_q4407, List.forall_mem_cons.mpr ⟨cl_q4385, List.forall_mem_cons.mpr ⟨cl_q4412, List.forall_mem_cons.mpr ⟨cl_q4411, List.forall_mem_cons.mpr ⟨cl_q4365, List.forall_mem_cons.mpr ⟨cl_q4370, List.forall_mem_cons.mpr ⟨cl_q4363, List.forall_mem_cons.mpr ⟨cl_q4381, List.forall_mem_cons.mpr ⟨cl_q4369, List.forall_mem_cons.mpr ⟨cl_q4398, List.forall_mem_cons.mpr ⟨cl_q4377, List.forall_mem_cons.mpr ⟨cl_q4399, List.forall_mem_cons.mpr ⟨cl_q4366, List.forall_mem_cons.mpr ⟨cl_q4382, List.forall_mem_cons.mpr ⟨cl_q4388, List.forall_mem_cons.mpr ⟨cl_q4402, List.forall_mem_cons.mpr ⟨cl_q4404, List.forall_mem_cons.mpr ⟨cl_q4367, List.forall_mem_cons.mpr ⟨cl_q4372, List.forall_mem_cons.mpr ⟨cl_q4379, List.forall_mem_cons.mpr ⟨cl_q4408, List.forall_mem_cons.mpr ⟨cl_q4410, List.forall_mem_cons.mpr ⟨cl_q4378, List.forall_mem_cons.mpr ⟨cl_q4373, List.forall_mem_cons.mpr ⟨cl_q4389, List.forall_mem_cons.mpr ⟨cl_q4371, List.forall_mem_cons.mpr ⟨cl_q4390, List.forall_mem_cons.mpr ⟨cl_q4405, fun _ h => absurd h List.not_mem_nil⟩⟩⟩⟩⟩⟩⟩⟩⟩⟩⟩⟩⟩⟩⟩⟩⟩⟩⟩⟩⟩⟩⟩⟩⟩⟩⟩⟩⟩⟩⟩⟩⟩⟩⟩⟩⟩⟩⟩⟩
