/-! the classes that have instances, by their numbers; the types of arrays, by theirs -/
set_option maxRecDepth 100000
def RJ0 : String := "java/util/AbstractMap"
def RJ1 : String := "java/util/HashMap"
def TJ1 : u_T := fun k => match k with
  | 0 => ("java/util/AbstractMap", "keySet", "Ljava/util/Set;", false)
  | 1 => ("java/util/AbstractMap", "values", "Ljava/util/Collection;", false)
  | 2 => ("java/util/HashMap", "table", "[Ljava/util/HashMap$Node;", false)
  | 3 => ("java/util/HashMap", "entrySet", "Ljava/util/Set;", false)
  | 4 => ("java/util/HashMap", "size", "I", false)
  | 5 => ("java/util/HashMap", "modCount", "I", false)
  | 6 => ("java/util/HashMap", "threshold", "I", false)
  | _ => ("java/util/HashMap", "loadFactor", "F", true)
def tyJ1 : Nat → FieldType := fun k => match k with
  | 0 => .object "java/util/Set"
  | 1 => .object "java/util/Collection"
  | 2 => .array (.object "java/util/HashMap$Node")
  | 3 => .object "java/util/Set"
  | 4 => .int
  | 5 => .int
  | 6 => .int
  | _ => .float
abbrev wsJ10 : List Cond := u_ws RJ1 TJ1 8
theorem nmJ1 : ∀ a, a < 8 → ∀ b, b < 8 → a ≠ b → (TJ1 a).2.1 ≠ (TJ1 b).2.1 := by decide +kernel
theorem tyJ1_ok : ∀ k, k < 8 → parseFieldDescriptor (TJ1 k).2.2.1 = some (tyJ1 k) := by decide +kernel
theorem in_J1 : ∀ w ∈ wsJ10, w ∈ lw_all := lw_in wsJ10 [224, 225, 218, 219, 220, 221, 222, 223] (by decide +kernel) (by decide +kernel)
def RJ10 : String := "java/lang/String"
def TJ10 : u_T := fun k => match k with
  | 0 => ("java/lang/String", "value", "[B", true)
  | 1 => ("java/lang/String", "coder", "B", true)
  | 2 => ("java/lang/String", "hash", "I", false)
  | _ => ("java/lang/String", "hashIsZero", "Z", false)
def tyJ10 : Nat → FieldType := fun k => match k with
  | 0 => .array .byte
  | 1 => .byte
  | 2 => .int
  | _ => .boolean
abbrev wsJ100 : List Cond := u_ws RJ10 TJ10 4
theorem nmJ10 : ∀ a, a < 4 → ∀ b, b < 4 → a ≠ b → (TJ10 a).2.1 ≠ (TJ10 b).2.1 := by decide +kernel
theorem tyJ10_ok : ∀ k, k < 4 → parseFieldDescriptor (TJ10 k).2.2.1 = some (tyJ10 k) := by decide +kernel
theorem in_J10 : ∀ w ∈ wsJ100, w ∈ lw_all := lw_in wsJ100 [1216, 1218, 1220, 1222] (by decide +kernel) (by decide +kernel)
def RJ11 : String := "java/lang/StringUTF16"
def RJ12 : String := "java/lang/Throwable"
def RJ13 : String := "java/lang/Exception"
def RJ14 : String := "java/lang/RuntimeException"
def RJ15 : String := "java/lang/IndexOutOfBoundsException"
def RJ16 : String := "java/lang/ArrayIndexOutOfBoundsException"
def RJ17 : String := "java/lang/IllegalArgumentException"
def RJ18 : String := "java/util/LinkedHashMap$LinkedValues"
def TJ18 : u_T := fun k => match k with
  | 0 => ("java/util/LinkedHashMap$LinkedValues", "reversed", "Z", true)
  | _ => ("java/util/LinkedHashMap$LinkedValues", "this$0", "Ljava/util/LinkedHashMap;", true)
def tyJ18 : Nat → FieldType := fun k => match k with
  | 0 => .boolean
  | _ => .object "java/util/LinkedHashMap"
abbrev wsJ180 : List Cond := u_ws RJ18 TJ18 2
theorem nmJ18 : ∀ a, a < 2 → ∀ b, b < 2 → a ≠ b → (TJ18 a).2.1 ≠ (TJ18 b).2.1 := by decide +kernel
theorem tyJ18_ok : ∀ k, k < 2 → parseFieldDescriptor (TJ18 k).2.2.1 = some (tyJ18 k) := by decide +kernel
theorem in_J18 : ∀ w ∈ wsJ180, w ∈ lw_all := lw_in wsJ180 [463, 465] (by decide +kernel) (by decide +kernel)
def RJ19 : String := "java/util/ArrayList$Itr"
def TJ19 : u_T := fun k => match k with
  | 0 => ("java/util/ArrayList$Itr", "cursor", "I", false)
  | 1 => ("java/util/ArrayList$Itr", "lastRet", "I", false)
  | 2 => ("java/util/ArrayList$Itr", "expectedModCount", "I", false)
  | _ => ("java/util/ArrayList$Itr", "this$0", "Ljava/util/ArrayList;", true)
def tyJ19 : Nat → FieldType := fun k => match k with
  | 0 => .int
  | 1 => .int
  | 2 => .int
  | _ => .object "java/util/ArrayList"
abbrev wsJ190 : List Cond := u_ws RJ19 TJ19 4
theorem nmJ19 : ∀ a, a < 4 → ∀ b, b < 4 → a ≠ b → (TJ19 a).2.1 ≠ (TJ19 b).2.1 := by decide +kernel
theorem tyJ19_ok : ∀ k, k < 4 → parseFieldDescriptor (TJ19 k).2.2.1 = some (tyJ19 k) := by decide +kernel
theorem in_J19 : ∀ w ∈ wsJ190, w ∈ lw_all := lw_in wsJ190 [489, 491, 493, 495] (by decide +kernel) (by decide +kernel)
def RJ2 : String := "java/util/LinkedHashMap"
def TJ2 : u_T := fun k => match k with
  | 0 => ("java/util/AbstractMap", "keySet", "Ljava/util/Set;", false)
  | 1 => ("java/util/AbstractMap", "values", "Ljava/util/Collection;", false)
  | 2 => ("java/util/HashMap", "table", "[Ljava/util/HashMap$Node;", false)
  | 3 => ("java/util/HashMap", "entrySet", "Ljava/util/Set;", false)
  | 4 => ("java/util/HashMap", "size", "I", false)
  | 5 => ("java/util/HashMap", "modCount", "I", false)
  | 6 => ("java/util/HashMap", "threshold", "I", false)
  | 7 => ("java/util/HashMap", "loadFactor", "F", true)
  | 8 => ("java/util/LinkedHashMap", "head", "Ljava/util/LinkedHashMap$Entry;", false)
  | 9 => ("java/util/LinkedHashMap", "tail", "Ljava/util/LinkedHashMap$Entry;", false)
  | 10 => ("java/util/LinkedHashMap", "accessOrder", "Z", true)
  | _ => ("java/util/LinkedHashMap", "putMode", "I", false)
def tyJ2 : Nat → FieldType := fun k => match k with
  | 0 => .object "java/util/Set"
  | 1 => .object "java/util/Collection"
  | 2 => .array (.object "java/util/HashMap$Node")
  | 3 => .object "java/util/Set"
  | 4 => .int
  | 5 => .int
  | 6 => .int
  | 7 => .float
  | 8 => .object "java/util/LinkedHashMap$Entry"
  | 9 => .object "java/util/LinkedHashMap$Entry"
  | 10 => .boolean
  | _ => .int
abbrev wsJ20 : List Cond := u_ws RJ2 TJ2 12
theorem nmJ2 : ∀ a, a < 12 → ∀ b, b < 12 → a ≠ b → (TJ2 a).2.1 ≠ (TJ2 b).2.1 := by decide +kernel
theorem tyJ2_ok : ∀ k, k < 12 → parseFieldDescriptor (TJ2 k).2.2.1 = some (tyJ2 k) := by decide +kernel
theorem in_J2 : ∀ w ∈ wsJ20, w ∈ lw_all := lw_in wsJ20 [210, 212, 198, 200, 202, 204, 206, 208, 190, 192, 194, 196] (by decide +kernel) (by decide +kernel)
def RJ20 : String := "java/util/HashMap$HashIterator"
def RJ21 : String := "java/util/HashMap$EntryIterator"
def TJ21 : u_T := fun k => match k with
  | 0 => ("java/util/HashMap$HashIterator", "next", "Ljava/util/HashMap$Node;", false)
  | 1 => ("java/util/HashMap$HashIterator", "current", "Ljava/util/HashMap$Node;", false)
  | 2 => ("java/util/HashMap$HashIterator", "expectedModCount", "I", false)
  | 3 => ("java/util/HashMap$HashIterator", "index", "I", false)
  | _ => ("java/util/HashMap$HashIterator", "this$0", "Ljava/util/HashMap;", true)
def tyJ21 : Nat → FieldType := fun k => match k with
  | 0 => .object "java/util/HashMap$Node"
  | 1 => .object "java/util/HashMap$Node"
  | 2 => .int
  | 3 => .int
  | _ => .object "java/util/HashMap"
abbrev wsJ210 : List Cond := u_ws RJ21 TJ21 5
theorem nmJ21 : ∀ a, a < 5 → ∀ b, b < 5 → a ≠ b → (TJ21 a).2.1 ≠ (TJ21 b).2.1 := by decide +kernel
theorem tyJ21_ok : ∀ k, k < 5 → parseFieldDescriptor (TJ21 k).2.2.1 = some (tyJ21 k) := by decide +kernel
theorem in_J21 : ∀ w ∈ wsJ210, w ∈ lw_all := lw_in wsJ210 [518, 520, 522, 524, 526] (by decide +kernel) (by decide +kernel)
def RJ22 : String := "java/util/HashMap$KeyIterator"
def TJ22 : u_T := fun k => match k with
  | 0 => ("java/util/HashMap$HashIterator", "next", "Ljava/util/HashMap$Node;", false)
  | 1 => ("java/util/HashMap$HashIterator", "current", "Ljava/util/HashMap$Node;", false)
  | 2 => ("java/util/HashMap$HashIterator", "expectedModCount", "I", false)
  | 3 => ("java/util/HashMap$HashIterator", "index", "I", false)
  | _ => ("java/util/HashMap$HashIterator", "this$0", "Ljava/util/HashMap;", true)
def tyJ22 : Nat → FieldType := fun k => match k with
  | 0 => .object "java/util/HashMap$Node"
  | 1 => .object "java/util/HashMap$Node"
  | 2 => .int
  | 3 => .int
  | _ => .object "java/util/HashMap"
abbrev wsJ220 : List Cond := u_ws RJ22 TJ22 5
theorem nmJ22 : ∀ a, a < 5 → ∀ b, b < 5 → a ≠ b → (TJ22 a).2.1 ≠ (TJ22 b).2.1 := by decide +kernel
theorem tyJ22_ok : ∀ k, k < 5 → parseFieldDescriptor (TJ22 k).2.2.1 = some (tyJ22 k) := by decide +kernel
theorem in_J22 : ∀ w ∈ wsJ220, w ∈ lw_all := lw_in wsJ220 [541, 542, 543, 544, 545] (by decide +kernel) (by decide +kernel)
def RJ23 : String := "java/util/HashMap$KeySet"
def TJ23 : u_T := fun k => match k with
  | _ => ("java/util/HashMap$KeySet", "this$0", "Ljava/util/HashMap;", true)
def tyJ23 : Nat → FieldType := fun k => match k with
  | _ => .object "java/util/HashMap"
abbrev wsJ230 : List Cond := u_ws RJ23 TJ23 1
theorem nmJ23 : ∀ a, a < 1 → ∀ b, b < 1 → a ≠ b → (TJ23 a).2.1 ≠ (TJ23 b).2.1 := by decide +kernel
theorem tyJ23_ok : ∀ k, k < 1 → parseFieldDescriptor (TJ23 k).2.2.1 = some (tyJ23 k) := by decide +kernel
theorem in_J23 : ∀ w ∈ wsJ230, w ∈ lw_all := lw_in wsJ230 [586] (by decide +kernel) (by decide +kernel)
def RJ24 : String := "java/util/LinkedHashMap$LinkedKeySet"
def RJ25 : String := "java/util/LinkedHashMap$LinkedHashIterator"
def RJ26 : String := "java/util/LinkedHashMap$LinkedEntryIterator"
def RJ27 : String := "java/util/LinkedHashMap$LinkedKeyIterator"
def RJ28 : String := "java/util/LinkedHashMap$LinkedValueIterator"
def TJ28 : u_T := fun k => match k with
  | 0 => ("java/util/LinkedHashMap$LinkedHashIterator", "next", "Ljava/util/LinkedHashMap$Entry;", false)
  | 1 => ("java/util/LinkedHashMap$LinkedHashIterator", "current", "Ljava/util/LinkedHashMap$Entry;", false)
  | 2 => ("java/util/LinkedHashMap$LinkedHashIterator", "expectedModCount", "I", false)
  | 3 => ("java/util/LinkedHashMap$LinkedHashIterator", "reversed", "Z", false)
  | _ => ("java/util/LinkedHashMap$LinkedHashIterator", "this$0", "Ljava/util/LinkedHashMap;", true)
def tyJ28 : Nat → FieldType := fun k => match k with
  | 0 => .object "java/util/LinkedHashMap$Entry"
  | 1 => .object "java/util/LinkedHashMap$Entry"
  | 2 => .int
  | 3 => .boolean
  | _ => .object "java/util/LinkedHashMap"
abbrev wsJ280 : List Cond := u_ws RJ28 TJ28 5
theorem nmJ28 : ∀ a, a < 5 → ∀ b, b < 5 → a ≠ b → (TJ28 a).2.1 ≠ (TJ28 b).2.1 := by decide +kernel
theorem tyJ28_ok : ∀ k, k < 5 → parseFieldDescriptor (TJ28 k).2.2.1 = some (tyJ28 k) := by decide +kernel
theorem in_J28 : ∀ w ∈ wsJ280, w ∈ lw_all := lw_in wsJ280 [664, 665, 666, 667, 668] (by decide +kernel) (by decide +kernel)
def RJ29 : String := "java/util/NoSuchElementException"
def RJ3 : String := "java/util/AbstractCollection"
def RJ30 : String := "java/lang/Number"
def RJ31 : String := "java/lang/Integer"
def TJ31 : u_T := fun k => match k with
  | _ => ("java/lang/Integer", "value", "I", true)
def tyJ31 : Nat → FieldType := fun k => match k with
  | _ => .int
abbrev wsJ310 : List Cond := u_ws RJ31 TJ31 1
theorem nmJ31 : ∀ a, a < 1 → ∀ b, b < 1 → a ≠ b → (TJ31 a).2.1 ≠ (TJ31 b).2.1 := by decide +kernel
theorem tyJ31_ok : ∀ k, k < 1 → parseFieldDescriptor (TJ31 k).2.2.1 = some (tyJ31 k) := by decide +kernel
theorem in_J31 : ∀ w ∈ wsJ310, w ∈ lw_all := lw_in wsJ310 [2149] (by decide +kernel) (by decide +kernel)
def RJ32 : String := "java/lang/StringLatin1"
def RJ33 : String := "jdk/internal/util/ArraysSupport"
def RJ34 : String := "java/lang/Math"
def RJ35 : String := "java/util/Arrays"
def RJ36 : String := "jdk/internal/util/Preconditions"
def RJ37 : String := "java/util/HashMap$Node"
def TJ37 : u_T := fun k => match k with
  | 0 => ("java/util/HashMap$Node", "hash", "I", true)
  | 1 => ("java/util/HashMap$Node", "key", "Ljava/lang/Object;", true)
  | 2 => ("java/util/HashMap$Node", "value", "Ljava/lang/Object;", false)
  | _ => ("java/util/HashMap$Node", "next", "Ljava/util/HashMap$Node;", false)
def tyJ37 : Nat → FieldType := fun k => match k with
  | 0 => .int
  | 1 => .object "java/lang/Object"
  | 2 => .object "java/lang/Object"
  | _ => .object "java/util/HashMap$Node"
abbrev wsJ370 : List Cond := u_ws RJ37 TJ37 4
theorem nmJ37 : ∀ a, a < 4 → ∀ b, b < 4 → a ≠ b → (TJ37 a).2.1 ≠ (TJ37 b).2.1 := by decide +kernel
theorem tyJ37_ok : ∀ k, k < 4 → parseFieldDescriptor (TJ37 k).2.2.1 = some (tyJ37 k) := by decide +kernel
theorem in_J37 : ∀ w ∈ wsJ370, w ∈ lw_all := lw_in wsJ370 [1329, 1330, 1331, 1332] (by decide +kernel) (by decide +kernel)
def RJ38 : String := "java/util/LinkedHashMap$Entry"
def TJ38 : u_T := fun k => match k with
  | 0 => ("java/util/HashMap$Node", "hash", "I", true)
  | 1 => ("java/util/HashMap$Node", "key", "Ljava/lang/Object;", true)
  | 2 => ("java/util/HashMap$Node", "value", "Ljava/lang/Object;", false)
  | 3 => ("java/util/HashMap$Node", "next", "Ljava/util/HashMap$Node;", false)
  | 4 => ("java/util/LinkedHashMap$Entry", "before", "Ljava/util/LinkedHashMap$Entry;", false)
  | _ => ("java/util/LinkedHashMap$Entry", "after", "Ljava/util/LinkedHashMap$Entry;", false)
def tyJ38 : Nat → FieldType := fun k => match k with
  | 0 => .int
  | 1 => .object "java/lang/Object"
  | 2 => .object "java/lang/Object"
  | 3 => .object "java/util/HashMap$Node"
  | 4 => .object "java/util/LinkedHashMap$Entry"
  | _ => .object "java/util/LinkedHashMap$Entry"
abbrev wsJ380 : List Cond := u_ws RJ38 TJ38 6
theorem nmJ38 : ∀ a, a < 6 → ∀ b, b < 6 → a ≠ b → (TJ38 a).2.1 ≠ (TJ38 b).2.1 := by decide +kernel
theorem tyJ38_ok : ∀ k, k < 6 → parseFieldDescriptor (TJ38 k).2.2.1 = some (tyJ38 k) := by decide +kernel
theorem in_J38 : ∀ w ∈ wsJ380, w ∈ lw_all := lw_in wsJ380 [1313, 1315, 1317, 1319, 1309, 1311] (by decide +kernel) (by decide +kernel)
def RJ39 : String := "jdk/internal/misc/Unsafe"
def RJ4 : String := "java/util/AbstractSet"
def RJ40 : String := "java/lang/Long"
def RJ41 : String := "java/util/HashMap$TreeNode"
def RJ42 : String := "java/lang/StrictMath"
def RJ43 : String := "java/util/HashMap$EntrySet"
def TJ43 : u_T := fun k => match k with
  | _ => ("java/util/HashMap$EntrySet", "this$0", "Ljava/util/HashMap;", true)
def tyJ43 : Nat → FieldType := fun k => match k with
  | _ => .object "java/util/HashMap"
abbrev wsJ430 : List Cond := u_ws RJ43 TJ43 1
theorem nmJ43 : ∀ a, a < 1 → ∀ b, b < 1 → a ≠ b → (TJ43 a).2.1 ≠ (TJ43 b).2.1 := by decide +kernel
theorem tyJ43_ok : ∀ k, k < 1 → parseFieldDescriptor (TJ43 k).2.2.1 = some (tyJ43 k) := by decide +kernel
theorem in_J43 : ∀ w ∈ wsJ430, w ∈ lw_all := lw_in wsJ430 [1821] (by decide +kernel) (by decide +kernel)
def RJ44 : String := "java/util/LinkedHashMap$LinkedEntrySet"
def RJ45 : String := "java/lang/UnsupportedOperationException"
def RJ46 : String := "java/lang/IllegalStateException"
def RJ47 : String := "java/util/Objects"
def RJ48 : String := "java/lang/ArithmeticException"
def RJ49 : String := "java/lang/StringIndexOutOfBoundsException"
def RJ5 : String := "java/util/HashSet"
def TJ5 : u_T := fun k => match k with
  | _ => ("java/util/HashSet", "map", "Ljava/util/HashMap;", false)
def tyJ5 : Nat → FieldType := fun k => match k with
  | _ => .object "java/util/HashMap"
abbrev wsJ50 : List Cond := u_ws RJ5 TJ5 1
theorem nmJ5 : ∀ a, a < 1 → ∀ b, b < 1 → a ≠ b → (TJ5 a).2.1 ≠ (TJ5 b).2.1 := by decide +kernel
theorem tyJ5_ok : ∀ k, k < 1 → parseFieldDescriptor (TJ5 k).2.2.1 = some (tyJ5 k) := by decide +kernel
theorem in_J5 : ∀ w ∈ wsJ50, w ∈ lw_all := lw_in wsJ50 [287] (by decide +kernel) (by decide +kernel)
def RJ50 : String := "java/lang/Character"
def RJ51 : String := "java/lang/Object"
def RJ52 : String := "java/lang/System$2"
def RJ6 : String := "java/util/AbstractList"
def RJ7 : String := "java/util/ArrayList"
def TJ7 : u_T := fun k => match k with
  | 0 => ("java/util/AbstractList", "modCount", "I", false)
  | 1 => ("java/util/ArrayList", "elementData", "[Ljava/lang/Object;", false)
  | _ => ("java/util/ArrayList", "size", "I", false)
def tyJ7 : Nat → FieldType := fun k => match k with
  | 0 => .int
  | 1 => .array (.object "java/lang/Object")
  | _ => .int
abbrev wsJ70 : List Cond := u_ws RJ7 TJ7 3
theorem nmJ7 : ∀ a, a < 3 → ∀ b, b < 3 → a ≠ b → (TJ7 a).2.1 ≠ (TJ7 b).2.1 := by decide +kernel
theorem tyJ7_ok : ∀ k, k < 3 → parseFieldDescriptor (TJ7 k).2.2.1 = some (tyJ7 k) := by decide +kernel
theorem in_J7 : ∀ w ∈ wsJ70, w ∈ lw_all := lw_in wsJ70 [352, 348, 350] (by decide +kernel) (by decide +kernel)
def RJ8 : String := "java/lang/AbstractStringBuilder"
def RJ9 : String := "java/lang/StringBuilder"
def TJ9 : u_T := fun k => match k with
  | 0 => ("java/lang/AbstractStringBuilder", "value", "[B", false)
  | 1 => ("java/lang/AbstractStringBuilder", "coder", "B", false)
  | 2 => ("java/lang/AbstractStringBuilder", "maybeLatin1", "Z", false)
  | _ => ("java/lang/AbstractStringBuilder", "count", "I", false)
def tyJ9 : Nat → FieldType := fun k => match k with
  | 0 => .array .byte
  | 1 => .byte
  | 2 => .boolean
  | _ => .int
abbrev wsJ90 : List Cond := u_ws RJ9 TJ9 4
theorem nmJ9 : ∀ a, a < 4 → ∀ b, b < 4 → a ≠ b → (TJ9 a).2.1 ≠ (TJ9 b).2.1 := by decide +kernel
theorem tyJ9_ok : ∀ k, k < 4 → parseFieldDescriptor (TJ9 k).2.2.1 = some (tyJ9 k) := by decide +kernel
theorem in_J9 : ∀ w ∈ wsJ90, w ∈ lw_all := lw_in wsJ90 [378, 380, 382, 384] (by decide +kernel) (by decide +kernel)
def RX0 : String := "ExcuseLedgerLaw"
def RX1 : String := "ExcuseLedger"
def TX1 : u_T := fun k => match k with
  | 0 => ("ExcuseLedger", "ledger", "LExcuseLedger$Ledger;", false)
  | 1 => ("ExcuseLedger", "saved", "LExcuseLedger$Ledger;", false)
  | 2 => ("ExcuseLedger", "history", "Ljava/util/ArrayList;", true)
  | 3 => ("ExcuseLedger", "input", "Ljava/lang/StringBuilder;", true)
  | 4 => ("ExcuseLedger", "line", "Ljava/lang/String;", false)
  | 5 => ("ExcuseLedger", "badText", "LExcuseLedger$BadText;", false)
  | _ => ("ExcuseLedger", "refusal", "LExcuseLedger$Refusal;", false)
def tyX1 : Nat → FieldType := fun k => match k with
  | 0 => .object "ExcuseLedger$Ledger"
  | 1 => .object "ExcuseLedger$Ledger"
  | 2 => .object "java/util/ArrayList"
  | 3 => .object "java/lang/StringBuilder"
  | 4 => .object "java/lang/String"
  | 5 => .object "ExcuseLedger$BadText"
  | _ => .object "ExcuseLedger$Refusal"
abbrev wsX10 : List Cond := u_ws RX1 TX1 7
theorem nmX1 : ∀ a, a < 7 → ∀ b, b < 7 → a ≠ b → (TX1 a).2.1 ≠ (TX1 b).2.1 := by decide +kernel
theorem tyX1_ok : ∀ k, k < 7 → parseFieldDescriptor (TX1 k).2.2.1 = some (tyX1 k) := by decide +kernel
theorem in_X1 : ∀ w ∈ wsX10, w ∈ lw_all := lw_in wsX10 [396, 398, 400, 402, 404, 406, 408] (by decide +kernel) (by decide +kernel)
def RX10 : String := "ExcuseLedger$Story"
def TX10 : u_T := fun k => match k with
  | 0 => ("ExcuseLedger$Story", "name", "LExcuseLedger$Name;", true)
  | _ => ("ExcuseLedger$Story", "pupil", "I", true)
def tyX10 : Nat → FieldType := fun k => match k with
  | 0 => .object "ExcuseLedger$Name"
  | _ => .int
abbrev wsX100 : List Cond := u_ws RX10 TX10 2
theorem nmX10 : ∀ a, a < 2 → ∀ b, b < 2 → a ≠ b → (TX10 a).2.1 ≠ (TX10 b).2.1 := by decide +kernel
theorem tyX10_ok : ∀ k, k < 2 → parseFieldDescriptor (TX10 k).2.2.1 = some (tyX10 k) := by decide +kernel
theorem in_X10 : ∀ w ∈ wsX100, w ∈ lw_all := lw_in wsX100 [2173, 2175] (by decide +kernel) (by decide +kernel)
def RX11 : String := "ExcuseLedger$Parser"
def TX11 : u_T := fun k => match k with
  | 0 => ("ExcuseLedger$Parser", "text", "Ljava/lang/CharSequence;", true)
  | 1 => ("ExcuseLedger$Parser", "commands", "Ljava/util/ArrayList;", true)
  | _ => ("ExcuseLedger$Parser", "at", "I", false)
def tyX11 : Nat → FieldType := fun k => match k with
  | 0 => .object "java/lang/CharSequence"
  | 1 => .object "java/util/ArrayList"
  | _ => .int
abbrev wsX110 : List Cond := u_ws RX11 TX11 3
theorem nmX11 : ∀ a, a < 3 → ∀ b, b < 3 → a ≠ b → (TX11 a).2.1 ≠ (TX11 b).2.1 := by decide +kernel
theorem tyX11_ok : ∀ k, k < 3 → parseFieldDescriptor (TX11 k).2.2.1 = some (tyX11 k) := by decide +kernel
theorem in_X11 : ∀ w ∈ wsX110, w ∈ lw_all := lw_in wsX110 [2867, 2869, 2871] (by decide +kernel) (by decide +kernel)
def RX12 : String := "ExcuseLedger$BadText"
def TX12 : u_T := fun k => match k with
  | 0 => ("java/lang/Throwable", "cause", "Ljava/lang/Throwable;", false)
  | 1 => ("java/lang/Throwable", "stackTrace", "[Ljava/lang/StackTraceElement;", false)
  | 2 => ("java/lang/Throwable", "suppressedExceptions", "Ljava/util/List;", false)
  | 3 => ("java/lang/Throwable", "detailMessage", "Ljava/lang/String;", false)
  | 4 => ("java/lang/Throwable", "backtrace", "Ljava/lang/Object;", false)
  | 5 => ("java/lang/Throwable", "depth", "I", false)
  | _ => ("ExcuseLedger$BadText", "position", "I", true)
def tyX12 : Nat → FieldType := fun k => match k with
  | 0 => .object "java/lang/Throwable"
  | 1 => .array (.object "java/lang/StackTraceElement")
  | 2 => .object "java/util/List"
  | 3 => .object "java/lang/String"
  | 4 => .object "java/lang/Object"
  | 5 => .int
  | _ => .int
abbrev wsX120 : List Cond := u_ws RX12 TX12 7
theorem nmX12 : ∀ a, a < 7 → ∀ b, b < 7 → a ≠ b → (TX12 a).2.1 ≠ (TX12 b).2.1 := by decide +kernel
theorem tyX12_ok : ∀ k, k < 7 → parseFieldDescriptor (TX12 k).2.2.1 = some (tyX12 k) := by decide +kernel
theorem in_X12 : ∀ w ∈ wsX120, w ∈ lw_all := lw_in wsX120 [3019, 3020, 3021, 3022, 3023, 3032, 3030] (by decide +kernel) (by decide +kernel)
def RX2 : String := "ExcuseLedger$Ledger"
def TX2 : u_T := fun k => match k with
  | 0 => ("ExcuseLedger$Ledger", "excuses", "Ljava/util/LinkedHashMap;", true)
  | 1 => ("ExcuseLedger$Ledger", "dogs", "Ljava/util/HashMap;", true)
  | 2 => ("ExcuseLedger$Ledger", "schools", "[LExcuseLedger$School;", true)
  | 3 => ("ExcuseLedger$Ledger", "pupils", "[LExcuseLedger$Pupil;", true)
  | 4 => ("ExcuseLedger$Ledger", "day", "I", false)
  | 5 => ("ExcuseLedger$Ledger", "weather", "I", false)
  | 6 => ("ExcuseLedger$Ledger", "fund", "I", false)
  | 7 => ("ExcuseLedger$Ledger", "loans", "I", false)
  | _ => ("ExcuseLedger$Ledger", "ended", "I", false)
def tyX2 : Nat → FieldType := fun k => match k with
  | 0 => .object "java/util/LinkedHashMap"
  | 1 => .object "java/util/HashMap"
  | 2 => .array (.object "ExcuseLedger$School")
  | 3 => .array (.object "ExcuseLedger$Pupil")
  | 4 => .int
  | 5 => .int
  | 6 => .int
  | 7 => .int
  | _ => .int
abbrev wsX20 : List Cond := u_ws RX2 TX2 9
theorem nmX2 : ∀ a, a < 9 → ∀ b, b < 9 → a ≠ b → (TX2 a).2.1 ≠ (TX2 b).2.1 := by decide +kernel
theorem tyX2_ok : ∀ k, k < 9 → parseFieldDescriptor (TX2 k).2.2.1 = some (tyX2 k) := by decide +kernel
theorem in_X2 : ∀ w ∈ wsX20, w ∈ lw_all := lw_in wsX20 [248, 250, 252, 254, 256, 258, 260, 262, 264] (by decide +kernel) (by decide +kernel)
def RX3 : String := "ExcuseLedger$School"
def TX3 : u_T := fun k => match k with
  | 0 => ("ExcuseLedger$School", "heard", "Ljava/util/HashSet;", true)
  | 1 => ("ExcuseLedger$School", "strictness", "I", false)
  | 2 => ("ExcuseLedger$School", "uses", "I", false)
  | _ => ("ExcuseLedger$School", "believed", "I", false)
def tyX3 : Nat → FieldType := fun k => match k with
  | 0 => .object "java/util/HashSet"
  | 1 => .int
  | 2 => .int
  | _ => .int
abbrev wsX30 : List Cond := u_ws RX3 TX3 4
theorem nmX3 : ∀ a, a < 4 → ∀ b, b < 4 → a ≠ b → (TX3 a).2.1 ≠ (TX3 b).2.1 := by decide +kernel
theorem tyX3_ok : ∀ k, k < 4 → parseFieldDescriptor (TX3 k).2.2.1 = some (tyX3 k) := by decide +kernel
theorem in_X3 : ∀ w ∈ wsX30, w ∈ lw_all := lw_in wsX30 [299, 301, 303, 305] (by decide +kernel) (by decide +kernel)
def RX4 : String := "ExcuseLedger$Pupil"
def TX4 : u_T := fun k => match k with
  | 0 => ("ExcuseLedger$Pupil", "coins", "I", false)
  | 1 => ("ExcuseLedger$Pupil", "uses", "I", false)
  | _ => ("ExcuseLedger$Pupil", "believed", "I", false)
def tyX4 : Nat → FieldType := fun k => match k with
  | 0 => .int
  | 1 => .int
  | _ => .int
abbrev wsX40 : List Cond := u_ws RX4 TX4 3
theorem nmX4 : ∀ a, a < 3 → ∀ b, b < 3 → a ≠ b → (TX4 a).2.1 ≠ (TX4 b).2.1 := by decide +kernel
theorem tyX4_ok : ∀ k, k < 3 → parseFieldDescriptor (TX4 k).2.2.1 = some (tyX4 k) := by decide +kernel
theorem in_X4 : ∀ w ∈ wsX40, w ∈ lw_all := lw_in wsX40 [322, 324, 326] (by decide +kernel) (by decide +kernel)
def RX5 : String := "ExcuseLedgerModel"
def TX5 : u_T := fun k => match k with
  | 0 => ("ExcuseLedgerModel", "g", "[I", true)
  | 1 => ("ExcuseLedgerModel", "before", "[I", true)
  | 2 => ("ExcuseLedgerModel", "history", "[I", true)
  | 3 => ("ExcuseLedgerModel", "changes", "I", false)
  | 4 => ("ExcuseLedgerModel", "savedOnes", "[I", true)
  | 5 => ("ExcuseLedgerModel", "hasSaved", "Z", false)
  | 6 => ("ExcuseLedgerModel", "input", "[C", true)
  | 7 => ("ExcuseLedgerModel", "typed", "I", false)
  | 8 => ("ExcuseLedgerModel", "errorAt", "I", false)
  | 9 => ("ExcuseLedgerModel", "why", "I", false)
  | 10 => ("ExcuseLedgerModel", "whyDetail", "I", false)
  | 11 => ("ExcuseLedgerModel", "isRefused", "Z", false)
  | 12 => ("ExcuseLedgerModel", "letters", "[C", true)
  | 13 => ("ExcuseLedgerModel", "lined", "I", false)
  | 14 => ("ExcuseLedgerModel", "thrown", "I", false)
  | 15 => ("ExcuseLedgerModel", "spot", "I", false)
  | 16 => ("ExcuseLedgerModel", "isWrong", "Z", false)
  | _ => ("ExcuseLedgerModel", "told", "[I", true)
def tyX5 : Nat → FieldType := fun k => match k with
  | 0 => .array .int
  | 1 => .array .int
  | 2 => .array .int
  | 3 => .int
  | 4 => .array .int
  | 5 => .boolean
  | 6 => .array .char
  | 7 => .int
  | 8 => .int
  | 9 => .int
  | 10 => .int
  | 11 => .boolean
  | 12 => .array .char
  | 13 => .int
  | 14 => .int
  | 15 => .int
  | 16 => .boolean
  | _ => .array .int
abbrev wsX50 : List Cond := u_ws RX5 TX5 18
theorem nmX5 : ∀ a, a < 18 → ∀ b, b < 18 → a ≠ b → (TX5 a).2.1 ≠ (TX5 b).2.1 := by decide +kernel
theorem tyX5_ok : ∀ k, k < 18 → parseFieldDescriptor (TX5 k).2.2.1 = some (tyX5 k) := by decide +kernel
theorem in_X5 : ∀ w ∈ wsX50, w ∈ lw_all := lw_in wsX50 [3123, 3125, 3127, 3129, 3131, 3133, 3135, 3137, 3139, 3141, 3143, 3145, 3147, 3149, 3151, 3153, 3155, 3157] (by decide +kernel) (by decide +kernel)
def RX6 : String := "ExcuseLedger$Name"
def TX6 : u_T := fun k => match k with
  | 0 => ("ExcuseLedger$Name", "kind", "I", true)
  | _ => ("ExcuseLedger$Name", "topic", "I", true)
def tyX6 : Nat → FieldType := fun k => match k with
  | 0 => .int
  | _ => .int
abbrev wsX60 : List Cond := u_ws RX6 TX6 2
theorem nmX6 : ∀ a, a < 2 → ∀ b, b < 2 → a ≠ b → (TX6 a).2.1 ≠ (TX6 b).2.1 := by decide +kernel
theorem tyX6_ok : ∀ k, k < 2 → parseFieldDescriptor (TX6 k).2.2.1 = some (tyX6 k) := by decide +kernel
theorem in_X6 : ∀ w ∈ wsX60, w ∈ lw_all := lw_in wsX60 [2340, 2342] (by decide +kernel) (by decide +kernel)
def RX7 : String := "ExcuseLedger$Command"
def TX7 : u_T := fun k => match k with
  | 0 => ("ExcuseLedger$Command", "what", "Ljava/lang/String;", true)
  | 1 => ("ExcuseLedger$Command", "one", "I", true)
  | 2 => ("ExcuseLedger$Command", "name", "LExcuseLedger$Name;", true)
  | _ => ("ExcuseLedger$Command", "other", "I", true)
def tyX7 : Nat → FieldType := fun k => match k with
  | 0 => .object "java/lang/String"
  | 1 => .int
  | 2 => .object "ExcuseLedger$Name"
  | _ => .int
abbrev wsX70 : List Cond := u_ws RX7 TX7 4
theorem nmX7 : ∀ a, a < 4 → ∀ b, b < 4 → a ≠ b → (TX7 a).2.1 ≠ (TX7 b).2.1 := by decide +kernel
theorem tyX7_ok : ∀ k, k < 4 → parseFieldDescriptor (TX7 k).2.2.1 = some (tyX7 k) := by decide +kernel
theorem in_X7 : ∀ w ∈ wsX70, w ∈ lw_all := lw_in wsX70 [429, 431, 433, 435] (by decide +kernel) (by decide +kernel)
def RX8 : String := "ExcuseLedger$Excuse"
def TX8 : u_T := fun k => match k with
  | 0 => ("ExcuseLedger$Excuse", "name", "LExcuseLedger$Name;", true)
  | 1 => ("ExcuseLedger$Excuse", "quality", "I", true)
  | 2 => ("ExcuseLedger$Excuse", "owner", "I", true)
  | 3 => ("ExcuseLedger$Excuse", "holder", "I", false)
  | 4 => ("ExcuseLedger$Excuse", "wear", "I", false)
  | 5 => ("ExcuseLedger$Excuse", "uses", "I", false)
  | 6 => ("ExcuseLedger$Excuse", "believed", "I", false)
  | _ => ("ExcuseLedger$Excuse", "days", "I", false)
def tyX8 : Nat → FieldType := fun k => match k with
  | 0 => .object "ExcuseLedger$Name"
  | 1 => .int
  | 2 => .int
  | 3 => .int
  | 4 => .int
  | 5 => .int
  | 6 => .int
  | _ => .int
abbrev wsX80 : List Cond := u_ws RX8 TX8 8
theorem nmX8 : ∀ a, a < 8 → ∀ b, b < 8 → a ≠ b → (TX8 a).2.1 ≠ (TX8 b).2.1 := by decide +kernel
theorem tyX8_ok : ∀ k, k < 8 → parseFieldDescriptor (TX8 k).2.2.1 = some (tyX8 k) := by decide +kernel
theorem in_X8 : ∀ w ∈ wsX80, w ∈ lw_all := lw_in wsX80 [879, 881, 883, 885, 887, 889, 891, 893] (by decide +kernel) (by decide +kernel)
def RX9 : String := "ExcuseLedger$Refusal"
def TX9 : u_T := fun k => match k with
  | 0 => ("java/lang/Throwable", "cause", "Ljava/lang/Throwable;", false)
  | 1 => ("java/lang/Throwable", "stackTrace", "[Ljava/lang/StackTraceElement;", false)
  | 2 => ("java/lang/Throwable", "suppressedExceptions", "Ljava/util/List;", false)
  | 3 => ("java/lang/Throwable", "detailMessage", "Ljava/lang/String;", false)
  | 4 => ("java/lang/Throwable", "backtrace", "Ljava/lang/Object;", false)
  | 5 => ("java/lang/Throwable", "depth", "I", false)
  | 6 => ("ExcuseLedger$Refusal", "reason", "I", true)
  | _ => ("ExcuseLedger$Refusal", "detail", "I", true)
def tyX9 : Nat → FieldType := fun k => match k with
  | 0 => .object "java/lang/Throwable"
  | 1 => .array (.object "java/lang/StackTraceElement")
  | 2 => .object "java/util/List"
  | 3 => .object "java/lang/String"
  | 4 => .object "java/lang/Object"
  | 5 => .int
  | 6 => .int
  | _ => .int
abbrev wsX90 : List Cond := u_ws RX9 TX9 8
theorem nmX9 : ∀ a, a < 8 → ∀ b, b < 8 → a ≠ b → (TX9 a).2.1 ≠ (TX9 b).2.1 := by decide +kernel
theorem tyX9_ok : ∀ k, k < 8 → parseFieldDescriptor (TX9 k).2.2.1 = some (tyX9 k) := by decide +kernel
theorem in_X9 : ∀ w ∈ wsX90, w ∈ lw_all := lw_in wsX90 [2027, 2028, 2029, 2030, 2031, 2044, 2040, 2042] (by decide +kernel) (by decide +kernel)
def gT0 : u_T := fun _ => ("", "", "", false)
def gCL : List vw_C := [(RX1, TX1, 7), (RX2, TX2, 9), (RX3, TX3, 4), (RX4, TX4, 3), (RX5, TX5, 18), (RX6, TX6, 2), (RX7, TX7, 4), (RX8, TX8, 8), (RX9, TX9, 8), (RX10, TX10, 2), (RX11, TX11, 3), (RX12, TX12, 7), (RJ1, TJ1, 8), (RJ2, TJ2, 12), (RJ5, TJ5, 1), (RJ7, TJ7, 3), (RJ9, TJ9, 4), (RJ10, TJ10, 4), (RJ18, TJ18, 2), (RJ19, TJ19, 4), (RJ21, TJ21, 5), (RJ22, TJ22, 5), (RJ23, TJ23, 1), (RJ28, TJ28, 5), (RJ43, TJ43, 1), (RJ31, TJ31, 1), (RJ37, TJ37, 4), (RJ38, TJ38, 6), (RJ29, gT0, 0), (RJ17, gT0, 0), (RJ45, gT0, 0), (RJ46, gT0, 0), (RJ15, gT0, 0), (RJ48, gT0, 0)]
def gTY : List FieldType := [.int, .long, .byte, .char, .double, .object "java/lang/Object", .object "java/util/HashMap$Node", .object "ExcuseLedger$School", .object "ExcuseLedger$Pupil", .object "java/lang/Integer"]
