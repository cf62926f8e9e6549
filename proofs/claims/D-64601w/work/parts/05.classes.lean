/-! CLASSES: names and field tables (lines of claim/names), CLS, ATY -/
set_option maxRecDepth 100000
def RJ0 : String := "java/util/AbstractCollection"
def RJ1 : String := "java/util/ArrayDeque"
def TJ1 : u_T := fun k => match k with
  | 0 => ("java/util/ArrayDeque", "elements", "[Ljava/lang/Object;", false)
  | 1 => ("java/util/ArrayDeque", "head", "I", false)
  | _ => ("java/util/ArrayDeque", "tail", "I", false)
def tyJ1 : Nat → FieldType := fun k => match k with
  | 0 => .array (.object "java/lang/Object")
  | 1 => .int
  | _ => .int
abbrev wsJ10 : List Cond := u_ws RJ1 TJ1 3
theorem nmJ1 : ∀ a, a < 3 → ∀ b, b < 3 → a ≠ b → (TJ1 a).2.1 ≠ (TJ1 b).2.1 := by decide +kernel
theorem tyJ1_ok : ∀ k, k < 3 → parseFieldDescriptor (TJ1 k).2.2.1 = some (tyJ1 k) := by decide +kernel
theorem in_J1 : ∀ w ∈ wsJ10, w ∈ lw_all := lw_in wsJ10 [245, 247, 249] (by decide +kernel) (by decide +kernel)
def RJ10 : String := "java/lang/IllegalStateException"
def RJ11 : String := "java/util/Arrays"
def RJ12 : String := "java/lang/Math"
def RJ13 : String := "java/lang/IndexOutOfBoundsException"
def RJ14 : String := "java/lang/ArrayIndexOutOfBoundsException"
def RJ15 : String := "java/lang/String"
def TJ15 : u_T := fun k => match k with
  | 0 => ("java/lang/String", "value", "[B", true)
  | 1 => ("java/lang/String", "coder", "B", true)
  | 2 => ("java/lang/String", "hash", "I", false)
  | _ => ("java/lang/String", "hashIsZero", "Z", false)
def tyJ15 : Nat → FieldType := fun k => match k with
  | 0 => .array .byte
  | 1 => .byte
  | 2 => .int
  | _ => .boolean
abbrev wsJ150 : List Cond := u_ws RJ15 TJ15 4
theorem nmJ15 : ∀ a, a < 4 → ∀ b, b < 4 → a ≠ b → (TJ15 a).2.1 ≠ (TJ15 b).2.1 := by decide +kernel
theorem tyJ15_ok : ∀ k, k < 4 → parseFieldDescriptor (TJ15 k).2.2.1 = some (tyJ15 k) := by decide +kernel
theorem in_J15 : ∀ w ∈ wsJ150, w ∈ lw_all := lw_in wsJ150 [795, 797, 1833, 1835] (by decide +kernel) (by decide +kernel)
def RJ16 : String := "java/lang/Number"
def RJ17 : String := "java/lang/Integer"
def TJ17 : u_T := fun k => match k with
  | _ => ("java/lang/Integer", "value", "I", true)
def tyJ17 : Nat → FieldType := fun k => match k with
  | _ => .int
abbrev wsJ170 : List Cond := u_ws RJ17 TJ17 1
theorem nmJ17 : ∀ a, a < 1 → ∀ b, b < 1 → a ≠ b → (TJ17 a).2.1 ≠ (TJ17 b).2.1 := by decide +kernel
theorem tyJ17_ok : ∀ k, k < 1 → parseFieldDescriptor (TJ17 k).2.2.1 = some (tyJ17 k) := by decide +kernel
theorem in_J17 : ∀ w ∈ wsJ170, w ∈ lw_all := lw_in wsJ170 [963] (by decide +kernel) (by decide +kernel)
def RJ18 : String := "java/util/Objects"
def RJ19 : String := "java/lang/Long"
def RJ2 : String := "java/lang/Throwable"
def RJ20 : String := "java/lang/StringLatin1"
def RJ21 : String := "jdk/internal/util/ArraysSupport"
def RJ22 : String := "jdk/internal/misc/Unsafe"
def RJ23 : String := "java/lang/StringUTF16"
def RJ24 : String := "jdk/internal/util/Preconditions"
def RJ25 : String := "java/util/TreeMap$Entry"
def TJ25 : u_T := fun k => match k with
  | 0 => ("java/util/TreeMap$Entry", "key", "Ljava/lang/Object;", false)
  | 1 => ("java/util/TreeMap$Entry", "value", "Ljava/lang/Object;", false)
  | 2 => ("java/util/TreeMap$Entry", "left", "Ljava/util/TreeMap$Entry;", false)
  | 3 => ("java/util/TreeMap$Entry", "right", "Ljava/util/TreeMap$Entry;", false)
  | 4 => ("java/util/TreeMap$Entry", "parent", "Ljava/util/TreeMap$Entry;", false)
  | _ => ("java/util/TreeMap$Entry", "color", "Z", false)
def tyJ25 : Nat → FieldType := fun k => match k with
  | 0 => .object "java/lang/Object"
  | 1 => .object "java/lang/Object"
  | 2 => .object "java/util/TreeMap$Entry"
  | 3 => .object "java/util/TreeMap$Entry"
  | 4 => .object "java/util/TreeMap$Entry"
  | _ => .boolean
abbrev wsJ250 : List Cond := u_ws RJ25 TJ25 6
theorem nmJ25 : ∀ a, a < 6 → ∀ b, b < 6 → a ≠ b → (TJ25 a).2.1 ≠ (TJ25 b).2.1 := by decide +kernel
theorem tyJ25_ok : ∀ k, k < 6 → parseFieldDescriptor (TJ25 k).2.2.1 = some (tyJ25 k) := by decide +kernel
theorem in_J25 : ∀ w ∈ wsJ250, w ∈ lw_all := lw_in wsJ250 [1321, 1323, 1325, 1327, 1329, 1331] (by decide +kernel) (by decide +kernel)
def RJ26 : String := "java/util/BitSet"
def TJ26 : u_T := fun k => match k with
  | 0 => ("java/util/BitSet", "words", "[J", false)
  | 1 => ("java/util/BitSet", "wordsInUse", "I", false)
  | _ => ("java/util/BitSet", "sizeIsSticky", "Z", false)
def tyJ26 : Nat → FieldType := fun k => match k with
  | 0 => .array .long
  | 1 => .int
  | _ => .boolean
abbrev wsJ260 : List Cond := u_ws RJ26 TJ26 3
theorem nmJ26 : ∀ a, a < 3 → ∀ b, b < 3 → a ≠ b → (TJ26 a).2.1 ≠ (TJ26 b).2.1 := by decide +kernel
theorem tyJ26_ok : ∀ k, k < 3 → parseFieldDescriptor (TJ26 k).2.2.1 = some (tyJ26 k) := by decide +kernel
theorem in_J26 : ∀ w ∈ wsJ260, w ∈ lw_all := lw_in wsJ260 [1513, 1515, 1517] (by decide +kernel) (by decide +kernel)
def RJ27 : String := "java/util/AbstractQueue"
def RJ28 : String := "java/util/PriorityQueue"
def TJ28 : u_T := fun k => match k with
  | 0 => ("java/util/PriorityQueue", "queue", "[Ljava/lang/Object;", false)
  | 1 => ("java/util/PriorityQueue", "size", "I", false)
  | 2 => ("java/util/PriorityQueue", "comparator", "Ljava/util/Comparator;", true)
  | _ => ("java/util/PriorityQueue", "modCount", "I", false)
def tyJ28 : Nat → FieldType := fun k => match k with
  | 0 => .array (.object "java/lang/Object")
  | 1 => .int
  | 2 => .object "java/util/Comparator"
  | _ => .int
abbrev wsJ280 : List Cond := u_ws RJ28 TJ28 4
theorem nmJ28 : ∀ a, a < 4 → ∀ b, b < 4 → a ≠ b → (TJ28 a).2.1 ≠ (TJ28 b).2.1 := by decide +kernel
theorem tyJ28_ok : ∀ k, k < 4 → parseFieldDescriptor (TJ28 k).2.2.1 = some (tyJ28 k) := by decide +kernel
theorem in_J28 : ∀ w ∈ wsJ280, w ∈ lw_all := lw_in wsJ280 [1542, 1544, 1546, 1548] (by decide +kernel) (by decide +kernel)
def RJ29 : String := "java/lang/AbstractStringBuilder"
def RJ3 : String := "java/lang/Exception"
def RJ30 : String := "java/lang/StringBuilder"
def TJ30 : u_T := fun k => match k with
  | 0 => ("java/lang/AbstractStringBuilder", "value", "[B", false)
  | 1 => ("java/lang/AbstractStringBuilder", "coder", "B", false)
  | 2 => ("java/lang/AbstractStringBuilder", "maybeLatin1", "Z", false)
  | _ => ("java/lang/AbstractStringBuilder", "count", "I", false)
def tyJ30 : Nat → FieldType := fun k => match k with
  | 0 => .array .byte
  | 1 => .byte
  | 2 => .boolean
  | _ => .int
abbrev wsJ300 : List Cond := u_ws RJ30 TJ30 4
theorem nmJ30 : ∀ a, a < 4 → ∀ b, b < 4 → a ≠ b → (TJ30 a).2.1 ≠ (TJ30 b).2.1 := by decide +kernel
theorem tyJ30_ok : ∀ k, k < 4 → parseFieldDescriptor (TJ30 k).2.2.1 = some (tyJ30 k) := by decide +kernel
theorem in_J30 : ∀ w ∈ wsJ300, w ∈ lw_all := lw_in wsJ300 [1661, 1663, 1665, 1667] (by decide +kernel) (by decide +kernel)
def RJ31 : String := "java/util/AbstractList"
def RJ32 : String := "java/util/ArrayList"
def TJ32 : u_T := fun k => match k with
  | 0 => ("java/util/AbstractList", "modCount", "I", false)
  | 1 => ("java/util/ArrayList", "elementData", "[Ljava/lang/Object;", false)
  | _ => ("java/util/ArrayList", "size", "I", false)
def tyJ32 : Nat → FieldType := fun k => match k with
  | 0 => .int
  | 1 => .array (.object "java/lang/Object")
  | _ => .int
abbrev wsJ320 : List Cond := u_ws RJ32 TJ32 3
theorem nmJ32 : ∀ a, a < 3 → ∀ b, b < 3 → a ≠ b → (TJ32 a).2.1 ≠ (TJ32 b).2.1 := by decide +kernel
theorem tyJ32_ok : ∀ k, k < 3 → parseFieldDescriptor (TJ32 k).2.2.1 = some (tyJ32 k) := by decide +kernel
theorem in_J32 : ∀ w ∈ wsJ320, w ∈ lw_all := lw_in wsJ320 [1933, 1929, 1931] (by decide +kernel) (by decide +kernel)
def RJ33 : String := "java/util/HashMap"
def RJ34 : String := "java/util/LinkedHashMap"
def TJ34 : u_T := fun k => match k with
  | 0 => ("java/util/HashMap", "table", "[Ljava/util/HashMap$Node;", false)
  | 1 => ("java/util/HashMap", "entrySet", "Ljava/util/Set;", false)
  | 2 => ("java/util/HashMap", "size", "I", false)
  | 3 => ("java/util/HashMap", "modCount", "I", false)
  | 4 => ("java/util/HashMap", "threshold", "I", false)
  | 5 => ("java/util/HashMap", "loadFactor", "F", true)
  | 6 => ("java/util/AbstractMap", "keySet", "Ljava/util/Set;", false)
  | 7 => ("java/util/AbstractMap", "values", "Ljava/util/Collection;", false)
  | 8 => ("java/util/LinkedHashMap", "head", "Ljava/util/LinkedHashMap$Entry;", false)
  | 9 => ("java/util/LinkedHashMap", "tail", "Ljava/util/LinkedHashMap$Entry;", false)
  | 10 => ("java/util/LinkedHashMap", "accessOrder", "Z", true)
  | _ => ("java/util/LinkedHashMap", "putMode", "I", false)
def tyJ34 : Nat → FieldType := fun k => match k with
  | 0 => .array (.object "java/util/HashMap$Node")
  | 1 => .object "java/util/Set"
  | 2 => .int
  | 3 => .int
  | 4 => .int
  | 5 => .float
  | 6 => .object "java/util/Set"
  | 7 => .object "java/util/Collection"
  | 8 => .object "java/util/LinkedHashMap$Entry"
  | 9 => .object "java/util/LinkedHashMap$Entry"
  | 10 => .boolean
  | _ => .int
abbrev wsJ340 : List Cond := u_ws RJ34 TJ34 12
theorem nmJ34 : ∀ a, a < 12 → ∀ b, b < 12 → a ≠ b → (TJ34 a).2.1 ≠ (TJ34 b).2.1 := by decide +kernel
theorem tyJ34_ok : ∀ k, k < 12 → parseFieldDescriptor (TJ34 k).2.2.1 = some (tyJ34 k) := by decide +kernel
theorem in_J34 : ∀ w ∈ wsJ340, w ∈ lw_all := lw_in wsJ340 [1965, 1967, 1969, 1971, 1973, 1975, 1977, 1978, 1957, 1959, 1961, 1963] (by decide +kernel) (by decide +kernel)
def RJ35 : String := "java/lang/Enum"
def RJ36 : String := "java/lang/Character"
def RJ37 : String := "java/util/HashMap$Node"
def RJ38 : String := "java/util/LinkedHashMap$Entry"
def TJ38 : u_T := fun k => match k with
  | 0 => ("java/util/HashMap$Node", "hash", "I", true)
  | 1 => ("java/util/HashMap$Node", "key", "Ljava/lang/Object;", true)
  | 2 => ("java/util/HashMap$Node", "value", "Ljava/lang/Object;", false)
  | 3 => ("java/util/HashMap$Node", "next", "Ljava/util/HashMap$Node;", false)
  | 4 => ("java/util/LinkedHashMap$Entry", "before", "Ljava/util/LinkedHashMap$Entry;", false)
  | _ => ("java/util/LinkedHashMap$Entry", "after", "Ljava/util/LinkedHashMap$Entry;", false)
def tyJ38 : Nat → FieldType := fun k => match k with
  | 0 => .int
  | 1 => .object "java/lang/Object"
  | 2 => .object "java/lang/Object"
  | 3 => .object "java/util/HashMap$Node"
  | 4 => .object "java/util/LinkedHashMap$Entry"
  | _ => .object "java/util/LinkedHashMap$Entry"
abbrev wsJ380 : List Cond := u_ws RJ38 TJ38 6
theorem nmJ38 : ∀ a, a < 6 → ∀ b, b < 6 → a ≠ b → (TJ38 a).2.1 ≠ (TJ38 b).2.1 := by decide +kernel
theorem tyJ38_ok : ∀ k, k < 6 → parseFieldDescriptor (TJ38 k).2.2.1 = some (tyJ38 k) := by decide +kernel
theorem in_J38 : ∀ w ∈ wsJ380, w ∈ lw_all := lw_in wsJ380 [2532, 2534, 2536, 2538, 2528, 2530] (by decide +kernel) (by decide +kernel)
def RJ39 : String := "java/util/HashMap$TreeNode"
def RJ4 : String := "java/lang/RuntimeException"
def RJ40 : String := "java/lang/Object"
def RJ41 : String := "java/lang/System$2"
def RJ5 : String := "java/lang/IllegalArgumentException"
def RJ6 : String := "java/lang/UnsupportedOperationException"
def RJ7 : String := "java/util/AbstractMap"
def RJ8 : String := "java/util/TreeMap"
def TJ8 : u_T := fun k => match k with
  | 0 => ("java/util/AbstractMap", "keySet", "Ljava/util/Set;", false)
  | 1 => ("java/util/AbstractMap", "values", "Ljava/util/Collection;", false)
  | 2 => ("java/util/TreeMap", "comparator", "Ljava/util/Comparator;", true)
  | 3 => ("java/util/TreeMap", "root", "Ljava/util/TreeMap$Entry;", false)
  | 4 => ("java/util/TreeMap", "size", "I", false)
  | 5 => ("java/util/TreeMap", "modCount", "I", false)
  | 6 => ("java/util/TreeMap", "entrySet", "Ljava/util/TreeMap$EntrySet;", false)
  | 7 => ("java/util/TreeMap", "navigableKeySet", "Ljava/util/TreeMap$KeySet;", false)
  | _ => ("java/util/TreeMap", "descendingMap", "Ljava/util/NavigableMap;", false)
def tyJ8 : Nat → FieldType := fun k => match k with
  | 0 => .object "java/util/Set"
  | 1 => .object "java/util/Collection"
  | 2 => .object "java/util/Comparator"
  | 3 => .object "java/util/TreeMap$Entry"
  | 4 => .int
  | 5 => .int
  | 6 => .object "java/util/TreeMap$EntrySet"
  | 7 => .object "java/util/TreeMap$KeySet"
  | _ => .object "java/util/NavigableMap"
abbrev wsJ80 : List Cond := u_ws RJ8 TJ8 9
theorem nmJ8 : ∀ a, a < 9 → ∀ b, b < 9 → a ≠ b → (TJ8 a).2.1 ≠ (TJ8 b).2.1 := by decide +kernel
theorem tyJ8_ok : ∀ k, k < 9 → parseFieldDescriptor (TJ8 k).2.2.1 = some (tyJ8 k) := by decide +kernel
theorem in_J8 : ∀ w ∈ wsJ80, w ∈ lw_all := lw_in wsJ80 [601, 603, 587, 589, 591, 593, 595, 597, 599] (by decide +kernel) (by decide +kernel)
def RJ9 : String := "java/lang/Record"
def RX0 : String := "GraphDeskLaw"
def RX1 : String := "GraphDesk"
def TX1 : u_T := fun k => match k with
  | 0 => ("GraphDesk", "graph", "LGraphDesk$Graph;", true)
  | 1 => ("GraphDesk", "changes", "Ljava/util/ArrayDeque;", true)
  | 2 => ("GraphDesk", "tape", "[B", true)
  | 3 => ("GraphDesk", "tapeSize", "I", false)
  | 4 => ("GraphDesk", "parser", "LGraphDesk$Parser;", true)
  | 5 => ("GraphDesk", "fault", "I", false)
  | 6 => ("GraphDesk", "rows", "LGraphDesk$Rows;", true)
  | 7 => ("GraphDesk", "matcher", "LGraphDesk$Matcher;", true)
  | 8 => ("GraphDesk", "told", "[J", true)
  | 9 => ("GraphDesk", "rowCount", "I", false)
  | 10 => ("GraphDesk", "columns", "I", false)
  | 11 => ("GraphDesk", "walkedNodes", "[I", true)
  | 12 => ("GraphDesk", "walkedHops", "[I", true)
  | 13 => ("GraphDesk", "walkedCount", "I", false)
  | _ => ("GraphDesk", "reached", "[I", true)
def tyX1 : Nat → FieldType := fun k => match k with
  | 0 => .object "GraphDesk$Graph"
  | 1 => .object "java/util/ArrayDeque"
  | 2 => .array .byte
  | 3 => .int
  | 4 => .object "GraphDesk$Parser"
  | 5 => .int
  | 6 => .object "GraphDesk$Rows"
  | 7 => .object "GraphDesk$Matcher"
  | 8 => .array .long
  | 9 => .int
  | 10 => .int
  | 11 => .array .int
  | 12 => .array .int
  | 13 => .int
  | _ => .array .int
abbrev wsX10 : List Cond := u_ws RX1 TX1 15
theorem nmX1 : ∀ a, a < 15 → ∀ b, b < 15 → a ≠ b → (TX1 a).2.1 ≠ (TX1 b).2.1 := by decide +kernel
theorem tyX1_ok : ∀ k, k < 15 → parseFieldDescriptor (TX1 k).2.2.1 = some (tyX1 k) := by decide +kernel
theorem in_X1 : ∀ w ∈ wsX10, w ∈ lw_all := lw_in wsX10 [402, 404, 406, 408, 410, 412, 414, 416, 418, 420, 422, 424, 426, 428, 430] (by decide +kernel) (by decide +kernel)
def RX10 : String := "GraphDesk$Numbers"
def TX10 : u_T := fun k => match k with
  | 0 => ("GraphDesk$Numbers", "cells", "[I", false)
  | _ => ("GraphDesk$Numbers", "size", "I", false)
def tyX10 : Nat → FieldType := fun k => match k with
  | 0 => .array .int
  | _ => .int
abbrev wsX100 : List Cond := u_ws RX10 TX10 2
theorem nmX10 : ∀ a, a < 2 → ∀ b, b < 2 → a ≠ b → (TX10 a).2.1 ≠ (TX10 b).2.1 := by decide +kernel
theorem tyX10_ok : ∀ k, k < 2 → parseFieldDescriptor (TX10 k).2.2.1 = some (tyX10 k) := by decide +kernel
theorem in_X10 : ∀ w ∈ wsX100, w ∈ lw_all := lw_in wsX100 [618, 620] (by decide +kernel) (by decide +kernel)
def RX11 : String := "GraphDesk$NewNode"
def TX11 : u_T := fun k => match k with
  | _ => ("GraphDesk$NewNode", "number", "I", true)
def tyX11 : Nat → FieldType := fun k => match k with
  | _ => .int
abbrev wsX110 : List Cond := u_ws RX11 TX11 1
theorem nmX11 : ∀ a, a < 1 → ∀ b, b < 1 → a ≠ b → (TX11 a).2.1 ≠ (TX11 b).2.1 := by decide +kernel
theorem tyX11_ok : ∀ k, k < 1 → parseFieldDescriptor (TX11 k).2.2.1 = some (tyX11 k) := by decide +kernel
theorem in_X11 : ∀ w ∈ wsX110, w ∈ lw_all := lw_in wsX110 [670] (by decide +kernel) (by decide +kernel)
def RX12 : String := "GraphDesk$Edge"
def TX12 : u_T := fun k => match k with
  | 0 => ("GraphDesk$Thing", "properties", "Ljava/util/TreeMap;", true)
  | 1 => ("GraphDesk$Edge", "type", "I", true)
  | 2 => ("GraphDesk$Edge", "from", "I", true)
  | _ => ("GraphDesk$Edge", "to", "I", true)
def tyX12 : Nat → FieldType := fun k => match k with
  | 0 => .object "java/util/TreeMap"
  | 1 => .int
  | 2 => .int
  | _ => .int
abbrev wsX120 : List Cond := u_ws RX12 TX12 4
theorem nmX12 : ∀ a, a < 4 → ∀ b, b < 4 → a ≠ b → (TX12 a).2.1 ≠ (TX12 b).2.1 := by decide +kernel
theorem tyX12_ok : ∀ k, k < 4 → parseFieldDescriptor (TX12 k).2.2.1 = some (tyX12 k) := by decide +kernel
theorem in_X12 : ∀ w ∈ wsX120, w ∈ lw_all := lw_in wsX120 [854, 848, 850, 852] (by decide +kernel) (by decide +kernel)
def RX13 : String := "GraphDesk$NewEdge"
def TX13 : u_T := fun k => match k with
  | _ => ("GraphDesk$NewEdge", "number", "I", true)
def tyX13 : Nat → FieldType := fun k => match k with
  | _ => .int
abbrev wsX130 : List Cond := u_ws RX13 TX13 1
theorem nmX13 : ∀ a, a < 1 → ∀ b, b < 1 → a ≠ b → (TX13 a).2.1 ≠ (TX13 b).2.1 := by decide +kernel
theorem tyX13_ok : ∀ k, k < 1 → parseFieldDescriptor (TX13 k).2.2.1 = some (tyX13 k) := by decide +kernel
theorem in_X13 : ∀ w ∈ wsX130, w ∈ lw_all := lw_in wsX130 [872] (by decide +kernel) (by decide +kernel)
def RX14 : String := "GraphDesk$OldNode"
def TX14 : u_T := fun k => match k with
  | 0 => ("GraphDesk$OldNode", "number", "I", true)
  | _ => ("GraphDesk$OldNode", "node", "LGraphDesk$Node;", true)
def tyX14 : Nat → FieldType := fun k => match k with
  | 0 => .int
  | _ => .object "GraphDesk$Node"
abbrev wsX140 : List Cond := u_ws RX14 TX14 2
theorem nmX14 : ∀ a, a < 2 → ∀ b, b < 2 → a ≠ b → (TX14 a).2.1 ≠ (TX14 b).2.1 := by decide +kernel
theorem tyX14_ok : ∀ k, k < 2 → parseFieldDescriptor (TX14 k).2.2.1 = some (tyX14 k) := by decide +kernel
theorem in_X14 : ∀ w ∈ wsX140, w ∈ lw_all := lw_in wsX140 [898, 900] (by decide +kernel) (by decide +kernel)
def RX15 : String := "GraphDesk$OldEdge"
def TX15 : u_T := fun k => match k with
  | 0 => ("GraphDesk$OldEdge", "number", "I", true)
  | _ => ("GraphDesk$OldEdge", "edge", "LGraphDesk$Edge;", true)
def tyX15 : Nat → FieldType := fun k => match k with
  | 0 => .int
  | _ => .object "GraphDesk$Edge"
abbrev wsX150 : List Cond := u_ws RX15 TX15 2
theorem nmX15 : ∀ a, a < 2 → ∀ b, b < 2 → a ≠ b → (TX15 a).2.1 ≠ (TX15 b).2.1 := by decide +kernel
theorem tyX15_ok : ∀ k, k < 2 → parseFieldDescriptor (TX15 k).2.2.1 = some (tyX15 k) := by decide +kernel
theorem in_X15 : ∀ w ∈ wsX150, w ∈ lw_all := lw_in wsX150 [930, 932] (by decide +kernel) (by decide +kernel)
def RX16 : String := "GraphDesk$OldValue"
def TX16 : u_T := fun k => match k with
  | 0 => ("GraphDesk$OldValue", "thing", "LGraphDesk$Thing;", true)
  | 1 => ("GraphDesk$OldValue", "key", "I", true)
  | _ => ("GraphDesk$OldValue", "value", "Ljava/lang/Integer;", true)
def tyX16 : Nat → FieldType := fun k => match k with
  | 0 => .object "GraphDesk$Thing"
  | 1 => .int
  | _ => .object "java/lang/Integer"
abbrev wsX160 : List Cond := u_ws RX16 TX16 3
theorem nmX16 : ∀ a, a < 3 → ∀ b, b < 3 → a ≠ b → (TX16 a).2.1 ≠ (TX16 b).2.1 := by decide +kernel
theorem tyX16_ok : ∀ k, k < 3 → parseFieldDescriptor (TX16 k).2.2.1 = some (tyX16 k) := by decide +kernel
theorem in_X16 : ∀ w ∈ wsX160, w ∈ lw_all := lw_in wsX160 [1351, 1353, 1355] (by decide +kernel) (by decide +kernel)
def RX17 : String := "GraphDesk$Reach"
def TX17 : u_T := fun k => match k with
  | 0 => ("GraphDesk$Reach", "cost", "J", true)
  | _ => ("GraphDesk$Reach", "node", "I", true)
def tyX17 : Nat → FieldType := fun k => match k with
  | 0 => .long
  | _ => .int
abbrev wsX170 : List Cond := u_ws RX17 TX17 2
theorem nmX17 : ∀ a, a < 2 → ∀ b, b < 2 → a ≠ b → (TX17 a).2.1 ≠ (TX17 b).2.1 := by decide +kernel
theorem tyX17_ok : ∀ k, k < 2 → parseFieldDescriptor (TX17 k).2.2.1 = some (tyX17 k) := by decide +kernel
theorem in_X17 : ∀ w ∈ wsX170, w ∈ lw_all := lw_in wsX170 [1559, 1561] (by decide +kernel) (by decide +kernel)
def RX18 : String := "GraphDesk$Question"
def TX18 : u_T := fun k => match k with
  | 0 => ("GraphDesk$Question", "nodes", "Ljava/util/ArrayList;", true)
  | 1 => ("GraphDesk$Question", "edges", "Ljava/util/ArrayList;", true)
  | 2 => ("GraphDesk$Question", "names", "Ljava/util/LinkedHashMap;", true)
  | 3 => ("GraphDesk$Question", "isEdge", "[Z", true)
  | 4 => ("GraphDesk$Question", "conditions", "Ljava/util/ArrayList;", true)
  | 5 => ("GraphDesk$Question", "items", "Ljava/util/ArrayList;", true)
  | 6 => ("GraphDesk$Question", "orders", "Ljava/util/ArrayList;", true)
  | 7 => ("GraphDesk$Question", "distinct", "Z", false)
  | _ => ("GraphDesk$Question", "limit", "I", false)
def tyX18 : Nat → FieldType := fun k => match k with
  | 0 => .object "java/util/ArrayList"
  | 1 => .object "java/util/ArrayList"
  | 2 => .object "java/util/LinkedHashMap"
  | 3 => .array .boolean
  | 4 => .object "java/util/ArrayList"
  | 5 => .object "java/util/ArrayList"
  | 6 => .object "java/util/ArrayList"
  | 7 => .boolean
  | _ => .int
abbrev wsX180 : List Cond := u_ws RX18 TX18 9
theorem nmX18 : ∀ a, a < 9 → ∀ b, b < 9 → a ≠ b → (TX18 a).2.1 ≠ (TX18 b).2.1 := by decide +kernel
theorem tyX18_ok : ∀ k, k < 9 → parseFieldDescriptor (TX18 k).2.2.1 = some (tyX18 k) := by decide +kernel
theorem in_X18 : ∀ w ∈ wsX180, w ∈ lw_all := lw_in wsX180 [2009, 2011, 2013, 2015, 2017, 2019, 2021, 2023, 2025] (by decide +kernel) (by decide +kernel)
def RX19 : String := "GraphDesk$NodePart"
def TX19 : u_T := fun k => match k with
  | 0 => ("GraphDesk$NodePart", "variable", "I", true)
  | _ => ("GraphDesk$NodePart", "label", "I", true)
def tyX19 : Nat → FieldType := fun k => match k with
  | 0 => .int
  | _ => .int
abbrev wsX190 : List Cond := u_ws RX19 TX19 2
theorem nmX19 : ∀ a, a < 2 → ∀ b, b < 2 → a ≠ b → (TX19 a).2.1 ≠ (TX19 b).2.1 := by decide +kernel
theorem tyX19_ok : ∀ k, k < 2 → parseFieldDescriptor (TX19 k).2.2.1 = some (tyX19 k) := by decide +kernel
theorem in_X19 : ∀ w ∈ wsX190, w ∈ lw_all := lw_in wsX190 [2669, 2671] (by decide +kernel) (by decide +kernel)
def RX2 : String := "GraphDesk$Graph"
def TX2 : u_T := fun k => match k with
  | 0 => ("GraphDesk$Graph", "nodes", "[LGraphDesk$Node;", true)
  | 1 => ("GraphDesk$Graph", "edges", "[LGraphDesk$Edge;", true)
  | 2 => ("GraphDesk$Graph", "nodeCount", "I", false)
  | 3 => ("GraphDesk$Graph", "edgeCount", "I", false)
  | _ => ("GraphDesk$Graph", "properties", "I", false)
def tyX2 : Nat → FieldType := fun k => match k with
  | 0 => .array (.object "GraphDesk$Node")
  | 1 => .array (.object "GraphDesk$Edge")
  | 2 => .int
  | 3 => .int
  | _ => .int
abbrev wsX20 : List Cond := u_ws RX2 TX2 5
theorem nmX2 : ∀ a, a < 5 → ∀ b, b < 5 → a ≠ b → (TX2 a).2.1 ≠ (TX2 b).2.1 := by decide +kernel
theorem tyX2_ok : ∀ k, k < 5 → parseFieldDescriptor (TX2 k).2.2.1 = some (tyX2 k) := by decide +kernel
theorem in_X2 : ∀ w ∈ wsX20, w ∈ lw_all := lw_in wsX20 [220, 222, 224, 226, 228] (by decide +kernel) (by decide +kernel)
def RX20 : String := "GraphDesk$EdgePart"
def TX20 : u_T := fun k => match k with
  | 0 => ("GraphDesk$EdgePart", "variable", "I", true)
  | 1 => ("GraphDesk$EdgePart", "type", "I", true)
  | 2 => ("GraphDesk$EdgePart", "way", "I", true)
  | 3 => ("GraphDesk$EdgePart", "low", "I", true)
  | _ => ("GraphDesk$EdgePart", "high", "I", true)
def tyX20 : Nat → FieldType := fun k => match k with
  | 0 => .int
  | 1 => .int
  | 2 => .int
  | 3 => .int
  | _ => .int
abbrev wsX200 : List Cond := u_ws RX20 TX20 5
theorem nmX20 : ∀ a, a < 5 → ∀ b, b < 5 → a ≠ b → (TX20 a).2.1 ≠ (TX20 b).2.1 := by decide +kernel
theorem tyX20_ok : ∀ k, k < 5 → parseFieldDescriptor (TX20 k).2.2.1 = some (tyX20 k) := by decide +kernel
theorem in_X20 : ∀ w ∈ wsX200, w ∈ lw_all := lw_in wsX200 [2717, 2719, 2721, 2723, 2725] (by decide +kernel) (by decide +kernel)
def RX21 : String := "GraphDesk$Condition"
def TX21 : u_T := fun k => match k with
  | 0 => ("GraphDesk$Condition", "left", "LGraphDesk$Term;", true)
  | 1 => ("GraphDesk$Condition", "sign", "Ljava/lang/String;", true)
  | _ => ("GraphDesk$Condition", "right", "LGraphDesk$Term;", true)
def tyX21 : Nat → FieldType := fun k => match k with
  | 0 => .object "GraphDesk$Term"
  | 1 => .object "java/lang/String"
  | _ => .object "GraphDesk$Term"
abbrev wsX210 : List Cond := u_ws RX21 TX21 3
theorem nmX21 : ∀ a, a < 3 → ∀ b, b < 3 → a ≠ b → (TX21 a).2.1 ≠ (TX21 b).2.1 := by decide +kernel
theorem tyX21_ok : ∀ k, k < 3 → parseFieldDescriptor (TX21 k).2.2.1 = some (tyX21 k) := by decide +kernel
theorem in_X21 : ∀ w ∈ wsX210, w ∈ lw_all := lw_in wsX210 [2766, 2768, 2770] (by decide +kernel) (by decide +kernel)
def RX22 : String := "GraphDesk$Term"
def TX22 : u_T := fun k => match k with
  | 0 => ("GraphDesk$Term", "variable", "I", true)
  | 1 => ("GraphDesk$Term", "key", "I", true)
  | _ => ("GraphDesk$Term", "number", "I", true)
def tyX22 : Nat → FieldType := fun k => match k with
  | 0 => .int
  | 1 => .int
  | _ => .int
abbrev wsX220 : List Cond := u_ws RX22 TX22 3
theorem nmX22 : ∀ a, a < 3 → ∀ b, b < 3 → a ≠ b → (TX22 a).2.1 ≠ (TX22 b).2.1 := by decide +kernel
theorem tyX22_ok : ∀ k, k < 3 → parseFieldDescriptor (TX22 k).2.2.1 = some (tyX22 k) := by decide +kernel
theorem in_X22 : ∀ w ∈ wsX220, w ∈ lw_all := lw_in wsX220 [2752, 2754, 2756] (by decide +kernel) (by decide +kernel)
def RX23 : String := "GraphDesk$Order"
def TX23 : u_T := fun k => match k with
  | 0 => ("GraphDesk$Order", "term", "LGraphDesk$Term;", true)
  | _ => ("GraphDesk$Order", "falls", "Z", true)
def tyX23 : Nat → FieldType := fun k => match k with
  | 0 => .object "GraphDesk$Term"
  | _ => .boolean
abbrev wsX230 : List Cond := u_ws RX23 TX23 2
theorem nmX23 : ∀ a, a < 2 → ∀ b, b < 2 → a ≠ b → (TX23 a).2.1 ≠ (TX23 b).2.1 := by decide +kernel
theorem tyX23_ok : ∀ k, k < 2 → parseFieldDescriptor (TX23 k).2.2.1 = some (tyX23 k) := by decide +kernel
theorem in_X23 : ∀ w ∈ wsX230, w ∈ lw_all := lw_in wsX230 [2842, 2844] (by decide +kernel) (by decide +kernel)
def RX3 : String := "GraphDesk$Parser"
def TX3 : u_T := fun k => match k with
  | 0 => ("GraphDesk$Parser", "x", "LGraphDesk$Lexer;", true)
  | 1 => ("GraphDesk$Parser", "q", "LGraphDesk$Question;", false)
  | 2 => ("GraphDesk$Parser", "edgeCount", "I", false)
  | 3 => ("GraphDesk$Parser", "code", "I", false)
  | 4 => ("GraphDesk$Parser", "place", "I", false)
  | 5 => ("GraphDesk$Parser", "later", "I", false)
  | _ => ("GraphDesk$Parser", "laterPlace", "I", false)
def tyX3 : Nat → FieldType := fun k => match k with
  | 0 => .object "GraphDesk$Lexer"
  | 1 => .object "GraphDesk$Question"
  | 2 => .int
  | 3 => .int
  | 4 => .int
  | 5 => .int
  | _ => .int
abbrev wsX30 : List Cond := u_ws RX3 TX3 7
theorem nmX3 : ∀ a, a < 7 → ∀ b, b < 7 → a ≠ b → (TX3 a).2.1 ≠ (TX3 b).2.1 := by decide +kernel
theorem tyX3_ok : ∀ k, k < 7 → parseFieldDescriptor (TX3 k).2.2.1 = some (tyX3 k) := by decide +kernel
theorem in_X3 : ∀ w ∈ wsX30, w ∈ lw_all := lw_in wsX30 [300, 302, 304, 306, 308, 310, 312] (by decide +kernel) (by decide +kernel)
def RX4 : String := "GraphDesk$Lexer"
def TX4 : u_T := fun k => match k with
  | 0 => ("GraphDesk$Lexer", "text", "[B", false)
  | 1 => ("GraphDesk$Lexer", "length", "I", false)
  | 2 => ("GraphDesk$Lexer", "from", "I", false)
  | 3 => ("GraphDesk$Lexer", "to", "I", false)
  | 4 => ("GraphDesk$Lexer", "kind", "LGraphDesk$Kind;", false)
  | 5 => ("GraphDesk$Lexer", "spelt", "Ljava/lang/String;", false)
  | _ => ("GraphDesk$Lexer", "number", "J", false)
def tyX4 : Nat → FieldType := fun k => match k with
  | 0 => .array .byte
  | 1 => .int
  | 2 => .int
  | 3 => .int
  | 4 => .object "GraphDesk$Kind"
  | 5 => .object "java/lang/String"
  | _ => .long
abbrev wsX40 : List Cond := u_ws RX4 TX4 7
theorem nmX4 : ∀ a, a < 7 → ∀ b, b < 7 → a ≠ b → (TX4 a).2.1 ≠ (TX4 b).2.1 := by decide +kernel
theorem tyX4_ok : ∀ k, k < 7 → parseFieldDescriptor (TX4 k).2.2.1 = some (tyX4 k) := by decide +kernel
theorem in_X4 : ∀ w ∈ wsX40, w ∈ lw_all := lw_in wsX40 [275, 277, 279, 281, 283, 285, 287] (by decide +kernel) (by decide +kernel)
def RX5 : String := "GraphDesk$Rows"
def TX5 : u_T := fun k => match k with
  | 0 => ("GraphDesk$Rows", "items", "[J", true)
  | 1 => ("GraphDesk$Rows", "orders", "[J", true)
  | 2 => ("GraphDesk$Rows", "many", "[I", true)
  | 3 => ("GraphDesk$Rows", "order", "[I", true)
  | 4 => ("GraphDesk$Rows", "count", "I", false)
  | 5 => ("GraphDesk$Rows", "q", "LGraphDesk$Question;", false)
  | _ => ("GraphDesk$Rows", "byItems", "Z", false)
def tyX5 : Nat → FieldType := fun k => match k with
  | 0 => .array .long
  | 1 => .array .long
  | 2 => .array .int
  | 3 => .array .int
  | 4 => .int
  | 5 => .object "GraphDesk$Question"
  | _ => .boolean
abbrev wsX50 : List Cond := u_ws RX5 TX5 7
theorem nmX5 : ∀ a, a < 7 → ∀ b, b < 7 → a ≠ b → (TX5 a).2.1 ≠ (TX5 b).2.1 := by decide +kernel
theorem tyX5_ok : ∀ k, k < 7 → parseFieldDescriptor (TX5 k).2.2.1 = some (tyX5 k) := by decide +kernel
theorem in_X5 : ∀ w ∈ wsX50, w ∈ lw_all := lw_in wsX50 [337, 339, 341, 343, 345, 347, 349] (by decide +kernel) (by decide +kernel)
def RX6 : String := "GraphDesk$Matcher"
def TX6 : u_T := fun k => match k with
  | 0 => ("GraphDesk$Matcher", "g", "LGraphDesk$Graph;", true)
  | 1 => ("GraphDesk$Matcher", "rows", "LGraphDesk$Rows;", true)
  | 2 => ("GraphDesk$Matcher", "q", "LGraphDesk$Question;", false)
  | 3 => ("GraphDesk$Matcher", "at", "[I", true)
  | 4 => ("GraphDesk$Matcher", "values", "[I", true)
  | 5 => ("GraphDesk$Matcher", "gone", "[Z", true)
  | 6 => ("GraphDesk$Matcher", "counting", "Z", false)
  | _ => ("GraphDesk$Matcher", "ways", "I", false)
def tyX6 : Nat → FieldType := fun k => match k with
  | 0 => .object "GraphDesk$Graph"
  | 1 => .object "GraphDesk$Rows"
  | 2 => .object "GraphDesk$Question"
  | 3 => .array .int
  | 4 => .array .int
  | 5 => .array .boolean
  | 6 => .boolean
  | _ => .int
abbrev wsX60 : List Cond := u_ws RX6 TX6 8
theorem nmX6 : ∀ a, a < 8 → ∀ b, b < 8 → a ≠ b → (TX6 a).2.1 ≠ (TX6 b).2.1 := by decide +kernel
theorem tyX6_ok : ∀ k, k < 8 → parseFieldDescriptor (TX6 k).2.2.1 = some (tyX6 k) := by decide +kernel
theorem in_X6 : ∀ w ∈ wsX60, w ∈ lw_all := lw_in wsX60 [368, 370, 372, 374, 376, 378, 380, 382] (by decide +kernel) (by decide +kernel)
def RX7 : String := "GraphDeskModel"
def TX7 : u_T := fun k => match k with
  | 0 => ("GraphDeskModel", "code", "I", false)
  | 1 => ("GraphDeskModel", "labels", "[I", true)
  | 2 => ("GraphDeskModel", "types", "[I", true)
  | 3 => ("GraphDeskModel", "froms", "[I", true)
  | 4 => ("GraphDeskModel", "tos", "[I", true)
  | 5 => ("GraphDeskModel", "properties", "[I", true)
  | 6 => ("GraphDeskModel", "propertyCount", "I", false)
  | 7 => ("GraphDeskModel", "changes", "[I", true)
  | 8 => ("GraphDeskModel", "changeCount", "I", false)
  | 9 => ("GraphDeskModel", "kept", "I", false)
  | 10 => ("GraphDeskModel", "hops", "[I", true)
  | 11 => ("GraphDeskModel", "walkNodes", "[I", true)
  | 12 => ("GraphDeskModel", "walkHops", "[I", true)
  | 13 => ("GraphDeskModel", "walkCount", "I", false)
  | 14 => ("GraphDeskModel", "costs", "[J", true)
  | 15 => ("GraphDeskModel", "tape", "[B", true)
  | 16 => ("GraphDeskModel", "length", "I", false)
  | 17 => ("GraphDeskModel", "faultCode", "I", false)
  | 18 => ("GraphDeskModel", "faultPlace", "I", false)
  | 19 => ("GraphDeskModel", "token", "I", false)
  | 20 => ("GraphDeskModel", "begin", "I", false)
  | 21 => ("GraphDeskModel", "stop", "I", false)
  | 22 => ("GraphDeskModel", "amount", "J", false)
  | 23 => ("GraphDeskModel", "nameFrom", "[I", true)
  | 24 => ("GraphDeskModel", "nameLength", "[I", true)
  | 25 => ("GraphDeskModel", "nameKind", "[I", true)
  | 26 => ("GraphDeskModel", "names", "I", false)
  | 27 => ("GraphDeskModel", "wrongCode", "I", false)
  | 28 => ("GraphDeskModel", "wrongPlace", "I", false)
  | 29 => ("GraphDeskModel", "nodes", "I", false)
  | 30 => ("GraphDeskModel", "edges", "I", false)
  | 31 => ("GraphDeskModel", "ops", "[I", true)
  | 32 => ("GraphDeskModel", "opCount", "I", false)
  | 33 => ("GraphDeskModel", "conditions", "[I", true)
  | 34 => ("GraphDeskModel", "conditionCount", "I", false)
  | 35 => ("GraphDeskModel", "items", "[I", true)
  | 36 => ("GraphDeskModel", "itemCount", "I", false)
  | 37 => ("GraphDeskModel", "orders", "[I", true)
  | 38 => ("GraphDeskModel", "orderCount", "I", false)
  | 39 => ("GraphDeskModel", "distinct", "Z", false)
  | 40 => ("GraphDeskModel", "limit", "J", false)
  | 41 => ("GraphDeskModel", "toldName", "I", false)
  | 42 => ("GraphDeskModel", "toldSmall", "I", false)
  | 43 => ("GraphDeskModel", "toldKey", "I", false)
  | 44 => ("GraphDeskModel", "choice", "[I", true)
  | 45 => ("GraphDeskModel", "usedEdge", "[I", true)
  | 46 => ("GraphDeskModel", "nodeNow", "[I", true)
  | 47 => ("GraphDeskModel", "stopped", "[Z", true)
  | 48 => ("GraphDeskModel", "bound", "[I", true)
  | 49 => ("GraphDeskModel", "boundBy", "[I", true)
  | 50 => ("GraphDeskModel", "cells", "[I", true)
  | 51 => ("GraphDeskModel", "there", "[Z", true)
  | 52 => ("GraphDeskModel", "sizes", "[I", true)
  | 53 => ("GraphDeskModel", "matches", "I", false)
  | 54 => ("GraphDeskModel", "ways", "I", false)
  | 55 => ("GraphDeskModel", "termValue", "I", false)
  | 56 => ("GraphDeskModel", "sorted", "[I", true)
  | 57 => ("GraphDeskModel", "rowCells", "[I", true)
  | 58 => ("GraphDeskModel", "rowThere", "[Z", true)
  | 59 => ("GraphDeskModel", "rows", "I", false)
  | _ => ("GraphDeskModel", "width", "I", false)
def tyX7 : Nat → FieldType := fun k => match k with
  | 0 => .int
  | 1 => .array .int
  | 2 => .array .int
  | 3 => .array .int
  | 4 => .array .int
  | 5 => .array .int
  | 6 => .int
  | 7 => .array .int
  | 8 => .int
  | 9 => .int
  | 10 => .array .int
  | 11 => .array .int
  | 12 => .array .int
  | 13 => .int
  | 14 => .array .long
  | 15 => .array .byte
  | 16 => .int
  | 17 => .int
  | 18 => .int
  | 19 => .int
  | 20 => .int
  | 21 => .int
  | 22 => .long
  | 23 => .array .int
  | 24 => .array .int
  | 25 => .array .int
  | 26 => .int
  | 27 => .int
  | 28 => .int
  | 29 => .int
  | 30 => .int
  | 31 => .array .int
  | 32 => .int
  | 33 => .array .int
  | 34 => .int
  | 35 => .array .int
  | 36 => .int
  | 37 => .array .int
  | 38 => .int
  | 39 => .boolean
  | 40 => .long
  | 41 => .int
  | 42 => .int
  | 43 => .int
  | 44 => .array .int
  | 45 => .array .int
  | 46 => .array .int
  | 47 => .array .boolean
  | 48 => .array .int
  | 49 => .array .int
  | 50 => .array .int
  | 51 => .array .boolean
  | 52 => .array .int
  | 53 => .int
  | 54 => .int
  | 55 => .int
  | 56 => .array .int
  | 57 => .array .int
  | 58 => .array .boolean
  | 59 => .int
  | _ => .int
abbrev wsX70 : List Cond := u_ws RX7 TX7 61
theorem nmX7 : ∀ a, a < 61 → ∀ b, b < 61 → a ≠ b → (TX7 a).2.1 ≠ (TX7 b).2.1 := by decide +kernel
theorem tyX7_ok : ∀ k, k < 61 → parseFieldDescriptor (TX7 k).2.2.1 = some (tyX7 k) := by decide +kernel
theorem in_X7 : ∀ w ∈ wsX70, w ∈ lw_all := lw_in wsX70 [3107, 3109, 3111, 3113, 3115, 3117, 3119, 3121, 3123, 3125, 3127, 3129, 3131, 3133, 3135, 3137, 3139, 3141, 3143, 3145, 3147, 3149, 3151, 3153, 3155, 3157, 3159, 3161, 3163, 3165, 3167, 3169, 3171, 3173, 3175, 3177, 3179, 3181, 3183, 3185, 3187, 3189, 3191, 3193, 3195, 3197, 3199, 3201, 3203, 3205, 3207, 3209, 3211, 3213, 3215, 3217, 3219, 3221, 3223, 3225, 3227] (by decide +kernel) (by decide +kernel)
def RX8 : String := "GraphDesk$Thing"
def RX9 : String := "GraphDesk$Node"
def TX9 : u_T := fun k => match k with
  | 0 => ("GraphDesk$Thing", "properties", "Ljava/util/TreeMap;", true)
  | 1 => ("GraphDesk$Node", "label", "I", true)
  | 2 => ("GraphDesk$Node", "out", "LGraphDesk$Numbers;", true)
  | _ => ("GraphDesk$Node", "in", "LGraphDesk$Numbers;", true)
def tyX9 : Nat → FieldType := fun k => match k with
  | 0 => .object "java/util/TreeMap"
  | 1 => .int
  | 2 => .object "GraphDesk$Numbers"
  | _ => .object "GraphDesk$Numbers"
abbrev wsX90 : List Cond := u_ws RX9 TX9 4
theorem nmX9 : ∀ a, a < 4 → ∀ b, b < 4 → a ≠ b → (TX9 a).2.1 ≠ (TX9 b).2.1 := by decide +kernel
theorem tyX9_ok : ∀ k, k < 4 → parseFieldDescriptor (TX9 k).2.2.1 = some (tyX9 k) := by decide +kernel
theorem in_X9 : ∀ w ∈ wsX90, w ∈ lw_all := lw_in wsX90 [649, 643, 645, 647] (by decide +kernel) (by decide +kernel)
abbrev CT : Type := String × u_T × Nat × (Nat → FieldType)
def CLS : List CT := [(RX1, TX1, 15, tyX1), (RX2, TX2, 5, tyX2), (RX10, TX10, 2, tyX10), (RX9, TX9, 4, tyX9), (RX12, TX12, 4, tyX12), (RX11, TX11, 1, tyX11), (RX13, TX13, 1, tyX13), (RX14, TX14, 2, tyX14), (RX15, TX15, 2, tyX15), (RX16, TX16, 3, tyX16), (RX17, TX17, 2, tyX17), (RX18, TX18, 9, tyX18), (RX19, TX19, 2, tyX19), (RX20, TX20, 5, tyX20), (RX21, TX21, 3, tyX21), (RX22, TX22, 3, tyX22), (RX23, TX23, 2, tyX23), (RX3, TX3, 7, tyX3), (RX4, TX4, 7, tyX4), (RX5, TX5, 7, tyX5), (RX6, TX6, 8, tyX6), (RX7, TX7, 61, tyX7), (RJ1, TJ1, 3, tyJ1), (RJ15, TJ15, 4, tyJ15), (RJ17, TJ17, 1, tyJ17), (RJ8, TJ8, 9, tyJ8), (RJ25, TJ25, 6, tyJ25), (RJ26, TJ26, 3, tyJ26), (RJ28, TJ28, 4, tyJ28), (RJ30, TJ30, 4, tyJ30), (RJ32, TJ32, 3, tyJ32), (RJ34, TJ34, 12, tyJ34), (RJ38, TJ38, 6, tyJ38)]
def ATY : List FieldType := [.int, .long, .byte, .boolean, .char, .object "java/lang/Object", .object "GraphDesk$Node", .object "GraphDesk$Edge", .object "java/util/HashMap$Node", .object "java/lang/Integer"]
def STRS : List (String × Nat × String × Int) := [("java/util/ArrayDeque", 35, "Sorry, deque too big", 1), ("java/util/Arrays", 337, " > ", 3), ("jdk/internal/util/ArraysSupport", 92, "unrecognized basic type: ", 5), ("java/util/BitSet", 153, "bitIndex < 0: ", 7), ("GraphDesk", 69, "not as said", 9), ("GraphDesk", 79, "no room", 11), ("GraphDesk", 164, "it has edges", 13), ("GraphDesk", 228, "no such what", 15), ("GraphDesk$Parse\x72", 175, "(", 17), ("GraphDesk$Parse\x72", 188, ":", 19), ("GraphDesk$Parse\x72", 192, ")", 21), ("GraphDesk$Parse\x72", 160, "-", 23), ("GraphDesk$Parse\x72", 162, "<-", 25), ("GraphDesk$Parse\x72", 205, "[", 27), ("GraphDesk$Parse\x72", 207, "*", 29), ("GraphDesk$Parse\x72", 211, "..", 31), ("GraphDesk$Parse\x72", 213, "]", 33), ("GraphDesk$Parse\x72", 215, "->", 35), ("GraphDesk$Parse\x72", 115, ",", 37), ("GraphDesk$Parse\x72", 120, "where", 39), ("GraphDesk$Parse\x72", 235, "has", 41), ("GraphDesk$Parse\x72", 237, "no", 43), ("GraphDesk$Parse\x72", 222, ".", 45), ("GraphDesk$Parse\x72", 256, "=", 47), ("GraphDesk$Parse\x72", 258, "!=", 49), ("GraphDesk$Parse\x72", 260, "<", 51), ("GraphDesk$Parse\x72", 262, "<=", 53), ("GraphDesk$Parse\x72", 264, ">", 55), ("GraphDesk$Parse\x72", 266, ">=", 57), ("GraphDesk$Parse\x72", 254, "and", 59), ("GraphDesk$Parse\x72", 125, "return", 61), ("GraphDesk$Parse\x72", 131, "distinct", 63), ("GraphDesk$Parse\x72", 268, "count", 65), ("GraphDesk$Parse\x72", 139, "orde\x72", 67), ("GraphDesk$Parse\x72", 278, "by", 69), ("GraphDesk$Parse\x72", 287, "desc", 71), ("GraphDesk$Parse\x72", 144, "limit", 73), ("GraphDesk$Lexe\x72", 69, "", 75), ("GraphDesk$Lexe\x72", 7, "where", 77), ("GraphDesk$Lexe\x72", 15, "and", 79), ("GraphDesk$Lexe\x72", 17, "has", 81), ("GraphDesk$Lexe\x72", 19, "no", 83), ("GraphDesk$Lexe\x72", 21, "return", 85), ("GraphDesk$Lexe\x72", 23, "count", 87), ("GraphDesk$Lexe\x72", 25, "orde\x72", 89), ("GraphDesk$Lexe\x72", 27, "by", 91), ("GraphDesk$Lexe\x72", 29, "desc", 93), ("GraphDesk$Lexe\x72", 31, "limit", 95), ("GraphDesk$Lexe\x72", 33, "distinct", 97), ("GraphDesk$Lexe\x72", 138, "()[],:.*-=<>", 99), ("GraphDesk$Matche\x72", 202, "no", 101), ("GraphDesk$Matche\x72", 213, "=", 103), ("GraphDesk$Matche\x72", 215, "!=", 105), ("GraphDesk$Matche\x72", 217, "<", 107), ("GraphDesk$Matche\x72", 219, "<=", 109), ("GraphDesk$Matche\x72", 221, ">", 111)]
def STATS : List (String × String × String × AV) := [("java/lang/Integer$IntegerCache", "high", "I", (0, 127)), ("java/lang/Integer$IntegerCache", "cache", "[Ljava/lang/Integer;", (2, 120)), ("java/lang/String", "COMPACT_STRINGS", "Z", (0, 1)), ("java/util/BitSet", "$assertionsDisabled", "Z", (0, 1)), ("java/util/ArrayList", "DEFAULTCAPACITY_EMPTY_ELEMENTDATA", "[Ljava/lang/Object;", (2, 122)), ("GraphDesk$Kind", "BAD", "LGraphDesk$Kind;", (2, 123)), ("GraphDesk$Kind", "END", "LGraphDesk$Kind;", (2, 124)), ("GraphDesk$Kind", "NAME", "LGraphDesk$Kind;", (2, 125)), ("GraphDesk$Kind", "NUMBER", "LGraphDesk$Kind;", (2, 126)), ("GraphDesk$Kind", "WORD", "LGraphDesk$Kind;", (2, 127)), ("GraphDesk$Kind", "SIGN", "LGraphDesk$Kind;", (2, 128)), ("java/lang/StringUTF16", "$assertionsDisabled", "Z", (0, 1)), ("java/lang/StringUTF16", "HI_BYTE_SHIFT", "I", (0, 0)), ("java/lang/StringUTF16", "LO_BYTE_SHIFT", "I", (0, 8)), ("jdk/internal/util/Preconditions", "SIOOBE_FORMATTER", "Ljava/util/function/BiFunction;", (2, 131))]
def clsOk (ct : CT) : Prop := (∀ k, k < ct.2.2.1 → parseFieldDescriptor (ct.2.1 k).2.2.1 = some (ct.2.2.2 k)) ∧ (∀ a, a < ct.2.2.1 → ∀ b, b < ct.2.2.1 → a ≠ b → (ct.2.1 a).2.1 ≠ (ct.2.1 b).2.1) ∧ (∀ w ∈ u_ws ct.1 ct.2.1 ct.2.2.1, w ∈ lw_all) ∧ ∀ k, k < ct.2.2.1 → ct.2.2.2 k ≠ .double
theorem cls_ok : ∀ ct ∈ CLS, clsOk ct := (List.forall_mem_cons.mpr ⟨⟨tyX1_ok, nmX1, in_X1, by decide +kernel⟩, (List.forall_mem_cons.mpr ⟨⟨tyX2_ok, nmX2, in_X2, by decide +kernel⟩, (List.forall_mem_cons.mpr ⟨⟨tyX10_ok, nmX10, in_X10, by decide +kernel⟩, (List.forall_mem_cons.mpr ⟨⟨tyX9_ok, nmX9, in_X9, by decide +kernel⟩, (List.forall_mem_cons.mpr ⟨⟨tyX12_ok, nmX12, in_X12, by decide +kernel⟩, (List.forall_mem_cons.mpr ⟨⟨tyX11_ok, nmX11, in_X11, by decide +kernel⟩, (List.forall_mem_cons.mpr ⟨⟨tyX13_ok, nmX13, in_X13, by decide +kernel⟩, (List.forall_mem_cons.mpr ⟨⟨tyX14_ok, nmX14, in_X14, by decide +kernel⟩, (List.forall_mem_cons.mpr ⟨⟨tyX15_ok, nmX15, in_X15, by decide +kernel⟩, (List.forall_mem_cons.mpr ⟨⟨tyX16_ok, nmX16, in_X16, by decide +kernel⟩, (List.forall_mem_cons.mpr ⟨⟨tyX17_ok, nmX17, in_X17, by decide +kernel⟩, (List.forall_mem_cons.mpr ⟨⟨tyX18_ok, nmX18, in_X18, by decide +kernel⟩, (List.forall_mem_cons.mpr ⟨⟨tyX19_ok, nmX19, in_X19, by decide +kernel⟩, (List.forall_mem_cons.mpr ⟨⟨tyX20_ok, nmX20, in_X20, by decide +kernel⟩, (List.forall_mem_cons.mpr ⟨⟨tyX21_ok, nmX21, in_X21, by decide +kernel⟩, (List.forall_mem_cons.mpr ⟨⟨tyX22_ok, nmX22, in_X22, by decide +kernel⟩, (List.forall_mem_cons.mpr ⟨⟨tyX23_ok, nmX23, in_X23, by decide +kernel⟩, (List.forall_mem_cons.mpr ⟨⟨tyX3_ok, nmX3, in_X3, by decide +kernel⟩, (List.forall_mem_cons.mpr ⟨⟨tyX4_ok, nmX4, in_X4, by decide +kernel⟩, (List.forall_mem_cons.mpr ⟨⟨tyX5_ok, nmX5, in_X5, by decide +kernel⟩, (List.forall_mem_cons.mpr ⟨⟨tyX6_ok, nmX6, in_X6, by decide +kernel⟩, (List.forall_mem_cons.mpr ⟨⟨tyX7_ok, nmX7, in_X7, by decide +kernel⟩, (List.forall_mem_cons.mpr ⟨⟨tyJ1_ok, nmJ1, in_J1, by decide +kernel⟩, (List.forall_mem_cons.mpr ⟨⟨tyJ15_ok, nmJ15, in_J15, by decide +kernel⟩, (List.forall_mem_cons.mpr ⟨⟨tyJ17_ok, nmJ17, in_J17, by decide +kernel⟩, (List.forall_mem_cons.mpr ⟨⟨tyJ8_ok, nmJ8, in_J8, by decide +kernel⟩, (List.forall_mem_cons.mpr ⟨⟨tyJ25_ok, nmJ25, in_J25, by decide +kernel⟩, (List.forall_mem_cons.mpr ⟨⟨tyJ26_ok, nmJ26, in_J26, by decide +kernel⟩, (List.forall_mem_cons.mpr ⟨⟨tyJ28_ok, nmJ28, in_J28, by decide +kernel⟩, (List.forall_mem_cons.mpr ⟨⟨tyJ30_ok, nmJ30, in_J30, by decide +kernel⟩, (List.forall_mem_cons.mpr ⟨⟨tyJ32_ok, nmJ32, in_J32, by decide +kernel⟩, (List.forall_mem_cons.mpr ⟨⟨tyJ34_ok, nmJ34, in_J34, by decide +kernel⟩, (List.forall_mem_cons.mpr ⟨⟨tyJ38_ok, nmJ38, in_J38, by decide +kernel⟩, (fun _ h => absurd h List.not_mem_nil)⟩)⟩)⟩)⟩)⟩)⟩)⟩)⟩)⟩)⟩)⟩)⟩)⟩)⟩)⟩)⟩)⟩)⟩)⟩)⟩)⟩)⟩)⟩)⟩)⟩)⟩)⟩)⟩)⟩)⟩)⟩)⟩)⟩)
theorem cls_len : CLS.length = 33 := rfl
theorem cls_lt {c : Nat} {ct : CT} (h : CLS[c]? = some ct) : c + 1 < 100 := by
  have := (List.getElem?_eq_some_iff.mp h).1
  rw [cls_len] at this
  omega
theorem aty_lt {c : Nat} {t : FieldType} (h : ATY[c]? = some t) : c + 100 < 1000 := by
  have := (List.getElem?_eq_some_iff.mp h).1
  have e : ATY.length = 10 := rfl
  omega
