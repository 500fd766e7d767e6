/-! classes of the abstract heap (rows of claim/names) -/
set_option maxRecDepth 100000
def RX4 : String := "StuckKeysModel"
def TX4 : u_T := fun k => match k with
  | 0 => ("StuckKeysModel", "now", "[J", true)
  | 1 => ("StuckKeysModel", "saved", "[J", true)
  | 2 => ("StuckKeysModel", "states", "I", false)
  | 3 => ("StuckKeysModel", "quiet", "Z", false)
  | 4 => ("StuckKeysModel", "thrown", "I", false)
  | 5 => ("StuckKeysModel", "places", "[I", true)
  | 6 => ("StuckKeysModel", "one", "[I", true)
  | 7 => ("StuckKeysModel", "other", "[I", true)
  | 8 => ("StuckKeysModel", "costs", "[I", true)
  | 9 => ("StuckKeysModel", "target", "J", false)
  | 10 => ("StuckKeysModel", "text", "[I", true)
  | 11 => ("StuckKeysModel", "length", "I", false)
  | 12 => ("StuckKeysModel", "at", "I", false)
  | 13 => ("StuckKeysModel", "verbs", "[I", true)
  | 14 => ("StuckKeysModel", "firsts", "[J", true)
  | 15 => ("StuckKeysModel", "seconds", "[J", true)
  | 16 => ("StuckKeysModel", "commands", "I", false)
  | _ => ("StuckKeysModel", "read", "J", false)
def tyX4 : Nat → FieldType := fun k => match k with
  | 0 => .array .long
  | 1 => .array .long
  | 2 => .int
  | 3 => .boolean
  | 4 => .int
  | 5 => .array .int
  | 6 => .array .int
  | 7 => .array .int
  | 8 => .array .int
  | 9 => .long
  | 10 => .array .int
  | 11 => .int
  | 12 => .int
  | 13 => .array .int
  | 14 => .array .long
  | 15 => .array .long
  | 16 => .int
  | _ => .long
abbrev wsX40 : List Cond := u_ws RX4 TX4 18
theorem nmX4 : ∀ a, a < 18 → ∀ b, b < 18 → a ≠ b → (TX4 a).2.1 ≠ (TX4 b).2.1 := by decide +kernel
theorem tyX4_ok : ∀ k, k < 18 → parseFieldDescriptor (TX4 k).2.2.1 = some (tyX4 k) := by decide +kernel
theorem in_X4 : ∀ w ∈ wsX40, w ∈ lw_all := lw_in wsX40 [2647, 2649, 2651, 2653, 2655, 2657, 2659, 2661, 2663, 2665, 2667, 2669, 2671, 2673, 2675, 2677, 2679, 2681] (by decide +kernel) (by decide +kernel)
def RX1 : String := "StuckKeys"
def TX1 : u_T := fun k => match k with
  | 0 => ("StuckKeys", "current", "LStuckKeys$Book;", false)
  | 1 => ("StuckKeys", "saved", "Ljava/util/ArrayList;", true)
  | 2 => ("StuckKeys", "commands", "[B", true)
  | _ => ("StuckKeys", "commandLength", "I", false)
def tyX1 : Nat → FieldType := fun k => match k with
  | 0 => .object "StuckKeys$Book"
  | 1 => .object "java/util/ArrayList"
  | 2 => .array .byte
  | _ => .int
abbrev wsX10 : List Cond := u_ws RX1 TX1 4
theorem nmX1 : ∀ a, a < 4 → ∀ b, b < 4 → a ≠ b → (TX1 a).2.1 ≠ (TX1 b).2.1 := by decide +kernel
theorem tyX1_ok : ∀ k, k < 4 → parseFieldDescriptor (TX1 k).2.2.1 = some (tyX1 k) := by decide +kernel
theorem in_X1 : ∀ w ∈ wsX10, w ∈ lw_all := lw_in wsX10 [286, 288, 290, 292] (by decide +kernel) (by decide +kernel)
def RX2 : String := "StuckKeys$Book"
def TX2 : u_T := fun k => match k with
  | 0 => ("StuckKeys$Book", "words", "Ljava/util/TreeMap;", true)
  | 1 => ("StuckKeys$Book", "names", "Ljava/util/TreeSet;", true)
  | 2 => ("StuckKeys$Book", "pairs", "LStuckKeys$Kept;", true)
  | 3 => ("StuckKeys$Book", "bans", "LStuckKeys$Kept;", true)
  | 4 => ("StuckKeys$Book", "strange", "LStuckKeys$Kept;", true)
  | 5 => ("StuckKeys$Book", "log", "LStuckKeys$Kept;", true)
  | 6 => ("StuckKeys$Book", "sticks", "[I", true)
  | _ => ("StuckKeys$Book", "settings", "[I", true)
def tyX2 : Nat → FieldType := fun k => match k with
  | 0 => .object "java/util/TreeMap"
  | 1 => .object "java/util/TreeSet"
  | 2 => .object "StuckKeys$Kept"
  | 3 => .object "StuckKeys$Kept"
  | 4 => .object "StuckKeys$Kept"
  | 5 => .object "StuckKeys$Kept"
  | 6 => .array .int
  | _ => .array .int
abbrev wsX20 : List Cond := u_ws RX2 TX2 8
theorem nmX2 : ∀ a, a < 8 → ∀ b, b < 8 → a ≠ b → (TX2 a).2.1 ≠ (TX2 b).2.1 := by decide +kernel
theorem tyX2_ok : ∀ k, k < 8 → parseFieldDescriptor (TX2 k).2.2.1 = some (tyX2 k) := by decide +kernel
theorem in_X2 : ∀ w ∈ wsX20, w ∈ lw_all := lw_in wsX20 [261, 263, 265, 267, 269, 271, 273, 275] (by decide +kernel) (by decide +kernel)
def RX3 : String := "StuckKeys$Kept"
def TX3 : u_T := fun k => match k with
  | 0 => ("StuckKeys$Kept", "all", "Ljava/util/ArrayList;", true)
  | _ => ("StuckKeys$Kept", "most", "I", true)
def tyX3 : Nat → FieldType := fun k => match k with
  | 0 => .object "java/util/ArrayList"
  | _ => .int
abbrev wsX30 : List Cond := u_ws RX3 TX3 2
theorem nmX3 : ∀ a, a < 2 → ∀ b, b < 2 → a ≠ b → (TX3 a).2.1 ≠ (TX3 b).2.1 := by decide +kernel
theorem tyX3_ok : ∀ k, k < 2 → parseFieldDescriptor (TX3 k).2.2.1 = some (tyX3 k) := by decide +kernel
theorem in_X3 : ∀ w ∈ wsX30, w ∈ lw_all := lw_in wsX30 [243, 245] (by decide +kernel) (by decide +kernel)
def RX5 : String := "StuckKeys$Letters"
def TX5 : u_T := fun k => match k with
  | 0 => ("StuckKeys$Letters", "code", "J", true)
  | _ => ("StuckKeys$Letters", "length", "I", true)
def tyX5 : Nat → FieldType := fun k => match k with
  | 0 => .long
  | _ => .int
abbrev wsX50 : List Cond := u_ws RX5 TX5 2
theorem nmX5 : ∀ a, a < 2 → ∀ b, b < 2 → a ≠ b → (TX5 a).2.1 ≠ (TX5 b).2.1 := by decide +kernel
theorem tyX5_ok : ∀ k, k < 2 → parseFieldDescriptor (TX5 k).2.2.1 = some (tyX5 k) := by decide +kernel
theorem in_X5 : ∀ w ∈ wsX50, w ∈ lw_all := lw_in wsX50 [1150, 1152] (by decide +kernel) (by decide +kernel)
def RX10 : String := "StuckKeys$Meant"
def TX10 : u_T := fun k => match k with
  | 0 => ("StuckKeys$Meant", "typed", "Ljava/lang/Comparable;", true)
  | 1 => ("StuckKeys$Meant", "other", "Ljava/lang/Comparable;", true)
  | _ => ("StuckKeys$Meant", "number", "I", true)
def tyX10 : Nat → FieldType := fun k => match k with
  | 0 => .object "java/lang/Comparable"
  | 1 => .object "java/lang/Comparable"
  | _ => .int
abbrev wsX100 : List Cond := u_ws RX10 TX10 3
theorem nmX10 : ∀ a, a < 3 → ∀ b, b < 3 → a ≠ b → (TX10 a).2.1 ≠ (TX10 b).2.1 := by decide +kernel
theorem tyX10_ok : ∀ k, k < 3 → parseFieldDescriptor (TX10 k).2.2.1 = some (tyX10 k) := by decide +kernel
theorem in_X10 : ∀ w ∈ wsX100, w ∈ lw_all := lw_in wsX100 [2234, 2236, 2238] (by decide +kernel) (by decide +kernel)
def RX9 : String := "StuckKeys$Suggested"
def TX9 : u_T := fun k => match k with
  | 0 => ("StuckKeys$Suggested", "word", "LStuckKeys$Letters;", true)
  | 1 => ("StuckKeys$Suggested", "count", "I", true)
  | _ => ("StuckKeys$Suggested", "distance", "I", true)
def tyX9 : Nat → FieldType := fun k => match k with
  | 0 => .object "StuckKeys$Letters"
  | 1 => .int
  | _ => .int
abbrev wsX90 : List Cond := u_ws RX9 TX9 3
theorem nmX9 : ∀ a, a < 3 → ∀ b, b < 3 → a ≠ b → (TX9 a).2.1 ≠ (TX9 b).2.1 := by decide +kernel
theorem tyX9_ok : ∀ k, k < 3 → parseFieldDescriptor (TX9 k).2.2.1 = some (tyX9 k) := by decide +kernel
theorem in_X9 : ∀ w ∈ wsX90, w ∈ lw_all := lw_in wsX90 [2200, 2202, 2204] (by decide +kernel) (by decide +kernel)
def RX7 : String := "StuckKeys$Way"
def TX7 : u_T := fun k => match k with
  | 0 => ("StuckKeys$Way", "typed", "Ljava/lang/CharSequence;", true)
  | 1 => ("StuckKeys$Way", "word", "Ljava/lang/CharSequence;", true)
  | 2 => ("StuckKeys$Way", "sticks", "[I", true)
  | _ => ("StuckKeys$Way", "least", "[I", true)
def tyX7 : Nat → FieldType := fun k => match k with
  | 0 => .object "java/lang/CharSequence"
  | 1 => .object "java/lang/CharSequence"
  | 2 => .array .int
  | _ => .array .int
abbrev wsX70 : List Cond := u_ws RX7 TX7 4
theorem nmX7 : ∀ a, a < 4 → ∀ b, b < 4 → a ≠ b → (TX7 a).2.1 ≠ (TX7 b).2.1 := by decide +kernel
theorem tyX7_ok : ∀ k, k < 4 → parseFieldDescriptor (TX7 k).2.2.1 = some (tyX7 k) := by decide +kernel
theorem in_X7 : ∀ w ∈ wsX70, w ∈ lw_all := lw_in wsX70 [530, 532, 534, 536] (by decide +kernel) (by decide +kernel)
def RX11 : String := "StuckKeys$Reader"
def TX11 : u_T := fun k => match k with
  | 0 => ("StuckKeys$Reader", "at", "I", false)
  | 1 => ("StuckKeys$Reader", "fault", "I", false)
  | 2 => ("StuckKeys$Reader", "command", "Ljava/lang/String;", false)
  | 3 => ("StuckKeys$Reader", "words", "[LStuckKeys$Letters;", true)
  | 4 => ("StuckKeys$Reader", "numbers", "[I", true)
  | _ => ("StuckKeys$Reader", "this$0", "LStuckKeys;", true)
def tyX11 : Nat → FieldType := fun k => match k with
  | 0 => .int
  | 1 => .int
  | 2 => .object "java/lang/String"
  | 3 => .array (.object "StuckKeys$Letters")
  | 4 => .array .int
  | _ => .object "StuckKeys"
abbrev wsX110 : List Cond := u_ws RX11 TX11 6
theorem nmX11 : ∀ a, a < 6 → ∀ b, b < 6 → a ≠ b → (TX11 a).2.1 ≠ (TX11 b).2.1 := by decide +kernel
theorem tyX11_ok : ∀ k, k < 6 → parseFieldDescriptor (TX11 k).2.2.1 = some (tyX11 k) := by decide +kernel
theorem in_X11 : ∀ w ∈ wsX110, w ∈ lw_all := lw_in wsX110 [722, 724, 726, 728, 730, 732] (by decide +kernel) (by decide +kernel)
def RJ1 : String := "java/util/TreeMap"
def TJ1 : u_T := fun k => match k with
  | 0 => ("java/util/AbstractMap", "keySet", "Ljava/util/Set;", false)
  | 1 => ("java/util/AbstractMap", "values", "Ljava/util/Collection;", false)
  | 2 => ("java/util/TreeMap", "comparator", "Ljava/util/Comparator;", true)
  | 3 => ("java/util/TreeMap", "root", "Ljava/util/TreeMap$Entry;", false)
  | 4 => ("java/util/TreeMap", "size", "I", false)
  | 5 => ("java/util/TreeMap", "modCount", "I", false)
  | 6 => ("java/util/TreeMap", "entrySet", "Ljava/util/TreeMap$EntrySet;", false)
  | 7 => ("java/util/TreeMap", "navigableKeySet", "Ljava/util/TreeMap$KeySet;", false)
  | _ => ("java/util/TreeMap", "descendingMap", "Ljava/util/NavigableMap;", false)
def tyJ1 : Nat → FieldType := fun k => match k with
  | 0 => .object "java/util/Set"
  | 1 => .object "java/util/Collection"
  | 2 => .object "java/util/Comparator"
  | 3 => .object "java/util/TreeMap$Entry"
  | 4 => .int
  | 5 => .int
  | 6 => .object "java/util/TreeMap$EntrySet"
  | 7 => .object "java/util/TreeMap$KeySet"
  | _ => .object "java/util/NavigableMap"
abbrev wsJ10 : List Cond := u_ws RJ1 TJ1 9
theorem nmJ1 : ∀ a, a < 9 → ∀ b, b < 9 → a ≠ b → (TJ1 a).2.1 ≠ (TJ1 b).2.1 := by decide +kernel
theorem tyJ1_ok : ∀ k, k < 9 → parseFieldDescriptor (TJ1 k).2.2.1 = some (tyJ1 k) := by decide +kernel
theorem in_J1 : ∀ w ∈ wsJ10, w ∈ lw_all := lw_in wsJ10 [181, 183, 167, 169, 171, 173, 175, 177, 179] (by decide +kernel) (by decide +kernel)
def RJ22 : String := "java/util/TreeMap$Entry"
def TJ22 : u_T := fun k => match k with
  | 0 => ("java/util/TreeMap$Entry", "key", "Ljava/lang/Object;", false)
  | 1 => ("java/util/TreeMap$Entry", "value", "Ljava/lang/Object;", false)
  | 2 => ("java/util/TreeMap$Entry", "left", "Ljava/util/TreeMap$Entry;", false)
  | 3 => ("java/util/TreeMap$Entry", "right", "Ljava/util/TreeMap$Entry;", false)
  | 4 => ("java/util/TreeMap$Entry", "parent", "Ljava/util/TreeMap$Entry;", false)
  | _ => ("java/util/TreeMap$Entry", "color", "Z", false)
def tyJ22 : Nat → FieldType := fun k => match k with
  | 0 => .object "java/lang/Object"
  | 1 => .object "java/lang/Object"
  | 2 => .object "java/util/TreeMap$Entry"
  | 3 => .object "java/util/TreeMap$Entry"
  | 4 => .object "java/util/TreeMap$Entry"
  | _ => .boolean
abbrev wsJ220 : List Cond := u_ws RJ22 TJ22 6
theorem nmJ22 : ∀ a, a < 6 → ∀ b, b < 6 → a ≠ b → (TJ22 a).2.1 ≠ (TJ22 b).2.1 := by decide +kernel
theorem tyJ22_ok : ∀ k, k < 6 → parseFieldDescriptor (TJ22 k).2.2.1 = some (tyJ22 k) := by decide +kernel
theorem in_J22 : ∀ w ∈ wsJ220, w ∈ lw_all := lw_in wsJ220 [1303, 1305, 1307, 1309, 1311, 1313] (by decide +kernel) (by decide +kernel)
def RJ17 : String := "java/util/TreeMap$KeyIterator"
def TJ17 : u_T := fun k => match k with
  | 0 => ("java/util/TreeMap$PrivateEntryIterator", "next", "Ljava/util/TreeMap$Entry;", false)
  | 1 => ("java/util/TreeMap$PrivateEntryIterator", "lastReturned", "Ljava/util/TreeMap$Entry;", false)
  | 2 => ("java/util/TreeMap$PrivateEntryIterator", "expectedModCount", "I", false)
  | _ => ("java/util/TreeMap$PrivateEntryIterator", "this$0", "Ljava/util/TreeMap;", true)
def tyJ17 : Nat → FieldType := fun k => match k with
  | 0 => .object "java/util/TreeMap$Entry"
  | 1 => .object "java/util/TreeMap$Entry"
  | 2 => .int
  | _ => .object "java/util/TreeMap"
abbrev wsJ170 : List Cond := u_ws RJ17 TJ17 4
theorem nmJ17 : ∀ a, a < 4 → ∀ b, b < 4 → a ≠ b → (TJ17 a).2.1 ≠ (TJ17 b).2.1 := by decide +kernel
theorem tyJ17_ok : ∀ k, k < 4 → parseFieldDescriptor (TJ17 k).2.2.1 = some (tyJ17 k) := by decide +kernel
theorem in_J17 : ∀ w ∈ wsJ170, w ∈ lw_all := lw_in wsJ170 [377, 378, 379, 380] (by decide +kernel) (by decide +kernel)
def RJ32 : String := "java/util/TreeMap$ValueIterator"
def TJ32 : u_T := fun k => match k with
  | 0 => ("java/util/TreeMap$PrivateEntryIterator", "next", "Ljava/util/TreeMap$Entry;", false)
  | 1 => ("java/util/TreeMap$PrivateEntryIterator", "lastReturned", "Ljava/util/TreeMap$Entry;", false)
  | 2 => ("java/util/TreeMap$PrivateEntryIterator", "expectedModCount", "I", false)
  | _ => ("java/util/TreeMap$PrivateEntryIterator", "this$0", "Ljava/util/TreeMap;", true)
def tyJ32 : Nat → FieldType := fun k => match k with
  | 0 => .object "java/util/TreeMap$Entry"
  | 1 => .object "java/util/TreeMap$Entry"
  | 2 => .int
  | _ => .object "java/util/TreeMap"
abbrev wsJ320 : List Cond := u_ws RJ32 TJ32 4
theorem nmJ32 : ∀ a, a < 4 → ∀ b, b < 4 → a ≠ b → (TJ32 a).2.1 ≠ (TJ32 b).2.1 := by decide +kernel
theorem tyJ32_ok : ∀ k, k < 4 → parseFieldDescriptor (TJ32 k).2.2.1 = some (tyJ32 k) := by decide +kernel
theorem in_J32 : ∀ w ∈ wsJ320, w ∈ lw_all := lw_in wsJ320 [1772, 1773, 1774, 1775] (by decide +kernel) (by decide +kernel)
def RJ16 : String := "java/util/TreeMap$EntryIterator"
def TJ16 : u_T := fun k => match k with
  | 0 => ("java/util/TreeMap$PrivateEntryIterator", "next", "Ljava/util/TreeMap$Entry;", false)
  | 1 => ("java/util/TreeMap$PrivateEntryIterator", "lastReturned", "Ljava/util/TreeMap$Entry;", false)
  | 2 => ("java/util/TreeMap$PrivateEntryIterator", "expectedModCount", "I", false)
  | _ => ("java/util/TreeMap$PrivateEntryIterator", "this$0", "Ljava/util/TreeMap;", true)
def tyJ16 : Nat → FieldType := fun k => match k with
  | 0 => .object "java/util/TreeMap$Entry"
  | 1 => .object "java/util/TreeMap$Entry"
  | 2 => .int
  | _ => .object "java/util/TreeMap"
abbrev wsJ160 : List Cond := u_ws RJ16 TJ16 4
theorem nmJ16 : ∀ a, a < 4 → ∀ b, b < 4 → a ≠ b → (TJ16 a).2.1 ≠ (TJ16 b).2.1 := by decide +kernel
theorem tyJ16_ok : ∀ k, k < 4 → parseFieldDescriptor (TJ16 k).2.2.1 = some (tyJ16 k) := by decide +kernel
theorem in_J16 : ∀ w ∈ wsJ160, w ∈ lw_all := lw_in wsJ160 [350, 352, 354, 356] (by decide +kernel) (by decide +kernel)
def RJ18 : String := "java/util/TreeMap$KeySet"
def TJ18 : u_T := fun k => match k with
  | _ => ("java/util/TreeMap$KeySet", "m", "Ljava/util/NavigableMap;", true)
def tyJ18 : Nat → FieldType := fun k => match k with
  | _ => .object "java/util/NavigableMap"
abbrev wsJ180 : List Cond := u_ws RJ18 TJ18 1
theorem nmJ18 : ∀ a, a < 1 → ∀ b, b < 1 → a ≠ b → (TJ18 a).2.1 ≠ (TJ18 b).2.1 := by decide +kernel
theorem tyJ18_ok : ∀ k, k < 1 → parseFieldDescriptor (TJ18 k).2.2.1 = some (tyJ18 k) := by decide +kernel
theorem in_J18 : ∀ w ∈ wsJ180, w ∈ lw_all := lw_in wsJ180 [320] (by decide +kernel) (by decide +kernel)
def RJ37 : String := "java/util/TreeMap$Values"
def TJ37 : u_T := fun k => match k with
  | _ => ("java/util/TreeMap$Values", "this$0", "Ljava/util/TreeMap;", true)
def tyJ37 : Nat → FieldType := fun k => match k with
  | _ => .object "java/util/TreeMap"
abbrev wsJ370 : List Cond := u_ws RJ37 TJ37 1
theorem nmJ37 : ∀ a, a < 1 → ∀ b, b < 1 → a ≠ b → (TJ37 a).2.1 ≠ (TJ37 b).2.1 := by decide +kernel
theorem tyJ37_ok : ∀ k, k < 1 → parseFieldDescriptor (TJ37 k).2.2.1 = some (tyJ37 k) := by decide +kernel
theorem in_J37 : ∀ w ∈ wsJ370, w ∈ lw_all := lw_in wsJ370 [2323] (by decide +kernel) (by decide +kernel)
def RJ14 : String := "java/util/TreeMap$EntrySet"
def TJ14 : u_T := fun k => match k with
  | _ => ("java/util/TreeMap$EntrySet", "this$0", "Ljava/util/TreeMap;", true)
def tyJ14 : Nat → FieldType := fun k => match k with
  | _ => .object "java/util/TreeMap"
abbrev wsJ140 : List Cond := u_ws RJ14 TJ14 1
theorem nmJ14 : ∀ a, a < 1 → ∀ b, b < 1 → a ≠ b → (TJ14 a).2.1 ≠ (TJ14 b).2.1 := by decide +kernel
theorem tyJ14_ok : ∀ k, k < 1 → parseFieldDescriptor (TJ14 k).2.2.1 = some (tyJ14 k) := by decide +kernel
theorem in_J14 : ∀ w ∈ wsJ140, w ∈ lw_all := lw_in wsJ140 [1243] (by decide +kernel) (by decide +kernel)
def RJ4 : String := "java/util/TreeSet"
def TJ4 : u_T := fun k => match k with
  | _ => ("java/util/TreeSet", "m", "Ljava/util/NavigableMap;", false)
def tyJ4 : Nat → FieldType := fun k => match k with
  | _ => .object "java/util/NavigableMap"
abbrev wsJ40 : List Cond := u_ws RJ4 TJ4 1
theorem nmJ4 : ∀ a, a < 1 → ∀ b, b < 1 → a ≠ b → (TJ4 a).2.1 ≠ (TJ4 b).2.1 := by decide +kernel
theorem tyJ4_ok : ∀ k, k < 1 → parseFieldDescriptor (TJ4 k).2.2.1 = some (tyJ4 k) := by decide +kernel
theorem in_J4 : ∀ w ∈ wsJ40, w ∈ lw_all := lw_in wsJ40 [205] (by decide +kernel) (by decide +kernel)
def RJ6 : String := "java/util/ArrayList"
def TJ6 : u_T := fun k => match k with
  | 0 => ("java/util/AbstractList", "modCount", "I", false)
  | 1 => ("java/util/ArrayList", "elementData", "[Ljava/lang/Object;", false)
  | _ => ("java/util/ArrayList", "size", "I", false)
def tyJ6 : Nat → FieldType := fun k => match k with
  | 0 => .int
  | 1 => .array (.object "java/lang/Object")
  | _ => .int
abbrev wsJ60 : List Cond := u_ws RJ6 TJ6 3
theorem nmJ6 : ∀ a, a < 3 → ∀ b, b < 3 → a ≠ b → (TJ6 a).2.1 ≠ (TJ6 b).2.1 := by decide +kernel
theorem tyJ6_ok : ∀ k, k < 3 → parseFieldDescriptor (TJ6 k).2.2.1 = some (tyJ6 k) := by decide +kernel
theorem in_J6 : ∀ w ∈ wsJ60, w ∈ lw_all := lw_in wsJ60 [237, 233, 235] (by decide +kernel) (by decide +kernel)
def RJ35 : String := "java/util/PriorityQueue"
def TJ35 : u_T := fun k => match k with
  | 0 => ("java/util/PriorityQueue", "queue", "[Ljava/lang/Object;", false)
  | 1 => ("java/util/PriorityQueue", "size", "I", false)
  | 2 => ("java/util/PriorityQueue", "comparator", "Ljava/util/Comparator;", true)
  | _ => ("java/util/PriorityQueue", "modCount", "I", false)
def tyJ35 : Nat → FieldType := fun k => match k with
  | 0 => .array (.object "java/lang/Object")
  | 1 => .int
  | 2 => .object "java/util/Comparator"
  | _ => .int
abbrev wsJ350 : List Cond := u_ws RJ35 TJ35 4
theorem nmJ35 : ∀ a, a < 4 → ∀ b, b < 4 → a ≠ b → (TJ35 a).2.1 ≠ (TJ35 b).2.1 := by decide +kernel
theorem tyJ35_ok : ∀ k, k < 4 → parseFieldDescriptor (TJ35 k).2.2.1 = some (tyJ35 k) := by decide +kernel
theorem in_J35 : ∀ w ∈ wsJ350, w ∈ lw_all := lw_in wsJ350 [2174, 2176, 2178, 2180] (by decide +kernel) (by decide +kernel)
def RJ39 : String := "java/lang/StringBuilder"
def TJ39 : u_T := fun k => match k with
  | 0 => ("java/lang/AbstractStringBuilder", "value", "[B", false)
  | 1 => ("java/lang/AbstractStringBuilder", "coder", "B", false)
  | 2 => ("java/lang/AbstractStringBuilder", "maybeLatin1", "Z", false)
  | _ => ("java/lang/AbstractStringBuilder", "count", "I", false)
def tyJ39 : Nat → FieldType := fun k => match k with
  | 0 => .array .byte
  | 1 => .byte
  | 2 => .boolean
  | _ => .int
abbrev wsJ390 : List Cond := u_ws RJ39 TJ39 4
theorem nmJ39 : ∀ a, a < 4 → ∀ b, b < 4 → a ≠ b → (TJ39 a).2.1 ≠ (TJ39 b).2.1 := by decide +kernel
theorem tyJ39_ok : ∀ k, k < 4 → parseFieldDescriptor (TJ39 k).2.2.1 = some (tyJ39 k) := by decide +kernel
theorem in_J39 : ∀ w ∈ wsJ390, w ∈ lw_all := lw_in wsJ390 [775, 777, 779, 781] (by decide +kernel) (by decide +kernel)
def RJ12 : String := "java/lang/String"
def TJ12 : u_T := fun k => match k with
  | 0 => ("java/lang/String", "value", "[B", true)
  | 1 => ("java/lang/String", "coder", "B", true)
  | 2 => ("java/lang/String", "hash", "I", false)
  | _ => ("java/lang/String", "hashIsZero", "Z", false)
def tyJ12 : Nat → FieldType := fun k => match k with
  | 0 => .array .byte
  | 1 => .byte
  | 2 => .int
  | _ => .boolean
abbrev wsJ120 : List Cond := u_ws RJ12 TJ12 4
theorem nmJ12 : ∀ a, a < 4 → ∀ b, b < 4 → a ≠ b → (TJ12 a).2.1 ≠ (TJ12 b).2.1 := by decide +kernel
theorem tyJ12_ok : ∀ k, k < 4 → parseFieldDescriptor (TJ12 k).2.2.1 = some (tyJ12 k) := by decide +kernel
theorem in_J12 : ∀ w ∈ wsJ120, w ∈ lw_all := lw_in wsJ120 [1030, 1032, 1034, 1036] (by decide +kernel) (by decide +kernel)
def RJ20 : String := "java/lang/Integer"
def TJ20 : u_T := fun k => match k with
  | _ => ("java/lang/Integer", "value", "I", true)
def tyJ20 : Nat → FieldType := fun k => match k with
  | _ => .int
abbrev wsJ200 : List Cond := u_ws RJ20 TJ20 1
theorem nmJ20 : ∀ a, a < 1 → ∀ b, b < 1 → a ≠ b → (TJ20 a).2.1 ≠ (TJ20 b).2.1 := by decide +kernel
theorem tyJ20_ok : ∀ k, k < 1 → parseFieldDescriptor (TJ20 k).2.2.1 = some (tyJ20 k) := by decide +kernel
theorem in_J20 : ∀ w ∈ wsJ200, w ∈ lw_all := lw_in wsJ200 [2012] (by decide +kernel) (by decide +kernel)
def RX6 : String := "StuckKeys$Nearer"
def TX6 : u_T := fun _ => ("", "", "", false)
def tyX6 : Nat → FieldType := fun _ => .int
theorem nmX6 : ∀ a, a < 0 → ∀ b, b < 0 → a ≠ b → (TX6 a).2.1 ≠ (TX6 b).2.1 := fun a h => absurd h (Nat.not_lt_zero a)
theorem tyX6_ok : ∀ k, k < 0 → parseFieldDescriptor (TX6 k).2.2.1 = some (tyX6 k) := fun a h => absurd h (Nat.not_lt_zero a)
theorem in_X6 : ∀ w ∈ u_ws RX6 TX6 0, w ∈ lw_all := fun w h => by cases h
