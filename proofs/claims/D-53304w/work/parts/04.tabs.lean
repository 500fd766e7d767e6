/-! ===== tables of the abstract heap ===== -/
set_option maxRecDepth 100000
abbrev hCl : List vw_C := [(RX4, TX4, 18), (RX1, TX1, 4), (RX2, TX2, 8), (RX3, TX3, 2), (RX5, TX5, 2), (RX10, TX10, 3), (RX9, TX9, 3), (RX7, TX7, 4), (RX11, TX11, 6), (RJ1, TJ1, 9), (RJ22, TJ22, 6), (RJ17, TJ17, 4), (RJ32, TJ32, 4), (RJ16, TJ16, 4), (RJ18, TJ18, 1), (RJ37, TJ37, 1), (RJ14, TJ14, 1), (RJ4, TJ4, 1), (RJ6, TJ6, 3), (RJ35, TJ35, 4), (RJ39, TJ39, 4), (RJ12, TJ12, 4), (RJ20, TJ20, 1), (RX6, TX6, 0)]
def hKd : Nat → List Nat
  | 0 => [2, 2, 0, 0, 0, 2, 2, 2, 2, 1, 2, 0, 0, 2, 2, 2, 0, 1]
  | 1 => [2, 2, 2, 0]
  | 2 => [2, 2, 2, 2, 2, 2, 2, 2]
  | 3 => [2, 0]
  | 4 => [1, 0]
  | 5 => [2, 2, 0]
  | 6 => [2, 0, 0]
  | 7 => [2, 2, 2, 2]
  | 8 => [0, 0, 2, 2, 2, 2]
  | 9 => [2, 2, 2, 2, 0, 0, 2, 2, 2]
  | 10 => [2, 2, 2, 2, 2, 0]
  | 11 => [2, 2, 0, 2]
  | 12 => [2, 2, 0, 2]
  | 13 => [2, 2, 0, 2]
  | 14 => [2]
  | 15 => [2]
  | 16 => [2]
  | 17 => [2]
  | 18 => [0, 2, 0]
  | 19 => [2, 0, 2, 0]
  | 20 => [2, 0, 0, 0]
  | 21 => [2, 0, 0, 0]
  | 22 => [0]
  | 23 => []
  | _ => []
def hDf (kd : Nat) : Value := match kd with
  | 0 => .int 0
  | 1 => .long 0
  | _ => .null
def hTl : List FieldType := [.int, .long, .byte, (.object "java/lang/Object"), (.object "StuckKeys$Letters"), (.object "java/lang/Integer")]
abbrev hTys (E : Nat → ClassId) : List (ClassId × FieldType) := [(E 0, .int), (E 1, .long), (E 2, .byte), (E 3, (.object "java/lang/Object")), (E 4, (.object "StuckKeys$Letters"))]
def hAk : Nat → Nat
  | 0 => 0
  | 1 => 1
  | 2 => 0
  | 3 => 2
  | 4 => 2
  | 5 => 2
  | _ => 2
def hFws : List (String × MethodName × MethodName) := [("java/util/TreeMap", ⟨"java/util/Map", "size", "()I"⟩, ⟨"java/util/TreeMap", "size", "()I"⟩), ("java/util/TreeMap", ⟨"java/util/SortedMap", "comparator", "()Ljava/util/Comparator;"⟩, ⟨"java/util/TreeMap", "comparator", "()Ljava/util/Comparator;"⟩), ("java/util/TreeMap", ⟨"java/util/Map", "entrySet", "()Ljava/util/Set;"⟩, ⟨"java/util/TreeMap", "entrySet", "()Ljava/util/Set;"⟩), ("java/util/TreeMap$EntrySet", ⟨"java/util/Set", "iterator", "()Ljava/util/Iterator;"⟩, ⟨"java/util/TreeMap$EntrySet", "iterator", "()Ljava/util/Iterator;"⟩), ("java/util/TreeMap$EntryIterator", ⟨"java/util/Iterator", "next", "()Ljava/lang/Object;"⟩, ⟨"java/util/TreeMap$EntryIterator", "next", "()Ljava/lang/Object;"⟩), ("java/util/TreeMap$Entry", ⟨"java/util/Map$Entry", "getKey", "()Ljava/lang/Object;"⟩, ⟨"java/util/TreeMap$Entry", "getKey", "()Ljava/lang/Object;"⟩), ("java/util/TreeMap$Entry", ⟨"java/util/Map$Entry", "getValue", "()Ljava/lang/Object;"⟩, ⟨"java/util/TreeMap$Entry", "getValue", "()Ljava/lang/Object;"⟩), ("java/util/TreeMap$KeyIterator", ⟨"java/util/Iterator", "next", "()Ljava/lang/Object;"⟩, ⟨"java/util/TreeMap$KeyIterator", "next", "()Ljava/lang/Object;"⟩), ("java/util/TreeMap$EntryIterator", ⟨"java/util/Iterator", "hasNext", "()Z"⟩, ⟨"java/util/TreeMap$PrivateEntryIterator", "hasNext", "()Z"⟩), ("java/util/TreeSet", ⟨"java/util/Collection", "size", "()I"⟩, ⟨"java/util/TreeSet", "size", "()I"⟩), ("java/util/TreeSet", ⟨"java/util/SortedSet", "comparator", "()Ljava/util/Comparator;"⟩, ⟨"java/util/TreeSet", "comparator", "()Ljava/util/Comparator;"⟩), ("java/util/TreeMap", ⟨"java/util/NavigableMap", "navigableKeySet", "()Ljava/util/NavigableSet;"⟩, ⟨"java/util/TreeMap", "navigableKeySet", "()Ljava/util/NavigableSet;"⟩), ("java/util/TreeMap$KeySet", ⟨"java/util/NavigableSet", "iterator", "()Ljava/util/Iterator;"⟩, ⟨"java/util/TreeMap$KeySet", "iterator", "()Ljava/util/Iterator;"⟩), ("java/util/TreeSet", ⟨"java/util/Collection", "iterator", "()Ljava/util/Iterator;"⟩, ⟨"java/util/TreeSet", "iterator", "()Ljava/util/Iterator;"⟩), ("java/util/TreeMap$KeyIterator", ⟨"java/util/Iterator", "hasNext", "()Z"⟩, ⟨"java/util/TreeMap$PrivateEntryIterator", "hasNext", "()Z"⟩), ("java/util/ArrayList", ⟨"java/util/Collection", "toArray", "()[Ljava/lang/Object;"⟩, ⟨"java/util/ArrayList", "toArray", "()[Ljava/lang/Object;"⟩), ("StuckKeys$Letters", ⟨"java/lang/Comparable", "compareTo", "(Ljava/lang/Object;)I"⟩, ⟨"StuckKeys$Letters", "compareTo", "(Ljava/lang/Object;)I"⟩), ("java/util/TreeMap$KeySet", ⟨"java/util/Set", "iterator", "()Ljava/util/Iterator;"⟩, ⟨"java/util/TreeMap$KeySet", "iterator", "()Ljava/util/Iterator;"⟩), ("StuckKeys$Letters", ⟨"java/lang/CharSequence", "length", "()I"⟩, ⟨"StuckKeys$Letters", "length", "()I"⟩), ("StuckKeys$Letters", ⟨"java/lang/CharSequence", "charAt", "(I)C"⟩, ⟨"StuckKeys$Letters", "charAt", "(I)C"⟩), ("StuckKeys$Nearer", ⟨"java/util/Comparator", "compare", "(Ljava/lang/Object;Ljava/lang/Object;)I"⟩, ⟨"StuckKeys$Nearer", "compare", "(Ljava/lang/Object;Ljava/lang/Object;)I"⟩), ("java/util/TreeMap$KeySet", ⟨"java/lang/Iterable", "iterator", "()Ljava/util/Iterator;"⟩, ⟨"java/util/TreeMap$KeySet", "iterator", "()Ljava/util/Iterator;"⟩), ("java/util/TreeSet", ⟨"java/lang/Iterable", "iterator", "()Ljava/util/Iterator;"⟩, ⟨"java/util/TreeSet", "iterator", "()Ljava/util/Iterator;"⟩), ("java/util/TreeMap$Values", ⟨"java/util/Collection", "iterator", "()Ljava/util/Iterator;"⟩, ⟨"java/util/TreeMap$Values", "iterator", "()Ljava/util/Iterator;"⟩), ("java/util/TreeMap$ValueIterator", ⟨"java/util/Iterator", "hasNext", "()Z"⟩, ⟨"java/util/TreeMap$PrivateEntryIterator", "hasNext", "()Z"⟩), ("java/util/TreeMap$ValueIterator", ⟨"java/util/Iterator", "next", "()Ljava/lang/Object;"⟩, ⟨"java/util/TreeMap$ValueIterator", "next", "()Ljava/lang/Object;"⟩)]
theorem hFws_ok : ∀ t ∈ hFws, t.2.1.cls ≠ "java/lang/invoke/MethodHandle" ∧ t.2.1.cls ≠ "java/lang/invoke/VarHandle" := by decide +kernel
def hNcs : List (String × String) := [("java/lang/IllegalStateException", "java/lang/IllegalArgumentException")]
def hSrs : List (String × String × String) := [("java/util/TreeSet", "PRESENT", "Ljava/lang/Object;"), ("java/util/ArrayList", "DEFAULTCAPACITY_EMPTY_ELEMENTDATA", "[Ljava/lang/Object;"), ("java/lang/Integer$IntegerCache", "cache", "[Ljava/lang/Integer;")]
def hSis : List (String × String × String × Int32) := [("java/lang/String", "COMPACT_STRINGS", "Z", 1), ("java/lang/Integer$IntegerCache", "high", "I", 127)]
def hSqs : List (String × String × String) := [("jdk/internal/util/Preconditions", "SIOOBE_FORMATTER", "Ljava/util/function/BiFunction;"), ("java/lang/Throwable", "UNASSIGNED_STACK", "[Ljava/lang/StackTraceElement;"), ("java/lang/Throwable", "SUPPRESSED_SENTINEL", "Ljava/util/List;")]
theorem hSqs_U : ("java/lang/Throwable", "UNASSIGNED_STACK", "[Ljava/lang/StackTraceElement;") ∈ hSqs := by decide
theorem hSqs_N : ("java/lang/Throwable", "SUPPRESSED_SENTINEL", "Ljava/util/List;") ∈ hSqs := by decide
def hSks : List (String × Nat × String × Nat) := [("StuckKeys", 33, "word", 100), ("StuckKeys", 39, "stick", 101), ("StuckKeys", 41, "allow", 102), ("StuckKeys", 43, "set", 103), ("StuckKeys", 45, "drop", 104), ("StuckKeys", 47, "name", 105), ("StuckKeys", 49, "type", 106), ("StuckKeys", 51, "back", 107), ("StuckKeys", 53, "wn", 108), ("StuckKeys", 55, "ww", 109), ("StuckKeys", 57, "nn", 110), ("StuckKeys", 59, "w", 111), ("StuckKeys", 61, "", 112), ("StuckKeys", 155, "what", 113), ("StuckKeys", 168, "index", 114), ("StuckKeys", 190, "index or what", 115), ("StuckKeys", 206, "letter or what", 116), ("StuckKeys", 229, "rank", 117), ("StuckKeys", 250, "byte", 118), ("StuckKeys", 252, "command text", 119), ("StuckKeys", 273, "nothing saved", 120), ("StuckKeys$Book", 86, "count", 121), ("StuckKeys$Book", 99, "words", 122), ("StuckKeys$Book", 118, "names", 123), ("StuckKeys$Book", 128, "letter or stick", 124), ("StuckKeys$Book", 140, "setting", 125), ("StuckKeys$Book", 283, "correction", 126), ("StuckKeys$Book", 285, "bans", 127), ("StuckKeys$Keys", 3, "qwertyuiop", 128), ("StuckKeys$Keys", 5, "asdfghjkl", 129), ("StuckKeys$Keys", 7, "zxcvbnm", 130), ("StuckKeys$Letters", 27, "word", 131), ("StuckKeys$Reader", 19, "", 132)]
def hFus : List (String × String × MethodName × MethodName) := [("java/util/TreeMap", "java/util/Map", ⟨"java/util/NavigableMap", "size", "()I"⟩, ⟨"java/util/TreeMap", "size", "()I"⟩), ("java/util/TreeSet", "java/util/Collection", ⟨"java/util/SortedSet", "size", "()I"⟩, ⟨"java/util/TreeSet", "size", "()I"⟩), ("java/util/TreeSet", "java/lang/Iterable", ⟨"java/util/SortedSet", "iterator", "()Ljava/util/Iterator;"⟩, ⟨"java/util/TreeSet", "iterator", "()Ljava/util/Iterator;"⟩), ("java/util/TreeMap", "java/util/Map", ⟨"java/util/NavigableMap", "put", "(Ljava/lang/Object;Ljava/lang/Object;)Ljava/lang/Object;"⟩, ⟨"java/util/TreeMap", "put", "(Ljava/lang/Object;Ljava/lang/Object;)Ljava/lang/Object;"⟩), ("java/util/TreeMap", "java/util/Map", ⟨"java/util/NavigableMap", "containsKey", "(Ljava/lang/Object;)Z"⟩, ⟨"java/util/TreeMap", "containsKey", "(Ljava/lang/Object;)Z"⟩), ("java/util/TreeMap", "java/util/Map", ⟨"java/util/NavigableMap", "remove", "(Ljava/lang/Object;)Ljava/lang/Object;"⟩, ⟨"java/util/TreeMap", "remove", "(Ljava/lang/Object;)Ljava/lang/Object;"⟩), ("java/util/TreeMap", "java/util/SortedMap", ⟨"java/util/NavigableMap", "comparator", "()Ljava/util/Comparator;"⟩, ⟨"java/util/TreeMap", "comparator", "()Ljava/util/Comparator;"⟩)]
def hXls : List (String × Nat × MethodName) := [("java/util/TreeSet", 53, ⟨"java/util/NavigableMap", "size", "()I"⟩), ("java/util/TreeMap$KeySet", 26, ⟨"java/util/NavigableMap", "size", "()I"⟩), ("java/util/TreeMap", 358, ⟨"java/util/SortedSet", "size", "()I"⟩), ("java/util/TreeMap", 361, ⟨"java/util/SortedSet", "iterator", "()Ljava/util/Iterator;"⟩), ("java/util/TreeSet", 69, ⟨"java/util/NavigableMap", "put", "(Ljava/lang/Object;Ljava/lang/Object;)Ljava/lang/Object;"⟩), ("java/util/TreeSet", 61, ⟨"java/util/NavigableMap", "containsKey", "(Ljava/lang/Object;)Z"⟩), ("java/util/TreeSet", 73, ⟨"java/util/NavigableMap", "remove", "(Ljava/lang/Object;)Ljava/lang/Object;"⟩), ("java/util/TreeSet", 117, ⟨"java/util/NavigableMap", "comparator", "()Ljava/util/Comparator;"⟩)]
theorem hFw0 : (("java/util/TreeMap", ⟨"java/util/Map", "size", "()I"⟩, ⟨"java/util/TreeMap", "size", "()I"⟩) : String × MethodName × MethodName) ∈ hFws := List.mem_of_getElem? (i := 0) (by decide +kernel)
theorem hFw1 : (("java/util/TreeMap", ⟨"java/util/SortedMap", "comparator", "()Ljava/util/Comparator;"⟩, ⟨"java/util/TreeMap", "comparator", "()Ljava/util/Comparator;"⟩) : String × MethodName × MethodName) ∈ hFws := List.mem_of_getElem? (i := 1) (by decide +kernel)
theorem hFw2 : (("java/util/TreeMap", ⟨"java/util/Map", "entrySet", "()Ljava/util/Set;"⟩, ⟨"java/util/TreeMap", "entrySet", "()Ljava/util/Set;"⟩) : String × MethodName × MethodName) ∈ hFws := List.mem_of_getElem? (i := 2) (by decide +kernel)
theorem hFw3 : (("java/util/TreeMap$EntrySet", ⟨"java/util/Set", "iterator", "()Ljava/util/Iterator;"⟩, ⟨"java/util/TreeMap$EntrySet", "iterator", "()Ljava/util/Iterator;"⟩) : String × MethodName × MethodName) ∈ hFws := List.mem_of_getElem? (i := 3) (by decide +kernel)
theorem hFw4 : (("java/util/TreeMap$EntryIterator", ⟨"java/util/Iterator", "next", "()Ljava/lang/Object;"⟩, ⟨"java/util/TreeMap$EntryIterator", "next", "()Ljava/lang/Object;"⟩) : String × MethodName × MethodName) ∈ hFws := List.mem_of_getElem? (i := 4) (by decide +kernel)
theorem hFw5 : (("java/util/TreeMap$Entry", ⟨"java/util/Map$Entry", "getKey", "()Ljava/lang/Object;"⟩, ⟨"java/util/TreeMap$Entry", "getKey", "()Ljava/lang/Object;"⟩) : String × MethodName × MethodName) ∈ hFws := List.mem_of_getElem? (i := 5) (by decide +kernel)
theorem hFw6 : (("java/util/TreeMap$Entry", ⟨"java/util/Map$Entry", "getValue", "()Ljava/lang/Object;"⟩, ⟨"java/util/TreeMap$Entry", "getValue", "()Ljava/lang/Object;"⟩) : String × MethodName × MethodName) ∈ hFws := List.mem_of_getElem? (i := 6) (by decide +kernel)
theorem hFw7 : (("java/util/TreeMap$KeyIterator", ⟨"java/util/Iterator", "next", "()Ljava/lang/Object;"⟩, ⟨"java/util/TreeMap$KeyIterator", "next", "()Ljava/lang/Object;"⟩) : String × MethodName × MethodName) ∈ hFws := List.mem_of_getElem? (i := 7) (by decide +kernel)
theorem hFw8 : (("java/util/TreeMap$EntryIterator", ⟨"java/util/Iterator", "hasNext", "()Z"⟩, ⟨"java/util/TreeMap$PrivateEntryIterator", "hasNext", "()Z"⟩) : String × MethodName × MethodName) ∈ hFws := List.mem_of_getElem? (i := 8) (by decide +kernel)
theorem hFw9 : (("java/util/TreeSet", ⟨"java/util/Collection", "size", "()I"⟩, ⟨"java/util/TreeSet", "size", "()I"⟩) : String × MethodName × MethodName) ∈ hFws := List.mem_of_getElem? (i := 9) (by decide +kernel)
theorem hFw10 : (("java/util/TreeSet", ⟨"java/util/SortedSet", "comparator", "()Ljava/util/Comparator;"⟩, ⟨"java/util/TreeSet", "comparator", "()Ljava/util/Comparator;"⟩) : String × MethodName × MethodName) ∈ hFws := List.mem_of_getElem? (i := 10) (by decide +kernel)
theorem hFw11 : (("java/util/TreeMap", ⟨"java/util/NavigableMap", "navigableKeySet", "()Ljava/util/NavigableSet;"⟩, ⟨"java/util/TreeMap", "navigableKeySet", "()Ljava/util/NavigableSet;"⟩) : String × MethodName × MethodName) ∈ hFws := List.mem_of_getElem? (i := 11) (by decide +kernel)
theorem hFw12 : (("java/util/TreeMap$KeySet", ⟨"java/util/NavigableSet", "iterator", "()Ljava/util/Iterator;"⟩, ⟨"java/util/TreeMap$KeySet", "iterator", "()Ljava/util/Iterator;"⟩) : String × MethodName × MethodName) ∈ hFws := List.mem_of_getElem? (i := 12) (by decide +kernel)
theorem hFw13 : (("java/util/TreeSet", ⟨"java/util/Collection", "iterator", "()Ljava/util/Iterator;"⟩, ⟨"java/util/TreeSet", "iterator", "()Ljava/util/Iterator;"⟩) : String × MethodName × MethodName) ∈ hFws := List.mem_of_getElem? (i := 13) (by decide +kernel)
theorem hFw14 : (("java/util/TreeMap$KeyIterator", ⟨"java/util/Iterator", "hasNext", "()Z"⟩, ⟨"java/util/TreeMap$PrivateEntryIterator", "hasNext", "()Z"⟩) : String × MethodName × MethodName) ∈ hFws := List.mem_of_getElem? (i := 14) (by decide +kernel)
theorem hFw15 : (("java/util/ArrayList", ⟨"java/util/Collection", "toArray", "()[Ljava/lang/Object;"⟩, ⟨"java/util/ArrayList", "toArray", "()[Ljava/lang/Object;"⟩) : String × MethodName × MethodName) ∈ hFws := List.mem_of_getElem? (i := 15) (by decide +kernel)
theorem hFw16 : (("StuckKeys$Letters", ⟨"java/lang/Comparable", "compareTo", "(Ljava/lang/Object;)I"⟩, ⟨"StuckKeys$Letters", "compareTo", "(Ljava/lang/Object;)I"⟩) : String × MethodName × MethodName) ∈ hFws := List.mem_of_getElem? (i := 16) (by decide +kernel)
theorem hFw17 : (("java/util/TreeMap$KeySet", ⟨"java/util/Set", "iterator", "()Ljava/util/Iterator;"⟩, ⟨"java/util/TreeMap$KeySet", "iterator", "()Ljava/util/Iterator;"⟩) : String × MethodName × MethodName) ∈ hFws := List.mem_of_getElem? (i := 17) (by decide +kernel)
theorem hFw18 : (("StuckKeys$Letters", ⟨"java/lang/CharSequence", "length", "()I"⟩, ⟨"StuckKeys$Letters", "length", "()I"⟩) : String × MethodName × MethodName) ∈ hFws := List.mem_of_getElem? (i := 18) (by decide +kernel)
theorem hFw19 : (("StuckKeys$Letters", ⟨"java/lang/CharSequence", "charAt", "(I)C"⟩, ⟨"StuckKeys$Letters", "charAt", "(I)C"⟩) : String × MethodName × MethodName) ∈ hFws := List.mem_of_getElem? (i := 19) (by decide +kernel)
theorem hFw20 : (("StuckKeys$Nearer", ⟨"java/util/Comparator", "compare", "(Ljava/lang/Object;Ljava/lang/Object;)I"⟩, ⟨"StuckKeys$Nearer", "compare", "(Ljava/lang/Object;Ljava/lang/Object;)I"⟩) : String × MethodName × MethodName) ∈ hFws := List.mem_of_getElem? (i := 20) (by decide +kernel)
theorem hFw21 : (("java/util/TreeMap$KeySet", ⟨"java/lang/Iterable", "iterator", "()Ljava/util/Iterator;"⟩, ⟨"java/util/TreeMap$KeySet", "iterator", "()Ljava/util/Iterator;"⟩) : String × MethodName × MethodName) ∈ hFws := List.mem_of_getElem? (i := 21) (by decide +kernel)
theorem hFw22 : (("java/util/TreeSet", ⟨"java/lang/Iterable", "iterator", "()Ljava/util/Iterator;"⟩, ⟨"java/util/TreeSet", "iterator", "()Ljava/util/Iterator;"⟩) : String × MethodName × MethodName) ∈ hFws := List.mem_of_getElem? (i := 22) (by decide +kernel)
theorem hFw23 : (("java/util/TreeMap$Values", ⟨"java/util/Collection", "iterator", "()Ljava/util/Iterator;"⟩, ⟨"java/util/TreeMap$Values", "iterator", "()Ljava/util/Iterator;"⟩) : String × MethodName × MethodName) ∈ hFws := List.mem_of_getElem? (i := 23) (by decide +kernel)
theorem hFw24 : (("java/util/TreeMap$ValueIterator", ⟨"java/util/Iterator", "hasNext", "()Z"⟩, ⟨"java/util/TreeMap$PrivateEntryIterator", "hasNext", "()Z"⟩) : String × MethodName × MethodName) ∈ hFws := List.mem_of_getElem? (i := 24) (by decide +kernel)
theorem hFw25 : (("java/util/TreeMap$ValueIterator", ⟨"java/util/Iterator", "next", "()Ljava/lang/Object;"⟩, ⟨"java/util/TreeMap$ValueIterator", "next", "()Ljava/lang/Object;"⟩) : String × MethodName × MethodName) ∈ hFws := List.mem_of_getElem? (i := 25) (by decide +kernel)
theorem hSk0 : (("StuckKeys", 33, "word", 100) : String × Nat × String × Nat) ∈ hSks := List.mem_of_getElem? (i := 0) (by decide +kernel)
theorem hSk1 : (("StuckKeys", 39, "stick", 101) : String × Nat × String × Nat) ∈ hSks := List.mem_of_getElem? (i := 1) (by decide +kernel)
theorem hSk2 : (("StuckKeys", 41, "allow", 102) : String × Nat × String × Nat) ∈ hSks := List.mem_of_getElem? (i := 2) (by decide +kernel)
theorem hSk3 : (("StuckKeys", 43, "set", 103) : String × Nat × String × Nat) ∈ hSks := List.mem_of_getElem? (i := 3) (by decide +kernel)
theorem hSk4 : (("StuckKeys", 45, "drop", 104) : String × Nat × String × Nat) ∈ hSks := List.mem_of_getElem? (i := 4) (by decide +kernel)
theorem hSk5 : (("StuckKeys", 47, "name", 105) : String × Nat × String × Nat) ∈ hSks := List.mem_of_getElem? (i := 5) (by decide +kernel)
theorem hSk6 : (("StuckKeys", 49, "type", 106) : String × Nat × String × Nat) ∈ hSks := List.mem_of_getElem? (i := 6) (by decide +kernel)
theorem hSk7 : (("StuckKeys", 51, "back", 107) : String × Nat × String × Nat) ∈ hSks := List.mem_of_getElem? (i := 7) (by decide +kernel)
theorem hSk8 : (("StuckKeys", 53, "wn", 108) : String × Nat × String × Nat) ∈ hSks := List.mem_of_getElem? (i := 8) (by decide +kernel)
theorem hSk9 : (("StuckKeys", 55, "ww", 109) : String × Nat × String × Nat) ∈ hSks := List.mem_of_getElem? (i := 9) (by decide +kernel)
theorem hSk10 : (("StuckKeys", 57, "nn", 110) : String × Nat × String × Nat) ∈ hSks := List.mem_of_getElem? (i := 10) (by decide +kernel)
theorem hSk11 : (("StuckKeys", 59, "w", 111) : String × Nat × String × Nat) ∈ hSks := List.mem_of_getElem? (i := 11) (by decide +kernel)
theorem hSk12 : (("StuckKeys", 61, "", 112) : String × Nat × String × Nat) ∈ hSks := List.mem_of_getElem? (i := 12) (by decide +kernel)
theorem hSk13 : (("StuckKeys", 155, "what", 113) : String × Nat × String × Nat) ∈ hSks := List.mem_of_getElem? (i := 13) (by decide +kernel)
theorem hSk14 : (("StuckKeys", 168, "index", 114) : String × Nat × String × Nat) ∈ hSks := List.mem_of_getElem? (i := 14) (by decide +kernel)
theorem hSk15 : (("StuckKeys", 190, "index or what", 115) : String × Nat × String × Nat) ∈ hSks := List.mem_of_getElem? (i := 15) (by decide +kernel)
theorem hSk16 : (("StuckKeys", 206, "letter or what", 116) : String × Nat × String × Nat) ∈ hSks := List.mem_of_getElem? (i := 16) (by decide +kernel)
theorem hSk17 : (("StuckKeys", 229, "rank", 117) : String × Nat × String × Nat) ∈ hSks := List.mem_of_getElem? (i := 17) (by decide +kernel)
theorem hSk18 : (("StuckKeys", 250, "byte", 118) : String × Nat × String × Nat) ∈ hSks := List.mem_of_getElem? (i := 18) (by decide +kernel)
theorem hSk19 : (("StuckKeys", 252, "command text", 119) : String × Nat × String × Nat) ∈ hSks := List.mem_of_getElem? (i := 19) (by decide +kernel)
theorem hSk20 : (("StuckKeys", 273, "nothing saved", 120) : String × Nat × String × Nat) ∈ hSks := List.mem_of_getElem? (i := 20) (by decide +kernel)
theorem hSk21 : (("StuckKeys$Book", 86, "count", 121) : String × Nat × String × Nat) ∈ hSks := List.mem_of_getElem? (i := 21) (by decide +kernel)
theorem hSk22 : (("StuckKeys$Book", 99, "words", 122) : String × Nat × String × Nat) ∈ hSks := List.mem_of_getElem? (i := 22) (by decide +kernel)
theorem hSk23 : (("StuckKeys$Book", 118, "names", 123) : String × Nat × String × Nat) ∈ hSks := List.mem_of_getElem? (i := 23) (by decide +kernel)
theorem hSk24 : (("StuckKeys$Book", 128, "letter or stick", 124) : String × Nat × String × Nat) ∈ hSks := List.mem_of_getElem? (i := 24) (by decide +kernel)
theorem hSk25 : (("StuckKeys$Book", 140, "setting", 125) : String × Nat × String × Nat) ∈ hSks := List.mem_of_getElem? (i := 25) (by decide +kernel)
theorem hSk26 : (("StuckKeys$Book", 283, "correction", 126) : String × Nat × String × Nat) ∈ hSks := List.mem_of_getElem? (i := 26) (by decide +kernel)
theorem hSk27 : (("StuckKeys$Book", 285, "bans", 127) : String × Nat × String × Nat) ∈ hSks := List.mem_of_getElem? (i := 27) (by decide +kernel)
theorem hSk28 : (("StuckKeys$Keys", 3, "qwertyuiop", 128) : String × Nat × String × Nat) ∈ hSks := List.mem_of_getElem? (i := 28) (by decide +kernel)
theorem hSk29 : (("StuckKeys$Keys", 5, "asdfghjkl", 129) : String × Nat × String × Nat) ∈ hSks := List.mem_of_getElem? (i := 29) (by decide +kernel)
theorem hSk30 : (("StuckKeys$Keys", 7, "zxcvbnm", 130) : String × Nat × String × Nat) ∈ hSks := List.mem_of_getElem? (i := 30) (by decide +kernel)
theorem hSk31 : (("StuckKeys$Letters", 27, "word", 131) : String × Nat × String × Nat) ∈ hSks := List.mem_of_getElem? (i := 31) (by decide +kernel)
theorem hSk32 : (("StuckKeys$Reader", 19, "", 132) : String × Nat × String × Nat) ∈ hSks := List.mem_of_getElem? (i := 32) (by decide +kernel)
theorem hFu0 : (("java/util/TreeMap", "java/util/Map", ⟨"java/util/NavigableMap", "size", "()I"⟩, ⟨"java/util/TreeMap", "size", "()I"⟩) : String × String × MethodName × MethodName) ∈ hFus := List.mem_of_getElem? (i := 0) (by decide +kernel)
theorem hFu1 : (("java/util/TreeSet", "java/util/Collection", ⟨"java/util/SortedSet", "size", "()I"⟩, ⟨"java/util/TreeSet", "size", "()I"⟩) : String × String × MethodName × MethodName) ∈ hFus := List.mem_of_getElem? (i := 1) (by decide +kernel)
theorem hFu2 : (("java/util/TreeSet", "java/lang/Iterable", ⟨"java/util/SortedSet", "iterator", "()Ljava/util/Iterator;"⟩, ⟨"java/util/TreeSet", "iterator", "()Ljava/util/Iterator;"⟩) : String × String × MethodName × MethodName) ∈ hFus := List.mem_of_getElem? (i := 2) (by decide +kernel)
theorem hFu3 : (("java/util/TreeMap", "java/util/Map", ⟨"java/util/NavigableMap", "put", "(Ljava/lang/Object;Ljava/lang/Object;)Ljava/lang/Object;"⟩, ⟨"java/util/TreeMap", "put", "(Ljava/lang/Object;Ljava/lang/Object;)Ljava/lang/Object;"⟩) : String × String × MethodName × MethodName) ∈ hFus := List.mem_of_getElem? (i := 3) (by decide +kernel)
theorem hFu4 : (("java/util/TreeMap", "java/util/Map", ⟨"java/util/NavigableMap", "containsKey", "(Ljava/lang/Object;)Z"⟩, ⟨"java/util/TreeMap", "containsKey", "(Ljava/lang/Object;)Z"⟩) : String × String × MethodName × MethodName) ∈ hFus := List.mem_of_getElem? (i := 4) (by decide +kernel)
theorem hFu5 : (("java/util/TreeMap", "java/util/Map", ⟨"java/util/NavigableMap", "remove", "(Ljava/lang/Object;)Ljava/lang/Object;"⟩, ⟨"java/util/TreeMap", "remove", "(Ljava/lang/Object;)Ljava/lang/Object;"⟩) : String × String × MethodName × MethodName) ∈ hFus := List.mem_of_getElem? (i := 5) (by decide +kernel)
theorem hFu6 : (("java/util/TreeMap", "java/util/SortedMap", ⟨"java/util/NavigableMap", "comparator", "()Ljava/util/Comparator;"⟩, ⟨"java/util/TreeMap", "comparator", "()Ljava/util/Comparator;"⟩) : String × String × MethodName × MethodName) ∈ hFus := List.mem_of_getElem? (i := 6) (by decide +kernel)
theorem hXl0 : (("java/util/TreeSet", 53, ⟨"java/util/NavigableMap", "size", "()I"⟩) : String × Nat × MethodName) ∈ hXls := List.mem_of_getElem? (i := 0) (by decide +kernel)
theorem hXl1 : (("java/util/TreeMap$KeySet", 26, ⟨"java/util/NavigableMap", "size", "()I"⟩) : String × Nat × MethodName) ∈ hXls := List.mem_of_getElem? (i := 1) (by decide +kernel)
theorem hXl2 : (("java/util/TreeMap", 358, ⟨"java/util/SortedSet", "size", "()I"⟩) : String × Nat × MethodName) ∈ hXls := List.mem_of_getElem? (i := 2) (by decide +kernel)
theorem hXl3 : (("java/util/TreeMap", 361, ⟨"java/util/SortedSet", "iterator", "()Ljava/util/Iterator;"⟩) : String × Nat × MethodName) ∈ hXls := List.mem_of_getElem? (i := 3) (by decide +kernel)
theorem hXl4 : (("java/util/TreeSet", 69, ⟨"java/util/NavigableMap", "put", "(Ljava/lang/Object;Ljava/lang/Object;)Ljava/lang/Object;"⟩) : String × Nat × MethodName) ∈ hXls := List.mem_of_getElem? (i := 4) (by decide +kernel)
theorem hXl5 : (("java/util/TreeSet", 61, ⟨"java/util/NavigableMap", "containsKey", "(Ljava/lang/Object;)Z"⟩) : String × Nat × MethodName) ∈ hXls := List.mem_of_getElem? (i := 5) (by decide +kernel)
theorem hXl6 : (("java/util/TreeSet", 73, ⟨"java/util/NavigableMap", "remove", "(Ljava/lang/Object;)Ljava/lang/Object;"⟩) : String × Nat × MethodName) ∈ hXls := List.mem_of_getElem? (i := 6) (by decide +kernel)
theorem hXl7 : (("java/util/TreeSet", 117, ⟨"java/util/NavigableMap", "comparator", "()Ljava/util/Comparator;"⟩) : String × Nat × MethodName) ∈ hXls := List.mem_of_getElem? (i := 7) (by decide +kernel)
theorem q3079 : (Jvm.Cond.declares ({ cls := "java/lang/Object", name := "getClass", desc := "()Ljava/lang/Class;" } : Jvm.MethodName)) ∈ lw_tbl := lw_at lw_m13 119 rfl
theorem hDgc : Cond.declares ⟨"java/lang/Object", "getClass", "()Ljava/lang/Class;"⟩ ∈ lw_tbl := q3079
theorem q3053 : (Jvm.Cond.castable "StuckKeysModel" "java/lang/Object") ∈ lw_tbl := lw_at lw_m13 93 rfl
theorem q3047 : (Jvm.Cond.castable "StuckKeys" "java/lang/Object") ∈ lw_tbl := lw_at lw_m13 87 rfl
theorem q3048 : (Jvm.Cond.castable "StuckKeys$Book" "java/lang/Object") ∈ lw_tbl := lw_at lw_m13 88 rfl
theorem q3051 : (Jvm.Cond.castable "StuckKeys$Kept" "java/lang/Object") ∈ lw_tbl := lw_at lw_m13 91 rfl
theorem q3046 : (Jvm.Cond.castable "StuckKeys$Letters" "java/lang/Object") ∈ lw_tbl := lw_at lw_m13 86 rfl
theorem q3068 : (Jvm.Cond.castable "StuckKeys$Meant" "java/lang/Object") ∈ lw_tbl := lw_at lw_m13 108 rfl
theorem q3067 : (Jvm.Cond.castable "StuckKeys$Suggested" "java/lang/Object") ∈ lw_tbl := lw_at lw_m13 107 rfl
theorem q3066 : (Jvm.Cond.castable "StuckKeys$Way" "java/lang/Object") ∈ lw_tbl := lw_at lw_m13 106 rfl
theorem q3072 : (Jvm.Cond.castable "StuckKeys$Reader" "java/lang/Object") ∈ lw_tbl := lw_at lw_m13 112 rfl
theorem q3049 : (Jvm.Cond.castable "java/util/TreeMap" "java/lang/Object") ∈ lw_tbl := lw_at lw_m13 89 rfl
theorem q3059 : (Jvm.Cond.castable "java/util/TreeMap$Entry" "java/lang/Object") ∈ lw_tbl := lw_at lw_m13 99 rfl
theorem q3058 : (Jvm.Cond.castable "java/util/TreeMap$KeyIterator" "java/lang/Object") ∈ lw_tbl := lw_at lw_m13 98 rfl
theorem q3071 : (Jvm.Cond.castable "java/util/TreeMap$ValueIterator" "java/lang/Object") ∈ lw_tbl := lw_at lw_m13 111 rfl
theorem q3056 : (Jvm.Cond.castable "java/util/TreeMap$EntryIterator" "java/lang/Object") ∈ lw_tbl := lw_at lw_m13 96 rfl
theorem q3057 : (Jvm.Cond.castable "java/util/TreeMap$KeySet" "java/lang/Object") ∈ lw_tbl := lw_at lw_m13 97 rfl
theorem q3070 : (Jvm.Cond.castable "java/util/TreeMap$Values" "java/lang/Object") ∈ lw_tbl := lw_at lw_m13 110 rfl
theorem q3055 : (Jvm.Cond.castable "java/util/TreeMap$EntrySet" "java/lang/Object") ∈ lw_tbl := lw_at lw_m13 95 rfl
theorem q3050 : (Jvm.Cond.castable "java/util/TreeSet" "java/lang/Object") ∈ lw_tbl := lw_at lw_m13 90 rfl
theorem q3052 : (Jvm.Cond.castable "java/util/ArrayList" "java/lang/Object") ∈ lw_tbl := lw_at lw_m13 92 rfl
theorem q3064 : (Jvm.Cond.castable "java/util/PriorityQueue" "java/lang/Object") ∈ lw_tbl := lw_at lw_m13 104 rfl
theorem q3073 : (Jvm.Cond.castable "java/lang/StringBuilder" "java/lang/Object") ∈ lw_tbl := lw_at lw_m13 113 rfl
theorem q3074 : (Jvm.Cond.castable "java/lang/String" "java/lang/Object") ∈ lw_tbl := lw_at lw_m13 114 rfl
theorem q3063 : (Jvm.Cond.castable "java/lang/Integer" "java/lang/Object") ∈ lw_tbl := lw_at lw_m13 103 rfl
theorem q3065 : (Jvm.Cond.castable "StuckKeys$Nearer" "java/lang/Object") ∈ lw_tbl := lw_at lw_m13 105 rfl
abbrev hNob : Nat := 24
theorem hCl_ob : ∀ ci, ci < hNob → ∃ q : vw_C, ci < 100 ∧ hCl[ci]? = some q ∧ Cond.castable q.1 "java/lang/Object" ∈ lw_tbl := by
  intro ci h
  have hz : ci = 0 ∨ ci = 1 ∨ ci = 2 ∨ ci = 3 ∨ ci = 4 ∨ ci = 5 ∨ ci = 6 ∨ ci = 7 ∨ ci = 8 ∨ ci = 9 ∨ ci = 10 ∨ ci = 11 ∨ ci = 12 ∨ ci = 13 ∨ ci = 14 ∨ ci = 15 ∨ ci = 16 ∨ ci = 17 ∨ ci = 18 ∨ ci = 19 ∨ ci = 20 ∨ ci = 21 ∨ ci = 22 ∨ ci = 23 := by
    have h : ci < 24 := h
    omega
  rcases hz with rfl | rfl | rfl | rfl | rfl | rfl | rfl | rfl | rfl | rfl | rfl | rfl | rfl | rfl | rfl | rfl | rfl | rfl | rfl | rfl | rfl | rfl | rfl | rfl
  · exact ⟨_, by decide, rfl, q3053⟩
  · exact ⟨_, by decide, rfl, q3047⟩
  · exact ⟨_, by decide, rfl, q3048⟩
  · exact ⟨_, by decide, rfl, q3051⟩
  · exact ⟨_, by decide, rfl, q3046⟩
  · exact ⟨_, by decide, rfl, q3068⟩
  · exact ⟨_, by decide, rfl, q3067⟩
  · exact ⟨_, by decide, rfl, q3066⟩
  · exact ⟨_, by decide, rfl, q3072⟩
  · exact ⟨_, by decide, rfl, q3049⟩
  · exact ⟨_, by decide, rfl, q3059⟩
  · exact ⟨_, by decide, rfl, q3058⟩
  · exact ⟨_, by decide, rfl, q3071⟩
  · exact ⟨_, by decide, rfl, q3056⟩
  · exact ⟨_, by decide, rfl, q3057⟩
  · exact ⟨_, by decide, rfl, q3070⟩
  · exact ⟨_, by decide, rfl, q3055⟩
  · exact ⟨_, by decide, rfl, q3050⟩
  · exact ⟨_, by decide, rfl, q3052⟩
  · exact ⟨_, by decide, rfl, q3064⟩
  · exact ⟨_, by decide, rfl, q3073⟩
  · exact ⟨_, by decide, rfl, q3074⟩
  · exact ⟨_, by decide, rfl, q3063⟩
  · exact ⟨_, by decide, rfl, q3065⟩
theorem dfX4 : ∀ j, j < 18 → defaultValue (tyX4 j) = vp_V ((hKd 0).map hDf) j := by
  intro j hj
  have hz : j = 0 ∨ j = 1 ∨ j = 2 ∨ j = 3 ∨ j = 4 ∨ j = 5 ∨ j = 6 ∨ j = 7 ∨ j = 8 ∨ j = 9 ∨ j = 10 ∨ j = 11 ∨ j = 12 ∨ j = 13 ∨ j = 14 ∨ j = 15 ∨ j = 16 ∨ j = 17 := by omega
  rcases hz with rfl | rfl | rfl | rfl | rfl | rfl | rfl | rfl | rfl | rfl | rfl | rfl | rfl | rfl | rfl | rfl | rfl | rfl <;> rfl
theorem dfX1 : ∀ j, j < 4 → defaultValue (tyX1 j) = vp_V ((hKd 1).map hDf) j := by
  intro j hj
  have hz : j = 0 ∨ j = 1 ∨ j = 2 ∨ j = 3 := by omega
  rcases hz with rfl | rfl | rfl | rfl <;> rfl
theorem dfX2 : ∀ j, j < 8 → defaultValue (tyX2 j) = vp_V ((hKd 2).map hDf) j := by
  intro j hj
  have hz : j = 0 ∨ j = 1 ∨ j = 2 ∨ j = 3 ∨ j = 4 ∨ j = 5 ∨ j = 6 ∨ j = 7 := by omega
  rcases hz with rfl | rfl | rfl | rfl | rfl | rfl | rfl | rfl <;> rfl
theorem dfX3 : ∀ j, j < 2 → defaultValue (tyX3 j) = vp_V ((hKd 3).map hDf) j := by
  intro j hj
  have hz : j = 0 ∨ j = 1 := by omega
  rcases hz with rfl | rfl <;> rfl
theorem dfX5 : ∀ j, j < 2 → defaultValue (tyX5 j) = vp_V ((hKd 4).map hDf) j := by
  intro j hj
  have hz : j = 0 ∨ j = 1 := by omega
  rcases hz with rfl | rfl <;> rfl
theorem dfX10 : ∀ j, j < 3 → defaultValue (tyX10 j) = vp_V ((hKd 5).map hDf) j := by
  intro j hj
  have hz : j = 0 ∨ j = 1 ∨ j = 2 := by omega
  rcases hz with rfl | rfl | rfl <;> rfl
theorem dfX9 : ∀ j, j < 3 → defaultValue (tyX9 j) = vp_V ((hKd 6).map hDf) j := by
  intro j hj
  have hz : j = 0 ∨ j = 1 ∨ j = 2 := by omega
  rcases hz with rfl | rfl | rfl <;> rfl
theorem dfX7 : ∀ j, j < 4 → defaultValue (tyX7 j) = vp_V ((hKd 7).map hDf) j := by
  intro j hj
  have hz : j = 0 ∨ j = 1 ∨ j = 2 ∨ j = 3 := by omega
  rcases hz with rfl | rfl | rfl | rfl <;> rfl
theorem dfX11 : ∀ j, j < 6 → defaultValue (tyX11 j) = vp_V ((hKd 8).map hDf) j := by
  intro j hj
  have hz : j = 0 ∨ j = 1 ∨ j = 2 ∨ j = 3 ∨ j = 4 ∨ j = 5 := by omega
  rcases hz with rfl | rfl | rfl | rfl | rfl | rfl <;> rfl
theorem dfJ1 : ∀ j, j < 9 → defaultValue (tyJ1 j) = vp_V ((hKd 9).map hDf) j := by
  intro j hj
  have hz : j = 0 ∨ j = 1 ∨ j = 2 ∨ j = 3 ∨ j = 4 ∨ j = 5 ∨ j = 6 ∨ j = 7 ∨ j = 8 := by omega
  rcases hz with rfl | rfl | rfl | rfl | rfl | rfl | rfl | rfl | rfl <;> rfl
theorem dfJ22 : ∀ j, j < 6 → defaultValue (tyJ22 j) = vp_V ((hKd 10).map hDf) j := by
  intro j hj
  have hz : j = 0 ∨ j = 1 ∨ j = 2 ∨ j = 3 ∨ j = 4 ∨ j = 5 := by omega
  rcases hz with rfl | rfl | rfl | rfl | rfl | rfl <;> rfl
theorem dfJ17 : ∀ j, j < 4 → defaultValue (tyJ17 j) = vp_V ((hKd 11).map hDf) j := by
  intro j hj
  have hz : j = 0 ∨ j = 1 ∨ j = 2 ∨ j = 3 := by omega
  rcases hz with rfl | rfl | rfl | rfl <;> rfl
theorem dfJ32 : ∀ j, j < 4 → defaultValue (tyJ32 j) = vp_V ((hKd 12).map hDf) j := by
  intro j hj
  have hz : j = 0 ∨ j = 1 ∨ j = 2 ∨ j = 3 := by omega
  rcases hz with rfl | rfl | rfl | rfl <;> rfl
theorem dfJ16 : ∀ j, j < 4 → defaultValue (tyJ16 j) = vp_V ((hKd 13).map hDf) j := by
  intro j hj
  have hz : j = 0 ∨ j = 1 ∨ j = 2 ∨ j = 3 := by omega
  rcases hz with rfl | rfl | rfl | rfl <;> rfl
theorem dfJ18 : ∀ j, j < 1 → defaultValue (tyJ18 j) = vp_V ((hKd 14).map hDf) j := by
  intro j hj
  have hz : j = 0 := by omega
  rcases hz with rfl <;> rfl
theorem dfJ37 : ∀ j, j < 1 → defaultValue (tyJ37 j) = vp_V ((hKd 15).map hDf) j := by
  intro j hj
  have hz : j = 0 := by omega
  rcases hz with rfl <;> rfl
theorem dfJ14 : ∀ j, j < 1 → defaultValue (tyJ14 j) = vp_V ((hKd 16).map hDf) j := by
  intro j hj
  have hz : j = 0 := by omega
  rcases hz with rfl <;> rfl
theorem dfJ4 : ∀ j, j < 1 → defaultValue (tyJ4 j) = vp_V ((hKd 17).map hDf) j := by
  intro j hj
  have hz : j = 0 := by omega
  rcases hz with rfl <;> rfl
theorem dfJ6 : ∀ j, j < 3 → defaultValue (tyJ6 j) = vp_V ((hKd 18).map hDf) j := by
  intro j hj
  have hz : j = 0 ∨ j = 1 ∨ j = 2 := by omega
  rcases hz with rfl | rfl | rfl <;> rfl
theorem dfJ35 : ∀ j, j < 4 → defaultValue (tyJ35 j) = vp_V ((hKd 19).map hDf) j := by
  intro j hj
  have hz : j = 0 ∨ j = 1 ∨ j = 2 ∨ j = 3 := by omega
  rcases hz with rfl | rfl | rfl | rfl <;> rfl
theorem dfJ39 : ∀ j, j < 4 → defaultValue (tyJ39 j) = vp_V ((hKd 20).map hDf) j := by
  intro j hj
  have hz : j = 0 ∨ j = 1 ∨ j = 2 ∨ j = 3 := by omega
  rcases hz with rfl | rfl | rfl | rfl <;> rfl
theorem dfJ12 : ∀ j, j < 4 → defaultValue (tyJ12 j) = vp_V ((hKd 21).map hDf) j := by
  intro j hj
  have hz : j = 0 ∨ j = 1 ∨ j = 2 ∨ j = 3 := by omega
  rcases hz with rfl | rfl | rfl | rfl <;> rfl
theorem dfJ20 : ∀ j, j < 1 → defaultValue (tyJ20 j) = vp_V ((hKd 22).map hDf) j := by
  intro j hj
  have hz : j = 0 := by omega
  rcases hz with rfl <;> rfl
theorem dfX6 : ∀ j, j < 0 → defaultValue (tyX6 j) = vp_V ((hKd 23).map hDf) j := fun j h => absurd h (Nat.not_lt_zero j)
