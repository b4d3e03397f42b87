/-! what holds of the tables all through; the context of a body; pure instructions -/
set_option maxRecDepth 100000
def jnw : List Cond := [(Jvm.Cond.fieldLinkNest "java/util/ArrayList$Itr" (28 : Nat) "java/util/ArrayList" "size" "I" "java/util/ArrayList"),
  (Jvm.Cond.fieldLinkNest "java/util/TreeMap$PrivateEntryIterator" (13 : Nat) "java/util/TreeMap" "modCount" "I" "java/util/TreeMap"),
  (Jvm.Cond.fieldLinkNest "UnheardBells" (153 : Nat) "UnheardBells$Machine" "ropes" "Ljava/util/ArrayList;" "UnheardBells"),
  (Jvm.Cond.fieldLinkNest "UnheardBells" (252 : Nat) "UnheardBells$Machine" "pulls" "Ljava/util/PriorityQueue;" "UnheardBells"),
  (Jvm.Cond.fieldLinkNest "UnheardBells" (171 : Nat) "UnheardBells$Machine" "answers" "Ljava/util/ArrayDeque;" "UnheardBells"),
  (Jvm.Cond.fieldLinkNest "UnheardBells" (259 : Nat) "UnheardBells$Machine" "hour" "I" "UnheardBells"),
  (Jvm.Cond.fieldLinkNest "UnheardBells" (262 : Nat) "UnheardBells$Machine" "day" "I" "UnheardBells"),
  (Jvm.Cond.fieldLinkNest "UnheardBells" (265 : Nat) "UnheardBells$Machine" "came" "I" "UnheardBells"),
  (Jvm.Cond.fieldLinkNest "UnheardBells" (272 : Nat) "UnheardBells$Machine" "taken" "I" "UnheardBells"),
  (Jvm.Cond.fieldLinkNest "UnheardBells$Reader" (19 : Nat) "UnheardBells" "text" "Ljava/lang/StringBuilder;" "UnheardBells"),
  (Jvm.Cond.fieldLinkNest "UnheardBells$Machine" (145 : Nat) "UnheardBells$Rope" "parish" "I" "UnheardBells"),
  (Jvm.Cond.fieldLinkNest "UnheardBells$Machine" (148 : Nat) "UnheardBells$Rope" "isOn" "Z" "UnheardBells"),
  (Jvm.Cond.fieldLinkNest "UnheardBells$Machine" (155 : Nat) "UnheardBells$Rope" "rust" "I" "UnheardBells"),
  (Jvm.Cond.fieldLinkNest "UnheardBells$Machine" (287 : Nat) "UnheardBells$Rope" "answered" "I" "UnheardBells"),
  (Jvm.Cond.fieldLinkNest "UnheardBells" (292 : Nat) "UnheardBells$Rope" "answered" "I" "UnheardBells"),
  (Jvm.Cond.fieldLinkNest "UnheardBells$Machine" (224 : Nat) "UnheardBells$Rope" "missed" "I" "UnheardBells"),
  (Jvm.Cond.fieldLinkNest "UnheardBells" (295 : Nat) "UnheardBells$Rope" "missed" "I" "UnheardBells"),
  (Jvm.Cond.fieldLinkNest "UnheardBells$Machine" (215 : Nat) "UnheardBells$Rope" "doubled" "I" "UnheardBells"),
  (Jvm.Cond.fieldLinkNest "UnheardBells" (298 : Nat) "UnheardBells$Rope" "doubled" "I" "UnheardBells"),
  (Jvm.Cond.fieldLinkNest "UnheardBells" (55 : Nat) "UnheardBells$Refused" "reason" "I" "UnheardBells"),
  (Jvm.Cond.fieldLinkNest "UnheardBells" (60 : Nat) "UnheardBells$Refused" "detail" "I" "UnheardBells"),
  (Jvm.Cond.fieldLinkNest "UnheardBells$Answer" (9 : Nat) "UnheardBells$Pull" "rope" "I" "UnheardBells"),
  (Jvm.Cond.fieldLinkNest "UnheardBells$InOrder" (16 : Nat) "UnheardBells$Pull" "rope" "I" "UnheardBells"),
  (Jvm.Cond.fieldLinkNest "UnheardBells$Machine" (176 : Nat) "UnheardBells$Pull" "rope" "I" "UnheardBells"),
  (Jvm.Cond.fieldLinkNest "UnheardBells$Answer" (18 : Nat) "UnheardBells$Pull" "hour" "I" "UnheardBells"),
  (Jvm.Cond.fieldLinkNest "UnheardBells$InOrder" (7 : Nat) "UnheardBells$Pull" "hour" "I" "UnheardBells"),
  (Jvm.Cond.fieldLinkNest "UnheardBells$Machine" (204 : Nat) "UnheardBells$Pull" "hour" "I" "UnheardBells"),
  (Jvm.Cond.fieldLinkNest "UnheardBells$Answer" (22 : Nat) "UnheardBells$Pull" "strength" "I" "UnheardBells"),
  (Jvm.Cond.fieldLinkNest "UnheardBells$InOrder" (13 : Nat) "UnheardBells$Pull" "strength" "I" "UnheardBells"),
  (Jvm.Cond.fieldLinkNest "UnheardBells$Machine" (218 : Nat) "UnheardBells$Pull" "strength" "I" "UnheardBells"),
  (Jvm.Cond.fieldLinkNest "UnheardBells$InOrder" (19 : Nat) "UnheardBells$Pull" "came" "I" "UnheardBells"),
  (Jvm.Cond.fieldLinkNest "UnheardBells" (234 : Nat) "UnheardBells$Wrong" "at" "I" "UnheardBells"),
  (Jvm.Cond.fieldLinkNest "UnheardBells$Reader" (57 : Nat) "UnheardBells$Command" "kind" "I" "UnheardBells"),
  (Jvm.Cond.fieldLinkNest "UnheardBells$Reader" (79 : Nat) "UnheardBells$Command" "one" "I" "UnheardBells"),
  (Jvm.Cond.fieldLinkNest "UnheardBells$Reader" (66 : Nat) "UnheardBells$Command" "two" "I" "UnheardBells"),
  (Jvm.Cond.fieldLinkNest "UnheardBells$Reader" (72 : Nat) "UnheardBells$Command" "three" "I" "UnheardBells"),
  (Jvm.Cond.methodLinkNest "UnheardBells" (17 : Nat) ({ cls := "UnheardBells$Machine", name := "<init>", desc := "()V" } : Jvm.MethodName) "UnheardBells"),
  (Jvm.Cond.methodLinkNest "UnheardBells$Machine" (24 : Nat) ({ cls := "UnheardBells$InOrder", name := "<init>", desc := "()V" } : Jvm.MethodName) "UnheardBells"),
  (Jvm.Cond.methodLinkNest "UnheardBells$Machine" (137 : Nat) ({ cls := "UnheardBells", name := "refuse", desc := "(ZII)V" } : Jvm.MethodName) "UnheardBells"),
  (Jvm.Cond.methodLinkNest "UnheardBells$Machine" (133 : Nat) ({ cls := "UnheardBells", name := "isIn", desc := "(III)Z" } : Jvm.MethodName) "UnheardBells"),
  (Jvm.Cond.methodLinkNest "UnheardBells" (207 : Nat) ({ cls := "UnheardBells$Reader", name := "<init>", desc := "(LUnheardBells;)V" } : Jvm.MethodName) "UnheardBells"),
  (Jvm.Cond.methodLinkNest "UnheardBells$Reader" (41 : Nat) ({ cls := "UnheardBells", name := "isIn", desc := "(III)Z" } : Jvm.MethodName) "UnheardBells"),
  (Jvm.Cond.methodLinkNest "UnheardBells$Command" (25 : Nat) ({ cls := "UnheardBells", name := "isParish", desc := "(I)Z" } : Jvm.MethodName) "UnheardBells"),
  (Jvm.Cond.methodLinkNest "UnheardBells$Command" (38 : Nat) ({ cls := "UnheardBells", name := "isHour", desc := "(I)Z" } : Jvm.MethodName) "UnheardBells"),
  (Jvm.Cond.methodLinkNest "UnheardBells$Command" (44 : Nat) ({ cls := "UnheardBells", name := "isStrength", desc := "(I)Z" } : Jvm.MethodName) "UnheardBells"),
  (Jvm.Cond.methodLinkNest "UnheardBells$Command" (55 : Nat) ({ cls := "UnheardBells", name := "isMuch", desc := "(I)Z" } : Jvm.MethodName) "UnheardBells"),
  (Jvm.Cond.castable "java/util/AbstractList$ListItr" "java/util/Iterator"),
  (Jvm.Cond.castable "java/util/ArrayDeque$DeqIterator" "java/util/Iterator"),
  (Jvm.Cond.castable "java/util/ArrayList$Itr" "java/util/Iterator"),
  (Jvm.Cond.castable "java/util/ArrayList$ListItr" "java/util/Iterator"),
  (Jvm.Cond.castable "java/util/LinkedList$ListItr" "java/util/Iterator"),
  (Jvm.Cond.castable "java/util/PriorityQueue$Itr" "java/util/Iterator"),
  (Jvm.Cond.castable "java/util/TreeMap$KeyIterator" "java/util/Iterator"),
  (Jvm.Cond.castable "java/util/TreeMap$ValueIterator" "java/util/Iterator"),
  (Jvm.Cond.castable "java/util/NoSuchElementException" "java/util/NoSuchElementException"),
  (Jvm.Cond.castable "[B" "java/lang/Cloneable"),
  (Jvm.Cond.castable "UnheardBells$InOrder" "java/util/Comparator"),
  (Jvm.Cond.castable "java/lang/Integer" "java/lang/Comparable"),
  (Jvm.Cond.castable "java/lang/String" "java/lang/Comparable"),
  (Jvm.Cond.castable "java/lang/StringBuilder" "java/lang/Comparable"),
  (Jvm.Cond.castable "java/util/TreeMap$KeySet" "java/util/Set"),
  (Jvm.Cond.castable "[J" "java/lang/Cloneable"),
  (Jvm.Cond.castable "UnheardBells$Refused" "UnheardBells$Refused"),
  (Jvm.Cond.castable "java/util/TreeMap" "java/util/NavigableMap"),
  (Jvm.Cond.castable "java/util/ArrayDeque" "java/util/Collection"),
  (Jvm.Cond.castable "java/util/ArrayList" "java/util/Collection"),
  (Jvm.Cond.castable "java/util/LinkedList" "java/util/Collection"),
  (Jvm.Cond.castable "java/util/PriorityQueue" "java/util/Collection"),
  (Jvm.Cond.castable "java/util/TreeMap$KeySet" "java/util/Collection"),
  (Jvm.Cond.castable "java/util/TreeMap$Values" "java/util/Collection"),
  (Jvm.Cond.castable "UnheardBells$Wrong" "UnheardBells$Wrong"),
  (Jvm.Cond.castable "UnheardBells$Count" "java/lang/Object"),
  (Jvm.Cond.castable "UnheardBells" "java/lang/Object"),
  (Jvm.Cond.castable "UnheardBells$Machine" "java/lang/Object"),
  (Jvm.Cond.castable "java/util/ArrayList" "java/lang/Object"),
  (Jvm.Cond.castable "java/util/PriorityQueue" "java/lang/Object"),
  (Jvm.Cond.castable "UnheardBells$InOrder" "java/lang/Object"),
  (Jvm.Cond.castable "java/util/TreeMap" "java/lang/Object"),
  (Jvm.Cond.castable "java/util/ArrayDeque" "java/lang/Object"),
  (Jvm.Cond.castable "java/lang/StringBuilder" "java/lang/Object"),
  (Jvm.Cond.castable "UnheardBellsModel" "java/lang/Object"),
  (Jvm.Cond.castable "java/util/ArrayList$Itr" "java/lang/Object"),
  (Jvm.Cond.castable "UnheardBells$Rope" "java/lang/Object"),
  (Jvm.Cond.castable "java/util/PriorityQueue$Itr" "java/lang/Object"),
  (Jvm.Cond.castable "jdk/internal/misc/Unsafe" "java/lang/Object"),
  (Jvm.Cond.castable "java/util/TreeMap$KeySet" "java/lang/Object"),
  (Jvm.Cond.castable "java/util/TreeMap$KeyIterator" "java/lang/Object"),
  (Jvm.Cond.castable "java/util/BitSet" "java/lang/Object"),
  (Jvm.Cond.castable "java/lang/Integer" "java/lang/Object"),
  (Jvm.Cond.castable "java/util/TreeMap$Entry" "java/lang/Object"),
  (Jvm.Cond.castable "java/util/ArrayDeque$DeqIterator" "java/lang/Object"),
  (Jvm.Cond.castable "UnheardBells$Refused" "java/lang/Object"),
  (Jvm.Cond.castable "UnheardBells$Pull" "java/lang/Object"),
  (Jvm.Cond.castable "java/util/LinkedList" "java/lang/Object"),
  (Jvm.Cond.castable "java/util/LinkedList$Node" "java/lang/Object"),
  (Jvm.Cond.castable "UnheardBells$Answer" "java/lang/Object"),
  (Jvm.Cond.castable "java/util/TreeMap$Values" "java/lang/Object"),
  (Jvm.Cond.castable "java/util/AbstractList$ListItr" "java/lang/Object"),
  (Jvm.Cond.castable "java/util/ArrayList$ListItr" "java/lang/Object"),
  (Jvm.Cond.castable "java/util/LinkedList$ListItr" "java/lang/Object"),
  (Jvm.Cond.castable "java/util/TreeMap$ValueIterator" "java/lang/Object"),
  (Jvm.Cond.castable "java/util/NoSuchElementException" "java/lang/Object"),
  (Jvm.Cond.castable "java/lang/String" "java/lang/Object"),
  (Jvm.Cond.castable "UnheardBells$Reader" "java/lang/Object"),
  (Jvm.Cond.castable "UnheardBells$Wrong" "java/lang/Object"),
  (Jvm.Cond.castable "UnheardBells$Command" "java/lang/Object"),
  (Jvm.Cond.castable "java/lang/Throwable" "java/lang/Object"),
  (Jvm.Cond.castable "[LUnheardBells$Count;" "java/lang/Object"),
  (Jvm.Cond.castable "[Ljava/lang/Object;" "java/lang/Object"),
  (Jvm.Cond.castable "[B" "java/lang/Object"),
  (Jvm.Cond.castable "[J" "java/lang/Object"),
  (Jvm.Cond.castable "[I" "java/lang/Object"),
  (Jvm.Cond.declares ({ cls := "java/util/Iterator", name := "hasNext", desc := "()Z" } : Jvm.MethodName)),
  (Jvm.Cond.declares ({ cls := "java/util/AbstractCollection", name := "size", desc := "()I" } : Jvm.MethodName)),
  (Jvm.Cond.declares ({ cls := "java/util/Iterator", name := "next", desc := "()Ljava/lang/Object;" } : Jvm.MethodName)),
  (Jvm.Cond.declares ({ cls := "java/util/AbstractList", name := "get", desc := "(I)Ljava/lang/Object;" } : Jvm.MethodName)),
  (Jvm.Cond.declares ({ cls := "java/lang/RuntimeException", name := "<init>", desc := "()V" } : Jvm.MethodName)),
  (Jvm.Cond.declares ({ cls := "java/lang/RuntimeException", name := "<init>", desc := "(Ljava/lang/String;)V" } : Jvm.MethodName)),
  (Jvm.Cond.declares ({ cls := "java/lang/Exception", name := "<init>", desc := "()V" } : Jvm.MethodName)),
  (Jvm.Cond.declares ({ cls := "java/lang/Exception", name := "<init>", desc := "(Ljava/lang/String;)V" } : Jvm.MethodName)),
  (Jvm.Cond.declares ({ cls := "java/lang/Throwable", name := "<init>", desc := "()V" } : Jvm.MethodName)),
  (Jvm.Cond.declares ({ cls := "java/lang/Throwable", name := "<init>", desc := "(Ljava/lang/String;)V" } : Jvm.MethodName)),
  (Jvm.Cond.declares ({ cls := "java/util/TreeMap$PrivateEntryIterator", name := "nextEntry", desc := "()Ljava/util/TreeMap$Entry;" } : Jvm.MethodName)),
  (Jvm.Cond.declares ({ cls := "java/util/Comparator", name := "compare", desc := "(Ljava/lang/Object;Ljava/lang/Object;)I" } : Jvm.MethodName)),
  (Jvm.Cond.declares ({ cls := "java/lang/Comparable", name := "compareTo", desc := "(Ljava/lang/Object;)I" } : Jvm.MethodName)),
  (Jvm.Cond.declares ({ cls := "java/util/Set", name := "iterator", desc := "()Ljava/util/Iterator;" } : Jvm.MethodName)),
  (Jvm.Cond.declares ({ cls := "java/util/TreeMap$NavigableSubMap", name := "keyIterator", desc := "()Ljava/util/Iterator;" } : Jvm.MethodName)),
  (Jvm.Cond.declares ({ cls := "java/util/AbstractCollection", name := "isEmpty", desc := "()Z" } : Jvm.MethodName)),
  (Jvm.Cond.declares ({ cls := "java/util/Map", name := "size", desc := "()I" } : Jvm.MethodName)),
  (Jvm.Cond.declares ({ cls := "java/util/Collection", name := "iterator", desc := "()Ljava/util/Iterator;" } : Jvm.MethodName)),
  (Jvm.Cond.declares ({ cls := "java/util/AbstractList", name := "listIterator", desc := "()Ljava/util/ListIterator;" } : Jvm.MethodName)),
  (Jvm.Cond.declares ({ cls := "java/util/AbstractList", name := "listIterator", desc := "(I)Ljava/util/ListIterator;" } : Jvm.MethodName)),
  (Jvm.Cond.declares ({ cls := "java/util/AbstractSequentialList", name := "iterator", desc := "()Ljava/util/Iterator;" } : Jvm.MethodName)),
  (Jvm.Cond.declares ({ cls := "UnheardBells$Count", name := "of", desc := "(LUnheardBells$Rope;)I" } : Jvm.MethodName)),
  (Jvm.Cond.declares ({ cls := "java/lang/Object", name := "getClass", desc := "()Ljava/lang/Class;" } : Jvm.MethodName))]
def jfw : List (String × MethodName × MethodName) := [("UnheardBells$InOrder", ⟨"java/util/Comparator", "compare", "(Ljava/lang/Object;Ljava/lang/Object;)I"⟩, ⟨"UnheardBells$InOrder", "compare", "(Ljava/lang/Object;Ljava/lang/Object;)I"⟩),
  ("java/lang/Integer", ⟨"java/lang/Comparable", "compareTo", "(Ljava/lang/Object;)I"⟩, ⟨"java/lang/Integer", "compareTo", "(Ljava/lang/Object;)I"⟩),
  ("java/util/ArrayList$Itr", ⟨"java/util/Iterator", "hasNext", "()Z"⟩, ⟨"java/util/ArrayList$Itr", "hasNext", "()Z"⟩),
  ("java/util/ArrayList$Itr", ⟨"java/util/Iterator", "next", "()Ljava/lang/Object;"⟩, ⟨"java/util/ArrayList$Itr", "next", "()Ljava/lang/Object;"⟩),
  ("java/util/PriorityQueue$Itr", ⟨"java/util/Iterator", "hasNext", "()Z"⟩, ⟨"java/util/PriorityQueue$Itr", "hasNext", "()Z"⟩),
  ("java/util/PriorityQueue$Itr", ⟨"java/util/Iterator", "next", "()Ljava/lang/Object;"⟩, ⟨"java/util/PriorityQueue$Itr", "next", "()Ljava/lang/Object;"⟩),
  ("java/util/TreeMap$KeySet", ⟨"java/util/Set", "iterator", "()Ljava/util/Iterator;"⟩, ⟨"java/util/TreeMap$KeySet", "iterator", "()Ljava/util/Iterator;"⟩),
  ("java/util/TreeMap$KeyIterator", ⟨"java/util/Iterator", "hasNext", "()Z"⟩, ⟨"java/util/TreeMap$PrivateEntryIterator", "hasNext", "()Z"⟩),
  ("java/util/TreeMap$KeyIterator", ⟨"java/util/Iterator", "next", "()Ljava/lang/Object;"⟩, ⟨"java/util/TreeMap$KeyIterator", "next", "()Ljava/lang/Object;"⟩),
  ("java/util/ArrayDeque$DeqIterator", ⟨"java/util/Iterator", "hasNext", "()Z"⟩, ⟨"java/util/ArrayDeque$DeqIterator", "hasNext", "()Z"⟩),
  ("java/util/ArrayDeque$DeqIterator", ⟨"java/util/Iterator", "next", "()Ljava/lang/Object;"⟩, ⟨"java/util/ArrayDeque$DeqIterator", "next", "()Ljava/lang/Object;"⟩),
  ("java/util/LinkedList$ListItr", ⟨"java/util/Iterator", "hasNext", "()Z"⟩, ⟨"java/util/LinkedList$ListItr", "hasNext", "()Z"⟩),
  ("java/util/LinkedList$ListItr", ⟨"java/util/Iterator", "next", "()Ljava/lang/Object;"⟩, ⟨"java/util/LinkedList$ListItr", "next", "()Ljava/lang/Object;"⟩),
  ("java/util/TreeMap$Values", ⟨"java/util/Collection", "iterator", "()Ljava/util/Iterator;"⟩, ⟨"java/util/TreeMap$Values", "iterator", "()Ljava/util/Iterator;"⟩),
  ("java/util/TreeMap$ValueIterator", ⟨"java/util/Iterator", "hasNext", "()Z"⟩, ⟨"java/util/TreeMap$PrivateEntryIterator", "hasNext", "()Z"⟩),
  ("java/util/TreeMap$ValueIterator", ⟨"java/util/Iterator", "next", "()Ljava/lang/Object;"⟩, ⟨"java/util/TreeMap$ValueIterator", "next", "()Ljava/lang/Object;"⟩)]
def jsi : List (String × String × String × Int32) := [("java/lang/String", "COMPACT_STRINGS", "Z", 1), ("java/lang/Integer$IntegerCache", "high", "I", 127), ("java/util/BitSet", "$assertionsDisabled", "Z", 1)]
def jsr : List (String × String × String × Nat) := [("java/lang/Integer$IntegerCache", "cache", "[Ljava/lang/Integer;", 0), ("java/lang/Integer", "DigitOnes", "[B", 6), ("java/lang/Integer", "DigitTens", "[B", 7)]
def jsq : List (String × String × String × Nat) := [("java/util/ArrayList", "EMPTY_ELEMENTDATA", "[Ljava/lang/Object;", 0), ("jdk/internal/util/Preconditions", "SIOOBE_FORMATTER", "Ljava/util/function/BiFunction;", 1), ("java/lang/Throwable", "UNASSIGNED_STACK", "[Ljava/lang/StackTraceElement;", 2), ("java/lang/Throwable", "SUPPRESSED_SENTINEL", "Ljava/util/List;", 3)]
def jstr : List (String × Nat × String × Nat) := [("UnheardBells", 36, "", 2), ("UnheardBells$Machine", 344, "", 3), ("UnheardBells$Machine", 346, "#", 4), ("UnheardBells$Machine", 358, " ", 5)]
def jb0 (E : JE) : Nat := E.2.2.1.heap.size
/-- private methods of an abstract class, by the class of the object -/
def jps : List (String × MethodName) := [("java/lang/StringBuilder", ⟨"java/lang/AbstractStringBuilder", "newCapacity", "(I)I"⟩), ("java/lang/StringBuilder", ⟨"java/lang/AbstractStringBuilder", "inflateIfNeededFor", "(Ljava/lang/String;)V"⟩), ("java/lang/StringBuilder", ⟨"java/lang/AbstractStringBuilder", "ensureCapacityInternal", "(I)V"⟩), ("java/lang/StringBuilder", ⟨"java/lang/AbstractStringBuilder", "putStringAt", "(ILjava/lang/String;)V"⟩)]
/-- the shape of the only lambda -/
def jσ : Lambda.Shape := { iface := "UnheardBells$Count", name := "of", sam := ⟨[.object "UnheardBells$Rope"], some .int⟩, captured := [.int], kind := 6, implClass := "UnheardBells", implName := "lambda$new$0", implDesc := ⟨[.int, .object "UnheardBells$Rope"], some .int⟩, implItf := false, inst := ⟨[.object "UnheardBells$Rope"], some .int⟩ }
abbrev jcof : MethodName := ⟨"UnheardBells$Count", "of", "(LUnheardBells$Rope;)I"⟩
/-- the lambda's site and class -/
def jlx (E : JE) (U : State) : Prop :=
  (∃ (m : MethodId) (k : Class) (cf : ClassFile) (i0 p0 : Nat), U.methodNamed? ⟨"UnheardBells", "<init>", "()V"⟩ = some m ∧ U.vm.classes[m.cls]? = some k ∧ k.name = "UnheardBells" ∧ k.cf = some cf ∧ Lambda.shapeOf? cf 42 = some jσ ∧
    (k.callSites.find? fun y => y.1 == m.idx && y.2.1 == 66) = some (i0, p0, .makes (E.1.1 jlam)) ∧ Lambda.isMade { classPath := fun _ => none } U.vm m.cls jσ (E.1.1 jlam) = true ∧ U.lambdaCallable jσ (E.1.1 jlam) = true) ∧
  (∀ o ok, U.vm.findClass "java/lang/Object" = some o → U.vm.classes[o]? = some ok → ok.instanceTypes.size = 0) ∧
  va_Nw (.declares jcof) U ∧ va_Nw (.interfaceMethod jcof.cls jcof.cls jcof.name jcof.desc) U
def jlm (E : JE) (U : State) : Prop := (∀ q ∈ jps, va_Nw (.selects q.1 q.2 q.2) U) ∧ va_Nc "UnheardBells$Refused" "UnheardBells$Wrong" U ∧ E.2.2.1.vm.Alike U.vm ∧ jlx E U
theorem jlx.warm {E : JE} {s U : State} (hW : s.WarmedH U.vm) (h : jlx E s) : jlx E U := by
  obtain ⟨⟨m, k, cf, i0, p0, h1, h2, h3, h4, h5, h6, h7, h8⟩, hO, hz1, hz2⟩ := h
  obtain ⟨r9, meth9, hn9, -⟩ := Cond.declares_spec hz1
  obtain ⟨k', hk', he⟩ := hW.alike.2.2 _ _ h2
  refine ⟨⟨m, k', cf, i0, p0, ?_, hk', by rw [he]; exact h3, by rw [he]; exact h4, h5, by rw [he]; exact h6, Lambda.isMade_warmer hW h7, ?_⟩, fun o ok ho hok => ?_, va_Nw.warmD hW hz1, va_tabs rfl (rfl : (s.setVm U.vm).vm = U.vm) (by rw [Cond.interfaceMethod_setVm hW.alike (r := r9) hn9 ⟨by decide, by decide⟩]; exact hz2)⟩
  · have h9 := State.methodNamed?_setVm (s := s) hW.alike ⟨"UnheardBells", "<init>", "()V"⟩
    rw [h1] at h9
    exact h9
  · have hA := hW.alike
    simp only [State.lambdaCallable, hA.findClass, hA.assignable, hA.superclasses, hA.declaredIn] at h8 ⊢
    exact h8
  · rw [hW.alike.findClass] at ho
    cases hq : s.vm.classes[o]? with
    | none => rw [hW.alike.none hq] at hok; cases hok
    | some ok0 =>
      obtain ⟨ok', hok', e3⟩ := hW.alike.2.2 _ _ hq
      cases hok.symm.trans hok'
      rw [e3]
      exact hO o ok0 ho hq
theorem jlx.same {E : JE} {u U : State} (hv : U.vm = u.vm) (h : jlx E u) : jlx E U := jlx.warm (by rw [hv]; exact State.WarmedH.refl u) h
theorem jlm.same {E : JE} {u U : State} (hv : U.vm = u.vm) (h : jlm E u) : jlm E U := ⟨fun q hq => va_Nw.same rfl hv.symm (h.1 q hq), va_Nc.moved (by rw [hv]; exact Vm.Alike.refl _) h.2.1, by rw [hv]; exact h.2.2.1, jlx.same hv h.2.2.2⟩
theorem jlm.warm {E : JE} {s U : State} (hW : s.WarmedH U.vm) (h : jlm E s) : jlm E U := ⟨fun q hq => word_at hW (Or.inl (by first | rfl | simp [Cond.onTables, Cond.keeps, Cond.steady])) (h.1 q hq), va_Nc.moved hW.alike h.2.1, h.2.2.1.trans hW.alike, jlx.warm hW h.2.2.2⟩
def jkk (E : JE) (U : State) : Prop :=
  va_K E.1 jcl (jtys E.2.1) U ∧ (∀ w ∈ jnw, va_Nw w U) ∧ (va_AO "java/lang/Object" U ∧ va_AO "UnheardBells$Count" U) ∧ (∀ q ∈ jfw, va_Fw q.1 q.2.1 q.2.2 U) ∧
  (∀ q ∈ jsi, va_Z q.1 q.2.1 q.2.2.1 (.int q.2.2.2) (fun a => jb0 E ≤ a) U E.2.2.1.heap) ∧ (∀ q ∈ jsr, va_Z q.1 q.2.1 q.2.2.1 (.ref (E.2.2.2.1 q.2.2.2)) (fun a => jb0 E ≤ a) U E.2.2.1.heap) ∧
  (∀ q ∈ jsq, va_Z q.1 q.2.1 q.2.2.1 (va_rf (E.2.2.2.2 q.2.2.2)) (fun a => jb0 E ≤ a) U E.2.2.1.heap) ∧ (∀ q ∈ jstr, vk_R q.1 q.2.1 q.2.2.1 (E.2.2.2.1 q.2.2.2) U) ∧
  va_Mi "[Ljava/lang/Object;" (E.2.2.2.1 1) U ∧ va_Dc U ∧ jlm E U
def jnwOK : Cond → Bool
  | .fieldLinkNest .. => true
  | .methodLinkNest .. => true
  | .castable .. => true
  | .declares .. => true
  | _ => false
theorem jnw_ok : ∀ w ∈ jnw, jnwOK w = true := by decide
theorem jfw_ok : ∀ q ∈ jfw, q.2.1.cls ≠ "java/lang/invoke/MethodHandle" ∧ q.2.1.cls ≠ "java/lang/invoke/VarHandle" := by decide
theorem jnwOK.warm {w : Cond} (h : jnwOK w = true) {s U : State} (hW : s.WarmedH U.vm) (hZ : va_Nw w s) : va_Nw w U := by
  cases w with
  | fieldLinkNest a i b n d h => exact va_Nw.warmF hW hZ
  | methodLinkNest a i x h => exact va_Nw.warmM hW hZ
  | castable C T => exact va_Nw.warmC hW hZ
  | declares x => exact va_Nw.warmD hW hZ
  | _ => cases h
theorem jnwOK.tab {w : Cond} (h : jnwOK w = true) : w.onTables = true := by
  cases w <;> first | rfl | cases h
theorem jkk.alike {E : JE} {u U : State} (hvm : u.vm.Alike U.vm) (hn : ∀ w ∈ jnw, va_Nw w U) (hs : ∀ q ∈ jstr, vk_R q.1 q.2.1 q.2.2.1 (E.2.2.2.1 q.2.2.2) U) (h11 : jlm E U) (h : jkk E u) : jkk E U := by
  obtain ⟨h1, h2, h3, h4, h5, h6, h7, h8, h9, h10, -⟩ := h
  exact ⟨va_K.moved hvm h1, hn, ⟨va_AO.moved hvm h3.1, va_AO.moved hvm h3.2⟩, fun q hq => va_Fw.moved (jfw_ok q hq) hvm (h4 q hq), fun q hq => va_Z.moved hvm (h5 q hq), fun q hq => va_Z.moved hvm (h6 q hq), fun q hq => va_Z.moved hvm (h7 q hq), hs, va_Mi.moved hvm h9, va_Dc.moved hvm h10, h11⟩
theorem jkk.same {E : JE} {u U : State} (hv : U.vm = u.vm) (h : jkk E u) : jkk E U := by
  refine jkk.alike (u := u) (by rw [hv]; exact Vm.Alike.refl _) (fun w hw => va_Nw.same (jnwOK.tab (jnw_ok w hw)) hv.symm (h.2.1 w hw)) (fun q hq => vk_R.same hv (h.2.2.2.2.2.2.2.1 q hq)) (jlm.same hv h.2.2.2.2.2.2.2.2.2.2) h
theorem jkk.warm {E : JE} {s U : State} (hW : s.WarmedH U.vm) (h : jkk E s) : jkk E U :=
  jkk.alike hW.alike (fun w hw => jnwOK.warm (jnw_ok w hw) hW (h.2.1 w hw)) (fun q hq => vk_R.warm hW (h.2.2.2.2.2.2.2.1 q hq)) (jlm.warm hW h.2.2.2.2.2.2.2.2.2.2) h
/-- the words of locals that a depth may ask (the lambda's linking asks much at depth 20) -/
def jlc (d : Nat) : Nat := if d < 20 then 40 * d else if d = 20 then 12660 else 12704 + 40 * (d - 21)
theorem jlc_step {d D : Nat} (h : d + 1 ≤ D) : jlc d + 40 ≤ jlc D := by
  unfold jlc
  split <;> split <;> (try split) <;> (try split) <;> omega
theorem jlc_one {D : Nat} (h : 1 ≤ D) : 40 ≤ jlc D := Nat.le_trans (Nat.le_add_left 40 (jlc 0)) (jlc_step (d := 0) h)
/-- a method: its class, code, locals, answer, name, handlers, depth -/
abbrev JM : Type := String × ByteArray × Nat × Option FieldType × (String × String) × List (Nat × Nat × Nat × Nat) × Nat
def jctx (E : JE) (M : JM) (w0 wE : Nat) (p : Program) (l : Launch) (R : Room) (s : State) (m : MethodId) (args : Array Value) (meth : Method) (c : Code) : Prop :=
  p.tables.exec = Jvm.exec ∧ c.code = M.2.1 ∧ c.maxLocals = M.2.2.1 ∧ s.vm.findClass M.1 = some m.cls ∧ (∀ w ∈ lw_all, w.before args s = true) ∧ jkk E s ∧ meth.sig.returnType = M.2.2.2.1 ∧ (M.2.2.2.2.1.1 = "<init>" → meth.name = "<init>" ∧ s.methodNamed? ⟨M.1, M.2.2.2.2.1.1, M.2.2.2.2.1.2⟩ = some m) ∧
  c.exceptionTable.toList = tableOf M.2.2.2.2.2.1 ∧ meth.locks = false ∧ (M.2.2.2.2.2.2 ≤ R.frames ∧ jlc M.2.2.2.2.2.2 ≤ R.locals) ∧ (∀ k, k ≤ wE - w0 → k ≤ R.cells ∧ k ≤ R.slots) ∧ (s.heap.size ≤ s.heap.size ∧ ∀ q : Nat, q < E.2.2.1.heap.size → s.heap[q]? = E.2.2.1.heap[q]?) ∧ E.2.2.1.heap.size ≤ s.heap.size
section SD
variable {E : JE} {M : JM} {w0 wE : Nat} {p : Program} {l : Launch} {e : Env} {R : Room} {s : State} {m : MethodId} {args : Array Value} {below : List Frame} {meth : Method} {c : Code} {Q : State → Prop}
def jsem (E : JE) (M : JM) (w0 : Nat) (p : Program) (l : Launch) (e : Env) (R : Room) (s : State) (m : MethodId) (args : Array Value) (below : List Frame) (meth : Method) (c : Code) (Q : State → Prop) (pc : Nat) (L : JLoc) (S : JSt) (H : JHp) : Prop :=
  ∀ (Hr : Heap) (locs : List Loc) (ls : Array Slot), jrel E H Hr → (∀ q ∈ locs, jb0 E ≤ q.base) → s.heap.size ≤ Hr.size → jloc L ls M.2.2.1 → w0 ≤ H.2.2 →
    W p l e R s m args below meth c Hr locs (H.2.2 - w0) (H.2.2 - w0) Q (F0 m pc ls (S.map jV))
def jKS (E : JE) (M : JM) (w0 wE : Nat) (p : Program) (l : Launch) (e : Env) (R : Room) (s : State) (m : MethodId) (args : Array Value) (below : List Frame) (meth : Method) (c : Code) (Q : State → Prop) (K : JK) : Prop :=
  ∀ pc L S H, K pc L S H → H.2.2 ≤ wE ∧ jsem E M w0 p l e R s m args below meth c Q pc L S H
/-- a return instruction at pc with the stack st that answers v -/
def jret (M : JM) (pc : Nat) : Option JVal → List Value → Prop
  | none, st => decode M.2.1 pc = .ok (.return_, 1) ∧ M.2.2.2.1 = none ∧ st = []
  | some (.inl x), st => decode M.2.1 pc = .ok (.ireturn, 1) ∧ (∃ ty, M.2.2.2.1 = some ty ∧ narrow ty (.int x) = .int x) ∧ st = [.int x]
  | some (.inr (.inl r)), st => decode M.2.1 pc = .ok (.areturn, 1) ∧ (∃ ty, M.2.2.2.1 = some ty ∧ ((∃ n, ty = .object n) ∨ ∃ t, ty = .array t)) ∧ st = [va_rf r]
  | some (.inr (.inr (.inl x))), st => decode M.2.1 pc = .ok (.lreturn, 1) ∧ M.2.2.2.1 = some .long ∧ st = [.long x]
  | some (.inr (.inr (.inr (.inl x)))), st => decode M.2.1 pc = .ok (.freturn, 1) ∧ M.2.2.2.1 = some .float ∧ st = [.float x]
  | some (.inr (.inr (.inr (.inr x)))), st => decode M.2.1 pc = .ok (.dreturn, 1) ∧ M.2.2.2.1 = some .double ∧ st = [.double x]
def jRS (E : JE) (M : JM) (w0 wE : Nat) (p : Program) (l : Launch) (e : Env) (R : Room) (s : State) (m : MethodId) (args : Array Value) (below : List Frame) (meth : Method) (c : Code) (Q : State → Prop) (Rt : JRt) : Prop :=
  ∀ o H, Rt o H → H.2.2 ≤ wE ∧ ∀ (Hr : Heap) (locs : List Loc) (ls : Array Slot), jrel E H Hr → (∀ q ∈ locs, jb0 E ≤ q.base) → s.heap.size ≤ Hr.size → w0 ≤ H.2.2 →
    match o with
    | .inl v => ∀ pc st, jret M pc v st → W p l e R s m args below meth c Hr locs (H.2.2 - w0) (H.2.2 - w0) Q (F0 m pc ls st)
    | .inr q => ∀ pc rest cn fs, (∀ x ∈ c.exceptionTable.toList, covers x pc = false) → H.1 q = some (true, jO cn fs) → cn ≠ jlam → vx_W p l e R s m args below meth c Hr locs (H.2.2 - w0) (H.2.2 - w0) Q (F0 m pc ls rest) q
/-- a method's words and what its contract says -/
abbrev JI : Type := MethodName × ByteArray × Nat × Option FieldType × Option (List (Nat × Nat × Nat × Nat)) × Nat
def jws (i : JI) : List Cond := match i.2.2.2.2.1 with
  | none => ws_ i.1 i.2.1 i.2.2.1 i.2.2.2.1
  | some hh => wsW_ i.1 i.2.1 i.2.2.1 i.2.2.2.1 hh
abbrev jrm (d k : Nat) : Room := { frames := d, cells := k, slots := k, locals := jlc d }
def jpre (E : JE) (as : List JVal) (H : JHp) : Array Value → State → Prop := va_Pc (as.map jV) (fun U => jrel E H U.heap ∧ jkk E U)
def jqc (E : JE) (v : Option JVal) (H' : JHp) : Array Value → State → Outcome → State → Prop := fun _ st o t => o = .returned (v.map jV) ∧ jrel E H' t.heap ∧ st.heap.size ≤ t.heap.size
def jxc (E : JE) (q : Nat) (H' : JHp) : String → Addr → State → State → Prop := fun X a st t => a = q ∧ (∃ cn fs r, H'.1 q = some (true, jO cn fs) ∧ jcl[cn]? = some r ∧ X = r.1) ∧ jrel E H' t.heap ∧ st.heap.size ≤ t.heap.size
def jmet (l : Launch) (E : JE) (i : JI) (as : List JVal) (H : JHp) (o : JOut) (H' : JHp) : Prop := match o with
  | .inl v => Met l i.1 (jws i) (jrm i.2.2.2.2.2 (H'.2.2 - H.2.2)) (jpre E as H) (jqc E v H') (H'.2.2 - H.2.2) (H'.2.2 - H.2.2) (fun a => jb0 E ≤ a)
  | .inr q => i.2.2.2.2.1 = none → vx_Met l i.1 (jws i) (jrm i.2.2.2.2.2 (H'.2.2 - H.2.2)) (jpre E as H) (fun _ _ _ _ => False) (jxc E q H') (H'.2.2 - H.2.2) (H'.2.2 - H.2.2) (fun a => jb0 E ≤ a)
def jCS (l : Launch) (E : JE) (T : Nat → JI) (C : JCall) : Prop := ∀ k as H o H', C k as H o H' → H.2.2 ≤ H'.2.2 ∧ jmet l E (T k) as H o H'
/-- an instruction is sound at pc of the method M -/
def jsnd (E : JE) (T : Nat → JI) (M : JM) (pc : Nat) (I : JIns) : Prop :=
  ∀ ⦃w0 wE : Nat⦄ ⦃p : Program⦄ ⦃l : Launch⦄ ⦃e : Env⦄ ⦃R : Room⦄ ⦃s : State⦄ ⦃m : MethodId⦄ ⦃args : Array Value⦄ ⦃below : List Frame⦄ ⦃meth : Method⦄ ⦃c : Code⦄ ⦃Q : State → Prop⦄,
    jctx E M w0 wE p l R s m args meth c → ∀ (C : JCall) (K : JK) (Rt : JRt), jCS l E T C → jKS E M w0 wE p l e R s m args below meth c Q K → jRS E M w0 wE p l e R s m args below meth c Q Rt →
    ∀ L S H, I C K Rt pc L S H → jsem E M w0 p l e R s m args below meth c Q pc L S H
end SD
section SDP
variable {E : JE} {T : Nat → JI} {M : JM} {pc : Nat}
theorem sd_iconst {n : Int} {x : Int32} (hd : decode M.2.1 pc = .ok (.iconst n, 1)) (hv : Int32.ofInt n = x) : jsnd E T M pc (o_push (jI x) 1) := by
  intro w0 wE p l e R s m args below meth c Q hc C K Rt hC hK hR L S H hI Hr locs ls hr hlo hz hl hw
  obtain ⟨hx, hb, hml, hown, hts, hkk, hret, hin, htab, hlk, hroom, hcel, hst, hb0⟩ := hc
  unfold o_push at hI
  exact lv_iconst hx hb hd hv ((hK _ _ _ _ hI).2 Hr locs ls hr hlo hz hl hw)
theorem sd_bipush {n : Int} {x : Int32} (hv : (Int8.ofInt n).toInt32 = x) (hd : decode M.2.1 pc = .ok (.bipush n, 2)) : jsnd E T M pc (o_push (jI x) 2) := by
  intro w0 wE p l e R s m args below meth c Q hc C K Rt hC hK hR L S H hI Hr locs ls hr hlo hz hl hw
  obtain ⟨hx, hb, hml, hown, hts, hkk, hret, hin, htab, hlk, hroom, hcel, hst, hb0⟩ := hc
  unfold o_push at hI
  exact lv_bipush hx hb hd hv ((hK _ _ _ _ hI).2 Hr locs ls hr hlo hz hl hw)
theorem sd_sipush {n : Int} {x : Int32} (hv : (Int16.ofInt n).toInt32 = x) (hd : decode M.2.1 pc = .ok (.sipush n, 3)) : jsnd E T M pc (o_push (jI x) 3) := by
  intro w0 wE p l e R s m args below meth c Q hc C K Rt hC hK hR L S H hI Hr locs ls hr hlo hz hl hw
  obtain ⟨hx, hb, hml, hown, hts, hkk, hret, hin, htab, hlk, hroom, hcel, hst, hb0⟩ := hc
  unfold o_push at hI
  exact lv_sipush hx hb hd hv ((hK _ _ _ _ hI).2 Hr locs ls hr hlo hz hl hw)
theorem sd_lconst {n : Fin 2} {x : Int64} (hv : Int64.ofNat (n : Nat) = x) (hd : decode M.2.1 pc = .ok (.lconst n, 1)) : jsnd E T M pc (o_push (jL x) 1) := by
  intro w0 wE p l e R s m args below meth c Q hc C K Rt hC hK hR L S H hI Hr locs ls hr hlo hz hl hw
  obtain ⟨hx, hb, hml, hown, hts, hkk, hret, hin, htab, hlk, hroom, hcel, hst, hb0⟩ := hc
  unfold o_push at hI
  exact lv_lconst hx hb hd hv ((hK _ _ _ _ hI).2 Hr locs ls hr hlo hz hl hw)
theorem sd_dconst0 (hd : decode M.2.1 pc = .ok (.dconst 0, 1)) : jsnd E T M pc (o_push (jD FP.dconst0) 1) := by
  intro w0 wE p l e R s m args below meth c Q hc C K Rt hC hK hR L S H hI Hr locs ls hr hlo hz hl hw
  obtain ⟨hx, hb, hml, hown, hts, hkk, hret, hin, htab, hlk, hroom, hcel, hst, hb0⟩ := hc
  unfold o_push at hI
  exact lv_dconst0 hx hb hd ((hK _ _ _ _ hI).2 Hr locs ls hr hlo hz hl hw)
theorem sd_fconst0 (hd : decode M.2.1 pc = .ok (.fconst 0, 1)) : jsnd E T M pc (o_push (jF FP.fconst0) 1) := by
  intro w0 wE p l e R s m args below meth c Q hc C K Rt hC hK hR L S H hI Hr locs ls hr hlo hz hl hw
  obtain ⟨hx, hb, hml, hown, hts, hkk, hret, hin, htab, hlk, hroom, hcel, hst, hb0⟩ := hc
  unfold o_push at hI
  exact lv_fconst0 hx hb hd ((hK _ _ _ _ hI).2 Hr locs ls hr hlo hz hl hw)
theorem sd_null (hd : decode M.2.1 pc = .ok (.aconst_null, 1)) : jsnd E T M pc (o_push (jR none) 1) := by
  intro w0 wE p l e R s m args below meth c Q hc C K Rt hC hK hR L S H hI Hr locs ls hr hlo hz hl hw
  obtain ⟨hx, hb, hml, hown, hts, hkk, hret, hin, htab, hlk, hroom, hcel, hst, hb0⟩ := hc
  unfold o_push at hI
  exact lv_null hx hb hd ((hK _ _ _ _ hI).2 Hr locs ls hr hlo hz hl hw)
theorem sd_ldc {k : Nat} {x : Int32} (hq : Cond.constant M.1 k x ∈ lw_all) (hd : decode M.2.1 pc = .ok (.ldc k, 2)) : jsnd E T M pc (o_push (jI x) 2) := by
  intro w0 wE p l e R s m args below meth c Q hc C K Rt hC hK hR L S H hI Hr locs ls hr hlo hz hl hw
  obtain ⟨hx, hb, hml, hown, hts, hkk, hret, hin, htab, hlk, hroom, hcel, hst, hb0⟩ := hc
  unfold o_push at hI
  exact lv_ldc hx hb hown (hts _ hq) hd ((hK _ _ _ _ hI).2 Hr locs ls hr hlo hz hl hw)
theorem sd_ldcw {k : Nat} {x : Int32} (hq : Cond.constant M.1 k x ∈ lw_all) (hd : decode M.2.1 pc = .ok (.ldc_w k, 3)) : jsnd E T M pc (o_push (jI x) 3) := by
  intro w0 wE p l e R s m args below meth c Q hc C K Rt hC hK hR L S H hI Hr locs ls hr hlo hz hl hw
  obtain ⟨hx, hb, hml, hown, hts, hkk, hret, hin, htab, hlk, hroom, hcel, hst, hb0⟩ := hc
  unfold o_push at hI
  exact lv_ldcw hx hb hown (hts _ hq) hd ((hK _ _ _ _ hI).2 Hr locs ls hr hlo hz hl hw)
theorem sd_ldc2 {k : Nat} {x : Int64} (hq : Cond.constantLong M.1 k x ∈ lw_all) (hd : decode M.2.1 pc = .ok (.ldc2_w k, 3)) : jsnd E T M pc (o_push (jL x) 3) := by
  intro w0 wE p l e R s m args below meth c Q hc C K Rt hC hK hR L S H hI Hr locs ls hr hlo hz hl hw
  obtain ⟨hx, hb, hml, hown, hts, hkk, hret, hin, htab, hlk, hroom, hcel, hst, hb0⟩ := hc
  unfold o_push at hI
  exact lv_ldc2 hx hb hown (hts _ hq) hd ((hK _ _ _ _ hI).2 Hr locs ls hr hlo hz hl hw)
theorem sd_iload_n {kf : Fin 4} {k : Nat} (hk : (kf : Nat) = k) (hd : decode M.2.1 pc = .ok (.iload_n kf, 1)) : jsnd E T M pc (o_iload k 1) := by
  intro w0 wE p l e R s m args below meth c Q hc C K Rt hC hK hR L S H hI Hr locs ls hr hlo hz hl hw
  obtain ⟨hx, hb, hml, hown, hts, hkk, hret, hin, htab, hlk, hroom, hcel, hst, hb0⟩ := hc
  unfold o_iload at hI
  split at hI
  next x e => exact lv_iload_n hx hb hd hk (hl.2.2.2 _ _ e) ((hK _ _ _ _ hI).2 Hr locs ls hr hlo hz hl hw)
  next => exact hI.elim
theorem sd_iload {k : Nat} (hd : decode M.2.1 pc = .ok (.iload k, 2)) : jsnd E T M pc (o_iload k 2) := by
  intro w0 wE p l e R s m args below meth c Q hc C K Rt hC hK hR L S H hI Hr locs ls hr hlo hz hl hw
  obtain ⟨hx, hb, hml, hown, hts, hkk, hret, hin, htab, hlk, hroom, hcel, hst, hb0⟩ := hc
  unfold o_iload at hI
  split at hI
  next x e => exact lv_iload hx hb hd (hl.2.2.2 _ _ e) ((hK _ _ _ _ hI).2 Hr locs ls hr hlo hz hl hw)
  next => exact hI.elim
theorem sd_lload_n {kf : Fin 4} {k : Nat} (hk : (kf : Nat) = k) (hd : decode M.2.1 pc = .ok (.lload_n kf, 1)) : jsnd E T M pc (o_lload k 1) := by
  intro w0 wE p l e R s m args below meth c Q hc C K Rt hC hK hR L S H hI Hr locs ls hr hlo hz hl hw
  obtain ⟨hx, hb, hml, hown, hts, hkk, hret, hin, htab, hlk, hroom, hcel, hst, hb0⟩ := hc
  unfold o_lload at hI
  split at hI
  next x e => exact lv_lload_n hx hb hd hk (hl.2.2.2 _ _ e) ((hK _ _ _ _ hI).2 Hr locs ls hr hlo hz hl hw)
  next => exact hI.elim
theorem sd_lload {k : Nat} (hd : decode M.2.1 pc = .ok (.lload k, 2)) : jsnd E T M pc (o_lload k 2) := by
  intro w0 wE p l e R s m args below meth c Q hc C K Rt hC hK hR L S H hI Hr locs ls hr hlo hz hl hw
  obtain ⟨hx, hb, hml, hown, hts, hkk, hret, hin, htab, hlk, hroom, hcel, hst, hb0⟩ := hc
  unfold o_lload at hI
  split at hI
  next x e => exact lv_lload hx hb hd (hl.2.2.2 _ _ e) ((hK _ _ _ _ hI).2 Hr locs ls hr hlo hz hl hw)
  next => exact hI.elim
theorem sd_dload_n {kf : Fin 4} {k : Nat} (hk : (kf : Nat) = k) (hd : decode M.2.1 pc = .ok (.dload_n kf, 1)) : jsnd E T M pc (o_dload k 1) := by
  intro w0 wE p l e R s m args below meth c Q hc C K Rt hC hK hR L S H hI Hr locs ls hr hlo hz hl hw
  obtain ⟨hx, hb, hml, hown, hts, hkk, hret, hin, htab, hlk, hroom, hcel, hst, hb0⟩ := hc
  unfold o_dload at hI
  split at hI
  next x e => exact lv_dload_n hx hb hd hk (hl.2.2.2 _ _ e) ((hK _ _ _ _ hI).2 Hr locs ls hr hlo hz hl hw)
  next => exact hI.elim
theorem sd_dload {k : Nat} (hd : decode M.2.1 pc = .ok (.dload k, 2)) : jsnd E T M pc (o_dload k 2) := by
  intro w0 wE p l e R s m args below meth c Q hc C K Rt hC hK hR L S H hI Hr locs ls hr hlo hz hl hw
  obtain ⟨hx, hb, hml, hown, hts, hkk, hret, hin, htab, hlk, hroom, hcel, hst, hb0⟩ := hc
  unfold o_dload at hI
  split at hI
  next x e => exact lv_dload hx hb hd (hl.2.2.2 _ _ e) ((hK _ _ _ _ hI).2 Hr locs ls hr hlo hz hl hw)
  next => exact hI.elim
theorem sd_aload_n {kf : Fin 4} {k : Nat} (hk : (kf : Nat) = k) (hd : decode M.2.1 pc = .ok (.aload_n kf, 1)) : jsnd E T M pc (o_aload k 1) := by
  intro w0 wE p l e R s m args below meth c Q hc C K Rt hC hK hR L S H hI Hr locs ls hr hlo hz hl hw
  obtain ⟨hx, hb, hml, hown, hts, hkk, hret, hin, htab, hlk, hroom, hcel, hst, hb0⟩ := hc
  unfold o_aload at hI
  split at hI
  next x e =>
    have hk9 := ((hK _ _ _ _ hI).2 Hr locs ls hr hlo hz hl hw)
    cases x with
    | none => exact lv_aload_nN hx hb hd hk (hl.2.2.2 _ _ e) hk9
    | some a => exact lv_aload_n hx hb hd hk (hl.2.2.2 _ _ e) hk9
  next => exact hI.elim
theorem sd_aload {k : Nat} (hd : decode M.2.1 pc = .ok (.aload k, 2)) : jsnd E T M pc (o_aload k 2) := by
  intro w0 wE p l e R s m args below meth c Q hc C K Rt hC hK hR L S H hI Hr locs ls hr hlo hz hl hw
  obtain ⟨hx, hb, hml, hown, hts, hkk, hret, hin, htab, hlk, hroom, hcel, hst, hb0⟩ := hc
  unfold o_aload at hI
  split at hI
  next x e =>
    have hk9 := ((hK _ _ _ _ hI).2 Hr locs ls hr hlo hz hl hw)
    cases x with
    | none => exact lv_aloadN hx hb hd (hl.2.2.2 _ _ e) hk9
    | some a => exact lv_aload hx hb hd (hl.2.2.2 _ _ e) hk9
  next => exact hI.elim
theorem sd_istore_n {kf : Fin 4} {k : Nat} (hk : (kf : Nat) = k) (hn : k < M.2.2.1) (hd : decode M.2.1 pc = .ok (.istore_n kf, 1)) : jsnd E T M pc (o_istore k 1) := by
  intro w0 wE p l e R s m args below meth c Q hc C K Rt hC hK hR L S H hI Hr locs ls hr hlo hz hl hw
  obtain ⟨hx, hb, hml, hown, hts, hkk, hret, hin, htab, hlk, hroom, hcel, hst, hb0⟩ := hc
  unfold o_istore at hI
  split at hI
  next x S' => exact lv_istore_n hx hb hd hk hl.has hn rfl (fun ls9 h9 => ((hK _ _ _ _ hI).2 Hr locs ls9 hr hlo hz (hl.put h9) hw))
  next => exact hI.elim
theorem sd_istore {k : Nat} (hn : k < M.2.2.1) (hd : decode M.2.1 pc = .ok (.istore k, 2)) : jsnd E T M pc (o_istore k 2) := by
  intro w0 wE p l e R s m args below meth c Q hc C K Rt hC hK hR L S H hI Hr locs ls hr hlo hz hl hw
  obtain ⟨hx, hb, hml, hown, hts, hkk, hret, hin, htab, hlk, hroom, hcel, hst, hb0⟩ := hc
  unfold o_istore at hI
  split at hI
  next x S' => exact lv_istore hx hb hd hl.has hn rfl (fun ls9 h9 => ((hK _ _ _ _ hI).2 Hr locs ls9 hr hlo hz (hl.put h9) hw))
  next => exact hI.elim
theorem sd_lstore_n {kf : Fin 4} {k : Nat} (hk : (kf : Nat) = k) (hn : k + 1 < M.2.2.1) (hd : decode M.2.1 pc = .ok (.lstore_n kf, 1)) : jsnd E T M pc (o_lstore k 1) := by
  intro w0 wE p l e R s m args below meth c Q hc C K Rt hC hK hR L S H hI Hr locs ls hr hlo hz hl hw
  obtain ⟨hx, hb, hml, hown, hts, hkk, hret, hin, htab, hlk, hroom, hcel, hst, hb0⟩ := hc
  unfold o_lstore at hI
  split at hI
  next x S' => exact lv_lstore_n hx hb hd hk hl.has hn rfl (fun ls9 h9 => ((hK _ _ _ _ hI).2 Hr locs ls9 hr hlo hz (hl.put2 hn h9) hw))
  next => exact hI.elim
theorem sd_lstore {k : Nat} (hn : k + 1 < M.2.2.1) (hd : decode M.2.1 pc = .ok (.lstore k, 2)) : jsnd E T M pc (o_lstore k 2) := by
  intro w0 wE p l e R s m args below meth c Q hc C K Rt hC hK hR L S H hI Hr locs ls hr hlo hz hl hw
  obtain ⟨hx, hb, hml, hown, hts, hkk, hret, hin, htab, hlk, hroom, hcel, hst, hb0⟩ := hc
  unfold o_lstore at hI
  split at hI
  next x S' => exact lv_lstore hx hb hd hl.has hn rfl (fun ls9 h9 => ((hK _ _ _ _ hI).2 Hr locs ls9 hr hlo hz (hl.put2 hn h9) hw))
  next => exact hI.elim
theorem sd_dstore_n {kf : Fin 4} {k : Nat} (hk : (kf : Nat) = k) (hn : k + 1 < M.2.2.1) (hd : decode M.2.1 pc = .ok (.dstore_n kf, 1)) : jsnd E T M pc (o_dstore k 1) := by
  intro w0 wE p l e R s m args below meth c Q hc C K Rt hC hK hR L S H hI Hr locs ls hr hlo hz hl hw
  obtain ⟨hx, hb, hml, hown, hts, hkk, hret, hin, htab, hlk, hroom, hcel, hst, hb0⟩ := hc
  unfold o_dstore at hI
  split at hI
  next x S' => exact lv_dstore_n hx hb hd hk hl.has hn rfl (fun ls9 h9 => ((hK _ _ _ _ hI).2 Hr locs ls9 hr hlo hz (hl.put2 hn h9) hw))
  next => exact hI.elim
theorem sd_dstore {k : Nat} (hn : k + 1 < M.2.2.1) (hd : decode M.2.1 pc = .ok (.dstore k, 2)) : jsnd E T M pc (o_dstore k 2) := by
  intro w0 wE p l e R s m args below meth c Q hc C K Rt hC hK hR L S H hI Hr locs ls hr hlo hz hl hw
  obtain ⟨hx, hb, hml, hown, hts, hkk, hret, hin, htab, hlk, hroom, hcel, hst, hb0⟩ := hc
  unfold o_dstore at hI
  split at hI
  next x S' => exact lv_dstore hx hb hd hl.has hn rfl (fun ls9 h9 => ((hK _ _ _ _ hI).2 Hr locs ls9 hr hlo hz (hl.put2 hn h9) hw))
  next => exact hI.elim
theorem sd_astore_n {kf : Fin 4} {k : Nat} (hk : (kf : Nat) = k) (hn : k < M.2.2.1) (hd : decode M.2.1 pc = .ok (.astore_n kf, 1)) : jsnd E T M pc (o_astore k 1) := by
  intro w0 wE p l e R s m args below meth c Q hc C K Rt hC hK hR L S H hI Hr locs ls hr hlo hz hl hw
  obtain ⟨hx, hb, hml, hown, hts, hkk, hret, hin, htab, hlk, hroom, hcel, hst, hb0⟩ := hc
  unfold o_astore at hI
  split at hI
  next x S' =>
    have hk9 : ∀ ls9 : Array Slot, jloc (jput L k (jR x)) ls9 M.2.2.1 → _ := fun ls9 h9 => (hK _ _ _ _ hI).2 Hr locs ls9 hr hlo hz h9 hw
    cases x with
    | none => exact lv_astore_nN hx hb hd hk hl.has hn rfl (fun ls9 h9 => hk9 ls9 (hl.put (v := jR none) h9))
    | some a => exact lv_astore_n hx hb hd hk hl.has hn rfl (fun ls9 h9 => hk9 ls9 (hl.put (v := jR (some a)) h9))
  next => exact hI.elim
theorem sd_astore {k : Nat} (hn : k < M.2.2.1) (hd : decode M.2.1 pc = .ok (.astore k, 2)) : jsnd E T M pc (o_astore k 2) := by
  intro w0 wE p l e R s m args below meth c Q hc C K Rt hC hK hR L S H hI Hr locs ls hr hlo hz hl hw
  obtain ⟨hx, hb, hml, hown, hts, hkk, hret, hin, htab, hlk, hroom, hcel, hst, hb0⟩ := hc
  unfold o_astore at hI
  split at hI
  next x S' =>
    have hk9 : ∀ ls9 : Array Slot, jloc (jput L k (jR x)) ls9 M.2.2.1 → _ := fun ls9 h9 => (hK _ _ _ _ hI).2 Hr locs ls9 hr hlo hz h9 hw
    cases x with
    | none => exact lv_astoreN hx hb hd hl.has hn rfl (fun ls9 h9 => hk9 ls9 (hl.put (v := jR none) h9))
    | some a => exact lv_astore hx hb hd hl.has hn rfl (fun ls9 h9 => hk9 ls9 (hl.put (v := jR (some a)) h9))
  next => exact hI.elim
theorem sd_iinc {k : Nat} {n : Int} {d : Int32} (hv : Int32.ofInt n = d) (hn : k < M.2.2.1) (hd : decode M.2.1 pc = .ok (.iinc k n, 3)) : jsnd E T M pc (o_iinc k d) := by
  intro w0 wE p l e R s m args below meth c Q hc C K Rt hC hK hR L S H hI Hr locs ls hr hlo hz hl hw
  obtain ⟨hx, hb, hml, hown, hts, hkk, hret, hin, htab, hlk, hroom, hcel, hst, hb0⟩ := hc
  unfold o_iinc at hI
  split at hI
  next x e =>
    obtain ⟨j, hj⟩ := List.getElem?_of_mem (jlst_mem L 0 k (jI x) e)
    rw [Nat.zero_add] at hj
    exact lv_iinc hx hb hd hl.has hj (by rw [hv]) hn rfl (fun ls9 h9 => ((hK _ _ _ _ hI).2 Hr locs ls9 hr hlo hz (hl.put (v := jI (x + d)) h9) hw))
  next => exact hI.elim
theorem sd_iadd (hd : decode M.2.1 pc = .ok (.iadd, 1)) : jsnd E T M pc (o_bin (fun x y => x + y)) := by
  intro w0 wE p l e R s m args below meth c Q hc C K Rt hC hK hR L S H hI Hr locs ls hr hlo hz hl hw
  obtain ⟨hx, hb, hml, hown, hts, hkk, hret, hin, htab, hlk, hroom, hcel, hst, hb0⟩ := hc
  unfold o_bin at hI
  split at hI
  next y x S' => exact lv_iadd hx hb hd ((hK _ _ _ _ hI).2 Hr locs ls hr hlo hz hl hw)
  next => exact hI.elim
theorem sd_isub (hd : decode M.2.1 pc = .ok (.isub, 1)) : jsnd E T M pc (o_bin (fun x y => x - y)) := by
  intro w0 wE p l e R s m args below meth c Q hc C K Rt hC hK hR L S H hI Hr locs ls hr hlo hz hl hw
  obtain ⟨hx, hb, hml, hown, hts, hkk, hret, hin, htab, hlk, hroom, hcel, hst, hb0⟩ := hc
  unfold o_bin at hI
  split at hI
  next y x S' => exact lv_isub hx hb hd ((hK _ _ _ _ hI).2 Hr locs ls hr hlo hz hl hw)
  next => exact hI.elim
theorem sd_imul (hd : decode M.2.1 pc = .ok (.imul, 1)) : jsnd E T M pc (o_bin (fun x y => x * y)) := by
  intro w0 wE p l e R s m args below meth c Q hc C K Rt hC hK hR L S H hI Hr locs ls hr hlo hz hl hw
  obtain ⟨hx, hb, hml, hown, hts, hkk, hret, hin, htab, hlk, hroom, hcel, hst, hb0⟩ := hc
  unfold o_bin at hI
  split at hI
  next y x S' => exact lv_imul hx hb hd ((hK _ _ _ _ hI).2 Hr locs ls hr hlo hz hl hw)
  next => exact hI.elim
theorem sd_iand (hd : decode M.2.1 pc = .ok (.iand, 1)) : jsnd E T M pc (o_bin (fun x y => x &&& y)) := by
  intro w0 wE p l e R s m args below meth c Q hc C K Rt hC hK hR L S H hI Hr locs ls hr hlo hz hl hw
  obtain ⟨hx, hb, hml, hown, hts, hkk, hret, hin, htab, hlk, hroom, hcel, hst, hb0⟩ := hc
  unfold o_bin at hI
  split at hI
  next y x S' => exact lv_iand hx hb hd ((hK _ _ _ _ hI).2 Hr locs ls hr hlo hz hl hw)
  next => exact hI.elim
theorem sd_ior (hd : decode M.2.1 pc = .ok (.ior, 1)) : jsnd E T M pc (o_bin (fun x y => x ||| y)) := by
  intro w0 wE p l e R s m args below meth c Q hc C K Rt hC hK hR L S H hI Hr locs ls hr hlo hz hl hw
  obtain ⟨hx, hb, hml, hown, hts, hkk, hret, hin, htab, hlk, hroom, hcel, hst, hb0⟩ := hc
  unfold o_bin at hI
  split at hI
  next y x S' => exact lv_ior hx hb hd ((hK _ _ _ _ hI).2 Hr locs ls hr hlo hz hl hw)
  next => exact hI.elim
theorem sd_ixor (hd : decode M.2.1 pc = .ok (.ixor, 1)) : jsnd E T M pc (o_bin (fun x y => x ^^^ y)) := by
  intro w0 wE p l e R s m args below meth c Q hc C K Rt hC hK hR L S H hI Hr locs ls hr hlo hz hl hw
  obtain ⟨hx, hb, hml, hown, hts, hkk, hret, hin, htab, hlk, hroom, hcel, hst, hb0⟩ := hc
  unfold o_bin at hI
  split at hI
  next y x S' => exact lv_ixor hx hb hd ((hK _ _ _ _ hI).2 Hr locs ls hr hlo hz hl hw)
  next => exact hI.elim
theorem sd_ishl (hd : decode M.2.1 pc = .ok (.ishl, 1)) : jsnd E T M pc (o_bin (fun x y => jshl x y)) := by
  intro w0 wE p l e R s m args below meth c Q hc C K Rt hC hK hR L S H hI Hr locs ls hr hlo hz hl hw
  obtain ⟨hx, hb, hml, hown, hts, hkk, hret, hin, htab, hlk, hroom, hcel, hst, hb0⟩ := hc
  unfold o_bin at hI
  split at hI
  next y x S' => exact lv_ishl hx hb hd ((hK _ _ _ _ hI).2 Hr locs ls hr hlo hz hl hw)
  next => exact hI.elim
theorem sd_ishr (hd : decode M.2.1 pc = .ok (.ishr, 1)) : jsnd E T M pc (o_bin (fun x y => jshr x y)) := by
  intro w0 wE p l e R s m args below meth c Q hc C K Rt hC hK hR L S H hI Hr locs ls hr hlo hz hl hw
  obtain ⟨hx, hb, hml, hown, hts, hkk, hret, hin, htab, hlk, hroom, hcel, hst, hb0⟩ := hc
  unfold o_bin at hI
  split at hI
  next y x S' => exact lv_ishr hx hb hd ((hK _ _ _ _ hI).2 Hr locs ls hr hlo hz hl hw)
  next => exact hI.elim
theorem sd_iushr (hd : decode M.2.1 pc = .ok (.iushr, 1)) : jsnd E T M pc (o_bin (fun x y => jushr x y)) := by
  intro w0 wE p l e R s m args below meth c Q hc C K Rt hC hK hR L S H hI Hr locs ls hr hlo hz hl hw
  obtain ⟨hx, hb, hml, hown, hts, hkk, hret, hin, htab, hlk, hroom, hcel, hst, hb0⟩ := hc
  unfold o_bin at hI
  split at hI
  next y x S' => exact lv_iushr hx hb hd rfl ((hK _ _ _ _ hI).2 Hr locs ls hr hlo hz hl hw)
  next => exact hI.elim
theorem sd_idiv (hd : decode M.2.1 pc = .ok (.idiv, 1)) : jsnd E T M pc (o_div (fun x y => x / y)) := by
  intro w0 wE p l e R s m args below meth c Q hc C K Rt hC hK hR L S H hI Hr locs ls hr hlo hz hl hw
  obtain ⟨hx, hb, hml, hown, hts, hkk, hret, hin, htab, hlk, hroom, hcel, hst, hb0⟩ := hc
  unfold o_div at hI
  split at hI
  next y x S' => exact lv_idiv hx hb hd hI.1 ((hK _ _ _ _ hI.2).2 Hr locs ls hr hlo hz hl hw)
  next => exact hI.elim
theorem sd_irem (hd : decode M.2.1 pc = .ok (.irem, 1)) : jsnd E T M pc (o_div (fun x y => x - x / y * y)) := by
  intro w0 wE p l e R s m args below meth c Q hc C K Rt hC hK hR L S H hI Hr locs ls hr hlo hz hl hw
  obtain ⟨hx, hb, hml, hown, hts, hkk, hret, hin, htab, hlk, hroom, hcel, hst, hb0⟩ := hc
  unfold o_div at hI
  split at hI
  next y x S' => exact lv_irem hx hb hd hI.1 ((hK _ _ _ _ hI.2).2 Hr locs ls hr hlo hz hl hw)
  next => exact hI.elim
theorem sd_ineg (hd : decode M.2.1 pc = .ok (.ineg, 1)) : jsnd E T M pc (o_un (fun x => -x)) := by
  intro w0 wE p l e R s m args below meth c Q hc C K Rt hC hK hR L S H hI Hr locs ls hr hlo hz hl hw
  obtain ⟨hx, hb, hml, hown, hts, hkk, hret, hin, htab, hlk, hroom, hcel, hst, hb0⟩ := hc
  unfold o_un at hI
  split at hI
  next x S' => exact lv_ineg hx hb hd ((hK _ _ _ _ hI).2 Hr locs ls hr hlo hz hl hw)
  next => exact hI.elim
theorem sd_i2b (hd : decode M.2.1 pc = .ok (.i2b, 1)) : jsnd E T M pc (o_un (fun x => x.toInt8.toInt32)) := by
  intro w0 wE p l e R s m args below meth c Q hc C K Rt hC hK hR L S H hI Hr locs ls hr hlo hz hl hw
  obtain ⟨hx, hb, hml, hown, hts, hkk, hret, hin, htab, hlk, hroom, hcel, hst, hb0⟩ := hc
  unfold o_un at hI
  split at hI
  next x S' => exact lv_i2b hx hb hd rfl ((hK _ _ _ _ hI).2 Hr locs ls hr hlo hz hl hw)
  next => exact hI.elim
theorem sd_i2c (hd : decode M.2.1 pc = .ok (.i2c, 1)) : jsnd E T M pc (o_un (fun x => (x.toUInt32 % 65536).toInt32)) := by
  intro w0 wE p l e R s m args below meth c Q hc C K Rt hC hK hR L S H hI Hr locs ls hr hlo hz hl hw
  obtain ⟨hx, hb, hml, hown, hts, hkk, hret, hin, htab, hlk, hroom, hcel, hst, hb0⟩ := hc
  unfold o_un at hI
  split at hI
  next x S' => exact lv_i2c hx hb hd rfl ((hK _ _ _ _ hI).2 Hr locs ls hr hlo hz hl hw)
  next => exact hI.elim
theorem sd_ladd (hd : decode M.2.1 pc = .ok (.ladd, 1)) : jsnd E T M pc (o_lbin (fun x y => x + y)) := by
  intro w0 wE p l e R s m args below meth c Q hc C K Rt hC hK hR L S H hI Hr locs ls hr hlo hz hl hw
  obtain ⟨hx, hb, hml, hown, hts, hkk, hret, hin, htab, hlk, hroom, hcel, hst, hb0⟩ := hc
  unfold o_lbin at hI
  split at hI
  next y x S' => exact lv_ladd hx hb hd ((hK _ _ _ _ hI).2 Hr locs ls hr hlo hz hl hw)
  next => exact hI.elim
theorem sd_lsub (hd : decode M.2.1 pc = .ok (.lsub, 1)) : jsnd E T M pc (o_lbin (fun x y => x - y)) := by
  intro w0 wE p l e R s m args below meth c Q hc C K Rt hC hK hR L S H hI Hr locs ls hr hlo hz hl hw
  obtain ⟨hx, hb, hml, hown, hts, hkk, hret, hin, htab, hlk, hroom, hcel, hst, hb0⟩ := hc
  unfold o_lbin at hI
  split at hI
  next y x S' => exact lv_lsub hx hb hd ((hK _ _ _ _ hI).2 Hr locs ls hr hlo hz hl hw)
  next => exact hI.elim
theorem sd_land (hd : decode M.2.1 pc = .ok (.land, 1)) : jsnd E T M pc (o_lbin (fun x y => x &&& y)) := by
  intro w0 wE p l e R s m args below meth c Q hc C K Rt hC hK hR L S H hI Hr locs ls hr hlo hz hl hw
  obtain ⟨hx, hb, hml, hown, hts, hkk, hret, hin, htab, hlk, hroom, hcel, hst, hb0⟩ := hc
  unfold o_lbin at hI
  split at hI
  next y x S' => exact lv_land hx hb hd ((hK _ _ _ _ hI).2 Hr locs ls hr hlo hz hl hw)
  next => exact hI.elim
theorem sd_lor (hd : decode M.2.1 pc = .ok (.lor, 1)) : jsnd E T M pc (o_lbin (fun x y => x ||| y)) := by
  intro w0 wE p l e R s m args below meth c Q hc C K Rt hC hK hR L S H hI Hr locs ls hr hlo hz hl hw
  obtain ⟨hx, hb, hml, hown, hts, hkk, hret, hin, htab, hlk, hroom, hcel, hst, hb0⟩ := hc
  unfold o_lbin at hI
  split at hI
  next y x S' => exact lv_lor hx hb hd ((hK _ _ _ _ hI).2 Hr locs ls hr hlo hz hl hw)
  next => exact hI.elim
theorem sd_lxor (hd : decode M.2.1 pc = .ok (.lxor, 1)) : jsnd E T M pc (o_lbin (fun x y => x ^^^ y)) := by
  intro w0 wE p l e R s m args below meth c Q hc C K Rt hC hK hR L S H hI Hr locs ls hr hlo hz hl hw
  obtain ⟨hx, hb, hml, hown, hts, hkk, hret, hin, htab, hlk, hroom, hcel, hst, hb0⟩ := hc
  unfold o_lbin at hI
  split at hI
  next y x S' => exact lv_lxor hx hb hd ((hK _ _ _ _ hI).2 Hr locs ls hr hlo hz hl hw)
  next => exact hI.elim
theorem sd_lshl (hd : decode M.2.1 pc = .ok (.lshl, 1)) : jsnd E T M pc (o_lsh (fun x y => jlshl x y)) := by
  intro w0 wE p l e R s m args below meth c Q hc C K Rt hC hK hR L S H hI Hr locs ls hr hlo hz hl hw
  obtain ⟨hx, hb, hml, hown, hts, hkk, hret, hin, htab, hlk, hroom, hcel, hst, hb0⟩ := hc
  unfold o_lsh at hI
  split at hI
  next y x S' => exact lv_lshl hx hb hd rfl ((hK _ _ _ _ hI).2 Hr locs ls hr hlo hz hl hw)
  next => exact hI.elim
theorem sd_lushr (hd : decode M.2.1 pc = .ok (.lushr, 1)) : jsnd E T M pc (o_lsh (fun x y => jlushr x y)) := by
  intro w0 wE p l e R s m args below meth c Q hc C K Rt hC hK hR L S H hI Hr locs ls hr hlo hz hl hw
  obtain ⟨hx, hb, hml, hown, hts, hkk, hret, hin, htab, hlk, hroom, hcel, hst, hb0⟩ := hc
  unfold o_lsh at hI
  split at hI
  next y x S' => exact lv_lushr hx hb hd rfl ((hK _ _ _ _ hI).2 Hr locs ls hr hlo hz hl hw)
  next => exact hI.elim
theorem sd_lshr (hd : decode M.2.1 pc = .ok (.lshr, 1)) : jsnd E T M pc (o_lsh (fun x y => jlshr x y)) := by
  intro w0 wE p l e R s m args below meth c Q hc C K Rt hC hK hR L S H hI Hr locs ls hr hlo hz hl hw
  obtain ⟨hx, hb, hml, hown, hts, hkk, hret, hin, htab, hlk, hroom, hcel, hst, hb0⟩ := hc
  unfold o_lsh at hI
  split at hI
  next y x S' => exact lv_lshr hx hb hd rfl ((hK _ _ _ _ hI).2 Hr locs ls hr hlo hz hl hw)
  next => exact hI.elim
theorem sd_lcmp (hd : decode M.2.1 pc = .ok (.lcmp, 1)) : jsnd E T M pc (o_lcmp) := by
  intro w0 wE p l e R s m args below meth c Q hc C K Rt hC hK hR L S H hI Hr locs ls hr hlo hz hl hw
  obtain ⟨hx, hb, hml, hown, hts, hkk, hret, hin, htab, hlk, hroom, hcel, hst, hb0⟩ := hc
  unfold o_lcmp at hI
  split at hI
  next y x S' => exact W.lcmp hx hb hd ((hK _ _ _ _ hI).2 Hr locs ls hr hlo hz hl hw)
  next => exact hI.elim
theorem sd_dcmp (hd : decode M.2.1 pc = .ok (.dcmp .l, 1)) : jsnd E T M pc (o_dcmp) := by
  intro w0 wE p l e R s m args below meth c Q hc C K Rt hC hK hR L S H hI Hr locs ls hr hlo hz hl hw
  obtain ⟨hx, hb, hml, hown, hts, hkk, hret, hin, htab, hlk, hroom, hcel, hst, hb0⟩ := hc
  unfold o_dcmp at hI
  split at hI
  next y x S' => exact lv_dcmp hx hb hd ((hK _ _ _ _ hI).2 Hr locs ls hr hlo hz hl hw)
  next => exact hI.elim
theorem sd_i2l (hd : decode M.2.1 pc = .ok (.i2l, 1)) : jsnd E T M pc (o_i2l) := by
  intro w0 wE p l e R s m args below meth c Q hc C K Rt hC hK hR L S H hI Hr locs ls hr hlo hz hl hw
  obtain ⟨hx, hb, hml, hown, hts, hkk, hret, hin, htab, hlk, hroom, hcel, hst, hb0⟩ := hc
  unfold o_i2l at hI
  split at hI
  next x S' => exact lv_i2l hx hb hd rfl ((hK _ _ _ _ hI).2 Hr locs ls hr hlo hz hl hw)
  next => exact hI.elim
theorem sd_l2i (hd : decode M.2.1 pc = .ok (.l2i, 1)) : jsnd E T M pc (o_l2i) := by
  intro w0 wE p l e R s m args below meth c Q hc C K Rt hC hK hR L S H hI Hr locs ls hr hlo hz hl hw
  obtain ⟨hx, hb, hml, hown, hts, hkk, hret, hin, htab, hlk, hroom, hcel, hst, hb0⟩ := hc
  unfold o_l2i at hI
  split at hI
  next x S' => exact lv_l2i hx hb hd rfl ((hK _ _ _ _ hI).2 Hr locs ls hr hlo hz hl hw)
  next => exact hI.elim
theorem sd_i2d (hd : decode M.2.1 pc = .ok (.i2d, 1)) : jsnd E T M pc (o_i2d) := by
  intro w0 wE p l e R s m args below meth c Q hc C K Rt hC hK hR L S H hI Hr locs ls hr hlo hz hl hw
  obtain ⟨hx, hb, hml, hown, hts, hkk, hret, hin, htab, hlk, hroom, hcel, hst, hb0⟩ := hc
  unfold o_i2d at hI
  split at hI
  next x S' => exact lv_i2d hx hb hd ((hK _ _ _ _ hI).2 Hr locs ls hr hlo hz hl hw)
  next => exact hI.elim
theorem sd_i2f (hd : decode M.2.1 pc = .ok (.i2f, 1)) : jsnd E T M pc (o_i2f) := by
  intro w0 wE p l e R s m args below meth c Q hc C K Rt hC hK hR L S H hI Hr locs ls hr hlo hz hl hw
  obtain ⟨hx, hb, hml, hown, hts, hkk, hret, hin, htab, hlk, hroom, hcel, hst, hb0⟩ := hc
  unfold o_i2f at hI
  split at hI
  next x S' => exact lv_i2f hx hb hd ((hK _ _ _ _ hI).2 Hr locs ls hr hlo hz hl hw)
  next => exact hI.elim
theorem sd_f2d (hd : decode M.2.1 pc = .ok (.f2d, 1)) : jsnd E T M pc (o_f2d) := by
  intro w0 wE p l e R s m args below meth c Q hc C K Rt hC hK hR L S H hI Hr locs ls hr hlo hz hl hw
  obtain ⟨hx, hb, hml, hown, hts, hkk, hret, hin, htab, hlk, hroom, hcel, hst, hb0⟩ := hc
  unfold o_f2d at hI
  split at hI
  next x S' => exact lv_f2d hx hb hd hI.1 ((hK _ _ _ _ hI.2).2 Hr locs ls hr hlo hz hl hw)
  next => exact hI.elim
theorem sd_ddiv (hd : decode M.2.1 pc = .ok (.ddiv, 1)) : jsnd E T M pc (o_ddiv) := by
  intro w0 wE p l e R s m args below meth c Q hc C K Rt hC hK hR L S H hI Hr locs ls hr hlo hz hl hw
  obtain ⟨hx, hb, hml, hown, hts, hkk, hret, hin, htab, hlk, hroom, hcel, hst, hb0⟩ := hc
  unfold o_ddiv at hI
  split at hI
  next y x S' => exact lv_ddiv hx hb hd hI.1 ((hK _ _ _ _ hI.2).2 Hr locs ls hr hlo hz hl hw)
  next => exact hI.elim
theorem sd_fdiv (hd : decode M.2.1 pc = .ok (.fdiv, 1)) : jsnd E T M pc (o_fdiv) := by
  intro w0 wE p l e R s m args below meth c Q hc C K Rt hC hK hR L S H hI Hr locs ls hr hlo hz hl hw
  obtain ⟨hx, hb, hml, hown, hts, hkk, hret, hin, htab, hlk, hroom, hcel, hst, hb0⟩ := hc
  unfold o_fdiv at hI
  split at hI
  next y x S' => exact lv_fdiv hx hb hd hI.1 ((hK _ _ _ _ hI.2).2 Hr locs ls hr hlo hz hl hw)
  next => exact hI.elim
theorem sd_pop (hd : decode M.2.1 pc = .ok (.pop, 1)) : jsnd E T M pc (o_pop) := by
  intro w0 wE p l e R s m args below meth c Q hc C K Rt hC hK hR L S H hI Hr locs ls hr hlo hz hl hw
  obtain ⟨hx, hb, hml, hown, hts, hkk, hret, hin, htab, hlk, hroom, hcel, hst, hb0⟩ := hc
  unfold o_pop at hI
  split at hI
  next a S' =>
    cases ea : Nat.beq (jW a) 1 with
    | false => rw [ea] at hI; exact hI.elim
    | true =>
      rw [ea] at hI
      have ca : (jV a).category = 1 := (jW_cat a).trans (Nat.eq_of_beq_eq_true ea)
      exact lv_pop hx hb hd ca ((hK _ _ _ _ hI).2 Hr locs ls hr hlo hz hl hw)
  next => exact hI.elim
theorem sd_dup (hd : decode M.2.1 pc = .ok (.dup, 1)) : jsnd E T M pc (o_dup) := by
  intro w0 wE p l e R s m args below meth c Q hc C K Rt hC hK hR L S H hI Hr locs ls hr hlo hz hl hw
  obtain ⟨hx, hb, hml, hown, hts, hkk, hret, hin, htab, hlk, hroom, hcel, hst, hb0⟩ := hc
  unfold o_dup at hI
  split at hI
  next a S' =>
    cases ea : Nat.beq (jW a) 1 with
    | false => rw [ea] at hI; exact hI.elim
    | true =>
      rw [ea] at hI
      have ca : (jV a).category = 1 := (jW_cat a).trans (Nat.eq_of_beq_eq_true ea)
      exact lv_dup hx hb hd ca ((hK _ _ _ _ hI).2 Hr locs ls hr hlo hz hl hw)
  next => exact hI.elim
theorem sd_dupx1 (hd : decode M.2.1 pc = .ok (.dup_x1, 1)) : jsnd E T M pc (o_dupx1) := by
  intro w0 wE p l e R s m args below meth c Q hc C K Rt hC hK hR L S H hI Hr locs ls hr hlo hz hl hw
  obtain ⟨hx, hb, hml, hown, hts, hkk, hret, hin, htab, hlk, hroom, hcel, hst, hb0⟩ := hc
  unfold o_dupx1 at hI
  split at hI
  next a b S' =>
    cases ea : Nat.beq (jW a) 1 with
    | false => rw [ea] at hI; exact hI.elim
    | true =>
      rw [ea] at hI
      have ca : (jV a).category = 1 := (jW_cat a).trans (Nat.eq_of_beq_eq_true ea)
      cases eb : Nat.beq (jW b) 1 with
      | false => rw [eb] at hI; exact hI.elim
      | true =>
        rw [eb] at hI
        have cb : (jV b).category = 1 := (jW_cat b).trans (Nat.eq_of_beq_eq_true eb)
        exact lv_dup_x1 hx hb hd ca cb ((hK _ _ _ _ hI).2 Hr locs ls hr hlo hz hl hw)
  next => exact hI.elim
theorem sd_dup2 (hd : decode M.2.1 pc = .ok (.dup2, 1)) : jsnd E T M pc (o_dup2) := by
  intro w0 wE p l e R s m args below meth c Q hc C K Rt hC hK hR L S H hI Hr locs ls hr hlo hz hl hw
  obtain ⟨hx, hb, hml, hown, hts, hkk, hret, hin, htab, hlk, hroom, hcel, hst, hb0⟩ := hc
  unfold o_dup2 at hI
  split at hI
  next a b S' =>
    cases ea : Nat.beq (jW a) 1 with
    | false => rw [ea] at hI; exact hI.elim
    | true =>
      rw [ea] at hI
      have ca : (jV a).category = 1 := (jW_cat a).trans (Nat.eq_of_beq_eq_true ea)
      cases eb : Nat.beq (jW b) 1 with
      | false => rw [eb] at hI; exact hI.elim
      | true =>
        rw [eb] at hI
        have cb : (jV b).category = 1 := (jW_cat b).trans (Nat.eq_of_beq_eq_true eb)
        exact lv_dup2_11 hx hb hd ca cb ((hK _ _ _ _ hI).2 Hr locs ls hr hlo hz hl hw)
  next => exact hI.elim
theorem sd_if_eq {off : Int} {tgt : Nat} (ht : (pc : Int) + off = (tgt : Int)) (hd : decode M.2.1 pc = .ok (.ifCond .eq off, 3)) : jsnd E T M pc (o_if (fun x => x = 0) tgt) := by
  intro w0 wE p l e R s m args below meth c Q hc C K Rt hC hK hR L S H hI Hr locs ls hr hlo hz hl hw
  obtain ⟨hx, hb, hml, hown, hts, hkk, hret, hin, htab, hlk, hroom, hcel, hst, hb0⟩ := hc
  unfold o_if at hI
  split at hI
  next x S' => exact lv_if_eq hx hb hd ht (fun q => (hK _ _ _ _ (hI.1 q)).2 Hr locs ls hr hlo hz hl hw) (fun q => (hK _ _ _ _ (hI.2 q)).2 Hr locs ls hr hlo hz hl hw)
  next => exact hI.elim
theorem sd_icmp_eq {off : Int} {tgt : Nat} (ht : (pc : Int) + off = (tgt : Int)) (hd : decode M.2.1 pc = .ok (.if_icmp .eq off, 3)) : jsnd E T M pc (o_icmp (fun x y => x = y) tgt) := by
  intro w0 wE p l e R s m args below meth c Q hc C K Rt hC hK hR L S H hI Hr locs ls hr hlo hz hl hw
  obtain ⟨hx, hb, hml, hown, hts, hkk, hret, hin, htab, hlk, hroom, hcel, hst, hb0⟩ := hc
  unfold o_icmp at hI
  split at hI
  next y x S' => exact lv_icmp_eq hx hb hd ht (fun q => (hK _ _ _ _ (hI.1 q)).2 Hr locs ls hr hlo hz hl hw) (fun q => (hK _ _ _ _ (hI.2 q)).2 Hr locs ls hr hlo hz hl hw)
  next => exact hI.elim
theorem sd_if_ne {off : Int} {tgt : Nat} (ht : (pc : Int) + off = (tgt : Int)) (hd : decode M.2.1 pc = .ok (.ifCond .ne off, 3)) : jsnd E T M pc (o_if (fun x => ¬ x = 0) tgt) := by
  intro w0 wE p l e R s m args below meth c Q hc C K Rt hC hK hR L S H hI Hr locs ls hr hlo hz hl hw
  obtain ⟨hx, hb, hml, hown, hts, hkk, hret, hin, htab, hlk, hroom, hcel, hst, hb0⟩ := hc
  unfold o_if at hI
  split at hI
  next x S' => exact lv_if_ne hx hb hd ht (fun q => (hK _ _ _ _ (hI.1 q)).2 Hr locs ls hr hlo hz hl hw) (fun q => (hK _ _ _ _ (hI.2 (fun z => z q))).2 Hr locs ls hr hlo hz hl hw)
  next => exact hI.elim
theorem sd_icmp_ne {off : Int} {tgt : Nat} (ht : (pc : Int) + off = (tgt : Int)) (hd : decode M.2.1 pc = .ok (.if_icmp .ne off, 3)) : jsnd E T M pc (o_icmp (fun x y => ¬ x = y) tgt) := by
  intro w0 wE p l e R s m args below meth c Q hc C K Rt hC hK hR L S H hI Hr locs ls hr hlo hz hl hw
  obtain ⟨hx, hb, hml, hown, hts, hkk, hret, hin, htab, hlk, hroom, hcel, hst, hb0⟩ := hc
  unfold o_icmp at hI
  split at hI
  next y x S' => exact lv_icmp_ne hx hb hd ht (fun q => (hK _ _ _ _ (hI.1 q)).2 Hr locs ls hr hlo hz hl hw) (fun q => (hK _ _ _ _ (hI.2 (fun z => z q))).2 Hr locs ls hr hlo hz hl hw)
  next => exact hI.elim
theorem sd_if_lt {off : Int} {tgt : Nat} (ht : (pc : Int) + off = (tgt : Int)) (hd : decode M.2.1 pc = .ok (.ifCond .lt off, 3)) : jsnd E T M pc (o_if (fun x => x < 0) tgt) := by
  intro w0 wE p l e R s m args below meth c Q hc C K Rt hC hK hR L S H hI Hr locs ls hr hlo hz hl hw
  obtain ⟨hx, hb, hml, hown, hts, hkk, hret, hin, htab, hlk, hroom, hcel, hst, hb0⟩ := hc
  unfold o_if at hI
  split at hI
  next x S' => exact lv_if_lt hx hb hd ht (fun q => (hK _ _ _ _ (hI.1 q)).2 Hr locs ls hr hlo hz hl hw) (fun q => (hK _ _ _ _ (hI.2 q)).2 Hr locs ls hr hlo hz hl hw)
  next => exact hI.elim
theorem sd_icmp_lt {off : Int} {tgt : Nat} (ht : (pc : Int) + off = (tgt : Int)) (hd : decode M.2.1 pc = .ok (.if_icmp .lt off, 3)) : jsnd E T M pc (o_icmp (fun x y => x < y) tgt) := by
  intro w0 wE p l e R s m args below meth c Q hc C K Rt hC hK hR L S H hI Hr locs ls hr hlo hz hl hw
  obtain ⟨hx, hb, hml, hown, hts, hkk, hret, hin, htab, hlk, hroom, hcel, hst, hb0⟩ := hc
  unfold o_icmp at hI
  split at hI
  next y x S' => exact lv_icmp_lt hx hb hd ht (fun q => (hK _ _ _ _ (hI.1 q)).2 Hr locs ls hr hlo hz hl hw) (fun q => (hK _ _ _ _ (hI.2 q)).2 Hr locs ls hr hlo hz hl hw)
  next => exact hI.elim
theorem sd_if_ge {off : Int} {tgt : Nat} (ht : (pc : Int) + off = (tgt : Int)) (hd : decode M.2.1 pc = .ok (.ifCond .ge off, 3)) : jsnd E T M pc (o_if (fun x => 0 ≤ x) tgt) := by
  intro w0 wE p l e R s m args below meth c Q hc C K Rt hC hK hR L S H hI Hr locs ls hr hlo hz hl hw
  obtain ⟨hx, hb, hml, hown, hts, hkk, hret, hin, htab, hlk, hroom, hcel, hst, hb0⟩ := hc
  unfold o_if at hI
  split at hI
  next x S' => exact lv_if_ge hx hb hd ht (fun q => (hK _ _ _ _ (hI.1 q)).2 Hr locs ls hr hlo hz hl hw) (fun q => (hK _ _ _ _ (hI.2 q)).2 Hr locs ls hr hlo hz hl hw)
  next => exact hI.elim
theorem sd_icmp_ge {off : Int} {tgt : Nat} (ht : (pc : Int) + off = (tgt : Int)) (hd : decode M.2.1 pc = .ok (.if_icmp .ge off, 3)) : jsnd E T M pc (o_icmp (fun x y => y ≤ x) tgt) := by
  intro w0 wE p l e R s m args below meth c Q hc C K Rt hC hK hR L S H hI Hr locs ls hr hlo hz hl hw
  obtain ⟨hx, hb, hml, hown, hts, hkk, hret, hin, htab, hlk, hroom, hcel, hst, hb0⟩ := hc
  unfold o_icmp at hI
  split at hI
  next y x S' => exact lv_icmp_ge hx hb hd ht (fun q => (hK _ _ _ _ (hI.1 q)).2 Hr locs ls hr hlo hz hl hw) (fun q => (hK _ _ _ _ (hI.2 q)).2 Hr locs ls hr hlo hz hl hw)
  next => exact hI.elim
theorem sd_if_gt {off : Int} {tgt : Nat} (ht : (pc : Int) + off = (tgt : Int)) (hd : decode M.2.1 pc = .ok (.ifCond .gt off, 3)) : jsnd E T M pc (o_if (fun x => 0 < x) tgt) := by
  intro w0 wE p l e R s m args below meth c Q hc C K Rt hC hK hR L S H hI Hr locs ls hr hlo hz hl hw
  obtain ⟨hx, hb, hml, hown, hts, hkk, hret, hin, htab, hlk, hroom, hcel, hst, hb0⟩ := hc
  unfold o_if at hI
  split at hI
  next x S' => exact lv_if_gt hx hb hd ht (fun q => (hK _ _ _ _ (hI.1 q)).2 Hr locs ls hr hlo hz hl hw) (fun q => (hK _ _ _ _ (hI.2 q)).2 Hr locs ls hr hlo hz hl hw)
  next => exact hI.elim
theorem sd_icmp_gt {off : Int} {tgt : Nat} (ht : (pc : Int) + off = (tgt : Int)) (hd : decode M.2.1 pc = .ok (.if_icmp .gt off, 3)) : jsnd E T M pc (o_icmp (fun x y => y < x) tgt) := by
  intro w0 wE p l e R s m args below meth c Q hc C K Rt hC hK hR L S H hI Hr locs ls hr hlo hz hl hw
  obtain ⟨hx, hb, hml, hown, hts, hkk, hret, hin, htab, hlk, hroom, hcel, hst, hb0⟩ := hc
  unfold o_icmp at hI
  split at hI
  next y x S' => exact lv_icmp_gt hx hb hd ht (fun q => (hK _ _ _ _ (hI.1 q)).2 Hr locs ls hr hlo hz hl hw) (fun q => (hK _ _ _ _ (hI.2 q)).2 Hr locs ls hr hlo hz hl hw)
  next => exact hI.elim
theorem sd_if_le {off : Int} {tgt : Nat} (ht : (pc : Int) + off = (tgt : Int)) (hd : decode M.2.1 pc = .ok (.ifCond .le off, 3)) : jsnd E T M pc (o_if (fun x => x ≤ 0) tgt) := by
  intro w0 wE p l e R s m args below meth c Q hc C K Rt hC hK hR L S H hI Hr locs ls hr hlo hz hl hw
  obtain ⟨hx, hb, hml, hown, hts, hkk, hret, hin, htab, hlk, hroom, hcel, hst, hb0⟩ := hc
  unfold o_if at hI
  split at hI
  next x S' => exact lv_if_le hx hb hd ht (fun q => (hK _ _ _ _ (hI.1 q)).2 Hr locs ls hr hlo hz hl hw) (fun q => (hK _ _ _ _ (hI.2 q)).2 Hr locs ls hr hlo hz hl hw)
  next => exact hI.elim
theorem sd_icmp_le {off : Int} {tgt : Nat} (ht : (pc : Int) + off = (tgt : Int)) (hd : decode M.2.1 pc = .ok (.if_icmp .le off, 3)) : jsnd E T M pc (o_icmp (fun x y => x ≤ y) tgt) := by
  intro w0 wE p l e R s m args below meth c Q hc C K Rt hC hK hR L S H hI Hr locs ls hr hlo hz hl hw
  obtain ⟨hx, hb, hml, hown, hts, hkk, hret, hin, htab, hlk, hroom, hcel, hst, hb0⟩ := hc
  unfold o_icmp at hI
  split at hI
  next y x S' => exact lv_icmp_le hx hb hd ht (fun q => (hK _ _ _ _ (hI.1 q)).2 Hr locs ls hr hlo hz hl hw) (fun q => (hK _ _ _ _ (hI.2 q)).2 Hr locs ls hr hlo hz hl hw)
  next => exact hI.elim
theorem sd_acmp {off : Int} {tgt : Nat} (ht : (pc : Int) + off = (tgt : Int)) (hd : decode M.2.1 pc = .ok (.if_acmp .eq off, 3)) : jsnd E T M pc (o_acmp tgt) := by
  intro w0 wE p l e R s m args below meth c Q hc C K Rt hC hK hR L S H hI Hr locs ls hr hlo hz hl hw
  obtain ⟨hx, hb, hml, hown, hts, hkk, hret, hin, htab, hlk, hroom, hcel, hst, hb0⟩ := hc
  unfold o_acmp at hI
  split at hI
  next y x S' => exact lv_acmp_eq hx hb hd ht (fun q => (hK _ _ _ _ (hI.1 q)).2 Hr locs ls hr hlo hz hl hw) (fun q => (hK _ _ _ _ (hI.2 q)).2 Hr locs ls hr hlo hz hl hw)
  next => exact hI.elim
theorem sd_acmpn {off : Int} {tgt : Nat} (ht : (pc : Int) + off = (tgt : Int)) (hd : decode M.2.1 pc = .ok (.if_acmp .ne off, 3)) : jsnd E T M pc (o_acmpn tgt) := by
  intro w0 wE p l e R s m args below meth c Q hc C K Rt hC hK hR L S H hI Hr locs ls hr hlo hz hl hw
  obtain ⟨hx, hb, hml, hown, hts, hkk, hret, hin, htab, hlk, hroom, hcel, hst, hb0⟩ := hc
  unfold o_acmpn at hI
  split at hI
  next y x S' => exact lv_acmp_ne hx hb hd ht (fun q => (hK _ _ _ _ (hI.1 q)).2 Hr locs ls hr hlo hz hl hw) (fun q => (hK _ _ _ _ (hI.2 (fun z => z q))).2 Hr locs ls hr hlo hz hl hw)
  next => exact hI.elim
theorem sd_ifnull {off : Int} {tgt : Nat} (ht : (pc : Int) + off = (tgt : Int)) (hd : decode M.2.1 pc = .ok (.ifnull off, 3)) : jsnd E T M pc (o_ifnull tgt) := by
  intro w0 wE p l e R s m args below meth c Q hc C K Rt hC hK hR L S H hI Hr locs ls hr hlo hz hl hw
  obtain ⟨hx, hb, hml, hown, hts, hkk, hret, hin, htab, hlk, hroom, hcel, hst, hb0⟩ := hc
  unfold o_ifnull at hI
  split at hI
  next x S' =>
    cases x with
    | none => exact lv_ifnullN hx hb hd ht ((hK _ _ _ _ (hI.1 rfl)).2 Hr locs ls hr hlo hz hl hw)
    | some a => exact lv_ifnull hx hb hd ((hK _ _ _ _ (hI.2 (fun q => nomatch q))).2 Hr locs ls hr hlo hz hl hw)
  next => exact hI.elim
theorem sd_ifnonnull {off : Int} {tgt : Nat} (ht : (pc : Int) + off = (tgt : Int)) (hd : decode M.2.1 pc = .ok (.ifnonnull off, 3)) : jsnd E T M pc (o_ifnonnull tgt) := by
  intro w0 wE p l e R s m args below meth c Q hc C K Rt hC hK hR L S H hI Hr locs ls hr hlo hz hl hw
  obtain ⟨hx, hb, hml, hown, hts, hkk, hret, hin, htab, hlk, hroom, hcel, hst, hb0⟩ := hc
  unfold o_ifnonnull at hI
  split at hI
  next x S' =>
    cases x with
    | none => exact lv_ifnonnullN hx hb hd ((hK _ _ _ _ (hI.2 (fun q => q rfl))).2 Hr locs ls hr hlo hz hl hw)
    | some a => exact lv_ifnonnull hx hb hd ht ((hK _ _ _ _ (hI.1 (fun q => nomatch q))).2 Hr locs ls hr hlo hz hl hw)
  next => exact hI.elim
theorem sd_goto {off : Int} {tgt : Nat} (ht : (pc : Int) + off = (tgt : Int)) (hd : decode M.2.1 pc = .ok (.goto off, 3)) : jsnd E T M pc (o_goto tgt) := by
  intro w0 wE p l e R s m args below meth c Q hc C K Rt hC hK hR L S H hI Hr locs ls hr hlo hz hl hw
  obtain ⟨hx, hb, hml, hown, hts, hkk, hret, hin, htab, hlk, hroom, hcel, hst, hb0⟩ := hc
  unfold o_goto at hI
  exact lv_goto hx hb hd ht ((hK _ _ _ _ hI).2 Hr locs ls hr hlo hz hl hw)
theorem jcases_of {x : Int32} {K : Nat → Prop} {d : Nat} : ∀ {l : List (Int32 × Nat)}, jcases x K d l → (∃ q ∈ l, x = q.1 ∧ K q.2) ∨ ((∀ q ∈ l, ¬ x = q.1) ∧ K d) := by
  intro l
  induction l with
  | nil => intro h; exact Or.inr ⟨fun q hq => (by cases hq), h⟩
  | cons q l ih =>
    intro h
    by_cases e : x = q.1
    · exact Or.inl ⟨q, List.mem_cons_self, e, h.1 e⟩
    · rcases ih (h.2 e) with ⟨z, h1, h2⟩ | ⟨h1, h2⟩
      · exact Or.inl ⟨z, List.mem_cons_of_mem _ h1, h2⟩
      · exact Or.inr ⟨fun z hz => (List.mem_cons.mp hz).elim (fun q => q ▸ e) (h1 z), h2⟩
theorem sd_tswitch {dflt lo hi : Int} {offs : Array Int} {len : Nat} {l : List (Int32 × Nat)} {d : Nat} (h0 : (pc : Int) + dflt = (d : Int)) (h1 : ∀ q ∈ l, ¬ q.1.toInt < lo ∧ ¬ hi < q.1.toInt ∧ ∃ off, offs[(q.1.toInt - lo).toNat]? = some off ∧ (pc : Int) + off = (q.2 : Int)) (h2 : ∀ x : Int32, (∀ q ∈ l, ¬ x = q.1) → x.toInt < lo ∨ hi < x.toInt) (hd : decode M.2.1 pc = .ok (.tableswitch dflt lo hi offs, len)) : jsnd E T M pc (o_switch l d) := by
  intro w0 wE p l e R s m args below meth c Q hc C K Rt hC hK hR L S H hI Hr locs ls hr hlo hz hl hw
  obtain ⟨hx, hb, hml, hown, hts, hkk, hret, hin, htab, hlk, hroom, hcel, hst, hb0⟩ := hc
  unfold o_switch at hI
  split at hI
  next x S' =>
    rcases jcases_of hI with ⟨q, hq, e1, e2⟩ | ⟨e1, e2⟩
    · obtain ⟨g1, g2, off, g3, g4⟩ := h1 q hq
      rw [← e1] at g1 g2 g3
      exact lv_tableIn hx hb hd g1 g2 g3 g4 ((hK _ _ _ _ e2).2 Hr locs ls hr hlo hz hl hw)
    · exact lv_tableOut hx hb hd (h2 x e1) h0 ((hK _ _ _ _ e2).2 Hr locs ls hr hlo hz hl hw)
  next => exact hI.elim
theorem sd_lswitch {dflt : Int} {ps : Array (Int × Int)} {len : Nat} {l : List (Int32 × Nat)} {d : Nat} (hp : (ps.toList.zip (ps.toList.drop 1)).all (fun (a, next) => a.1 < next.1) = true) (h1 : ∀ q ∈ l, (pc : Int) + Op.lookupswitch.offset ps.toList dflt q.1.toInt = (q.2 : Int)) (h2 : ∀ x : Int32, (∀ q ∈ l, ¬ x = q.1) → (pc : Int) + Op.lookupswitch.offset ps.toList dflt x.toInt = (d : Int)) (hd : decode M.2.1 pc = .ok (.lookupswitch dflt ps, len)) : jsnd E T M pc (o_switch l d) := by
  intro w0 wE p l e R s m args below meth c Q hc C K Rt hC hK hR L S H hI Hr locs ls hr hlo hz hl hw
  obtain ⟨hx, hb, hml, hown, hts, hkk, hret, hin, htab, hlk, hroom, hcel, hst, hb0⟩ := hc
  unfold o_switch at hI
  split at hI
  next x S' =>
    rcases jcases_of hI with ⟨q, hq, e1, e2⟩ | ⟨e1, e2⟩
    · exact lv_lookup hx hb hd hp rfl (by rw [e1]; exact h1 q hq) ((hK _ _ _ _ e2).2 Hr locs ls hr hlo hz hl hw)
    · exact lv_lookup hx hb hd hp rfl (h2 x e1) ((hK _ _ _ _ e2).2 Hr locs ls hr hlo hz hl hw)
  next => exact hI.elim
theorem sd_vret  (hq : M.2.2.2.1 = none) (hd : decode M.2.1 pc = .ok (.return_, 1)) : jsnd E T M pc (o_vret) := by
  intro w0 wE p l e R s m args below meth c Q hc C K Rt hC hK hR L S H hI Hr locs ls hr hlo hz hl hw
  obtain ⟨hx, hb, hml, hown, hts, hkk, hret, hin, htab, hlk, hroom, hcel, hst, hb0⟩ := hc
  unfold o_vret at hI
  split at hI
  next => exact (hR _ _ hI).2 Hr locs ls hr hlo hz hw _ _ ⟨hd, hq, rfl⟩
  next => exact hI.elim
theorem sd_iret  (hq : M.2.2.2.1 = some .int) (hd : decode M.2.1 pc = .ok (.ireturn, 1)) : jsnd E T M pc (o_iret) := by
  intro w0 wE p l e R s m args below meth c Q hc C K Rt hC hK hR L S H hI Hr locs ls hr hlo hz hl hw
  obtain ⟨hx, hb, hml, hown, hts, hkk, hret, hin, htab, hlk, hroom, hcel, hst, hb0⟩ := hc
  unfold o_iret at hI
  split at hI
  next x => exact (hR _ _ hI).2 Hr locs ls hr hlo hz hw _ _ ⟨hd, ⟨_, hq, rfl⟩, rfl⟩
  next => exact hI.elim
theorem sd_rret  {ty : FieldType} (hq : M.2.2.2.1 = some ty) (hq2 : (∃ n, ty = .object n) ∨ ∃ t, ty = .array t) (hd : decode M.2.1 pc = .ok (.areturn, 1)) : jsnd E T M pc (o_rret) := by
  intro w0 wE p l e R s m args below meth c Q hc C K Rt hC hK hR L S H hI Hr locs ls hr hlo hz hl hw
  obtain ⟨hx, hb, hml, hown, hts, hkk, hret, hin, htab, hlk, hroom, hcel, hst, hb0⟩ := hc
  unfold o_rret at hI
  split at hI
  next x => exact (hR _ _ hI).2 Hr locs ls hr hlo hz hw _ _ ⟨hd, ⟨_, hq, hq2⟩, rfl⟩
  next => exact hI.elim
theorem sd_lret  (hq : M.2.2.2.1 = some .long) (hd : decode M.2.1 pc = .ok (.lreturn, 1)) : jsnd E T M pc (o_lret) := by
  intro w0 wE p l e R s m args below meth c Q hc C K Rt hC hK hR L S H hI Hr locs ls hr hlo hz hl hw
  obtain ⟨hx, hb, hml, hown, hts, hkk, hret, hin, htab, hlk, hroom, hcel, hst, hb0⟩ := hc
  unfold o_lret at hI
  split at hI
  next x => exact (hR _ _ hI).2 Hr locs ls hr hlo hz hw _ _ ⟨hd, hq, rfl⟩
  next => exact hI.elim
theorem sd_fret  (hq : M.2.2.2.1 = some .float) (hd : decode M.2.1 pc = .ok (.freturn, 1)) : jsnd E T M pc (o_fret) := by
  intro w0 wE p l e R s m args below meth c Q hc C K Rt hC hK hR L S H hI Hr locs ls hr hlo hz hl hw
  obtain ⟨hx, hb, hml, hown, hts, hkk, hret, hin, htab, hlk, hroom, hcel, hst, hb0⟩ := hc
  unfold o_fret at hI
  split at hI
  next x => exact (hR _ _ hI).2 Hr locs ls hr hlo hz hw _ _ ⟨hd, hq, rfl⟩
  next => exact hI.elim
theorem sd_dret  (hq : M.2.2.2.1 = some .double) (hd : decode M.2.1 pc = .ok (.dreturn, 1)) : jsnd E T M pc (o_dret) := by
  intro w0 wE p l e R s m args below meth c Q hc C K Rt hC hK hR L S H hI Hr locs ls hr hlo hz hl hw
  obtain ⟨hx, hb, hml, hown, hts, hkk, hret, hin, htab, hlk, hroom, hcel, hst, hb0⟩ := hc
  unfold o_dret at hI
  split at hI
  next x => exact (hR _ _ hI).2 Hr locs ls hr hlo hz hw _ _ ⟨hd, hq, rfl⟩
  next => exact hI.elim
theorem sd_nret {q : Int32 → Prop} {ty : FieldType} (hq : M.2.2.2.1 = some ty) (hn : ∀ x, q x → narrow ty (.int x) = .int x) (hd : decode M.2.1 pc = .ok (.ireturn, 1)) : jsnd E T M pc (o_nret q) := by
  intro w0 wE p l e R s m args below meth c Q hc C K Rt hC hK hR L S H hI Hr locs ls hr hlo hz hl hw
  obtain ⟨hx, hb, hml, hown, hts, hkk, hret, hin, htab, hlk, hroom, hcel, hst, hb0⟩ := hc
  unfold o_nret at hI
  split at hI
  next x => exact (hR _ _ hI.2).2 Hr locs ls hr hlo hz hw _ _ ⟨hd, ⟨_, hq, hn x hI.1⟩, rfl⟩
  next => exact hI.elim
end SDP
