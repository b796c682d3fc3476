/-! lists for XF (printed by gen/build.py): interfaces, array classes, casts that fail, texts, statics, what may lie in arrays -/
set_option maxRecDepth 100000
def FWL : List (String × MethodName × MethodName) := [("SharedTaxis$Tests", ⟨"SharedTaxis$Test", "holds", "(LSharedTaxis$State;I)Z"⟩, ⟨"SharedTaxis$Tests", "holds", "(LSharedTaxis$State;I)Z"⟩), ("SharedTaxis$Words", ⟨"java/lang/Iterable", "iterator", "()Ljava/util/Iterator;"⟩, ⟨"SharedTaxis$Words", "iterator", "()Ljava/util/Iterator;"⟩), ("SharedTaxis$Words$1", ⟨"java/util/Iterator", "hasNext", "()Z"⟩, ⟨"SharedTaxis$Words$1", "hasNext", "()Z"⟩), ("SharedTaxis$Words$1", ⟨"java/util/Iterator", "next", "()Ljava/lang/Object;"⟩, ⟨"SharedTaxis$Words$1", "next", "()Ljava/lang/Object;"⟩), ("java/util/ArrayList", ⟨"java/lang/Iterable", "iterator", "()Ljava/util/Iterator;"⟩, ⟨"java/util/ArrayList", "iterator", "()Ljava/util/Iterator;"⟩), ("java/util/ArrayList", ⟨"java/util/Collection", "toArray", "()[Ljava/lang/Object;"⟩, ⟨"java/util/ArrayList", "toArray", "()[Ljava/lang/Object;"⟩), ("java/util/ArrayList", ⟨"java/util/List", "add", "(ILjava/lang/Object;)V"⟩, ⟨"java/util/ArrayList", "add", "(ILjava/lang/Object;)V"⟩), ("java/util/ArrayList", ⟨"java/util/List", "add", "(Ljava/lang/Object;)Z"⟩, ⟨"java/util/ArrayList", "add", "(Ljava/lang/Object;)Z"⟩), ("java/util/ArrayList", ⟨"java/util/List", "addAll", "(Ljava/util/Collection;)Z"⟩, ⟨"java/util/ArrayList", "addAll", "(Ljava/util/Collection;)Z"⟩), ("java/util/ArrayList", ⟨"java/util/List", "clear", "()V"⟩, ⟨"java/util/ArrayList", "clear", "()V"⟩), ("java/util/ArrayList", ⟨"java/util/List", "get", "(I)Ljava/lang/Object;"⟩, ⟨"java/util/ArrayList", "get", "(I)Ljava/lang/Object;"⟩), ("java/util/ArrayList", ⟨"java/util/List", "indexOf", "(Ljava/lang/Object;)I"⟩, ⟨"java/util/ArrayList", "indexOf", "(Ljava/lang/Object;)I"⟩), ("java/util/ArrayList", ⟨"java/util/List", "isEmpty", "()Z"⟩, ⟨"java/util/ArrayList", "isEmpty", "()Z"⟩), ("java/util/ArrayList", ⟨"java/util/List", "iterator", "()Ljava/util/Iterator;"⟩, ⟨"java/util/ArrayList", "iterator", "()Ljava/util/Iterator;"⟩), ("java/util/ArrayList", ⟨"java/util/List", "remove", "(I)Ljava/lang/Object;"⟩, ⟨"java/util/ArrayList", "remove", "(I)Ljava/lang/Object;"⟩), ("java/util/ArrayList", ⟨"java/util/List", "remove", "(Ljava/lang/Object;)Z"⟩, ⟨"java/util/ArrayList", "remove", "(Ljava/lang/Object;)Z"⟩), ("java/util/ArrayList", ⟨"java/util/List", "size", "()I"⟩, ⟨"java/util/ArrayList", "size", "()I"⟩), ("java/util/ArrayList$Itr", ⟨"java/util/Iterator", "hasNext", "()Z"⟩, ⟨"java/util/ArrayList$Itr", "hasNext", "()Z"⟩), ("java/util/ArrayList$Itr", ⟨"java/util/Iterator", "next", "()Ljava/lang/Object;"⟩, ⟨"java/util/ArrayList$Itr", "next", "()Ljava/lang/Object;"⟩), ("java/util/ArrayList$Itr", ⟨"java/util/Iterator", "remove", "()V"⟩, ⟨"java/util/ArrayList$Itr", "remove", "()V"⟩)]
def AOL : List String := ["java/lang/Object", "SharedTaxis$Test"]
def NCL : List (String × String) := [("java/lang/IllegalArgumentException", "java/util/NoSuchElementException")]
def SKL : List (String × Nat × String × Nat) := [("SharedTaxis", 10, "wait", 100), ("SharedTaxis", 12, "dwell", 101), ("SharedTaxis", 14, "offer", 102), ("SharedTaxis", 16, "patience", 103), ("SharedTaxis", 18, "fee", 104), ("SharedTaxis", 20, "stint", 105), ("SharedTaxis", 22, "rest", 106), ("SharedTaxis", 32, "ride", 107), ("SharedTaxis", 38, "state", 108), ("SharedTaxis", 40, "from", 109), ("SharedTaxis", 42, "to", 110), ("SharedTaxis", 44, "persons", 111), ("SharedTaxis", 46, "ready", 112), ("SharedTaxis", 48, "detour", 113), ("SharedTaxis", 50, "fare", 114), ("SharedTaxis", 52, "taxi", 115), ("SharedTaxis", 97, "", 116), ("SharedTaxis", 165, ";", 117), ("SharedTaxis", 500, ".", 118), ("SharedTaxis", 515, " ", 119), ("SharedTaxis", 538, ";()<=>", 120), ("SharedTaxis$QueryParser", 15, "first", 121), ("SharedTaxis$QueryParser", 26, "many", 122), ("SharedTaxis$QueryParser", 58, "or", 123), ("SharedTaxis$QueryParser", 66, "and", 124), ("SharedTaxis$QueryParser", 79, "not", 125), ("SharedTaxis$Reader", 106, "taxi", 126), ("SharedTaxis$Reader", 114, "road", 127), ("SharedTaxis$Reader", 118, "tariff", 128), ("SharedTaxis$Reader", 126, "discount", 129), ("SharedTaxis$Reader", 128, "rule", 130), ("SharedTaxis$Reader", 140, "zones", 131), ("SharedTaxis$Scanner", 7, "", 132), ("SharedTaxis$Words$1", 76, "+", 133), ("SharedTaxis$Words$1", 78, "-", 134), ("SharedTaxis$Words$1", 87, "@", 135), ("java/lang/Math", 111, "integer overflow", 136), ("java/util/Arrays", 337, " > ", 137), ("jdk/internal/util/ArraysSupport", 92, "unrecognized basic type: ", 138)]
/-- a reference or null, in a number -/
def ko : Nat → Option Nat := fun n => match n with
  | 0 => none
  | k + 1 => some k
def PVL : List MethodName := [⟨"java/lang/AbstractStringBuilder", "appendNull", "()Ljava/lang/AbstractStringBuilder;"⟩, ⟨"java/lang/AbstractStringBuilder", "ensureCapacityInternal", "(I)V"⟩, ⟨"java/lang/AbstractStringBuilder", "inflate", "()V"⟩, ⟨"java/lang/AbstractStringBuilder", "inflateIfNeededFor", "(Ljava/lang/String;)V"⟩, ⟨"java/lang/AbstractStringBuilder", "newCapacity", "(I)I"⟩, ⟨"java/lang/AbstractStringBuilder", "putStringAt", "(ILjava/lang/String;)V"⟩]
def MIL : List (String × Nat) := [("[Ljava/lang/Object;", 10), ("java/util/ArrayList", 11)]
def STL : List (String × String × String × ((Nat → Nat) → Value)) := [("java/lang/String", "COMPACT_STRINGS", "Z", fun _ => .int 1), ("java/util/ArrayList", "DEFAULTCAPACITY_EMPTY_ELEMENTDATA", "[Ljava/lang/Object;", fun κ => .ref (κ 0)), ("java/util/ArrayList", "EMPTY_ELEMENTDATA", "[Ljava/lang/Object;", fun κ => .ref (κ 1)), ("java/lang/Integer$IntegerCache", "cache", "[Ljava/lang/Integer;", fun κ => .ref (κ 2)), ("java/lang/Integer$IntegerCache", "high", "I", fun _ => .int 127), ("java/lang/Integer", "DigitOnes", "[B", fun κ => .ref (κ 3)), ("java/lang/Integer", "DigitTens", "[B", fun κ => .ref (κ 4)), ("java/lang/Throwable", "UNASSIGNED_STACK", "[Ljava/lang/StackTraceElement;", fun κ => va_rf (ko (κ 5))), ("java/lang/Throwable", "SUPPRESSED_SENTINEL", "Ljava/util/List;", fun κ => va_rf (ko (κ 6))), ("jdk/internal/util/Preconditions", "SIOOBE_FORMATTER", "Ljava/util/function/BiFunction;", fun κ => va_rf (ko (κ 7)))]
def lt6 : Nat → String := fun t => if t = 4 then "SharedTaxis$Test" else "java/lang/Object"
def OKC : List (Nat × Nat) := [(3, 0), (3, 1), (3, 2), (3, 3), (3, 4), (3, 5), (3, 6), (3, 7), (3, 8), (3, 9), (3, 10), (3, 11), (3, 12), (3, 13), (3, 14), (3, 15), (3, 16), (3, 17), (3, 18), (3, 19), (3, 20), (4, 20), (3, 21), (3, 22), (3, 23), (3, 24), (3, 25), (3, 26), (3, 27), (3, 28), (3, 29), (3, 30), (3, 31), (3, 32), (3, 33)]
theorem okc_ok : ∀ q ∈ OKC, ∃ vw : vw_C, CL[q.2]? = some vw ∧ Cond.castable vw.1 (lt6 q.1) ∈ lw_tbl := by
  unfold OKC
  refine List.forall_mem_cons.mpr ⟨⟨(RX1, TX1, 7), rfl, q3353⟩, ?_⟩
  refine List.forall_mem_cons.mpr ⟨⟨(RX2, TX2, 7), rfl, q3354⟩, ?_⟩
  refine List.forall_mem_cons.mpr ⟨⟨(RX3, TX3, 3), rfl, q3355⟩, ?_⟩
  refine List.forall_mem_cons.mpr ⟨⟨(RX4, TX4, 54), rfl, q3358⟩, ?_⟩
  refine List.forall_mem_cons.mpr ⟨⟨(RX5, TX5, 2), rfl, q3360⟩, ?_⟩
  refine List.forall_mem_cons.mpr ⟨⟨(RX6, TX6, 8), rfl, q3361⟩, ?_⟩
  refine List.forall_mem_cons.mpr ⟨⟨(RX8, TX8, 7), rfl, q3364⟩, ?_⟩
  refine List.forall_mem_cons.mpr ⟨⟨(RX9, TX9, 7), rfl, q3365⟩, ?_⟩
  refine List.forall_mem_cons.mpr ⟨⟨(RX10, TX10, 7), rfl, q3366⟩, ?_⟩
  refine List.forall_mem_cons.mpr ⟨⟨(RX11, TX11, 7), rfl, q3367⟩, ?_⟩
  refine List.forall_mem_cons.mpr ⟨⟨(RX12, TX12, 15), rfl, q3368⟩, ?_⟩
  refine List.forall_mem_cons.mpr ⟨⟨(RX13, TX13, 17), rfl, q3371⟩, ?_⟩
  refine List.forall_mem_cons.mpr ⟨⟨(RX14, TX14, 8), rfl, q3372⟩, ?_⟩
  refine List.forall_mem_cons.mpr ⟨⟨(RX15, TX15, 2), rfl, q3373⟩, ?_⟩
  refine List.forall_mem_cons.mpr ⟨⟨(RX16, TX16, 15), rfl, q3375⟩, ?_⟩
  refine List.forall_mem_cons.mpr ⟨⟨(RX17, TX17, 5), rfl, q3376⟩, ?_⟩
  refine List.forall_mem_cons.mpr ⟨⟨(RX18, TX18, 3), rfl, q3379⟩, ?_⟩
  refine List.forall_mem_cons.mpr ⟨⟨(RX19, TX19, 2), rfl, q3381⟩, ?_⟩
  refine List.forall_mem_cons.mpr ⟨⟨(RX20, TX20, 2), rfl, q3382⟩, ?_⟩
  refine List.forall_mem_cons.mpr ⟨⟨(RX21, TX21, 4), rfl, q3384⟩, ?_⟩
  refine List.forall_mem_cons.mpr ⟨⟨(RX22, TX22, 3), rfl, q3385⟩, ?_⟩
  refine List.forall_mem_cons.mpr ⟨⟨(RX22, TX22, 3), rfl, q2527⟩, ?_⟩
  refine List.forall_mem_cons.mpr ⟨⟨(RJ2, TJ2, 3), rfl, q3356⟩, ?_⟩
  refine List.forall_mem_cons.mpr ⟨⟨(RJ3, TJ3, 3), rfl, q3357⟩, ?_⟩
  refine List.forall_mem_cons.mpr ⟨⟨(RJ4, TJ4, 5), rfl, q3387⟩, ?_⟩
  refine List.forall_mem_cons.mpr ⟨⟨(RJ7, TJ7, 6), rfl, q3359⟩, ?_⟩
  refine List.forall_mem_cons.mpr ⟨⟨(RJ9, TJ9, 4), rfl, q3362⟩, ?_⟩
  refine List.forall_mem_cons.mpr ⟨⟨(RJ10, TJ10, 4), rfl, q3363⟩, ?_⟩
  refine List.forall_mem_cons.mpr ⟨⟨(RJ18, TJ18, 1), rfl, q3374⟩, ?_⟩
  refine List.forall_mem_cons.mpr ⟨⟨(RJ21, TJ21, 4), rfl, q3369⟩, ?_⟩
  refine List.forall_mem_cons.mpr ⟨⟨(RJ22, TJ22, 6), rfl, q3370⟩, ?_⟩
  refine List.forall_mem_cons.mpr ⟨⟨(RJ23, TJ23, 6), rfl, q3377⟩, ?_⟩
  refine List.forall_mem_cons.mpr ⟨⟨(RJ24, TJ24, 6), rfl, q3378⟩, ?_⟩
  refine List.forall_mem_cons.mpr ⟨⟨(RJ25, TJ25, 6), rfl, q3380⟩, ?_⟩
  refine List.forall_mem_cons.mpr ⟨⟨(RJ26, TJ26, 4), rfl, q3383⟩, ?_⟩
  exact fun q h => by cases h
