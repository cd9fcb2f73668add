set_option maxRecDepth 100000
/-- the classes, in order -/
abbrev Cl : List vw_C := [(RX0, TX0, 14), (RX1, TX1, 5), (RX2, TX2, 39), (RX3, TX3, 12), (RX4, TX4, 8), (RX5, TX5, 7), (RX6, TX6, 3), (RX7, TX7, 2), (RX8, TX8, 3), (RX9, TX9, 7), (RX10, TX10, 3), (RJ2, TJ2, 3), (RJ4, TJ4, 4), (RJ5, TJ5, 3), (RJ11, TJ11, 2), (RJ12, TJ12, 2), (RJ13, TJ13, 5), (RJ16, TJ16, 4), (RJ17, TJ17, 4), (RJ24, TJ24, 3), (RJ27, TJ27, 1), (RJ29, TJ29, 4), (RJ30, TJ30, 5), (RJ31, TJ31, 5), (RJ33, TJ33, 6), (RJ34, TJ34, 3), (RJ36, TJ36, 4), (RJ37, TJ37, 4), (RJ39, TJ39, 6), (RJ40, TJ40, 6)]
abbrev ciX0 : Nat := 0
abbrev ciX1 : Nat := 1
abbrev ciX2 : Nat := 2
abbrev ciX3 : Nat := 3
abbrev ciX4 : Nat := 4
abbrev ciX5 : Nat := 5
abbrev ciX6 : Nat := 6
abbrev ciX7 : Nat := 7
abbrev ciX8 : Nat := 8
abbrev ciX9 : Nat := 9
abbrev ciX10 : Nat := 10
abbrev ciJ2 : Nat := 11
abbrev ciJ4 : Nat := 12
abbrev ciJ5 : Nat := 13
abbrev ciJ11 : Nat := 14
abbrev ciJ12 : Nat := 15
abbrev ciJ13 : Nat := 16
abbrev ciJ16 : Nat := 17
abbrev ciJ17 : Nat := 18
abbrev ciJ24 : Nat := 19
abbrev ciJ27 : Nat := 20
abbrev ciJ29 : Nat := 21
abbrev ciJ30 : Nat := 22
abbrev ciJ31 : Nat := 23
abbrev ciJ33 : Nat := 24
abbrev ciJ34 : Nat := 25
abbrev ciJ36 : Nat := 26
abbrev ciJ37 : Nat := 27
abbrev ciJ39 : Nat := 28
abbrev ciJ40 : Nat := 29
/-- interface calls of the run: receiver's class, method named, method chosen -/
def fwL : List (String × MethodName × MethodName) := [("java/util/ArrayList", ⟨"java/util/List", "size", "()I"⟩, ⟨"java/util/ArrayList", "size", "()I"⟩), ("java/util/ImmutableCollections$ListN", ⟨"java/util/List", "size", "()I"⟩, ⟨"java/util/ImmutableCollections$ListN", "size", "()I"⟩), ("java/util/LinkedList", ⟨"java/util/List", "size", "()I"⟩, ⟨"java/util/LinkedList", "size", "()I"⟩), ("java/util/ArrayList", ⟨"java/util/List", "get", "(I)Ljava/lang/Object;"⟩, ⟨"java/util/ArrayList", "get", "(I)Ljava/lang/Object;"⟩), ("java/util/ImmutableCollections$ListN", ⟨"java/util/List", "get", "(I)Ljava/lang/Object;"⟩, ⟨"java/util/ImmutableCollections$ListN", "get", "(I)Ljava/lang/Object;"⟩), ("java/util/LinkedList", ⟨"java/util/List", "get", "(I)Ljava/lang/Object;"⟩, ⟨"java/util/LinkedList", "get", "(I)Ljava/lang/Object;"⟩), ("java/util/ImmutableCollections$ListN", ⟨"java/util/List", "indexOf", "(Ljava/lang/Object;)I"⟩, ⟨"java/util/ImmutableCollections$ListN", "indexOf", "(Ljava/lang/Object;)I"⟩), ("java/util/ImmutableCollections$ListN", ⟨"java/util/List", "contains", "(Ljava/lang/Object;)Z"⟩, ⟨"java/util/ImmutableCollections$AbstractImmutableList", "contains", "(Ljava/lang/Object;)Z"⟩), ("java/util/LinkedList", ⟨"java/util/List", "iterator", "()Ljava/util/Iterator;"⟩, ⟨"java/util/AbstractSequentialList", "iterator", "()Ljava/util/Iterator;"⟩), ("java/util/ArrayList", ⟨"java/util/Collection", "iterator", "()Ljava/util/Iterator;"⟩, ⟨"java/util/ArrayList", "iterator", "()Ljava/util/Iterator;"⟩), ("java/util/ArrayList$Itr", ⟨"java/util/Iterator", "hasNext", "()Z"⟩, ⟨"java/util/ArrayList$Itr", "hasNext", "()Z"⟩), ("java/util/ArrayList$Itr", ⟨"java/util/Iterator", "next", "()Ljava/lang/Object;"⟩, ⟨"java/util/ArrayList$Itr", "next", "()Ljava/lang/Object;"⟩), ("java/util/LinkedList$ListItr", ⟨"java/util/Iterator", "hasNext", "()Z"⟩, ⟨"java/util/LinkedList$ListItr", "hasNext", "()Z"⟩), ("java/util/LinkedList$ListItr", ⟨"java/util/Iterator", "next", "()Ljava/lang/Object;"⟩, ⟨"java/util/LinkedList$ListItr", "next", "()Ljava/lang/Object;"⟩), ("java/util/LinkedList$ListItr", ⟨"java/util/Iterator", "remove", "()V"⟩, ⟨"java/util/LinkedList$ListItr", "remove", "()V"⟩), ("java/lang/Integer", ⟨"java/lang/Comparable", "compareTo", "(Ljava/lang/Object;)I"⟩, ⟨"java/lang/Integer", "compareTo", "(Ljava/lang/Object;)I"⟩)]
theorem fwL_ok : ∀ q ∈ fwL, q.2.1.cls ≠ "java/lang/invoke/MethodHandle" ∧ q.2.1.cls ≠ "java/lang/invoke/VarHandle" := by decide +kernel
theorem cl_obj : ∀ r ∈ Cl, Cond.castable r.1 "java/lang/Object" ∈ lw_tbl := List.forall_mem_cons.mpr ⟨q3428, List.forall_mem_cons.mpr ⟨q3429, List.forall_mem_cons.mpr ⟨q3434, List.forall_mem_cons.mpr ⟨q3435, List.forall_mem_cons.mpr ⟨q3437, List.forall_mem_cons.mpr ⟨q3440, List.forall_mem_cons.mpr ⟨q3446, List.forall_mem_cons.mpr ⟨q3448, List.forall_mem_cons.mpr ⟨q3449, List.forall_mem_cons.mpr ⟨q3450, List.forall_mem_cons.mpr ⟨q3452, List.forall_mem_cons.mpr ⟨q3430, List.forall_mem_cons.mpr ⟨q3431, List.forall_mem_cons.mpr ⟨q3432, List.forall_mem_cons.mpr ⟨q3436, List.forall_mem_cons.mpr ⟨q3433, List.forall_mem_cons.mpr ⟨q3459, List.forall_mem_cons.mpr ⟨q3438, List.forall_mem_cons.mpr ⟨q3439, List.forall_mem_cons.mpr ⟨q3441, List.forall_mem_cons.mpr ⟨q3451, List.forall_mem_cons.mpr ⟨q3453, List.forall_mem_cons.mpr ⟨q3443, List.forall_mem_cons.mpr ⟨q3444, List.forall_mem_cons.mpr ⟨q3445, List.forall_mem_cons.mpr ⟨q3447, List.forall_mem_cons.mpr ⟨q3454, List.forall_mem_cons.mpr ⟨q3455, List.forall_mem_cons.mpr ⟨q3457, List.forall_mem_cons.mpr ⟨q3458, fun _ h => absurd h List.not_mem_nil⟩⟩⟩⟩⟩⟩⟩⟩⟩⟩⟩⟩⟩⟩⟩⟩⟩⟩⟩⟩⟩⟩⟩⟩⟩⟩⟩⟩⟩⟩
def xSelL : List (String × MethodName) := [("java/lang/StringBuilder", ⟨"java/lang/AbstractStringBuilder", "ensureCapacityInternal", "(I)V"⟩), ("java/lang/StringBuilder", ⟨"java/lang/AbstractStringBuilder", "newCapacity", "(I)I"⟩), ("java/lang/StringBuilder", ⟨"java/lang/AbstractStringBuilder", "inflate", "()V"⟩), ("java/lang/StringBuilder", ⟨"java/lang/AbstractStringBuilder", "appendNull", "()Ljava/lang/AbstractStringBuilder;"⟩), ("java/lang/StringBuilder", ⟨"java/lang/AbstractStringBuilder", "putStringAt", "(ILjava/lang/String;)V"⟩), ("java/lang/StringBuilder", ⟨"java/lang/AbstractStringBuilder", "inflateIfNeededFor", "(Ljava/lang/String;)V"⟩)]
