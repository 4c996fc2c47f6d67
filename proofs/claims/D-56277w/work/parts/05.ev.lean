/-! WHAT HOLDS OF EVERY STATE OF THE RUN -/
/-- static fields that hold a reference: class, name, descriptor, number of the constant -/
def ev_sL : List (String × String × String × Nat) := [("java/util/ArrayList", "DEFAULTCAPACITY_EMPTY_ELEMENTDATA", "[Ljava/lang/Object;", 0), ("java/util/ArrayList", "EMPTY_ELEMENTDATA", "[Ljava/lang/Object;", 1), ("java/lang/Throwable", "UNASSIGNED_STACK", "[Ljava/lang/StackTraceElement;", 2), ("java/lang/Throwable", "SUPPRESSED_SENTINEL", "Ljava/util/List;", 3), ("jdk/internal/util/Preconditions", "SIOOBE_FORMATTER", "Ljava/util/function/BiFunction;", 4), ("java/lang/Integer", "DigitOnes", "[B", 5), ("java/lang/Integer", "DigitTens", "[B", 6), ("java/lang/Integer$IntegerCache", "cache", "[Ljava/lang/Integer;", 7), ("java/util/ImmutableCollections", "EMPTY", "Ljava/lang/Object;", 8), ("java/util/ImmutableCollections", "EMPTY_LIST", "Ljava/util/ImmutableCollections$ListN;", 9)]
def ev_jL : List (String × String × String × Int32) := [("java/lang/String", "COMPACT_STRINGS", "Z", 1), ("java/lang/Integer$IntegerCache", "high", "I", 127), ("java/util/BitSet", "$assertionsDisabled", "Z", 1), ("java/util/ImmutableCollections", "$assertionsDisabled", "Z", 1)]
def ev_tL : List (String × Nat × String × Nat) := [("LionGate", 93, "", 200), ("LionGate", 141, "purge", 201), ("java/util/ArrayList", 201, "Index: ", 202), ("java/util/ArrayList", 203, ", Size: ", 203), ("java/util/Arrays", 337, " > ", 204), ("java/util/LinkedList", 100, "Index: ", 205), ("java/util/LinkedList", 109, ", Size: ", 206), ("java/lang/Throwable", 81, ": ", 207), ("java/util/ImmutableCollections$AbstractImmutableList", 116, "Index: ", 208), ("java/util/ImmutableCollections$AbstractImmutableList", 118, " Size: ", 209), ("jdk/internal/util/ArraysSupport", 92, "unrecognized basic type: ", 210), ("LionGate$Command", 23, "lion", 211), ("LionGate$Command", 29, "roar", 212), ("LionGate$Command", 31, "yawn", 213), ("LionGate$Command", 33, "leave", 214), ("LionGate$Command", 35, "serve", 215), ("LionGate$Command", 37, "purge", 216), ("LionGate$Command", 39, "keeper", 217), ("LionGate$Command", 41, "dismiss", 218), ("java/util/ArrayDeque", 35, "Sorry, deque too big", 219), ("java/util/BitSet", 153, "bitIndex < 0: ", 220), ("LionGate$Queue", 255, "", 221), ("LionGate$Queue", 257, " ", 222), ("LionGate$Queue", 268, "*", 223), ("LionGate", 127, "lion", 224), ("LionGate", 133, "roar", 225), ("LionGate", 135, "yawn", 226), ("LionGate", 137, "leave", 227), ("LionGate", 139, "serve", 228), ("LionGate", 143, "keeper", 229), ("LionGate", 145, "dismiss", 230), ("LionGate", 147, "wait", 231), ("LionGate$Lion", 38, "h", 232), ("LionGate$Lion", 46, "p", 233), ("LionGate$Lion", 48, "d", 234), ("LionGate$Lion", 50, "t", 235), ("LionGate$Parser", 7, "lion", 236), ("LionGate$Parser", 9, "roar", 237), ("LionGate$Parser", 11, "yawn", 238), ("LionGate$Parser", 13, "leave", 239), ("LionGate$Parser", 15, "serve", 240), ("LionGate$Parser", 17, "purge", 241), ("LionGate$Parser", 19, "keeper", 242), ("LionGate$Parser", 21, "dismiss", 243), ("LionGate$Parser", 23, "wait", 244), ("java/lang/StringIndexOutOfBoundsException", 13, "String index out of range: ", 245), ("java/util/Arrays", 48, "fromIndex(", 246), ("java/util/Arrays", 57, ") > toIndex(", 247), ("java/util/Arrays", 59, ")", 248), ("java/lang/ArrayIndexOutOfBoundsException", 13, "Array index out of range: ", 249)]
def ev_mL : List (String × Nat) := [("java/util/ArrayList", 1016), ("java/util/TreeMap$Values", 1020), ("java/util/TreeMap$KeySet", 1021), ("[Ljava/lang/Object;", 1104)]
def ev_nL : List (String × String) := [("java/lang/IllegalStateException", "java/lang/IllegalArgumentException"), ("java/lang/IllegalArgumentException", "java/util/NoSuchElementException"), ("java/lang/UnsupportedOperationException", "java/util/NoSuchElementException"), ("java/lang/UnsupportedOperationException", "java/lang/IllegalArgumentException"), ("LionGate$CommandFailure", "LionGate$SyntaxFailure")]
def ev_pL : List MethodName := [⟨"java/lang/AbstractStringBuilder", "appendNull", "()Ljava/lang/AbstractStringBuilder;"⟩, ⟨"java/lang/AbstractStringBuilder", "ensureCapacityInternal", "(I)V"⟩, ⟨"java/lang/AbstractStringBuilder", "inflate", "()V"⟩, ⟨"java/lang/AbstractStringBuilder", "inflateIfNeededFor", "(Ljava/lang/String;)V"⟩, ⟨"java/lang/AbstractStringBuilder", "newCapacity", "(I)I"⟩, ⟨"java/lang/AbstractStringBuilder", "putStringAt", "(ILjava/lang/String;)V"⟩]
def ev_iL : List MethodName := [⟨"java/util/Collection", "iterator", "()Ljava/util/Iterator;"⟩, ⟨"java/util/Iterator", "hasNext", "()Z"⟩, ⟨"java/util/Iterator", "next", "()Ljava/lang/Object;"⟩, ⟨"java/util/List", "get", "(I)Ljava/lang/Object;"⟩, ⟨"java/lang/Comparable", "compareTo", "(Ljava/lang/Object;)I"⟩, ⟨"java/util/Comparator", "compare", "(Ljava/lang/Object;Ljava/lang/Object;)I"⟩, ⟨"java/util/List", "iterator", "()Ljava/util/Iterator;"⟩, ⟨"java/util/List", "add", "(Ljava/lang/Object;)Z"⟩, ⟨"jdk/internal/access/JavaLangAccess", "getUTF16Char", "([BI)C"⟩, ⟨"java/util/List", "size", "()I"⟩, ⟨"java/util/List", "add", "(ILjava/lang/Object;)V"⟩, ⟨"java/util/Iterator", "remove", "()V"⟩, ⟨"java/util/List", "remove", "(I)Ljava/lang/Object;"⟩, ⟨"java/util/Collection", "toArray", "()[Ljava/lang/Object;"⟩, ⟨"java/lang/Iterable", "iterator", "()Ljava/util/Iterator;"⟩, ⟨"java/util/List", "contains", "(Ljava/lang/Object;)Z"⟩]
def ev_w : Cond → Bool
  | .fieldLinkNest .. | .methodLinkNest .. | .declares _ | .castable .. | .publicMethod _ | .unhidden .. => true
  | _ => false
def ev_E0 (aC : Nat → ClassId) (bs : Nat) (H0 : Heap) (en : Nat → Value) (U : State) : Prop :=
  (∀ w ∈ lw_tbl, ev_w w = true → va_Nw w U) ∧ (∀ x ∈ ev_iL, va_Nw (.interfaceMethod x.cls x.cls x.name x.desc) U ∧ va_Nw (.declares x) U) ∧ va_AO "java/lang/Object" U ∧ ArrOfT U (aC 105) (.object "java/lang/Integer") ∧
  (∀ z ∈ ev_sL, va_Z z.1 z.2.1 z.2.2.1 (en z.2.2.2) (fun q => bs ≤ q) U H0) ∧ (∀ z ∈ ev_jL, va_Z z.1 z.2.1 z.2.2.1 (.int z.2.2.2) (fun q => bs ≤ q) U H0) ∧
  (∀ z ∈ ev_tL, ∃ a : Nat, en z.2.2.2 = .ref a ∧ vk_R z.1 z.2.1 z.2.2.1 a U) ∧ (∀ z ∈ ev_mL, ∃ a : Nat, en z.2 = .ref a ∧ va_Mi z.1 a U) ∧ (∀ z ∈ ev_nL, va_Nc z.1 z.2 U) ∧ (∀ y ∈ ev_pL, va_Nw (.selects "java/lang/StringBuilder" y y) U) ∧ va_Nw (.interfaceMethod "java/util/Collection" "java/lang/Object" "getClass" "()Ljava/lang/Class;") U ∧ vx_L Bundle.tN "UNASSIGNED_STACK" Bundle.steD (fun q => bs ≤ q) U H0 ∧ vx_L Bundle.tN "SUPPRESSED_SENTINEL" Bundle.listD (fun q => bs ≤ q) U H0 ∧ (en 2).isRef = true ∧ (en 3).isRef = true ∧ va_Nw (.interfaceMethod "java/util/NavigableMap" "java/util/Map" "size" "()I") U ∧ va_Nw (.methodLink "java/util/TreeMap$KeySet" 26 ⟨"java/util/NavigableMap", "size", "()I"⟩) U ∧ va_Nw (.methodLink "java/util/ImmutableCollections$AbstractImmutableList" 107 ⟨"java/util/ImmutableCollections$AbstractImmutableList", "indexOf", "(Ljava/lang/Object;)I"⟩) U ∧ va_Nw (.sameMethod "java/util/ImmutableCollections$AbstractImmutableList" "java/util/List" "indexOf" "(Ljava/lang/Object;)I") U
theorem ev_tr {c : Cond} {u U : State} (hc : c.onTables = true) (h : c.before #[] (u.setVm U.vm) = true) : c.before #[] U = true := by
  have e := Cond.onTables_vm (A := #[]) (A' := #[]) (U := u) (U' := U) U.vm c hc
  have hU : U.setVm U.vm = U := rfl
  rw [hU] at e
  rw [← e]
  exact h
theorem ev_w_warm {s U : State} (hW : s.WarmedH U.vm) : ∀ w : Cond, ev_w w = true → va_Nw w s → va_Nw w U := by
  intro w hw h
  cases w <;> first
    | exact va_Nw.warmF hW h
    | exact va_Nw.warmM hW h
    | exact va_Nw.warmD hW h
    | exact va_Nw.warmC hW h
    | exact ev_tr rfl (by rw [Cond.publicMethod_setVm hW.alike]; exact h)
    | exact ev_tr rfl (by rw [Cond.unhidden_setVm hW.alike]; exact h)
    | (simp [ev_w] at hw)
theorem ev_i_nm : ∀ x ∈ ev_iL, x.cls ≠ "java/lang/invoke/MethodHandle" ∧ x.cls ≠ "java/lang/invoke/VarHandle" := by decide +kernel
theorem ev_E0.warm {aC : Nat → ClassId} {bs : Nat} {H0 : Heap} {en : Nat → Value} {s U : State} (hW : s.WarmedH U.vm) (h : ev_E0 aC bs H0 en s) : ev_E0 aC bs H0 en U := by
  obtain ⟨h1, h2, h3, h4, h5, h6, h7, h8, h9, h10, h11, h12, h13, h14, h14b, h15, h16, h17, h18⟩ := h
  refine ⟨fun w a b => ev_w_warm hW w b (h1 w a b), fun x hx => ?_, va_AO.moved hW.alike h3, arrOfT_moved hW.alike h4, fun z a => va_Z.moved hW.alike (h5 z a), fun z a => va_Z.moved hW.alike (h6 z a), fun z a => ?_, fun z a => ?_, fun z a => va_Nc.moved hW.alike (h9 z a), fun y a => word_at hW (Or.inl rfl) (h10 y a), ?_, vx_L.moved hW.alike h12, vx_L.moved hW.alike h13, h14, h14b, ?_, word_at hW (Or.inl (by first | rfl | simp [Cond.onTables, Cond.keeps, Cond.steady])) h16, word_at hW (Or.inl (by first | rfl | simp [Cond.onTables, Cond.keeps, Cond.steady])) h17, word_at hW (Or.inl (by first | rfl | simp [Cond.onTables, Cond.keeps, Cond.steady])) h18⟩
  · obtain ⟨g1, g2⟩ := h2 x hx
    obtain ⟨r, meth, hn, -⟩ := Cond.declares_spec g2
    exact ⟨ev_tr rfl (by rw [Cond.interfaceMethod_setVm hW.alike (r := r) hn (ev_i_nm x hx)]; exact g1), va_Nw.warmD hW g2⟩
  · obtain ⟨q, g1, g2⟩ := h7 z a
    exact ⟨q, g1, vk_R.warm hW g2⟩
  · obtain ⟨q, g1, g2⟩ := h8 z a
    exact ⟨q, g1, va_Mi.moved hW.alike g2⟩
  · refine ev_tr rfl (u := s) ?_
    have h := hW.alike
    have hf : (s.setVm U.vm).methodFound? "java/util/Collection" "getClass" "()Ljava/lang/Class;" = s.methodFound? "java/util/Collection" "getClass" "()Ljava/lang/Class;" := State.methodFound?_setVm h _ _ _
    have h9 : (Cond.interfaceMethod "java/util/Collection" "java/lang/Object" "getClass" "()Ljava/lang/Class;").before #[] (s.setVm U.vm) = (Cond.interfaceMethod "java/util/Collection" "java/lang/Object" "getClass" "()Ljava/lang/Class;").before #[] s := by
      simp only [Cond.before, Cond.holds, Cond.value, State.vm_setVm, h.findClass, hf, State.methodNamed?_setVm h, arm_isInterface_setVm h]
    exact h9.trans h11
  · refine ev_tr rfl (u := s) ?_
    have h := hW.alike
    have hf : (s.setVm U.vm).methodFound? "java/util/NavigableMap" "size" "()I" = s.methodFound? "java/util/NavigableMap" "size" "()I" := State.methodFound?_setVm h _ _ _
    have h9 : (Cond.interfaceMethod "java/util/NavigableMap" "java/util/Map" "size" "()I").before #[] (s.setVm U.vm) = (Cond.interfaceMethod "java/util/NavigableMap" "java/util/Map" "size" "()I").before #[] s := by
      simp only [Cond.before, Cond.holds, Cond.value, State.vm_setVm, h.findClass, hf, State.methodNamed?_setVm h, arm_isInterface_setVm h]
    exact h9.trans h15
/-- ghosts: where the classes and their fields lie, the array classes, the heap at the law's start, its size, the constants -/
abbrev tj_E : Type := va_G × (Nat → ClassId) × Heap × Nat × (Nat → Value)
def ev_E (E : tj_E) (U : State) : Prop := va_K E.1 cl_tab (cl_arr E.2.1) U ∧ ev_E0 E.2.1 E.2.2.2.1 E.2.2.1 E.2.2.2.2 U
theorem ev_E.warm {E : tj_E} {s U : State} (hW : s.WarmedH U.vm) (h : ev_E E s) : ev_E E U := ⟨va_K.moved hW.alike h.1, ev_E0.warm hW h.2⟩
