/-! the lists that the gx kernel speaks of (printed by gen/tabs.py) -/
set_option maxRecDepth 100000
def gx_cl : List vw_C := [(RJ2, TJ2, 3), (RJ8, TJ8, 4), (RJ9, TJ9, 4), (RJ17, TJ17, 3), (RJ25, TJ25, 4), (RJ6, TJ6, 6), (RJ23, TJ23, 6), (RJ24, TJ24, 6), (RJ26, TJ26, 6), (RX1, TX1, 15), (RX3, TX3, 5), (RX4, TX4, 9), (RX5, TX5, 3), (RX6, TX6, 5), (RX7, TX7, 3), (RX8, TX8, 2), (RX11, TX11, 9), (RX12, TX12, 8), (RX13, TX13, 9), (RX15, TX15, 2), (RX16, TX16, 3), (RX17, TX17, 1), (RX18, TX18, 1), (RX19, TX19, 1), (RX20, TX20, 3), (RX21, TX21, 3), (RX22, TX22, 1), (RX24, TX24, 3), (RX25, TX25, 4), (RX26, TX26, 1), (RX27, TX27, 2), (RX9, TX9, 31)]
def gx_tys : List FieldType := [.int, .byte, .long, .boolean, .object "java/lang/Object", .object "java/lang/String", .object "ContractMachine$Command", .object "ContractMachine$Operator"]
theorem gx_cl_in : ∀ (c : Nat) (q : vw_C), gx_cl[c]? = some q → ∀ w ∈ u_ws q.1 q.2.1 q.2.2, w ∈ lw_all := by
  intro c q h
  match c, h with
  | 0, h => cases h; exact in_J2
  | 1, h => cases h; exact in_J8
  | 2, h => cases h; exact in_J9
  | 3, h => cases h; exact in_J17
  | 4, h => cases h; exact in_J25
  | 5, h => cases h; exact in_J6
  | 6, h => cases h; exact in_J23
  | 7, h => cases h; exact in_J24
  | 8, h => cases h; exact in_J26
  | 9, h => cases h; exact in_X1
  | 10, h => cases h; exact in_X3
  | 11, h => cases h; exact in_X4
  | 12, h => cases h; exact in_X5
  | 13, h => cases h; exact in_X6
  | 14, h => cases h; exact in_X7
  | 15, h => cases h; exact in_X8
  | 16, h => cases h; exact in_X11
  | 17, h => cases h; exact in_X12
  | 18, h => cases h; exact in_X13
  | 19, h => cases h; exact in_X15
  | 20, h => cases h; exact in_X16
  | 21, h => cases h; exact in_X17
  | 22, h => cases h; exact in_X18
  | 23, h => cases h; exact in_X19
  | 24, h => cases h; exact in_X20
  | 25, h => cases h; exact in_X21
  | 26, h => cases h; exact in_X22
  | 27, h => cases h; exact in_X24
  | 28, h => cases h; exact in_X25
  | 29, h => cases h; exact in_X26
  | 30, h => cases h; exact in_X27
  | 31, h => cases h; exact in_X9
  | k + 32, h => simp [gx_cl] at h
theorem gx_cl_nm : ∀ (c : Nat) (q : vw_C), gx_cl[c]? = some q → ∀ a, a < q.2.2 → ∀ b, b < q.2.2 → a ≠ b → (q.2.1 a).2.1 ≠ (q.2.1 b).2.1 ∨ ((q.2.1 a).1 ≠ (q.2.1 b).1 ∧ (q.2.1 a).2.2.2 = true ∧ (q.2.1 b).2.2.2 = true) := by
  intro c q h
  match c, h with
  | 0, h => cases h; exact fun a ha b hb hn => Or.inl (nmJ2 a ha b hb hn)
  | 1, h => cases h; exact fun a ha b hb hn => Or.inl (nmJ8 a ha b hb hn)
  | 2, h => cases h; exact fun a ha b hb hn => Or.inl (nmJ9 a ha b hb hn)
  | 3, h => cases h; exact fun a ha b hb hn => Or.inl (nmJ17 a ha b hb hn)
  | 4, h => cases h; exact fun a ha b hb hn => Or.inl (nmJ25 a ha b hb hn)
  | 5, h => cases h; exact fun a ha b hb hn => Or.inl (nmJ6 a ha b hb hn)
  | 6, h => cases h; exact fun a ha b hb hn => Or.inl (nmJ23 a ha b hb hn)
  | 7, h => cases h; exact fun a ha b hb hn => Or.inl (nmJ24 a ha b hb hn)
  | 8, h => cases h; exact fun a ha b hb hn => Or.inl (nmJ26 a ha b hb hn)
  | 9, h => cases h; exact fun a ha b hb hn => Or.inl (nmX1 a ha b hb hn)
  | 10, h => cases h; exact fun a ha b hb hn => Or.inl (nmX3 a ha b hb hn)
  | 11, h => cases h; exact fun a ha b hb hn => Or.inl (nmX4 a ha b hb hn)
  | 12, h => cases h; exact fun a ha b hb hn => Or.inl (nmX5 a ha b hb hn)
  | 13, h => cases h; exact fun a ha b hb hn => Or.inl (nmX6 a ha b hb hn)
  | 14, h => cases h; exact fun a ha b hb hn => Or.inl (nmX7 a ha b hb hn)
  | 15, h => cases h; exact fun a ha b hb hn => Or.inl (nmX8 a ha b hb hn)
  | 16, h => cases h; exact show ∀ a, a < 9 → ∀ b, b < 9 → a ≠ b → (TX11 a).2.1 ≠ (TX11 b).2.1 ∨ ((TX11 a).1 ≠ (TX11 b).1 ∧ (TX11 a).2.2.2 = true ∧ (TX11 b).2.2.2 = true) by decide +kernel
  | 17, h => cases h; exact fun a ha b hb hn => Or.inl (nmX12 a ha b hb hn)
  | 18, h => cases h; exact show ∀ a, a < 9 → ∀ b, b < 9 → a ≠ b → (TX13 a).2.1 ≠ (TX13 b).2.1 ∨ ((TX13 a).1 ≠ (TX13 b).1 ∧ (TX13 a).2.2.2 = true ∧ (TX13 b).2.2.2 = true) by decide +kernel
  | 19, h => cases h; exact fun a ha b hb hn => Or.inl (nmX15 a ha b hb hn)
  | 20, h => cases h; exact fun a ha b hb hn => Or.inl (nmX16 a ha b hb hn)
  | 21, h => cases h; exact fun a ha b hb hn => Or.inl (nmX17 a ha b hb hn)
  | 22, h => cases h; exact fun a ha b hb hn => Or.inl (nmX18 a ha b hb hn)
  | 23, h => cases h; exact fun a ha b hb hn => Or.inl (nmX19 a ha b hb hn)
  | 24, h => cases h; exact fun a ha b hb hn => Or.inl (nmX20 a ha b hb hn)
  | 25, h => cases h; exact fun a ha b hb hn => Or.inl (nmX21 a ha b hb hn)
  | 26, h => cases h; exact fun a ha b hb hn => Or.inl (nmX22 a ha b hb hn)
  | 27, h => cases h; exact show ∀ a, a < 3 → ∀ b, b < 3 → a ≠ b → (TX24 a).2.1 ≠ (TX24 b).2.1 ∨ ((TX24 a).1 ≠ (TX24 b).1 ∧ (TX24 a).2.2.2 = true ∧ (TX24 b).2.2.2 = true) by decide +kernel
  | 28, h => cases h; exact show ∀ a, a < 4 → ∀ b, b < 4 → a ≠ b → (TX25 a).2.1 ≠ (TX25 b).2.1 ∨ ((TX25 a).1 ≠ (TX25 b).1 ∧ (TX25 a).2.2.2 = true ∧ (TX25 b).2.2.2 = true) by decide +kernel
  | 29, h => cases h; exact fun a ha b hb hn => Or.inl (nmX26 a ha b hb hn)
  | 30, h => cases h; exact show ∀ a, a < 2 → ∀ b, b < 2 → a ≠ b → (TX27 a).2.1 ≠ (TX27 b).2.1 ∨ ((TX27 a).1 ≠ (TX27 b).1 ∧ (TX27 a).2.2.2 = true ∧ (TX27 b).2.2.2 = true) by decide +kernel
  | 31, h => cases h; exact fun a ha b hb hn => Or.inl (nmX9 a ha b hb hn)
  | k + 32, h => simp [gx_cl] at h
theorem gx_cl_ty : ∀ (c : Nat) (q : vw_C), gx_cl[c]? = some q → ∃ ty : Nat → FieldType, ∀ k, k < q.2.2 → parseFieldDescriptor (q.2.1 k).2.2.1 = some (ty k) := by
  intro c q h
  match c, h with
  | 0, h => cases h; exact ⟨tyJ2, tyJ2_ok⟩
  | 1, h => cases h; exact ⟨tyJ8, tyJ8_ok⟩
  | 2, h => cases h; exact ⟨tyJ9, tyJ9_ok⟩
  | 3, h => cases h; exact ⟨tyJ17, tyJ17_ok⟩
  | 4, h => cases h; exact ⟨tyJ25, tyJ25_ok⟩
  | 5, h => cases h; exact ⟨tyJ6, tyJ6_ok⟩
  | 6, h => cases h; exact ⟨tyJ23, tyJ23_ok⟩
  | 7, h => cases h; exact ⟨tyJ24, tyJ24_ok⟩
  | 8, h => cases h; exact ⟨tyJ26, tyJ26_ok⟩
  | 9, h => cases h; exact ⟨tyX1, tyX1_ok⟩
  | 10, h => cases h; exact ⟨tyX3, tyX3_ok⟩
  | 11, h => cases h; exact ⟨tyX4, tyX4_ok⟩
  | 12, h => cases h; exact ⟨tyX5, tyX5_ok⟩
  | 13, h => cases h; exact ⟨tyX6, tyX6_ok⟩
  | 14, h => cases h; exact ⟨tyX7, tyX7_ok⟩
  | 15, h => cases h; exact ⟨tyX8, tyX8_ok⟩
  | 16, h => cases h; exact ⟨tyX11, tyX11_ok⟩
  | 17, h => cases h; exact ⟨tyX12, tyX12_ok⟩
  | 18, h => cases h; exact ⟨tyX13, tyX13_ok⟩
  | 19, h => cases h; exact ⟨tyX15, tyX15_ok⟩
  | 20, h => cases h; exact ⟨tyX16, tyX16_ok⟩
  | 21, h => cases h; exact ⟨tyX17, tyX17_ok⟩
  | 22, h => cases h; exact ⟨tyX18, tyX18_ok⟩
  | 23, h => cases h; exact ⟨tyX19, tyX19_ok⟩
  | 24, h => cases h; exact ⟨tyX20, tyX20_ok⟩
  | 25, h => cases h; exact ⟨tyX21, tyX21_ok⟩
  | 26, h => cases h; exact ⟨tyX22, tyX22_ok⟩
  | 27, h => cases h; exact ⟨tyX24, tyX24_ok⟩
  | 28, h => cases h; exact ⟨tyX25, tyX25_ok⟩
  | 29, h => cases h; exact ⟨tyX26, tyX26_ok⟩
  | 30, h => cases h; exact ⟨tyX27, tyX27_ok⟩
  | 31, h => cases h; exact ⟨tyX9, tyX9_ok⟩
  | k + 32, h => simp [gx_cl] at h
/-- String constants: class, entry, text; the place is the constant's number -/
def gx_strs : List (String × Nat × String) := [("ContractMachine", 83, "idle"), ("ContractMachine", 85, "busy"), ("ContractMachine", 87, "full"), ("ContractMachine", 93, "coin"), ("ContractMachine", 95, "push"), ("ContractMachine", 97, "take"), ("ContractMachine", 102, "coins"), ("ContractMachine", 108, "cups"), ("ContractMachine$Parser", 15, ""), ("ContractMachine$SetupParser", 154, "state"), ("ContractMachine$SetupParser", 159, "event"), ("ContractMachine$SetupParser", 161, "var"), ("ContractMachine$SetupParser", 163, "on"), ("ContractMachine$SetupParser", 165, "always"), ("ContractMachine$SetupParser", 167, "inside"), ("ContractMachine$SetupParser", 123, "goto"), ("ContractMachine$SetupParser", 76, "when"), ("ContractMachine$SetupParser", 103, "do"), ("ContractMachine$SetupParser", 86, "add"), ("ContractMachine$SetupParser", 93, "sub"), ("ContractMachine$SetupParser", 101, "set"), ("ContractMachine$ScriptParser", 65, "fire"), ("ContractMachine$ScriptParser", 71, "set"), ("ContractMachine$ScriptParser", 73, "reset"), ("ContractMachine$ScriptParser", 75, "clear"), ("ContractMachine$Operator", 80, "above"), ("ContractMachine$Operator", 74, "atleast"), ("ContractMachine$Operator", 56, "atmost"), ("ContractMachine$Operator", 48, "below"), ("ContractMachine$Operator", 62, "equals"), ("ContractMachine$Operator", 68, "differs"), ("ContractMachineModel", 284, "state"), ("ContractMachineModel", 289, "event"), ("ContractMachineModel", 291, "var"), ("ContractMachineModel", 293, "on"), ("ContractMachineModel", 274, "goto"), ("ContractMachineModel", 276, "when"), ("ContractMachineModel", 230, "below"), ("ContractMachineModel", 236, "atmost"), ("ContractMachineModel", 238, "equals"), ("ContractMachineModel", 240, "differs"), ("ContractMachineModel", 242, "atleast"), ("ContractMachineModel", 244, "above"), ("ContractMachineModel", 246, "add"), ("ContractMachineModel", 248, "sub"), ("ContractMachineModel", 250, "set"), ("ContractMachineModel", 282, "do"), ("ContractMachineModel", 298, "always"), ("ContractMachineModel", 303, "inside"), ("ContractMachineModel", 330, "fire"), ("ContractMachineModel", 332, "reset"), ("ContractMachineModel", 334, "clear"), ("jdk/internal/util/ArraysSupport", 92, "unrecognized basic type: "), ("java/util/Arrays", 337, " > "), ("java/util/Arrays", 48, "fromIndex("), ("java/util/Arrays", 57, ") > toIndex("), ("java/util/Arrays", 59, ")"), ("java/lang/Integer", 92, "Cannot parse null string"), ("java/lang/Integer", 102, "radix "), ("java/lang/Integer", 111, " less than Character.MIN_RADIX"), ("java/lang/Integer", 116, " greater than Character.MAX_RADIX"), ("java/util/ArrayDeque", 35, "Sorry, deque too big"), ("java/lang/NumberFormatException", 15, "For input string: \""), ("java/lang/NumberFormatException", 21, "\""), ("java/lang/NumberFormatException", 23, ""), ("java/lang/NumberFormatException", 25, " under radix "), ("java/util/ArrayList", 23, "Illegal Capacity: "), ("java/lang/ArrayIndexOutOfBoundsException", 13, "Array index out of range: "), ("java/lang/StringIndexOutOfBoundsException", 13, "String index out of range: ")]
/-- statics that nobody writes: class, name, descriptor, what they hold: an int, a constant by its number, a reference or null -/
def gx_stats : List (String × String × String × (Int32 ⊕ Nat ⊕ Nat)) := [("ContractMachine$Operator", "BELOW_IT", "LContractMachine$Operator;", .inr (.inl 100)), ("ContractMachine$Operator", "ATMOST_IT", "LContractMachine$Operator;", .inr (.inl 101)), ("ContractMachine$Operator", "EQUALS_IT", "LContractMachine$Operator;", .inr (.inl 102)), ("ContractMachine$Operator", "DIFFERS_IT", "LContractMachine$Operator;", .inr (.inl 103)), ("ContractMachine$Operator", "ATLEAST_IT", "LContractMachine$Operator;", .inr (.inl 104)), ("ContractMachine$Operator", "ABOVE_IT", "LContractMachine$Operator;", .inr (.inl 105)), ("ContractMachine$Effect", "ADD", "LContractMachine$Effect;", .inr (.inl 110)), ("ContractMachine$Effect", "SUB", "LContractMachine$Effect;", .inr (.inl 111)), ("ContractMachine$Effect", "SET", "LContractMachine$Effect;", .inr (.inl 112)), ("ContractMachine$Token", "WORD", "LContractMachine$Token;", .inr (.inl 120)), ("ContractMachine$Token", "NUMBER", "LContractMachine$Token;", .inr (.inl 121)), ("ContractMachine$Token", "SEMICOLON", "LContractMachine$Token;", .inr (.inl 122)), ("ContractMachine$Token", "END", "LContractMachine$Token;", .inr (.inl 123)), ("ContractMachine$Token", "INVALID", "LContractMachine$Token;", .inr (.inl 124)), ("ContractMachine$Operator", "$VALUES", "[LContractMachine$Operator;", .inr (.inl 130)), ("java/util/ArrayList", "EMPTY_ELEMENTDATA", "[Ljava/lang/Object;", .inr (.inl 131)), ("java/lang/Integer", "DigitOnes", "[B", .inr (.inl 132)), ("java/lang/Integer", "DigitTens", "[B", .inr (.inl 133)), ("java/lang/CharacterDataLatin1", "instance", "Ljava/lang/CharacterDataLatin1;", .inr (.inl 134)), ("java/lang/CharacterDataLatin1", "DIGITS", "[B", .inr (.inl 135)), ("java/lang/String", "COMPACT_STRINGS", "Z", .inl 1), ("java/lang/Throwable", "UNASSIGNED_STACK", "[Ljava/lang/StackTraceElement;", .inr (.inr 0)), ("java/lang/Throwable", "SUPPRESSED_SENTINEL", "Ljava/util/List;", .inr (.inr 1)), ("jdk/internal/util/Preconditions", "SIOOBE_FORMATTER", "Ljava/util/function/BiFunction;", .inr (.inr 2))]
/-- constant objects: class, number -/
def gx_objs : List (String × Nat) := [("ContractMachine$Operator$1", 100), ("ContractMachine$Operator$2", 101), ("ContractMachine$Operator$3", 102), ("ContractMachine$Operator$4", 103), ("ContractMachine$Operator$5", 104), ("ContractMachine$Operator$6", 105), ("ContractMachine$Effect$1", 110), ("ContractMachine$Effect$2", 111), ("ContractMachine$Effect$3", 112), ("java/lang/CharacterDataLatin1", 134)]
/-- their fields: owner, name, descriptor, object's number, the constant that it holds -/
def gx_ofs : List (String × String × String × Nat × Nat) := [("ContractMachine$Operator", "word", "Ljava/lang/String;", 100, 28), ("ContractMachine$Operator", "word", "Ljava/lang/String;", 101, 27), ("ContractMachine$Operator", "word", "Ljava/lang/String;", 102, 29), ("ContractMachine$Operator", "word", "Ljava/lang/String;", 103, 30), ("ContractMachine$Operator", "word", "Ljava/lang/String;", 104, 26), ("ContractMachine$Operator", "word", "Ljava/lang/String;", 105, 25)]
def gx_aos : List String := ["java/lang/Object", "java/lang/String", "ContractMachine$Command", "ContractMachine$Operator"]
/-- calls through an interface: the receiver's class, the method named, the method run -/
def gx_faces : List (String × MethodName × MethodName) := [("ContractMachine$Rejected", ⟨"ContractMachine$Outcome", "applyTo", "(LContractMachine$Run;)V"⟩, ⟨"ContractMachine$Rejected", "applyTo", "(LContractMachine$Run;)V"⟩), ("ContractMachine$Rejected", ⟨"ContractMachine$Outcome", "verdict", "()I"⟩, ⟨"ContractMachine$Rejected", "verdict", "()I"⟩), ("ContractMachine$Accepted", ⟨"ContractMachine$Outcome", "applyTo", "(LContractMachine$Run;)V"⟩, ⟨"ContractMachine$Accepted", "applyTo", "(LContractMachine$Run;)V"⟩), ("ContractMachine$Accepted", ⟨"ContractMachine$Outcome", "verdict", "()I"⟩, ⟨"ContractMachine$Accepted", "verdict", "()I"⟩), ("ContractMachine$2", ⟨"ContractMachine$Visitor", "visit", "(I)V"⟩, ⟨"ContractMachine$2", "visit", "(I)V"⟩), ("ContractMachine$1", ⟨"ContractMachine$Visitor", "isDone", "()Z"⟩, ⟨"ContractMachine$Finder", "isDone", "()Z"⟩), ("ContractMachine$1", ⟨"ContractMachine$Visitor", "visit", "(I)V"⟩, ⟨"ContractMachine$Finder", "visit", "(I)V"⟩), ("ContractMachine$3", ⟨"ContractMachine$Visitor", "isDone", "()Z"⟩, ⟨"ContractMachine$Finder", "isDone", "()Z"⟩), ("ContractMachine$3", ⟨"ContractMachine$Visitor", "visit", "(I)V"⟩, ⟨"ContractMachine$Finder", "visit", "(I)V"⟩), ("ContractMachine$4", ⟨"ContractMachine$Visitor", "visit", "(I)V"⟩, ⟨"ContractMachine$4", "visit", "(I)V"⟩), ("ContractMachine$5", ⟨"ContractMachine$Visitor", "isDone", "()Z"⟩, ⟨"ContractMachine$Finder", "isDone", "()Z"⟩), ("ContractMachine$5", ⟨"ContractMachine$Visitor", "visit", "(I)V"⟩, ⟨"ContractMachine$Finder", "visit", "(I)V"⟩), ("java/util/ArrayList", ⟨"java/util/List", "add", "(Ljava/lang/Object;)Z"⟩, ⟨"java/util/ArrayList", "add", "(Ljava/lang/Object;)Z"⟩), ("java/util/ArrayList", ⟨"java/util/List", "size", "()I"⟩, ⟨"java/util/ArrayList", "size", "()I"⟩), ("java/util/ArrayList", ⟨"java/util/List", "get", "(I)Ljava/lang/Object;"⟩, ⟨"java/util/ArrayList", "get", "(I)Ljava/lang/Object;"⟩), ("java/util/ArrayList", ⟨"java/util/List", "isEmpty", "()Z"⟩, ⟨"java/util/ArrayList", "isEmpty", "()Z"⟩), ("java/util/ArrayList", ⟨"java/util/List", "iterator", "()Ljava/util/Iterator;"⟩, ⟨"java/util/ArrayList", "iterator", "()Ljava/util/Iterator;"⟩), ("java/util/ArrayList$Itr", ⟨"java/util/Iterator", "hasNext", "()Z"⟩, ⟨"java/util/ArrayList$Itr", "hasNext", "()Z"⟩), ("java/util/ArrayList$Itr", ⟨"java/util/Iterator", "next", "()Ljava/lang/Object;"⟩, ⟨"java/util/ArrayList$Itr", "next", "()Ljava/lang/Object;"⟩), ("java/lang/System$2", ⟨"jdk/internal/access/JavaLangAccess", "getUTF16Char", "([BI)C"⟩, ⟨"java/lang/System$2", "getUTF16Char", "([BI)C"⟩)]
/-- classes that are no kind of the other -/
def gx_ncs : List (String × String) := [("java/lang/IllegalArgumentException", "java/lang/IndexOutOfBoundsException"), ("java/lang/IllegalStateException", "java/lang/IndexOutOfBoundsException"), ("java/lang/IllegalStateException", "java/lang/IllegalArgumentException")]
/-- default methods of interfaces: the receiver's class, the method named, the method run -/
def gx_dfl : List (String × MethodName × MethodName) := [("ContractMachine$2", ⟨"ContractMachine$Visitor", "isDone", "()Z"⟩, ⟨"ContractMachine$Visitor", "isDone", "()Z"⟩), ("ContractMachine$4", ⟨"ContractMachine$Visitor", "isDone", "()Z"⟩, ⟨"ContractMachine$Visitor", "isDone", "()Z"⟩)]
def gx_privs : List (String × MethodName) := [("ContractMachine$SetupParser", ⟨"ContractMachine$Parser", "at", "(I)I"⟩), ("ContractMachine$ScriptParser", ⟨"ContractMachine$Parser", "at", "(I)I"⟩), ("ContractMachine$SetupParser", ⟨"ContractMachine$Parser", "endOfRun", "(III)I"⟩), ("ContractMachine$ScriptParser", ⟨"ContractMachine$Parser", "endOfRun", "(III)I"⟩), ("ContractMachine$SetupParser", ⟨"ContractMachine$Parser", "text", "(II)Ljava/lang/String;"⟩), ("ContractMachine$ScriptParser", ⟨"ContractMachine$Parser", "text", "(II)Ljava/lang/String;"⟩), ("java/lang/StringBuilder", ⟨"java/lang/AbstractStringBuilder", "appendNull", "()Ljava/lang/AbstractStringBuilder;"⟩), ("java/lang/StringBuilder", ⟨"java/lang/AbstractStringBuilder", "ensureCapacityInternal", "(I)V"⟩), ("java/lang/StringBuilder", ⟨"java/lang/AbstractStringBuilder", "newCapacity", "(I)I"⟩), ("java/lang/StringBuilder", ⟨"java/lang/AbstractStringBuilder", "putStringAt", "(ILjava/lang/String;)V"⟩), ("java/lang/StringBuilder", ⟨"java/lang/AbstractStringBuilder", "inflateIfNeededFor", "(Ljava/lang/String;)V"⟩), ("java/lang/StringBuilder", ⟨"java/lang/AbstractStringBuilder", "inflate", "()V"⟩)]
