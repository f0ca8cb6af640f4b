/-! facts of the tables, each once (printed by gen/run.py) -/
set_option maxRecDepth 100000
theorem gz_0 : gx_fld [13] 0 "ContractMachine$Transition" "source" "I" true = true := by decide +kernel
theorem gz_1 : parseFieldDescriptor "I" = some .int := by decide +kernel
theorem gz_2 : gx_fld [13] 1 "ContractMachine$Transition" "event" "I" true = true := by decide +kernel
theorem gz_3 : gx_fld [13] 2 "ContractMachine$Transition" "target" "I" true = true := by decide +kernel
theorem gz_4 : gx_fld [13] 3 "ContractMachine$Transition" "guard" "LContractMachine$Comparison;" true = true := by decide +kernel
theorem gz_5 : parseFieldDescriptor "LContractMachine$Comparison;" = some (.object "ContractMachine$Comparison") := by decide +kernel
theorem gz_6 : gx_fld [13] 4 "ContractMachine$Transition" "action" "LContractMachine$Action;" true = true := by decide +kernel
theorem gz_7 : parseFieldDescriptor "LContractMachine$Action;" = some (.object "ContractMachine$Action") := by decide +kernel
theorem gz_8 : plainName "ContractMachine$Transition" = true := by decide +kernel
theorem gz_10 : gx_cl[2]? = some (RJ9, TJ9, 4) := rfl
theorem gz_11 : gx_cl[15]? = some (RX8, TX8, 2) := rfl
theorem gz_12 : gx_cl[13]? = some (RX6, TX6, 5) := rfl
theorem gz_13 : gx_cl[11]? = some (RX4, TX4, 9) := rfl
theorem gz_9 : gx_castOk [11, 13, 15, 2] "java/lang/Object" := (gx_cok1 gz_13 (Or.inr q3299) (gx_cok1 gz_12 (Or.inr q3303) (gx_cok1 gz_11 (Or.inr q3307) (gx_cok1 gz_10 (Or.inr q3286) gx_cok0))))
theorem gz_14 : gx_fld [0] 2 "java/util/ArrayList" "size" "I" false = true := by decide +kernel
theorem gz_15 : plainName "java/util/ArrayList" = true := by decide +kernel
theorem gz_16 : gx_fld [0] 0 "java/util/AbstractList" "modCount" "I" false = true := by decide +kernel
theorem gz_17 : gx_fld [0] 1 "java/util/ArrayList" "elementData" "[Ljava/lang/Object;" false = true := by decide +kernel
theorem gz_18 : gx_mok ⟨"java/util/ArrayList", "add", "(Ljava/lang/Object;[Ljava/lang/Object;I)V"⟩ 3 := ⟨by decide, by decide, by decide +kernel⟩
theorem gz_19 : gx_cl[0]? = some (RJ2, TJ2, 3) := rfl
theorem gz_20 : gx_fld [9] 5 "ContractMachine" "definition" "LContractMachine$Definition;" false = true := by decide +kernel
theorem gz_21 : gx_fld [10] 3 "ContractMachine$Definition" "transitions" "Ljava/util/List;" true = true := by decide +kernel
def gx_df13 : List Value := [.int 0, .int 0, .int 0, .null, .null]
theorem gx_df13_ok : gx_df13 = (List.range 5).map fun k => defaultValue (tyX6 k) := rfl
theorem gz_23 : gx_mok ⟨"java/util/List", "add", "(Ljava/lang/Object;)Z"⟩ 1 := ⟨by decide, by decide, by decide +kernel⟩
theorem gz_24 : (("java/util/ArrayList" : String), (⟨"java/util/List", "add", "(Ljava/lang/Object;)Z"⟩ : MethodName), (⟨"java/util/ArrayList", "add", "(Ljava/lang/Object;)Z"⟩ : MethodName)) ∈ gx_faces := List.mem_of_getElem? (i := 12) rfl
theorem gz_25 : gx_mok ⟨"ContractMachine$Transition", "<init>", "(IIILContractMachine$Comparison;LContractMachine$Action;)V"⟩ 5 := ⟨by decide, by decide, by decide +kernel⟩
theorem gz_26 : plainName "ContractMachine" = true := by decide +kernel
theorem gz_27 : gx_fld [10] 1 "ContractMachine$Definition" "events" "Ljava/util/List;" true = true := by decide +kernel
theorem gz_28 : gx_fld [10] 0 "ContractMachine$Definition" "states" "Ljava/util/List;" true = true := by decide +kernel
theorem gz_29 : gx_fld [12] 0 "ContractMachine$Action" "variable" "I" true = true := by decide +kernel
theorem gz_30 : gx_fld [12] 2 "ContractMachine$Action" "effect" "LContractMachine$Effect;" true = true := by decide +kernel
theorem gz_31 : parseFieldDescriptor "LContractMachine$Effect;" = some (.object "ContractMachine$Effect") := by decide +kernel
theorem gz_32 : gx_fld [12] 1 "ContractMachine$Action" "constant" "I" true = true := by decide +kernel
theorem gz_33 : plainName "ContractMachine$Action" = true := by decide +kernel
theorem gz_34 : gx_fld [14] 0 "ContractMachine$Comparison" "variable" "I" true = true := by decide +kernel
theorem gz_35 : gx_fld [14] 2 "ContractMachine$Comparison" "operator" "LContractMachine$Operator;" true = true := by decide +kernel
theorem gz_36 : parseFieldDescriptor "LContractMachine$Operator;" = some (.object "ContractMachine$Operator") := by decide +kernel
theorem gz_37 : gx_fld [14] 1 "ContractMachine$Comparison" "constant" "I" true = true := by decide +kernel
theorem gz_38 : plainName "ContractMachine$Comparison" = true := by decide +kernel
theorem gz_39 : plainName "java/util/AbstractCollection" = true := by decide +kernel
theorem gz_40 : gx_mok ⟨"java/util/AbstractCollection", "<init>", "()V"⟩ 0 := ⟨by decide, by decide, by decide +kernel⟩
theorem gz_41 : plainName "java/util/AbstractList" = true := by decide +kernel
theorem gz_42 : parseFieldDescriptor "[Ljava/lang/Object;" = some (.array (.object "java/lang/Object")) := by decide +kernel
theorem gz_43 : gx_mok ⟨"java/util/AbstractList", "<init>", "()V"⟩ 0 := ⟨by decide, by decide, by decide +kernel⟩
def gx_df0 : List Value := [.int 0, .null, .int 0]
theorem gx_df0_ok : gx_df0 = (List.range 3).map fun k => defaultValue (tyJ2 k) := rfl
theorem gz_45 : parseFieldDescriptor "Ljava/util/List;" = some (.object "java/util/List") := by decide +kernel
theorem gz_46 : gx_fld [10] 2 "ContractMachine$Definition" "variables" "Ljava/util/List;" true = true := by decide +kernel
theorem gz_47 : gx_mok ⟨"java/util/ArrayList", "<init>", "(I)V"⟩ 1 := ⟨by decide, by decide, by decide +kernel⟩
theorem gz_48 : plainName "ContractMachine$Definition" = true := by decide +kernel
theorem gz_49 : gx_fld [10] 4 "ContractMachine$Definition" "initial" "I" false = true := by decide +kernel
theorem gz_50 : gx_mok ⟨"java/util/List", "size", "()I"⟩ 0 := ⟨by decide, by decide, by decide +kernel⟩
theorem gz_51 : (("java/util/ArrayList" : String), (⟨"java/util/List", "size", "()I"⟩ : MethodName), (⟨"java/util/ArrayList", "size", "()I"⟩ : MethodName)) ∈ gx_faces := List.mem_of_getElem? (i := 13) rfl
theorem gz_52 : gx_mok ⟨"ContractMachine", "weight", "(I)I"⟩ 1 := ⟨by decide, by decide, by decide +kernel⟩
theorem gz_53 : gx_fld [15] 0 "ContractMachine$Invariant" "state" "I" true = true := by decide +kernel
theorem gz_54 : gx_fld [15] 1 "ContractMachine$Invariant" "comparison" "LContractMachine$Comparison;" true = true := by decide +kernel
theorem gz_55 : plainName "ContractMachine$Invariant" = true := by decide +kernel
theorem gz_56 : plainName "ContractMachine$Operator" = true := by decide +kernel
theorem gz_57 : gx_fld [11] 0 "ContractMachine$Run" "invariants" "Ljava/util/List;" true = true := by decide +kernel
theorem gz_58 : gx_fld [11] 1 "ContractMachine$Run" "taken" "[I" true = true := by decide +kernel
theorem gz_59 : parseFieldDescriptor "[I" = some (.array .int) := by decide +kernel
theorem gz_60 : gx_fld [11] 2 "ContractMachine$Run" "visits" "[I" true = true := by decide +kernel
theorem gz_61 : gx_fld [11] 3 "ContractMachine$Run" "rejected" "[I" true = true := by decide +kernel
theorem gz_62 : gx_fld [11] 4 "ContractMachine$Run" "traceEvents" "[I" true = true := by decide +kernel
theorem gz_63 : gx_fld [11] 5 "ContractMachine$Run" "traceTransitions" "[I" true = true := by decide +kernel
theorem gz_64 : plainName "ContractMachine$Run" = true := by decide +kernel
theorem gz_65 : gx_fld [11] 6 "ContractMachine$Run" "configuration" "I" false = true := by decide +kernel
theorem gz_66 : gx_fld [11] 7 "ContractMachine$Run" "accepted" "I" false = true := by decide +kernel
theorem gz_67 : gx_fld [11] 8 "ContractMachine$Run" "traceLength" "I" false = true := by decide +kernel
theorem gz_68 : gx_mok ⟨"ContractMachine$Run", "state", "()I"⟩ 0 := ⟨by decide, by decide, by decide +kernel⟩
theorem gz_69 : gx_fld [1] 0 "java/lang/AbstractStringBuilder" "value" "[B" false = true := by decide +kernel
theorem gz_70 : parseFieldDescriptor "[B" = some (.array .byte) := by decide +kernel
theorem gz_71 : gx_fld [1] 1 "java/lang/AbstractStringBuilder" "coder" "B" false = true := by decide +kernel
theorem gz_72 : parseFieldDescriptor "B" = some .byte := by decide +kernel
theorem gz_73 : plainName "java/lang/AbstractStringBuilder" = true := by decide +kernel
theorem gz_74 : gx_mok ⟨"java/lang/AbstractStringBuilder", "<init>", "(I)V"⟩ 1 := ⟨by decide, by decide, by decide +kernel⟩
theorem gz_75 : plainName "java/lang/StringBuilder" = true := by decide +kernel
theorem gz_76 : gx_fld [3] 0 "java/util/ArrayDeque" "elements" "[Ljava/lang/Object;" false = true := by decide +kernel
theorem gz_77 : plainName "java/util/ArrayDeque" = true := by decide +kernel
theorem gz_78 : gx_fld [9] 0 "ContractMachine" "operators" "[LContractMachine$Operator;" true = true := by decide +kernel
theorem gz_79 : parseFieldDescriptor "[LContractMachine$Operator;" = some (.array (.object "ContractMachine$Operator")) := by decide +kernel
theorem gz_80 : gx_fld [9] 1 "ContractMachine" "input" "[B" true = true := by decide +kernel
theorem gz_81 : gx_fld [9] 4 "ContractMachine" "errorOffset" "I" false = true := by decide +kernel
def gx_df10 : List Value := [.null, .null, .null, .null, .int 0]
theorem gx_df10_ok : gx_df10 = (List.range 5).map fun k => defaultValue (tyX3 k) := rfl
theorem gz_83 : parseFieldDescriptor "LContractMachine$Definition;" = some (.object "ContractMachine$Definition") := by decide +kernel
def gx_df11 : List Value := [.null, .null, .null, .null, .null, .null, .int 0, .int 0, .int 0]
theorem gx_df11_ok : gx_df11 = (List.range 9).map fun k => defaultValue (tyX4 k) := rfl
theorem gz_85 : gx_fld [9] 6 "ContractMachine" "run" "LContractMachine$Run;" false = true := by decide +kernel
theorem gz_86 : parseFieldDescriptor "LContractMachine$Run;" = some (.object "ContractMachine$Run") := by decide +kernel
def gx_df3 : List Value := [.null, .int 0, .int 0]
theorem gx_df3_ok : gx_df3 = (List.range 3).map fun k => defaultValue (tyJ17 k) := rfl
theorem gz_88 : gx_fld [9] 8 "ContractMachine" "history" "Ljava/util/ArrayDeque;" true = true := by decide +kernel
theorem gz_89 : parseFieldDescriptor "Ljava/util/ArrayDeque;" = some (.object "java/util/ArrayDeque") := by decide +kernel
theorem gz_90 : gx_fld [9] 9 "ContractMachine" "depths" "[I" true = true := by decide +kernel
theorem gz_91 : gx_fld [9] 10 "ContractMachine" "firsts" "[I" true = true := by decide +kernel
theorem gz_92 : gx_fld [9] 11 "ContractMachine" "queue" "[I" true = true := by decide +kernel
def gx_df1 : List Value := [.null, .int 0, .int 0, .int 0]
theorem gx_df1_ok : gx_df1 = (List.range 4).map fun k => defaultValue (tyJ8 k) := rfl
theorem gz_94 : gx_fld [9] 14 "ContractMachine" "output" "Ljava/lang/StringBuilder;" true = true := by decide +kernel
theorem gz_95 : parseFieldDescriptor "Ljava/lang/StringBuilder;" = some (.object "java/lang/StringBuilder") := by decide +kernel
theorem gz_96 : gx_castOk [2] "java/lang/String" := (gx_cok1 gz_10 (Or.inl rfl) gx_cok0)
theorem gz_97 : gx_mok ⟨"ContractMachine", "defineStates", "([Ljava/lang/String;)V"⟩ 1 := ⟨by decide, by decide, by decide +kernel⟩
theorem gz_98 : gx_mok ⟨"ContractMachine", "defineEvents", "([Ljava/lang/String;)V"⟩ 1 := ⟨by decide, by decide, by decide +kernel⟩
theorem gz_99 : gx_mok ⟨"ContractMachine$Definition", "addVariable", "(Ljava/lang/String;I)V"⟩ 2 := ⟨by decide, by decide, by decide +kernel⟩
def gx_df12 : List Value := [.int 0, .int 0, .null]
theorem gx_df12_ok : gx_df12 = (List.range 3).map fun k => defaultValue (tyX5 k) := rfl
theorem gz_101 : gx_mok ⟨"ContractMachine", "define", "(IIILContractMachine$Comparison;LContractMachine$Action;)V"⟩ 5 := ⟨by decide, by decide, by decide +kernel⟩
def gx_df14 : List Value := [.int 0, .int 0, .null]
theorem gx_df14_ok : gx_df14 = (List.range 3).map fun k => defaultValue (tyX7 k) := rfl
def gx_df15 : List Value := [.int 0, .null]
theorem gx_df15_ok : gx_df15 = (List.range 2).map fun k => defaultValue (tyX8 k) := rfl
theorem gz_104 : gx_mok ⟨"ContractMachine$Run", "clear", "()V"⟩ 0 := ⟨by decide, by decide, by decide +kernel⟩
theorem gz_105 : gx_mok ⟨"ContractMachine$Invariant", "<init>", "(ILContractMachine$Comparison;)V"⟩ 2 := ⟨by decide, by decide, by decide +kernel⟩
theorem gz_106 : gx_mok ⟨"ContractMachine$Comparison", "<init>", "(ILContractMachine$Operator;I)V"⟩ 3 := ⟨by decide, by decide, by decide +kernel⟩
theorem gz_107 : gx_cl[14]? = some (RX7, TX7, 3) := rfl
theorem gz_108 : gx_cl[9]? = some (RX1, TX1, 15) := rfl
theorem gz_109 : gx_mok ⟨"ContractMachine$Action", "<init>", "(ILContractMachine$Effect;I)V"⟩ 3 := ⟨by decide, by decide, by decide +kernel⟩
theorem gz_110 : gx_cl[12]? = some (RX5, TX5, 3) := rfl
theorem gz_111 : gx_cl[10]? = some (RX3, TX3, 5) := rfl
theorem gz_112 : gx_mok ⟨"java/lang/StringBuilder", "<init>", "()V"⟩ 0 := ⟨by decide, by decide, by decide +kernel⟩
theorem gz_113 : gx_cl[1]? = some (RJ8, TJ8, 4) := rfl
theorem gz_114 : gx_mok ⟨"java/util/ArrayDeque", "<init>", "()V"⟩ 0 := ⟨by decide, by decide, by decide +kernel⟩
theorem gz_115 : gx_cl[3]? = some (RJ17, TJ17, 3) := rfl
theorem gz_116 : gx_mok ⟨"ContractMachine$Run", "<init>", "()V"⟩ 0 := ⟨by decide, by decide, by decide +kernel⟩
theorem gz_117 : gx_mok ⟨"ContractMachine$Definition", "<init>", "()V"⟩ 0 := ⟨by decide, by decide, by decide +kernel⟩
theorem gz_118 : gx_mok ⟨"ContractMachine$Operator", "values", "()[LContractMachine$Operator;"⟩ 0 := ⟨by decide, by decide, by decide +kernel⟩
theorem gz_119 : gx_fld [9] 2 "ContractMachine" "inputLength" "I" false = true := by decide +kernel
theorem gz_120 : gx_mok ⟨"ContractMachine", "append", "(I)V"⟩ 1 := ⟨by decide, by decide, by decide +kernel⟩
theorem gz_121 : gx_mok ⟨"ContractMachine", "isWithin", "(JJJ)Z"⟩ 3 := ⟨by decide, by decide, by decide +kernel⟩
theorem gz_122 : gx_fld [9] 3 "ContractMachine" "errorCode" "I" false = true := by decide +kernel
theorem gz_123 : gx_fld [17] 6 "ContractMachine$ParseException" "code" "I" true = true := by decide +kernel
theorem gz_124 : gx_fld [17] 7 "ContractMachine$ParseException" "offset" "I" true = true := by decide +kernel
theorem gz_125 : gx_fld [16, 18] 5 "ContractMachine$Parser" "this$0" "LContractMachine;" true = true := by decide +kernel
theorem gz_126 : plainName "ContractMachine$Parser" = true := by decide +kernel
theorem gz_127 : gx_mok ⟨"ContractMachine$Parser", "at", "(I)I"⟩ 1 := ⟨by decide, by decide, by decide +kernel⟩
theorem gz_128 : gx_cl[18]? = some (RX13, TX13, 9) := rfl
theorem gz_129 : gx_cl[16]? = some (RX11, TX11, 9) := rfl
theorem gz_130 : plainFor yJ12_max = true := by decide +kernel
theorem gz_131 : gx_mok ⟨"java/lang/Math", "max", "(II)I"⟩ 2 := ⟨by decide, by decide, by decide +kernel⟩
theorem gz_132 : plainName "jdk/internal/util/ArraysSupport" = true := by decide +kernel
theorem gz_133 : gx_mok ⟨"jdk/internal/util/ArraysSupport", "newLength", "(III)I"⟩ 3 := ⟨by decide, by decide, by decide +kernel⟩
theorem gz_134 : plainFor yJ12_min = true := by decide +kernel
theorem gz_135 : gx_mok ⟨"java/lang/Math", "min", "(II)I"⟩ 2 := ⟨by decide, by decide, by decide +kernel⟩
theorem gz_136 : plainName "java/util/Arrays" = true := by decide +kernel
theorem gz_137 : gx_mok ⟨"java/lang/AbstractStringBuilder", "newCapacity", "(I)I"⟩ 1 := ⟨by decide, by decide, by decide +kernel⟩
theorem gz_138 : gx_mok ⟨"java/util/Arrays", "copyOf", "([BI)[B"⟩ 2 := ⟨by decide, by decide, by decide +kernel⟩
theorem gz_139 : plainName "java/lang/StringLatin1" = true := by decide +kernel
theorem gz_140 : gx_fld [1] 3 "java/lang/AbstractStringBuilder" "count" "I" false = true := by decide +kernel
theorem gz_141 : gx_mok ⟨"java/lang/AbstractStringBuilder", "ensureCapacityInternal", "(I)V"⟩ 1 := ⟨by decide, by decide, by decide +kernel⟩
theorem gz_142 : gx_mok ⟨"java/lang/AbstractStringBuilder", "isLatin1", "()Z"⟩ 0 := ⟨by decide, by decide, by decide +kernel⟩
theorem gz_143 : gx_mok ⟨"java/lang/StringLatin1", "canEncode", "(C)Z"⟩ 1 := ⟨by decide, by decide, by decide +kernel⟩
theorem gz_144 : gx_mok ⟨"java/lang/AbstractStringBuilder", "append", "(C)Ljava/lang/AbstractStringBuilder;"⟩ 1 := ⟨by decide, by decide, by decide +kernel⟩
theorem gz_145 : gx_mok ⟨"java/lang/AbstractStringBuilder", "length", "()I"⟩ 0 := ⟨by decide, by decide, by decide +kernel⟩
theorem gz_146 : gx_mok ⟨"java/util/Arrays", "checkLength", "(II)V"⟩ 2 := ⟨by decide, by decide, by decide +kernel⟩
theorem gz_147 : gx_mok ⟨"java/util/Arrays", "copyOfRangeByte", "([BII)[B"⟩ 3 := ⟨by decide, by decide, by decide +kernel⟩
theorem gz_148 : gx_mok ⟨"java/lang/AbstractStringBuilder", "getValue", "()[B"⟩ 0 := ⟨by decide, by decide, by decide +kernel⟩
theorem gz_149 : gx_fld [2] 1 "java/lang/String" "coder" "B" true = true := by decide +kernel
theorem gz_150 : gx_fld [2] 0 "java/lang/String" "value" "[B" true = true := by decide +kernel
theorem gz_151 : gx_mok ⟨"java/util/Arrays", "copyOfRange", "([BII)[B"⟩ 3 := ⟨by decide, by decide, by decide +kernel⟩
theorem gz_152 : gx_fld [1] 2 "java/lang/AbstractStringBuilder" "maybeLatin1" "Z" false = true := by decide +kernel
theorem gz_153 : plainName "java/lang/String" = true := by decide +kernel
theorem gz_154 : gx_mok ⟨"java/lang/String", "<init>", "(Ljava/lang/AbstractStringBuilder;Ljava/lang/Void;)V"⟩ 2 := ⟨by decide, by decide, by decide +kernel⟩
def gx_df2 : List Value := [.null, .int 0, .int 0, .int 0]
theorem gx_df2_ok : gx_df2 = (List.range 4).map fun k => defaultValue (tyJ9 k) := rfl
theorem gz_156 : gx_mok ⟨"java/lang/String", "<init>", "(Ljava/lang/StringBuilder;)V"⟩ 1 := ⟨by decide, by decide, by decide +kernel⟩
theorem gz_157 : gx_mok ⟨"java/lang/StringBuilder", "toString", "()Ljava/lang/String;"⟩ 0 := ⟨by decide, by decide, by decide +kernel⟩
theorem gz_158 : gx_mok ⟨"java/lang/StringBuilder", "append", "(C)Ljava/lang/StringBuilder;"⟩ 1 := ⟨by decide, by decide, by decide +kernel⟩
theorem gz_159 : plainName "java/lang/CharacterData" = true := by decide +kernel
theorem gz_160 : plainName "java/lang/CharacterDataLatin1" = true := by decide +kernel
theorem gz_161 : gx_mok ⟨"java/lang/CharacterData", "digit", "(II)I"⟩ 2 := ⟨by decide, by decide, by decide +kernel⟩
theorem gz_162 : gx_mok ⟨"java/lang/CharacterData", "of", "(I)Ljava/lang/CharacterData;"⟩ 1 := ⟨by decide, by decide, by decide +kernel⟩
theorem gz_163 : plainName "java/lang/Character" = true := by decide +kernel
theorem gz_164 : gx_mok ⟨"java/lang/Character", "digit", "(II)I"⟩ 2 := ⟨by decide, by decide, by decide +kernel⟩
theorem gz_165 : plainName "jdk/internal/util/Preconditions" = true := by decide +kernel
theorem gz_166 : gx_mok ⟨"jdk/internal/util/Preconditions", "checkIndex", "(IILjava/util/function/BiFunction;)I"⟩ 3 := ⟨by decide, by decide, by decide +kernel⟩
theorem gz_167 : gx_mok ⟨"java/lang/String", "checkIndex", "(II)V"⟩ 2 := ⟨by decide, by decide, by decide +kernel⟩
theorem gz_168 : gx_mok ⟨"java/lang/String", "isLatin1", "()Z"⟩ 0 := ⟨by decide, by decide, by decide +kernel⟩
theorem gz_169 : gx_mok ⟨"java/lang/StringLatin1", "charAt", "([BI)C"⟩ 2 := ⟨by decide, by decide, by decide +kernel⟩
theorem gz_170 : gx_mok ⟨"java/lang/String", "coder", "()B"⟩ 0 := ⟨by decide, by decide, by decide +kernel⟩
theorem gz_171 : gx_mok ⟨"java/lang/String", "length", "()I"⟩ 0 := ⟨by decide, by decide, by decide +kernel⟩
theorem gz_172 : gx_mok ⟨"java/lang/String", "charAt", "(I)C"⟩ 1 := ⟨by decide, by decide, by decide +kernel⟩
theorem gz_173 : gx_mok ⟨"java/lang/Character", "digit", "(CI)I"⟩ 2 := ⟨by decide, by decide, by decide +kernel⟩
theorem gz_174 : plainName "java/lang/Integer" = true := by decide +kernel
theorem gz_175 : gx_mok ⟨"java/lang/Integer", "parseInt", "(Ljava/lang/String;I)I"⟩ 2 := ⟨by decide, by decide, by decide +kernel⟩
theorem gz_176 : gx_fld [16, 18] 1 "ContractMachine$Parser" "next" "I" false = true := by decide +kernel
theorem gz_177 : gx_fld [16, 18] 0 "ContractMachine$Parser" "start" "I" false = true := by decide +kernel
theorem gz_178 : gx_fld [16, 18] 3 "ContractMachine$Parser" "word" "Ljava/lang/String;" false = true := by decide +kernel
theorem gz_179 : parseFieldDescriptor "Ljava/lang/String;" = some (.object "java/lang/String") := by decide +kernel
theorem gz_180 : gx_fld [16, 18] 4 "ContractMachine$Parser" "token" "LContractMachine$Token;" false = true := by decide +kernel
theorem gz_181 : parseFieldDescriptor "LContractMachine$Token;" = some (.object "ContractMachine$Token") := by decide +kernel
theorem gz_182 : gx_mok ⟨"ContractMachine$Parser", "endOfRun", "(III)I"⟩ 3 := ⟨by decide, by decide, by decide +kernel⟩
theorem gz_183 : gx_mok ⟨"ContractMachine$Parser", "text", "(II)Ljava/lang/String;"⟩ 2 := ⟨by decide, by decide, by decide +kernel⟩
theorem gz_184 : gx_fld [16, 18] 2 "ContractMachine$Parser" "value" "I" false = true := by decide +kernel
theorem gz_185 : gx_mok ⟨"java/lang/Integer", "parseInt", "(Ljava/lang/String;)I"⟩ 1 := ⟨by decide, by decide, by decide +kernel⟩
theorem gz_186 : parseFieldDescriptor "LContractMachine;" = some (.object "ContractMachine") := by decide +kernel
theorem gz_187 : gx_mok ⟨"ContractMachine$Parser", "advance", "()V"⟩ 0 := ⟨by decide, by decide, by decide +kernel⟩
theorem gz_188 : gx_fld [16] 8 "ContractMachine$SetupParser" "this$0" "LContractMachine;" true = true := by decide +kernel
theorem gz_189 : gx_fld [16] 6 "ContractMachine$SetupParser" "made" "LContractMachine$Definition;" true = true := by decide +kernel
theorem gz_190 : gx_fld [16] 7 "ContractMachine$SetupParser" "begun" "LContractMachine$Run;" true = true := by decide +kernel
theorem gz_191 : gx_mok ⟨"ContractMachine$Parser", "<init>", "(LContractMachine;)V"⟩ 1 := ⟨by decide, by decide, by decide +kernel⟩
theorem gz_192 : plainName "ContractMachine$SetupParser" = true := by decide +kernel
theorem gz_193 : gx_mok ⟨"java/util/List", "isEmpty", "()Z"⟩ 0 := ⟨by decide, by decide, by decide +kernel⟩
theorem gz_194 : (("java/util/ArrayList" : String), (⟨"java/util/List", "isEmpty", "()Z"⟩ : MethodName), (⟨"java/util/ArrayList", "isEmpty", "()Z"⟩ : MethodName)) ∈ gx_faces := List.mem_of_getElem? (i := 15) rfl
theorem gz_195 : gx_fld [5, 6, 7, 8, 17] 0 "java/lang/Throwable" "cause" "Ljava/lang/Throwable;" false = true := by decide +kernel
theorem gz_196 : parseFieldDescriptor "Ljava/lang/Throwable;" = some (.object "java/lang/Throwable") := by decide +kernel
theorem gz_197 : gx_fld [5, 6, 7, 8, 17] 1 "java/lang/Throwable" "stackTrace" "[Ljava/lang/StackTraceElement;" false = true := by decide +kernel
theorem gz_198 : parseFieldDescriptor "[Ljava/lang/StackTraceElement;" = some (.array (.object "java/lang/StackTraceElement")) := by decide +kernel
theorem gz_199 : gx_fld [5, 6, 7, 8, 17] 2 "java/lang/Throwable" "suppressedExceptions" "Ljava/util/List;" false = true := by decide +kernel
theorem gz_200 : gx_fld [5, 6, 7, 8, 17] 3 "java/lang/Throwable" "detailMessage" "Ljava/lang/String;" false = true := by decide +kernel
theorem gz_201 : plainName "java/lang/Throwable" = true := by decide +kernel
theorem gz_202 : gx_mok ⟨"java/lang/Throwable", "<init>", "(Ljava/lang/String;Ljava/lang/Throwable;ZZ)V"⟩ 4 := ⟨by decide, by decide, by decide +kernel⟩
theorem gz_203 : plainName "java/lang/Exception" = true := by decide +kernel
theorem gz_204 : gx_mok ⟨"java/lang/Exception", "<init>", "(Ljava/lang/String;Ljava/lang/Throwable;ZZ)V"⟩ 4 := ⟨by decide, by decide, by decide +kernel⟩
theorem gz_205 : plainName "ContractMachine$ParseException" = true := by decide +kernel
def gx_df17 : List Value := [.null, .null, .null, .null, .null, .int 0, .int 0, .int 0]
theorem gx_df17_ok : gx_df17 = (List.range 8).map fun k => defaultValue (tyX12 k) := rfl
theorem gz_207 : gx_cl[17]? = some (RX12, TX12, 8) := rfl
theorem gz_208 : gx_mok ⟨"ContractMachine$ParseException", "<init>", "(II)V"⟩ 2 := ⟨by decide, by decide, by decide +kernel⟩
theorem gz_209 : plainName "ContractMachine$Operator$1" = true := by decide +kernel
theorem gz_210 : plainName "ContractMachine$Operator$2" = true := by decide +kernel
theorem gz_211 : plainName "ContractMachine$Operator$3" = true := by decide +kernel
theorem gz_212 : plainName "ContractMachine$Operator$4" = true := by decide +kernel
theorem gz_213 : plainName "ContractMachine$Operator$5" = true := by decide +kernel
theorem gz_214 : plainName "ContractMachine$Operator$6" = true := by decide +kernel
theorem gz_215 : gx_mok ⟨"ContractMachine$Operator", "holds", "(II)Z"⟩ 2 := ⟨by decide, by decide, by decide +kernel⟩
theorem gz_216 : gx_mok ⟨"ContractMachine", "valueIn", "(II)I"⟩ 2 := ⟨by decide, by decide, by decide +kernel⟩
theorem gz_217 : gx_mok ⟨"ContractMachine$Comparison", "holds", "(I)Z"⟩ 1 := ⟨by decide, by decide, by decide +kernel⟩
theorem gz_218 : plainName "java/util/Objects" = true := by decide +kernel
theorem gz_219 : gx_mok ⟨"java/util/ArrayList", "elementData", "(I)Ljava/lang/Object;"⟩ 1 := ⟨by decide, by decide, by decide +kernel⟩
theorem gz_220 : gx_mok ⟨"java/util/Objects", "checkIndex", "(II)I"⟩ 2 := ⟨by decide, by decide, by decide +kernel⟩
theorem gz_221 : gx_mok ⟨"java/util/List", "get", "(I)Ljava/lang/Object;"⟩ 1 := ⟨by decide, by decide, by decide +kernel⟩
theorem gz_222 : (("java/util/ArrayList" : String), (⟨"java/util/List", "get", "(I)Ljava/lang/Object;"⟩ : MethodName), (⟨"java/util/ArrayList", "get", "(I)Ljava/lang/Object;"⟩ : MethodName)) ∈ gx_faces := List.mem_of_getElem? (i := 14) rfl
theorem gz_223 : gx_castOk [15] "ContractMachine$Invariant" := (gx_cok1 gz_11 (Or.inl rfl) gx_cok0)
theorem gz_224 : gx_mok ⟨"ContractMachine$Invariant", "isBrokenBy", "(I)Z"⟩ 1 := ⟨by decide, by decide, by decide +kernel⟩
theorem gz_225 : gx_mok ⟨"ContractMachine$Parser", "expect", "(ZI)V"⟩ 2 := ⟨by decide, by decide, by decide +kernel⟩
theorem gz_226 : gx_mok ⟨"java/lang/StringLatin1", "equals", "([B[B)Z"⟩ 2 := ⟨by decide, by decide, by decide +kernel⟩
theorem gz_227 : gx_mok ⟨"java/lang/String", "equals", "(Ljava/lang/Object;)Z"⟩ 1 := ⟨by decide, by decide, by decide +kernel⟩
theorem gz_228 : gx_mok ⟨"ContractMachine$Parser", "name", "()Ljava/lang/String;"⟩ 0 := ⟨by decide, by decide, by decide +kernel⟩
theorem gz_229 : gx_mok ⟨"ContractMachine$Definition", "indexOf", "(Ljava/util/List;Ljava/lang/String;)I"⟩ 2 := ⟨by decide, by decide, by decide +kernel⟩
theorem gz_230 : gx_mok ⟨"ContractMachine$SetupParser", "expect", "(ZI)V"⟩ 2 := ⟨by decide, by decide, by decide +kernel⟩
theorem gz_231 : gx_mok ⟨"ContractMachine$SetupParser", "advance", "()V"⟩ 0 := ⟨by decide, by decide, by decide +kernel⟩
theorem gz_232 : gx_mok ⟨"ContractMachine$SetupParser", "newName", "(Ljava/util/List;)Ljava/lang/String;"⟩ 1 := ⟨by decide, by decide, by decide +kernel⟩
theorem gz_233 : gx_mok ⟨"ContractMachine$Parser", "number", "(II)I"⟩ 2 := ⟨by decide, by decide, by decide +kernel⟩
theorem gz_234 : gx_mok ⟨"ContractMachine$Parser", "isWord", "(Ljava/lang/String;)Z"⟩ 1 := ⟨by decide, by decide, by decide +kernel⟩
theorem gz_235 : gx_mok ⟨"ContractMachine$SetupParser", "known", "(Ljava/util/List;)I"⟩ 1 := ⟨by decide, by decide, by decide +kernel⟩
theorem gz_236 : gx_mok ⟨"ContractMachine$SetupParser", "operator", "()LContractMachine$Operator;"⟩ 0 := ⟨by decide, by decide, by decide +kernel⟩
theorem gz_237 : gx_mok ⟨"ContractMachine$SetupParser", "digit", "()I"⟩ 0 := ⟨by decide, by decide, by decide +kernel⟩
theorem gz_238 : gx_mok ⟨"ContractMachine$SetupParser", "comparison", "()LContractMachine$Comparison;"⟩ 0 := ⟨by decide, by decide, by decide +kernel⟩
theorem gz_239 : gx_mok ⟨"ContractMachine$SetupParser", "isWord", "(Ljava/lang/String;)Z"⟩ 1 := ⟨by decide, by decide, by decide +kernel⟩
theorem gz_240 : gx_mok ⟨"ContractMachine$SetupParser", "effect", "()LContractMachine$Effect;"⟩ 0 := ⟨by decide, by decide, by decide +kernel⟩
theorem gz_241 : gx_mok ⟨"ContractMachine$SetupParser", "keyword", "(Ljava/lang/String;)V"⟩ 1 := ⟨by decide, by decide, by decide +kernel⟩
theorem gz_242 : gx_mok ⟨"ContractMachine$SetupParser", "guard", "()LContractMachine$Comparison;"⟩ 0 := ⟨by decide, by decide, by decide +kernel⟩
theorem gz_243 : gx_mok ⟨"ContractMachine$SetupParser", "action", "()LContractMachine$Action;"⟩ 0 := ⟨by decide, by decide, by decide +kernel⟩
theorem gz_244 : gx_mok ⟨"jdk/internal/util/ArraysSupport", "signedHashCode", "(I[BII)I"⟩ 4 := ⟨by decide, by decide, by decide +kernel⟩
theorem gz_245 : gx_mok ⟨"jdk/internal/util/ArraysSupport", "vectorizedHashCode", "(Ljava/lang/Object;IIII)I"⟩ 5 := ⟨by decide, by decide, by decide +kernel⟩
theorem gz_246 : gx_fld [2] 2 "java/lang/String" "hash" "I" false = true := by decide +kernel
theorem gz_247 : gx_fld [2] 3 "java/lang/String" "hashIsZero" "Z" false = true := by decide +kernel
theorem gz_248 : parseFieldDescriptor "Z" = some .boolean := by decide +kernel
theorem gz_249 : gx_mok ⟨"java/lang/StringLatin1", "hashCode", "([B)I"⟩ 1 := ⟨by decide, by decide, by decide +kernel⟩
theorem gz_250 : gx_mok ⟨"java/lang/String", "hashCode", "()I"⟩ 0 := ⟨by decide, by decide, by decide +kernel⟩
theorem gz_251 : gx_mok ⟨"ContractMachine$SetupParser", "declare", "(Ljava/util/List;I)V"⟩ 2 := ⟨by decide, by decide, by decide +kernel⟩
theorem gz_252 : gx_mok ⟨"ContractMachine$SetupParser", "endStatement", "()V"⟩ 0 := ⟨by decide, by decide, by decide +kernel⟩
theorem gz_253 : gx_mok ⟨"ContractMachine$SetupParser", "variable", "()V"⟩ 0 := ⟨by decide, by decide, by decide +kernel⟩
theorem gz_254 : gx_mok ⟨"ContractMachine$SetupParser", "transition", "()V"⟩ 0 := ⟨by decide, by decide, by decide +kernel⟩
theorem gz_255 : gx_mok ⟨"ContractMachine$SetupParser", "invariant", "(Z)V"⟩ 1 := ⟨by decide, by decide, by decide +kernel⟩
theorem gz_256 : gx_mok ⟨"ContractMachine$SetupParser", "isOver", "()Z"⟩ 0 := ⟨by decide, by decide, by decide +kernel⟩
theorem gz_257 : gx_mok ⟨"ContractMachine$Definition", "isComplete", "()Z"⟩ 0 := ⟨by decide, by decide, by decide +kernel⟩
theorem gz_258 : gx_mok ⟨"ContractMachine$Run", "broken", "(I)I"⟩ 1 := ⟨by decide, by decide, by decide +kernel⟩
theorem gz_259 : gx_mok ⟨"ContractMachine$SetupParser", "word", "()Ljava/lang/String;"⟩ 0 := ⟨by decide, by decide, by decide +kernel⟩
theorem gz_260 : gx_mok ⟨"ContractMachine$SetupParser", "statement", "(Ljava/lang/String;)V"⟩ 1 := ⟨by decide, by decide, by decide +kernel⟩
theorem gz_261 : gx_fld [3] 1 "java/util/ArrayDeque" "head" "I" false = true := by decide +kernel
theorem gz_262 : gx_fld [3] 2 "java/util/ArrayDeque" "tail" "I" false = true := by decide +kernel
theorem gz_263 : gx_mok ⟨"java/util/ArrayDeque", "circularClear", "([Ljava/lang/Object;II)V"⟩ 3 := ⟨by decide, by decide, by decide +kernel⟩
theorem gz_264 : gx_mok ⟨"ContractMachine", "clearError", "()V"⟩ 0 := ⟨by decide, by decide, by decide +kernel⟩
def gx_df16 : List Value := [.int 0, .int 0, .int 0, .null, .null, .null, .null, .null, .null]
theorem gx_df16_ok : gx_df16 = (List.range 9).map fun k => defaultValue (tyX11 k) := rfl
theorem gz_266 : gx_mok ⟨"ContractMachine$SetupParser", "parse", "()LContractMachine$Run;"⟩ 0 := ⟨by decide, by decide, by decide +kernel⟩
theorem gz_267 : gx_mok ⟨"java/util/ArrayDeque", "clear", "()V"⟩ 0 := ⟨by decide, by decide, by decide +kernel⟩
theorem gz_268 : gx_fld [9] 7 "ContractMachine" "saved" "LContractMachine$Run;" false = true := by decide +kernel
theorem gz_269 : gx_mok ⟨"ContractMachine", "fail", "(LContractMachine$ParseException;)I"⟩ 1 := ⟨by decide, by decide, by decide +kernel⟩
theorem gz_270 : gx_mok ⟨"ContractMachine$SetupParser", "<init>", "(LContractMachine;)V"⟩ 1 := ⟨by decide, by decide, by decide +kernel⟩
theorem gz_271 : gx_fld [4] 3 "java/util/ArrayList$Itr" "this$0" "Ljava/util/ArrayList;" true = true := by decide +kernel
theorem gz_272 : parseFieldDescriptor "Ljava/util/ArrayList;" = some (.object "java/util/ArrayList") := by decide +kernel
theorem gz_273 : gx_fld [4] 1 "java/util/ArrayList$Itr" "lastRet" "I" false = true := by decide +kernel
theorem gz_274 : gx_fld [4] 2 "java/util/ArrayList$Itr" "expectedModCount" "I" false = true := by decide +kernel
theorem gz_275 : plainName "java/util/ArrayList$Itr" = true := by decide +kernel
def gx_df4 : List Value := [.int 0, .int 0, .int 0, .null]
theorem gx_df4_ok : gx_df4 = (List.range 4).map fun k => defaultValue (tyJ25 k) := rfl
theorem gz_277 : gx_mok ⟨"java/util/ArrayList$Itr", "<init>", "(Ljava/util/ArrayList;)V"⟩ 1 := ⟨by decide, by decide, by decide +kernel⟩
theorem gz_278 : gx_cl[4]? = some (RJ25, TJ25, 4) := rfl
theorem gz_279 : gx_fld [4] 0 "java/util/ArrayList$Itr" "cursor" "I" false = true := by decide +kernel
theorem gz_280 : gx_mok ⟨"java/util/ArrayList$Itr", "checkForComodification", "()V"⟩ 0 := ⟨by decide, by decide, by decide +kernel⟩
theorem gz_281 : gx_mok ⟨"java/util/List", "iterator", "()Ljava/util/Iterator;"⟩ 0 := ⟨by decide, by decide, by decide +kernel⟩
theorem gz_282 : (("java/util/ArrayList" : String), (⟨"java/util/List", "iterator", "()Ljava/util/Iterator;"⟩ : MethodName), (⟨"java/util/ArrayList", "iterator", "()Ljava/util/Iterator;"⟩ : MethodName)) ∈ gx_faces := List.mem_of_getElem? (i := 16) rfl
theorem gz_283 : gx_mok ⟨"java/util/Iterator", "hasNext", "()Z"⟩ 0 := ⟨by decide, by decide, by decide +kernel⟩
theorem gz_284 : (("java/util/ArrayList$Itr" : String), (⟨"java/util/Iterator", "hasNext", "()Z"⟩ : MethodName), (⟨"java/util/ArrayList$Itr", "hasNext", "()Z"⟩ : MethodName)) ∈ gx_faces := List.mem_of_getElem? (i := 17) rfl
theorem gz_285 : gx_mok ⟨"java/util/Iterator", "next", "()Ljava/lang/Object;"⟩ 0 := ⟨by decide, by decide, by decide +kernel⟩
theorem gz_286 : (("java/util/ArrayList$Itr" : String), (⟨"java/util/Iterator", "next", "()Ljava/lang/Object;"⟩ : MethodName), (⟨"java/util/ArrayList$Itr", "next", "()Ljava/lang/Object;"⟩ : MethodName)) ∈ gx_faces := List.mem_of_getElem? (i := 18) rfl
theorem gz_287 : gx_mok ⟨"java/util/ArrayDeque", "inc", "(II)I"⟩ 2 := ⟨by decide, by decide, by decide +kernel⟩
theorem gz_288 : gx_mok ⟨"java/util/ArrayDeque", "elementAt", "([Ljava/lang/Object;I)Ljava/lang/Object;"⟩ 2 := ⟨by decide, by decide, by decide +kernel⟩
theorem gz_289 : gx_mok ⟨"java/util/ArrayDeque", "pollFirst", "()Ljava/lang/Object;"⟩ 0 := ⟨by decide, by decide, by decide +kernel⟩
theorem gz_290 : gx_mok ⟨"java/util/ArrayDeque", "sub", "(III)I"⟩ 3 := ⟨by decide, by decide, by decide +kernel⟩
theorem gz_291 : gx_mok ⟨"java/util/ArrayDeque", "size", "()I"⟩ 0 := ⟨by decide, by decide, by decide +kernel⟩
theorem gz_292 : gx_mok ⟨"java/util/ArrayDeque", "removeFirst", "()Ljava/lang/Object;"⟩ 0 := ⟨by decide, by decide, by decide +kernel⟩
theorem gz_293 : gx_mok ⟨"java/util/ArrayDeque", "addLast", "(Ljava/lang/Object;)V"⟩ 1 := ⟨by decide, by decide, by decide +kernel⟩
theorem gz_294 : gx_mok ⟨"ContractMachine$Run", "twin", "()LContractMachine$Run;"⟩ 0 := ⟨by decide, by decide, by decide +kernel⟩
theorem gz_295 : gx_castOk [13] "ContractMachine$Transition" := (gx_cok1 gz_12 (Or.inl rfl) gx_cok0)
theorem gz_296 : gx_mok ⟨"ContractMachine$Definition", "isFor", "(LContractMachine$Transition;II)Z"⟩ 3 := ⟨by decide, by decide, by decide +kernel⟩
theorem gz_297 : gx_mok ⟨"ContractMachine$Transition", "isOpen", "(I)Z"⟩ 1 := ⟨by decide, by decide, by decide +kernel⟩
theorem gz_298 : plainName "ContractMachine$Effect$1" = true := by decide +kernel
theorem gz_299 : plainName "ContractMachine$Effect$2" = true := by decide +kernel
theorem gz_300 : plainName "ContractMachine$Effect$3" = true := by decide +kernel
theorem gz_301 : gx_mok ⟨"ContractMachine$Effect", "apply", "(II)I"⟩ 2 := ⟨by decide, by decide, by decide +kernel⟩
theorem gz_302 : gx_mok ⟨"ContractMachine$Action", "apply", "(I)I"⟩ 1 := ⟨by decide, by decide, by decide +kernel⟩
theorem gz_303 : gx_mok ⟨"ContractMachine$Definition", "choose", "(II)I"⟩ 2 := ⟨by decide, by decide, by decide +kernel⟩
theorem gz_304 : gx_mok ⟨"ContractMachine$Transition", "next", "(I)I"⟩ 1 := ⟨by decide, by decide, by decide +kernel⟩
theorem gz_305 : gx_mok ⟨"ContractMachine$Definition", "hasTransition", "(II)Z"⟩ 2 := ⟨by decide, by decide, by decide +kernel⟩
theorem gz_306 : gx_fld [24] 0 "ContractMachine$Accepted" "event" "I" true = true := by decide +kernel
theorem gz_307 : gx_fld [24] 1 "ContractMachine$Accepted" "transition" "I" true = true := by decide +kernel
theorem gz_308 : gx_fld [24] 2 "ContractMachine$Accepted" "next" "I" true = true := by decide +kernel
theorem gz_309 : plainName "ContractMachine$Accepted" = true := by decide +kernel
theorem gz_310 : gx_fld [23] 0 "ContractMachine$Rejected" "verdict" "I" true = true := by decide +kernel
theorem gz_311 : plainName "ContractMachine$Rejected" = true := by decide +kernel
theorem gz_312 : gx_mok ⟨"ContractMachine", "verdict", "(II)I"⟩ 2 := ⟨by decide, by decide, by decide +kernel⟩
def gx_df24 : List Value := [.int 0, .int 0, .int 0]
theorem gx_df24_ok : gx_df24 = (List.range 3).map fun k => defaultValue (tyX20 k) := rfl
theorem gz_314 : gx_mok ⟨"ContractMachine", "next", "(II)I"⟩ 2 := ⟨by decide, by decide, by decide +kernel⟩
theorem gz_315 : gx_mok ⟨"ContractMachine$Accepted", "<init>", "(III)V"⟩ 3 := ⟨by decide, by decide, by decide +kernel⟩
theorem gz_316 : gx_cl[24]? = some (RX20, TX20, 3) := rfl
def gx_df23 : List Value := [.int 0]
theorem gx_df23_ok : gx_df23 = (List.range 1).map fun k => defaultValue (tyX19 k) := rfl
theorem gz_318 : gx_mok ⟨"ContractMachine$Rejected", "<init>", "(I)V"⟩ 1 := ⟨by decide, by decide, by decide +kernel⟩
theorem gz_319 : gx_cl[23]? = some (RX19, TX19, 1) := rfl
theorem gz_320 : gx_mok ⟨"ContractMachine$Run", "trace", "(II)V"⟩ 2 := ⟨by decide, by decide, by decide +kernel⟩
theorem gz_321 : gx_fld [19] 1 "ContractMachine$ScriptParser$1" "this$1" "LContractMachine$ScriptParser;" true = true := by decide +kernel
theorem gz_322 : gx_fld [18] 8 "ContractMachine$ScriptParser" "this$0" "LContractMachine;" true = true := by decide +kernel
theorem gz_323 : gx_fld [19] 0 "ContractMachine$ScriptParser$1" "val$event" "I" true = true := by decide +kernel
theorem gz_324 : gx_mok ⟨"ContractMachine", "outcome", "(I)LContractMachine$Outcome;"⟩ 1 := ⟨by decide, by decide, by decide +kernel⟩
theorem gz_325 : gx_mok ⟨"ContractMachine$Outcome", "applyTo", "(LContractMachine$Run;)V"⟩ 1 := ⟨by decide, by decide, by decide +kernel⟩
theorem gz_326 : (("ContractMachine$Rejected" : String), (⟨"ContractMachine$Outcome", "applyTo", "(LContractMachine$Run;)V"⟩ : MethodName), (⟨"ContractMachine$Rejected", "applyTo", "(LContractMachine$Run;)V"⟩ : MethodName)) ∈ gx_faces := List.mem_of_getElem? (i := 0) rfl
theorem gz_327 : (("ContractMachine$Accepted" : String), (⟨"ContractMachine$Outcome", "applyTo", "(LContractMachine$Run;)V"⟩ : MethodName), (⟨"ContractMachine$Accepted", "applyTo", "(LContractMachine$Run;)V"⟩ : MethodName)) ∈ gx_faces := List.mem_of_getElem? (i := 2) rfl
theorem gz_328 : plainName "ContractMachine$ScriptParser$1" = true := by decide +kernel
theorem gz_329 : gx_mok ⟨"ContractMachine$Run", "valuation", "()I"⟩ 0 := ⟨by decide, by decide, by decide +kernel⟩
theorem gz_330 : gx_mok ⟨"ContractMachine", "configurationWith", "(II)I"⟩ 2 := ⟨by decide, by decide, by decide +kernel⟩
theorem gz_331 : gx_fld [20] 2 "ContractMachine$ScriptParser$2" "this$1" "LContractMachine$ScriptParser;" true = true := by decide +kernel
theorem gz_332 : gx_fld [20] 0 "ContractMachine$ScriptParser$2" "val$variable" "I" true = true := by decide +kernel
theorem gz_333 : gx_fld [20] 1 "ContractMachine$ScriptParser$2" "val$value" "I" true = true := by decide +kernel
theorem gz_334 : gx_mok ⟨"ContractMachine", "canSet", "(II)Z"⟩ 2 := ⟨by decide, by decide, by decide +kernel⟩
theorem gz_335 : gx_mok ⟨"ContractMachine", "set", "(II)I"⟩ 2 := ⟨by decide, by decide, by decide +kernel⟩
theorem gz_336 : plainName "ContractMachine$ScriptParser$2" = true := by decide +kernel
theorem gz_337 : gx_fld [21] 0 "ContractMachine$ScriptParser$3" "this$1" "LContractMachine$ScriptParser;" true = true := by decide +kernel
theorem gz_338 : gx_mok ⟨"ContractMachine", "restart", "()I"⟩ 0 := ⟨by decide, by decide, by decide +kernel⟩
theorem gz_339 : plainName "ContractMachine$ScriptParser$3" = true := by decide +kernel
theorem gz_340 : gx_fld [22] 0 "ContractMachine$ScriptParser$4" "this$1" "LContractMachine$ScriptParser;" true = true := by decide +kernel
theorem gz_341 : plainName "ContractMachine$ScriptParser$4" = true := by decide +kernel
theorem gz_342 : gx_mok ⟨"ContractMachine", "changed", "()LContractMachine$Run;"⟩ 0 := ⟨by decide, by decide, by decide +kernel⟩
theorem gz_343 : gx_fld [18] 7 "ContractMachine$ScriptParser" "count" "I" false = true := by decide +kernel
theorem gz_344 : gx_fld [18] 6 "ContractMachine$ScriptParser" "commands" "[LContractMachine$Command;" true = true := by decide +kernel
theorem gz_345 : gx_mok ⟨"ContractMachine$Command", "execute", "()Z"⟩ 0 := ⟨by decide, by decide, by decide +kernel⟩
theorem gz_346 : gx_cl[19]? = some (RX15, TX15, 2) := rfl
theorem gz_347 : gx_cl[20]? = some (RX16, TX16, 3) := rfl
theorem gz_348 : gx_cl[21]? = some (RX17, TX17, 1) := rfl
theorem gz_349 : gx_cl[22]? = some (RX18, TX18, 1) := rfl
theorem gz_350 : parseFieldDescriptor "[LContractMachine$Command;" = some (.array (.object "ContractMachine$Command")) := by decide +kernel
theorem gz_351 : plainName "ContractMachine$ScriptParser" = true := by decide +kernel
theorem gz_352 : plainName "ContractMachine$Command" = true := by decide +kernel
theorem gz_353 : parseFieldDescriptor "LContractMachine$ScriptParser;" = some (.object "ContractMachine$ScriptParser") := by decide +kernel
theorem gz_354 : gx_mok ⟨"ContractMachine$Command", "<init>", "()V"⟩ 0 := ⟨by decide, by decide, by decide +kernel⟩
def gx_df22 : List Value := [.null]
theorem gx_df22_ok : gx_df22 = (List.range 1).map fun k => defaultValue (tyX18 k) := rfl
theorem gz_356 : gx_mok ⟨"ContractMachine$ScriptParser$4", "<init>", "(LContractMachine$ScriptParser;)V"⟩ 1 := ⟨by decide, by decide, by decide +kernel⟩
theorem gz_357 : gx_mok ⟨"ContractMachine$ScriptParser", "known", "(Ljava/util/List;)I"⟩ 1 := ⟨by decide, by decide, by decide +kernel⟩
def gx_df19 : List Value := [.int 0, .null]
theorem gx_df19_ok : gx_df19 = (List.range 2).map fun k => defaultValue (tyX15 k) := rfl
theorem gz_359 : gx_mok ⟨"ContractMachine$ScriptParser$1", "<init>", "(LContractMachine$ScriptParser;I)V"⟩ 2 := ⟨by decide, by decide, by decide +kernel⟩
def gx_df21 : List Value := [.null]
theorem gx_df21_ok : gx_df21 = (List.range 1).map fun k => defaultValue (tyX17 k) := rfl
theorem gz_361 : gx_mok ⟨"ContractMachine$ScriptParser$3", "<init>", "(LContractMachine$ScriptParser;)V"⟩ 1 := ⟨by decide, by decide, by decide +kernel⟩
theorem gz_362 : gx_mok ⟨"ContractMachine$ScriptParser", "digit", "()I"⟩ 0 := ⟨by decide, by decide, by decide +kernel⟩
def gx_df20 : List Value := [.int 0, .int 0, .null]
theorem gx_df20_ok : gx_df20 = (List.range 3).map fun k => defaultValue (tyX16 k) := rfl
theorem gz_364 : gx_mok ⟨"ContractMachine$ScriptParser$2", "<init>", "(LContractMachine$ScriptParser;II)V"⟩ 3 := ⟨by decide, by decide, by decide +kernel⟩
theorem gz_365 : gx_mok ⟨"ContractMachine$ScriptParser", "firing", "()LContractMachine$Command;"⟩ 0 := ⟨by decide, by decide, by decide +kernel⟩
theorem gz_366 : gx_mok ⟨"ContractMachine$ScriptParser", "setting", "()LContractMachine$Command;"⟩ 0 := ⟨by decide, by decide, by decide +kernel⟩
theorem gz_367 : gx_mok ⟨"ContractMachine$ScriptParser", "resetting", "()LContractMachine$Command;"⟩ 0 := ⟨by decide, by decide, by decide +kernel⟩
theorem gz_368 : gx_mok ⟨"ContractMachine$ScriptParser", "clearing", "()LContractMachine$Command;"⟩ 0 := ⟨by decide, by decide, by decide +kernel⟩
theorem gz_369 : gx_mok ⟨"ContractMachine$ScriptParser", "isOver", "()Z"⟩ 0 := ⟨by decide, by decide, by decide +kernel⟩
theorem gz_370 : gx_mok ⟨"ContractMachine$ScriptParser", "word", "()Ljava/lang/String;"⟩ 0 := ⟨by decide, by decide, by decide +kernel⟩
theorem gz_371 : gx_mok ⟨"ContractMachine$ScriptParser", "isCommand", "(Ljava/lang/String;)Z"⟩ 1 := ⟨by decide, by decide, by decide +kernel⟩
theorem gz_372 : gx_mok ⟨"ContractMachine$ScriptParser", "expect", "(ZI)V"⟩ 2 := ⟨by decide, by decide, by decide +kernel⟩
theorem gz_373 : gx_mok ⟨"ContractMachine$ScriptParser", "advance", "()V"⟩ 0 := ⟨by decide, by decide, by decide +kernel⟩
theorem gz_374 : gx_mok ⟨"ContractMachine$ScriptParser", "command", "(Ljava/lang/String;)LContractMachine$Command;"⟩ 1 := ⟨by decide, by decide, by decide +kernel⟩
theorem gz_375 : gx_castOk [19, 20, 21, 22] "ContractMachine$Command" := (gx_cok1 gz_346 (Or.inr q3342) (gx_cok1 gz_347 (Or.inr q3343) (gx_cok1 gz_348 (Or.inr q3344) (gx_cok1 gz_349 (Or.inr q3345) gx_cok0))))
theorem gz_376 : gx_mok ⟨"ContractMachine$ScriptParser", "endStatement", "()V"⟩ 0 := ⟨by decide, by decide, by decide +kernel⟩
def gx_df18 : List Value := [.int 0, .int 0, .int 0, .null, .null, .null, .null, .int 0, .null]
theorem gx_df18_ok : gx_df18 = (List.range 9).map fun k => defaultValue (tyX13 k) := rfl
theorem gz_378 : gx_mok ⟨"ContractMachine$ScriptParser", "parse", "()LContractMachine$ScriptParser;"⟩ 0 := ⟨by decide, by decide, by decide +kernel⟩
theorem gz_379 : gx_mok ⟨"ContractMachine", "run", "(LContractMachine$ScriptParser;)I"⟩ 1 := ⟨by decide, by decide, by decide +kernel⟩
theorem gz_380 : gx_mok ⟨"ContractMachine$ScriptParser", "<init>", "(LContractMachine;)V"⟩ 1 := ⟨by decide, by decide, by decide +kernel⟩
theorem gz_381 : gx_mok ⟨"ContractMachine", "isDeadlock", "(I)Z"⟩ 1 := ⟨by decide, by decide, by decide +kernel⟩
theorem gz_382 : gx_mok ⟨"ContractMachine$Run", "allRejected", "()I"⟩ 0 := ⟨by decide, by decide, by decide +kernel⟩
theorem gz_383 : gx_fld [26] 0 "ContractMachine$2" "this$0" "LContractMachine;" true = true := by decide +kernel
theorem gz_384 : plainName "ContractMachine$2" = true := by decide +kernel
theorem gz_385 : gx_fld [25] 2 "ContractMachine$Search" "this$0" "LContractMachine;" true = true := by decide +kernel
theorem gz_386 : plainName "ContractMachine$Search" = true := by decide +kernel
theorem gz_387 : gx_fld [29] 0 "ContractMachine$4" "this$0" "LContractMachine;" true = true := by decide +kernel
theorem gz_388 : gx_fld [9] 13 "ContractMachine" "deadlocks" "I" false = true := by decide +kernel
theorem gz_389 : plainName "ContractMachine$4" = true := by decide +kernel
theorem gz_390 : gx_fld [27, 28, 30] 0 "ContractMachine$Finder" "this$0" "LContractMachine;" true = true := by decide +kernel
theorem gz_391 : gx_fld [9] 12 "ContractMachine" "found" "I" false = true := by decide +kernel
theorem gz_392 : plainName "ContractMachine$Finder" = true := by decide +kernel
theorem gz_393 : gx_fld [27] 1 "ContractMachine$1" "val$state" "I" true = true := by decide +kernel
theorem gz_394 : plainName "ContractMachine$1" = true := by decide +kernel
theorem gz_395 : gx_fld [28] 3 "ContractMachine$3" "this$0" "LContractMachine;" true = true := by decide +kernel
theorem gz_396 : gx_fld [28] 1 "ContractMachine$3" "val$t" "LContractMachine$Transition;" true = true := by decide +kernel
theorem gz_397 : gx_fld [28] 2 "ContractMachine$3" "val$transition" "I" true = true := by decide +kernel
theorem gz_398 : plainName "ContractMachine$3" = true := by decide +kernel
theorem gz_399 : gx_fld [30] 1 "ContractMachine$5" "this$0" "LContractMachine;" true = true := by decide +kernel
theorem gz_400 : plainName "ContractMachine$5" = true := by decide +kernel
theorem gz_401 : gx_mok ⟨"ContractMachine$Finder", "isSought", "(I)Z"⟩ 1 := ⟨by decide, by decide, by decide +kernel⟩
theorem gz_402 : gx_cl[27]? = some (RX24, TX24, 3) := rfl
theorem gz_403 : gx_cl[28]? = some (RX25, TX25, 4) := rfl
theorem gz_404 : gx_cl[30]? = some (RX27, TX27, 2) := rfl
theorem gz_405 : gx_fld [25] 1 "ContractMachine$Search" "end" "I" false = true := by decide +kernel
theorem gz_406 : gx_mok ⟨"ContractMachine$Search", "mark", "(III)V"⟩ 3 := ⟨by decide, by decide, by decide +kernel⟩
theorem gz_407 : gx_cl[25]? = some (RX21, TX21, 3) := rfl
theorem gz_408 : plainName "ContractMachine$Visitor" = true := by decide +kernel
theorem gz_409 : gx_fld [25] 0 "ContractMachine$Search" "begin" "I" false = true := by decide +kernel
theorem gz_410 : gx_mok ⟨"ContractMachine$Visitor", "isDone", "()Z"⟩ 0 := ⟨by decide, by decide, by decide +kernel⟩
theorem gz_411 : gx_cl[29]? = some (RX26, TX26, 1) := rfl
theorem gz_412 : (("ContractMachine$4" : String), (⟨"ContractMachine$Visitor", "isDone", "()Z"⟩ : MethodName), (⟨"ContractMachine$Visitor", "isDone", "()Z"⟩ : MethodName)) ∈ gx_dfl := List.mem_of_getElem? (i := 1) rfl
theorem gz_413 : gx_cl[26]? = some (RX22, TX22, 1) := rfl
theorem gz_414 : (("ContractMachine$2" : String), (⟨"ContractMachine$Visitor", "isDone", "()Z"⟩ : MethodName), (⟨"ContractMachine$Visitor", "isDone", "()Z"⟩ : MethodName)) ∈ gx_dfl := List.mem_of_getElem? (i := 0) rfl
theorem gz_415 : (("ContractMachine$5" : String), (⟨"ContractMachine$Visitor", "isDone", "()Z"⟩ : MethodName), (⟨"ContractMachine$Finder", "isDone", "()Z"⟩ : MethodName)) ∈ gx_faces := List.mem_of_getElem? (i := 10) rfl
theorem gz_416 : (("ContractMachine$3" : String), (⟨"ContractMachine$Visitor", "isDone", "()Z"⟩ : MethodName), (⟨"ContractMachine$Finder", "isDone", "()Z"⟩ : MethodName)) ∈ gx_faces := List.mem_of_getElem? (i := 7) rfl
theorem gz_417 : (("ContractMachine$1" : String), (⟨"ContractMachine$Visitor", "isDone", "()Z"⟩ : MethodName), (⟨"ContractMachine$Finder", "isDone", "()Z"⟩ : MethodName)) ∈ gx_faces := List.mem_of_getElem? (i := 5) rfl
theorem gz_418 : gx_mok ⟨"ContractMachine$Visitor", "visit", "(I)V"⟩ 1 := ⟨by decide, by decide, by decide +kernel⟩
theorem gz_419 : (("ContractMachine$2" : String), (⟨"ContractMachine$Visitor", "visit", "(I)V"⟩ : MethodName), (⟨"ContractMachine$2", "visit", "(I)V"⟩ : MethodName)) ∈ gx_faces := List.mem_of_getElem? (i := 4) rfl
theorem gz_420 : (("ContractMachine$5" : String), (⟨"ContractMachine$Visitor", "visit", "(I)V"⟩ : MethodName), (⟨"ContractMachine$Finder", "visit", "(I)V"⟩ : MethodName)) ∈ gx_faces := List.mem_of_getElem? (i := 11) rfl
theorem gz_421 : (("ContractMachine$3" : String), (⟨"ContractMachine$Visitor", "visit", "(I)V"⟩ : MethodName), (⟨"ContractMachine$Finder", "visit", "(I)V"⟩ : MethodName)) ∈ gx_faces := List.mem_of_getElem? (i := 8) rfl
theorem gz_422 : (("ContractMachine$1" : String), (⟨"ContractMachine$Visitor", "visit", "(I)V"⟩ : MethodName), (⟨"ContractMachine$Finder", "visit", "(I)V"⟩ : MethodName)) ∈ gx_faces := List.mem_of_getElem? (i := 6) rfl
theorem gz_423 : (("ContractMachine$4" : String), (⟨"ContractMachine$Visitor", "visit", "(I)V"⟩ : MethodName), (⟨"ContractMachine$4", "visit", "(I)V"⟩ : MethodName)) ∈ gx_faces := List.mem_of_getElem? (i := 9) rfl
theorem gz_424 : gx_mok ⟨"ContractMachine$Search", "expand", "(I)V"⟩ 1 := ⟨by decide, by decide, by decide +kernel⟩
def gx_df25 : List Value := [.int 0, .int 0, .null]
theorem gx_df25_ok : gx_df25 = (List.range 3).map fun k => defaultValue (tyX21 k) := rfl
def gx_df26 : List Value := [.null]
theorem gx_df26_ok : gx_df26 = (List.range 1).map fun k => defaultValue (tyX22 k) := rfl
theorem gz_427 : gx_mok ⟨"ContractMachine$Search", "inBreadth", "(LContractMachine$Visitor;)I"⟩ 1 := ⟨by decide, by decide, by decide +kernel⟩
theorem gz_428 : gx_mok ⟨"ContractMachine$2", "<init>", "(LContractMachine;)V"⟩ 1 := ⟨by decide, by decide, by decide +kernel⟩
theorem gz_429 : gx_mok ⟨"ContractMachine$Search", "<init>", "(LContractMachine;)V"⟩ 1 := ⟨by decide, by decide, by decide +kernel⟩
def gx_df29 : List Value := [.null]
theorem gx_df29_ok : gx_df29 = (List.range 1).map fun k => defaultValue (tyX26 k) := rfl
theorem gz_431 : gx_mok ⟨"ContractMachine$4", "<init>", "(LContractMachine;)V"⟩ 1 := ⟨by decide, by decide, by decide +kernel⟩
theorem gz_432 : gx_mok ⟨"ContractMachine$Finder", "<init>", "(LContractMachine;)V"⟩ 1 := ⟨by decide, by decide, by decide +kernel⟩
def gx_df30 : List Value := [.null, .null]
theorem gx_df30_ok : gx_df30 = (List.range 2).map fun k => defaultValue (tyX27 k) := rfl
theorem gz_434 : gx_mok ⟨"ContractMachine$5", "<init>", "(LContractMachine;)V"⟩ 1 := ⟨by decide, by decide, by decide +kernel⟩
theorem gz_435 : gx_mok ⟨"ContractMachine", "areAccountsConsistent", "()Z"⟩ 0 := ⟨by decide, by decide, by decide +kernel⟩
theorem gz_436 : gx_mok ⟨"ContractMachine$Search", "inDepth", "()I"⟩ 0 := ⟨by decide, by decide, by decide +kernel⟩
theorem gz_437 : gx_mok ⟨"ContractMachine", "reachableCount", "()I"⟩ 0 := ⟨by decide, by decide, by decide +kernel⟩
theorem gz_438 : gx_mok ⟨"java/lang/Integer", "getChars", "(II[B)I"⟩ 3 := ⟨by decide, by decide, by decide +kernel⟩
theorem gz_439 : gx_mok ⟨"java/lang/Integer", "stringSize", "(I)I"⟩ 1 := ⟨by decide, by decide, by decide +kernel⟩
theorem gz_440 : gx_mok ⟨"java/lang/AbstractStringBuilder", "append", "(I)Ljava/lang/AbstractStringBuilder;"⟩ 1 := ⟨by decide, by decide, by decide +kernel⟩
theorem gz_441 : gx_mok ⟨"java/lang/AbstractStringBuilder", "inflateIfNeededFor", "(Ljava/lang/String;)V"⟩ 1 := ⟨by decide, by decide, by decide +kernel⟩
theorem gz_442 : gx_mok ⟨"java/lang/String", "getBytes", "([BIB)V"⟩ 3 := ⟨by decide, by decide, by decide +kernel⟩
theorem gz_443 : gx_mok ⟨"java/lang/AbstractStringBuilder", "putStringAt", "(ILjava/lang/String;)V"⟩ 2 := ⟨by decide, by decide, by decide +kernel⟩
theorem gz_444 : gx_mok ⟨"java/lang/AbstractStringBuilder", "append", "(Ljava/lang/String;)Ljava/lang/AbstractStringBuilder;"⟩ 1 := ⟨by decide, by decide, by decide +kernel⟩
theorem gz_445 : gx_mok ⟨"java/util/Arrays", "rangeCheck", "(III)V"⟩ 3 := ⟨by decide, by decide, by decide +kernel⟩
theorem gz_446 : gx_mok ⟨"java/util/Arrays", "fill", "([BIIB)V"⟩ 4 := ⟨by decide, by decide, by decide +kernel⟩
theorem gz_447 : gx_mok ⟨"java/lang/StringLatin1", "fillNull", "([BII)V"⟩ 3 := ⟨by decide, by decide, by decide +kernel⟩
theorem gz_448 : gx_mok ⟨"java/lang/AbstractStringBuilder", "setLength", "(I)V"⟩ 1 := ⟨by decide, by decide, by decide +kernel⟩
theorem gz_449 : gx_mok ⟨"java/lang/StringBuilder", "setLength", "(I)V"⟩ 1 := ⟨by decide, by decide, by decide +kernel⟩
theorem gz_450 : gx_mok ⟨"java/lang/StringBuilder", "append", "(Ljava/lang/String;)Ljava/lang/StringBuilder;"⟩ 1 := ⟨by decide, by decide, by decide +kernel⟩
theorem gz_451 : gx_mok ⟨"java/lang/StringBuilder", "length", "()I"⟩ 0 := ⟨by decide, by decide, by decide +kernel⟩
theorem gz_452 : gx_mok ⟨"java/lang/StringBuilder", "append", "(I)Ljava/lang/StringBuilder;"⟩ 1 := ⟨by decide, by decide, by decide +kernel⟩
theorem gz_453 : gx_mok ⟨"java/lang/AbstractStringBuilder", "charAt", "(I)C"⟩ 1 := ⟨by decide, by decide, by decide +kernel⟩
theorem gz_454 : gx_mok ⟨"java/lang/StringBuilder", "charAt", "(I)C"⟩ 1 := ⟨by decide, by decide, by decide +kernel⟩
theorem gz_455 : gx_mok ⟨"java/lang/Throwable", "<init>", "()V"⟩ 0 := ⟨by decide, by decide, by decide +kernel⟩
theorem gz_456 : gx_mok ⟨"java/lang/Exception", "<init>", "()V"⟩ 0 := ⟨by decide, by decide, by decide +kernel⟩
theorem gz_457 : plainName "java/lang/RuntimeException" = true := by decide +kernel
theorem gz_458 : gx_mok ⟨"java/lang/RuntimeException", "<init>", "()V"⟩ 0 := ⟨by decide, by decide, by decide +kernel⟩
theorem gz_459 : plainName "java/lang/IndexOutOfBoundsException" = true := by decide +kernel
theorem gz_460 : ∀ w ∈ vx_at0 "ContractMachine" 5 "java/lang/IndexOutOfBoundsException" ["java/lang/RuntimeException", "java/lang/Exception"], w ∈ lw_tbl := by decide +kernel
theorem gz_460g : (vx_at0 "ContractMachine" 5 "java/lang/IndexOutOfBoundsException" ["java/lang/RuntimeException", "java/lang/Exception"]).all (fun w => goodWord w || gx_okN w) = true := by decide +kernel
theorem gz_461 : gx_mok ⟨"ContractMachine", "requireIndex", "(Z)V"⟩ 1 := ⟨by decide, by decide, by decide +kernel⟩
theorem gz_462 : gx_mok ⟨"ContractMachine", "checkIndex", "(II)V"⟩ 2 := ⟨by decide, by decide, by decide +kernel⟩
theorem gz_463 : gx_mok ⟨"ContractMachine", "letter", "(Ljava/util/List;II)I"⟩ 3 := ⟨by decide, by decide, by decide +kernel⟩
theorem gz_464 : gx_mok ⟨"ContractMachine", "checkVariable", "(I)V"⟩ 1 := ⟨by decide, by decide, by decide +kernel⟩
theorem gz_465 : gx_mok ⟨"ContractMachine", "transition", "(I)LContractMachine$Transition;"⟩ 1 := ⟨by decide, by decide, by decide +kernel⟩
theorem gz_466 : gx_mok ⟨"ContractMachine", "invariant", "(I)LContractMachine$Invariant;"⟩ 1 := ⟨by decide, by decide, by decide +kernel⟩
theorem gz_467 : gx_mok ⟨"ContractMachine", "checkEvent", "(I)V"⟩ 1 := ⟨by decide, by decide, by decide +kernel⟩
theorem gz_468 : gx_mok ⟨"ContractMachine", "checkState", "(I)V"⟩ 1 := ⟨by decide, by decide, by decide +kernel⟩
theorem gz_469 : plainName "java/lang/IllegalArgumentException" = true := by decide +kernel
theorem gz_470 : ∀ w ∈ vx_at0 "ContractMachine" 11 "java/lang/IllegalArgumentException" ["java/lang/RuntimeException", "java/lang/Exception"], w ∈ lw_tbl := by decide +kernel
theorem gz_470g : (vx_at0 "ContractMachine" 11 "java/lang/IllegalArgumentException" ["java/lang/RuntimeException", "java/lang/Exception"]).all (fun w => goodWord w || gx_okN w) = true := by decide +kernel
theorem gz_471 : gx_mok ⟨"ContractMachine", "requireArgument", "(Z)V"⟩ 1 := ⟨by decide, by decide, by decide +kernel⟩
theorem gz_472 : gx_fld [27] 2 "ContractMachine$1" "this$0" "LContractMachine;" true = true := by decide +kernel
def gx_df27 : List Value := [.null, .int 0, .null]
theorem gx_df27_ok : gx_df27 = (List.range 3).map fun k => defaultValue (tyX24 k) := rfl
theorem gz_474 : gx_mok ⟨"ContractMachine$1", "<init>", "(LContractMachine;I)V"⟩ 2 := ⟨by decide, by decide, by decide +kernel⟩
theorem gz_475 : gx_mok ⟨"ContractMachine", "findState", "(I)I"⟩ 1 := ⟨by decide, by decide, by decide +kernel⟩
theorem gz_476 : parseFieldDescriptor "LContractMachine$Transition;" = some (.object "ContractMachine$Transition") := by decide +kernel
def gx_df28 : List Value := [.null, .null, .int 0, .null]
theorem gx_df28_ok : gx_df28 = (List.range 4).map fun k => defaultValue (tyX25 k) := rfl
theorem gz_478 : gx_mok ⟨"ContractMachine$3", "<init>", "(LContractMachine;LContractMachine$Transition;I)V"⟩ 3 := ⟨by decide, by decide, by decide +kernel⟩
theorem gz_479 : gx_mok ⟨"ContractMachine$Outcome", "verdict", "()I"⟩ 0 := ⟨by decide, by decide, by decide +kernel⟩
theorem gz_480 : (("ContractMachine$Rejected" : String), (⟨"ContractMachine$Outcome", "verdict", "()I"⟩ : MethodName), (⟨"ContractMachine$Rejected", "verdict", "()I"⟩ : MethodName)) ∈ gx_faces := List.mem_of_getElem? (i := 1) rfl
theorem gz_481 : (("ContractMachine$Accepted" : String), (⟨"ContractMachine$Outcome", "verdict", "()I"⟩ : MethodName), (⟨"ContractMachine$Accepted", "verdict", "()I"⟩ : MethodName)) ∈ gx_faces := List.mem_of_getElem? (i := 3) rfl
theorem gz_482 : plainName "java/lang/IllegalStateException" = true := by decide +kernel
theorem gz_483 : ∀ w ∈ vx_at0 "ContractMachine" 14 "java/lang/IllegalStateException" ["java/lang/RuntimeException", "java/lang/Exception"], w ∈ lw_tbl := by decide +kernel
theorem gz_483g : (vx_at0 "ContractMachine" 14 "java/lang/IllegalStateException" ["java/lang/RuntimeException", "java/lang/Exception"]).all (fun w => goodWord w || gx_okN w) = true := by decide +kernel
theorem gz_484 : gx_mok ⟨"ContractMachine", "requireState", "(Z)V"⟩ 1 := ⟨by decide, by decide, by decide +kernel⟩
theorem gz_485 : gx_mok ⟨"ContractMachine", "canAdd", "(LContractMachine$Invariant;)Z"⟩ 1 := ⟨by decide, by decide, by decide +kernel⟩
theorem gz_486 : plainName "java/util/NoSuchElementException" = true := by decide +kernel
theorem gz_487 : ∀ w ∈ vx_at0 "ContractMachine" 17 "java/util/NoSuchElementException" ["java/lang/RuntimeException", "java/lang/Exception"], w ∈ lw_tbl := by decide +kernel
theorem gz_487g : (vx_at0 "ContractMachine" 17 "java/util/NoSuchElementException" ["java/lang/RuntimeException", "java/lang/Exception"]).all (fun w => goodWord w || gx_okN w) = true := by decide +kernel
theorem gz_488 : gx_mok ⟨"java/util/ArrayDeque", "dec", "(II)I"⟩ 2 := ⟨by decide, by decide, by decide +kernel⟩
theorem gz_489 : gx_mok ⟨"java/util/ArrayDeque", "pollLast", "()Ljava/lang/Object;"⟩ 0 := ⟨by decide, by decide, by decide +kernel⟩
theorem gz_490 : gx_mok ⟨"java/util/ArrayDeque", "isEmpty", "()Z"⟩ 0 := ⟨by decide, by decide, by decide +kernel⟩
theorem gz_491 : gx_mok ⟨"java/util/ArrayDeque", "removeLast", "()Ljava/lang/Object;"⟩ 0 := ⟨by decide, by decide, by decide +kernel⟩
theorem gz_492 : gx_castOk [11] "ContractMachine$Run" := (gx_cok1 gz_13 (Or.inl rfl) gx_cok0)
theorem gz_493 : gx_mok ⟨"ContractMachine", "requireElement", "(Z)V"⟩ 1 := ⟨by decide, by decide, by decide +kernel⟩
theorem gz_494 : gx_fld [31] 0 "ContractMachineModel" "w" "[I" true = true := by decide +kernel
theorem gz_495 : plainName "ContractMachineModel" = true := by decide +kernel
theorem gz_496 : gx_mok ⟨"ContractMachineModel", "goesToStart", "()V"⟩ 0 := ⟨by decide, by decide, by decide +kernel⟩
theorem gz_497 : gx_cl[31]? = some (RX9, TX9, 31) := rfl
theorem gz_498 : gx_fld [31] 1 "ContractMachineModel" "wKept" "[I" true = true := by decide +kernel
theorem gz_499 : gx_fld [31] 2 "ContractMachineModel" "saved" "[I" true = true := by decide +kernel
theorem gz_500 : gx_fld [31] 3 "ContractMachineModel" "past" "[I" true = true := by decide +kernel
theorem gz_501 : gx_fld [31] 9 "ContractMachineModel" "steps" "[I" true = true := by decide +kernel
theorem gz_502 : gx_fld [31] 10 "ContractMachineModel" "line" "[I" true = true := by decide +kernel
theorem gz_503 : gx_fld [31] 12 "ContractMachineModel" "input" "[I" true = true := by decide +kernel
theorem gz_504 : gx_fld [31] 15 "ContractMachineModel" "lastOffset" "I" false = true := by decide +kernel
theorem gz_505 : gx_fld [31] 23 "ContractMachineModel" "n" "[I" true = true := by decide +kernel
theorem gz_506 : gx_fld [31] 24 "ContractMachineModel" "order" "[I" true = true := by decide +kernel
theorem gz_507 : gx_fld [31] 25 "ContractMachineModel" "numbers" "[I" true = true := by decide +kernel
theorem gz_508 : gx_fld [31] 27 "ContractMachineModel" "seen" "[Z" true = true := by decide +kernel
theorem gz_509 : parseFieldDescriptor "[Z" = some (.array .boolean) := by decide +kernel
theorem gz_510 : gx_fld [31] 28 "ContractMachineModel" "stack" "[I" true = true := by decide +kernel
theorem gz_511 : gx_fld [31] 29 "ContractMachineModel" "output" "[I" true = true := by decide +kernel
theorem gz_512 : gx_mok ⟨"ContractMachineModel", "begins", "()V"⟩ 0 := ⟨by decide, by decide, by decide +kernel⟩
theorem gz_513 : gx_mok ⟨"ContractMachineModel", "names", "(IIIIII)V"⟩ 6 := ⟨by decide, by decide, by decide +kernel⟩
theorem gz_514 : gx_mok ⟨"ContractMachineModel", "leads", "(III)V"⟩ 3 := ⟨by decide, by decide, by decide +kernel⟩
theorem gz_515 : gx_mok ⟨"ContractMachineModel", "acts", "(III)V"⟩ 3 := ⟨by decide, by decide, by decide +kernel⟩
theorem gz_516 : gx_mok ⟨"ContractMachineModel", "guards", "(III)V"⟩ 3 := ⟨by decide, by decide, by decide +kernel⟩
theorem gz_517 : gx_mok ⟨"ContractMachineModel", "keeps", "(IIII)I"⟩ 4 := ⟨by decide, by decide, by decide +kernel⟩
theorem gz_518 : gx_mok ⟨"ContractMachineModel", "starts", "()V"⟩ 0 := ⟨by decide, by decide, by decide +kernel⟩
theorem gz_519 : gx_fld [31] 6 "ContractMachineModel" "thrown" "I" false = true := by decide +kernel
theorem gz_520 : gx_fld [31] 13 "ContractMachineModel" "inputMany" "I" false = true := by decide +kernel
theorem gz_521 : gx_mok ⟨"ContractMachineModel", "appendWord", "(I)V"⟩ 1 := ⟨by decide, by decide, by decide +kernel⟩
theorem gz_522 : gx_mok ⟨"ContractMachineModel", "inRange", "(III)Z"⟩ 3 := ⟨by decide, by decide, by decide +kernel⟩
theorem gz_523 : gx_fld [31] 16 "ContractMachineModel" "error" "I" false = true := by decide +kernel
theorem gz_524 : gx_fld [31] 14 "ContractMachineModel" "lastError" "I" false = true := by decide +kernel
theorem gz_525 : gx_fld [31] 17 "ContractMachineModel" "offset" "I" false = true := by decide +kernel
theorem gz_526 : gx_fld [31] 19 "ContractMachineModel" "begin" "I" false = true := by decide +kernel
theorem gz_527 : gx_mok ⟨"ContractMachineModel", "weight", "(I)I"⟩ 1 := ⟨by decide, by decide, by decide +kernel⟩
theorem gz_528 : gx_mok ⟨"ContractMachineModel", "ofInvariant", "(II)I"⟩ 2 := ⟨by decide, by decide, by decide +kernel⟩
theorem gz_529 : gx_mok ⟨"ContractMachineModel", "holds", "(III)Z"⟩ 3 := ⟨by decide, by decide, by decide +kernel⟩
theorem gz_530 : gx_mok ⟨"ContractMachineModel", "valueIn", "(II)I"⟩ 2 := ⟨by decide, by decide, by decide +kernel⟩
theorem gz_531 : gx_mok ⟨"ContractMachineModel", "compares", "(II)Z"⟩ 2 := ⟨by decide, by decide, by decide +kernel⟩
theorem gz_532 : gx_mok ⟨"ContractMachineModel", "stateIn", "(I)I"⟩ 1 := ⟨by decide, by decide, by decide +kernel⟩
theorem gz_533 : gx_mok ⟨"ContractMachineModel", "breaks", "(II)Z"⟩ 2 := ⟨by decide, by decide, by decide +kernel⟩
theorem gz_534 : gx_fld [31] 21 "ContractMachineModel" "token" "I" false = true := by decide +kernel
theorem gz_535 : gx_fld [31] 18 "ContractMachineModel" "nextByte" "I" false = true := by decide +kernel
theorem gz_536 : gx_mok ⟨"ContractMachineModel", "byteAt", "(I)I"⟩ 1 := ⟨by decide, by decide, by decide +kernel⟩
theorem gz_537 : gx_fld [31] 20 "ContractMachineModel" "value" "I" false = true := by decide +kernel
theorem gz_538 : gx_mok ⟨"ContractMachineModel", "isLetter", "(I)Z"⟩ 1 := ⟨by decide, by decide, by decide +kernel⟩
theorem gz_539 : gx_mok ⟨"ContractMachineModel", "isNameAt", "(I)Z"⟩ 1 := ⟨by decide, by decide, by decide +kernel⟩
theorem gz_540 : gx_mok ⟨"ContractMachineModel", "failsAt", "(I)Z"⟩ 1 := ⟨by decide, by decide, by decide +kernel⟩
theorem gz_541 : gx_mok ⟨"ContractMachineModel", "seesName", "()Z"⟩ 0 := ⟨by decide, by decide, by decide +kernel⟩
theorem gz_542 : gx_mok ⟨"ContractMachineModel", "nameHere", "(II)I"⟩ 2 := ⟨by decide, by decide, by decide +kernel⟩
theorem gz_543 : gx_mok ⟨"ContractMachineModel", "advanceToken", "()V"⟩ 0 := ⟨by decide, by decide, by decide +kernel⟩
theorem gz_544 : gx_mok ⟨"ContractMachineModel", "isWord", "(Ljava/lang/String;)Z"⟩ 1 := ⟨by decide, by decide, by decide +kernel⟩
theorem gz_545 : gx_fld [31] 22 "ContractMachineModel" "got" "I" false = true := by decide +kernel
theorem gz_546 : gx_mok ⟨"ContractMachineModel", "seesNumber", "(II)Z"⟩ 2 := ⟨by decide, by decide, by decide +kernel⟩
theorem gz_547 : gx_mok ⟨"ContractMachineModel", "takesNumber", "(II)Z"⟩ 2 := ⟨by decide, by decide, by decide +kernel⟩
theorem gz_548 : gx_mok ⟨"ContractMachineModel", "takesKnown", "(III)Z"⟩ 3 := ⟨by decide, by decide, by decide +kernel⟩
theorem gz_549 : gx_mok ⟨"ContractMachineModel", "opHere", "()I"⟩ 0 := ⟨by decide, by decide, by decide +kernel⟩
theorem gz_550 : gx_mok ⟨"ContractMachineModel", "takesWord", "(Z)Z"⟩ 1 := ⟨by decide, by decide, by decide +kernel⟩
theorem gz_551 : gx_mok ⟨"ContractMachineModel", "takes", "(I)Z"⟩ 1 := ⟨by decide, by decide, by decide +kernel⟩
theorem gz_552 : gx_mok ⟨"ContractMachineModel", "actionHere", "()I"⟩ 0 := ⟨by decide, by decide, by decide +kernel⟩
theorem gz_553 : gx_mok ⟨"ContractMachineModel", "takesThree", "(IZ)Z"⟩ 2 := ⟨by decide, by decide, by decide +kernel⟩
theorem gz_554 : gx_mok ⟨"ContractMachineModel", "takesSemicolon", "()Z"⟩ 0 := ⟨by decide, by decide, by decide +kernel⟩
theorem gz_555 : gx_mok ⟨"ContractMachineModel", "takesNewName", "(II)Z"⟩ 2 := ⟨by decide, by decide, by decide +kernel⟩
theorem gz_556 : gx_mok ⟨"ContractMachineModel", "readNamed", "(III)Z"⟩ 3 := ⟨by decide, by decide, by decide +kernel⟩
theorem gz_557 : gx_mok ⟨"ContractMachineModel", "readTransition", "()Z"⟩ 0 := ⟨by decide, by decide, by decide +kernel⟩
theorem gz_558 : gx_mok ⟨"ContractMachineModel", "readInvariant", "(Z)Z"⟩ 1 := ⟨by decide, by decide, by decide +kernel⟩
theorem gz_559 : gx_mok ⟨"ContractMachineModel", "start", "()I"⟩ 0 := ⟨by decide, by decide, by decide +kernel⟩
theorem gz_560 : gx_mok ⟨"ContractMachineModel", "firstBroken", "(I)I"⟩ 1 := ⟨by decide, by decide, by decide +kernel⟩
theorem gz_561 : gx_mok ⟨"ContractMachineModel", "readSetupStatement", "()Z"⟩ 0 := ⟨by decide, by decide, by decide +kernel⟩
theorem gz_562 : gx_fld [31] 26 "ContractMachineModel" "orders" "I" false = true := by decide +kernel
theorem gz_563 : gx_mok ⟨"ContractMachineModel", "startsText", "()V"⟩ 0 := ⟨by decide, by decide, by decide +kernel⟩
theorem gz_564 : gx_mok ⟨"ContractMachineModel", "readText", "()Z"⟩ 0 := ⟨by decide, by decide, by decide +kernel⟩
theorem gz_565 : gx_mok ⟨"ContractMachineModel", "endsText", "()V"⟩ 0 := ⟨by decide, by decide, by decide +kernel⟩
theorem gz_566 : gx_fld [31] 4 "ContractMachineModel" "pastMany" "I" false = true := by decide +kernel
theorem gz_567 : gx_fld [31] 5 "ContractMachineModel" "isSaved" "Z" false = true := by decide +kernel
theorem gz_568 : gx_mok ⟨"ContractMachineModel", "copies", "([II[II)V"⟩ 4 := ⟨by decide, by decide, by decide +kernel⟩
theorem gz_569 : gx_mok ⟨"ContractMachineModel", "of", "(II)I"⟩ 2 := ⟨by decide, by decide, by decide +kernel⟩
theorem gz_570 : gx_fld [31] 7 "ContractMachineModel" "chosen" "I" false = true := by decide +kernel
theorem gz_571 : gx_mok ⟨"ContractMachineModel", "isGuardRight", "(II)Z"⟩ 2 := ⟨by decide, by decide, by decide +kernel⟩
theorem gz_572 : gx_fld [31] 8 "ContractMachineModel" "next" "I" false = true := by decide +kernel
theorem gz_573 : gx_mok ⟨"ContractMachineModel", "choose", "(II)Z"⟩ 2 := ⟨by decide, by decide, by decide +kernel⟩
theorem gz_574 : gx_mok ⟨"ContractMachineModel", "acted", "(II)I"⟩ 2 := ⟨by decide, by decide, by decide +kernel⟩
theorem gz_575 : gx_mok ⟨"ContractMachineModel", "with", "(III)I"⟩ 3 := ⟨by decide, by decide, by decide +kernel⟩
theorem gz_576 : gx_mok ⟨"ContractMachineModel", "here", "()I"⟩ 0 := ⟨by decide, by decide, by decide +kernel⟩
theorem gz_577 : gx_mok ⟨"ContractMachineModel", "verdict", "(II)I"⟩ 2 := ⟨by decide, by decide, by decide +kernel⟩
theorem gz_578 : gx_mok ⟨"ContractMachineModel", "traces", "(II)V"⟩ 2 := ⟨by decide, by decide, by decide +kernel⟩
theorem gz_579 : gx_mok ⟨"ContractMachineModel", "fires", "(I)I"⟩ 1 := ⟨by decide, by decide, by decide +kernel⟩
theorem gz_580 : gx_mok ⟨"ContractMachineModel", "maySet", "(II)Z"⟩ 2 := ⟨by decide, by decide, by decide +kernel⟩
theorem gz_581 : gx_mok ⟨"ContractMachineModel", "setsValue", "(II)I"⟩ 2 := ⟨by decide, by decide, by decide +kernel⟩
theorem gz_582 : gx_mok ⟨"ContractMachineModel", "resets", "()I"⟩ 0 := ⟨by decide, by decide, by decide +kernel⟩
theorem gz_583 : gx_mok ⟨"ContractMachineModel", "clears", "()I"⟩ 0 := ⟨by decide, by decide, by decide +kernel⟩
theorem gz_584 : gx_mok ⟨"ContractMachineModel", "scriptHere", "()I"⟩ 0 := ⟨by decide, by decide, by decide +kernel⟩
theorem gz_585 : gx_mok ⟨"ContractMachineModel", "takesRest", "(I)Z"⟩ 1 := ⟨by decide, by decide, by decide +kernel⟩
theorem gz_586 : gx_mok ⟨"ContractMachineModel", "remembers", "()V"⟩ 0 := ⟨by decide, by decide, by decide +kernel⟩
theorem gz_587 : gx_mok ⟨"ContractMachineModel", "does", "(I)Z"⟩ 1 := ⟨by decide, by decide, by decide +kernel⟩
theorem gz_588 : gx_mok ⟨"ContractMachineModel", "readScriptStatement", "()Z"⟩ 0 := ⟨by decide, by decide, by decide +kernel⟩
theorem gz_589 : gx_mok ⟨"ContractMachineModel", "fails", "(ZI)Z"⟩ 2 := ⟨by decide, by decide, by decide +kernel⟩
theorem gz_590 : gx_mok ⟨"ContractMachineModel", "no", "(II)Z"⟩ 2 := ⟨by decide, by decide, by decide +kernel⟩
theorem gz_591 : gx_mok ⟨"ContractMachineModel", "letter", "(II)I"⟩ 2 := ⟨by decide, by decide, by decide +kernel⟩
theorem gz_592 : gx_mok ⟨"ContractMachineModel", "isStuck", "(I)Z"⟩ 1 := ⟨by decide, by decide, by decide +kernel⟩
theorem gz_593 : gx_mok ⟨"ContractMachineModel", "one", "(Z)I"⟩ 1 := ⟨by decide, by decide, by decide +kernel⟩
theorem gz_594 : gx_mok ⟨"ContractMachineModel", "counted", "(II)I"⟩ 2 := ⟨by decide, by decide, by decide +kernel⟩
theorem gz_595 : gx_fld [31] 11 "ContractMachineModel" "lined" "I" false = true := by decide +kernel
theorem gz_596 : gx_mok ⟨"ContractMachineModel", "reaches", "(II)V"⟩ 2 := ⟨by decide, by decide, by decide +kernel⟩
theorem gz_597 : gx_mok ⟨"ContractMachineModel", "searches", "(I)V"⟩ 1 := ⟨by decide, by decide, by decide +kernel⟩
theorem gz_598 : gx_mok ⟨"ContractMachineModel", "stepsBetween", "(II)I"⟩ 2 := ⟨by decide, by decide, by decide +kernel⟩
theorem gz_599 : gx_mok ⟨"ContractMachineModel", "sumOf", "(II)I"⟩ 2 := ⟨by decide, by decide, by decide +kernel⟩
theorem gz_600 : gx_mok ⟨"ContractMachineModel", "deepCount", "()I"⟩ 0 := ⟨by decide, by decide, by decide +kernel⟩
theorem gz_601 : gx_mok ⟨"ContractMachineModel", "mayKeep", "(III)Z"⟩ 3 := ⟨by decide, by decide, by decide +kernel⟩
theorem gz_602 : gx_fld [31] 30 "ContractMachineModel" "outputMany" "I" false = true := by decide +kernel
theorem gz_603 : gx_mok ⟨"ContractMachineModel", "write", "(I)V"⟩ 1 := ⟨by decide, by decide, by decide +kernel⟩
theorem gz_604 : gx_mok ⟨"ContractMachineModel", "writeName", "(I)V"⟩ 1 := ⟨by decide, by decide, by decide +kernel⟩
theorem gz_605 : gx_mok ⟨"ContractMachine", "stateNameByte", "(II)I"⟩ 2 := ⟨by decide, by decide, by decide +kernel⟩
theorem gz_606 : plainName "ContractMachineLaw" = true := by decide +kernel
theorem gz_607 : gx_mok ⟨"ContractMachine", "eventNameByte", "(II)I"⟩ 2 := ⟨by decide, by decide, by decide +kernel⟩
theorem gz_608 : gx_mok ⟨"ContractMachine", "variableNameByte", "(II)I"⟩ 2 := ⟨by decide, by decide, by decide +kernel⟩
theorem gz_609 : gx_mok ⟨"ContractMachine", "valueOf", "(I)I"⟩ 1 := ⟨by decide, by decide, by decide +kernel⟩
theorem gz_610 : gx_mok ⟨"ContractMachine", "initialValueOf", "(I)I"⟩ 1 := ⟨by decide, by decide, by decide +kernel⟩
theorem gz_611 : gx_mok ⟨"ContractMachine", "sourceOf", "(I)I"⟩ 1 := ⟨by decide, by decide, by decide +kernel⟩
theorem gz_612 : gx_mok ⟨"ContractMachine", "eventOf", "(I)I"⟩ 1 := ⟨by decide, by decide, by decide +kernel⟩
theorem gz_613 : gx_mok ⟨"ContractMachine", "targetOf", "(I)I"⟩ 1 := ⟨by decide, by decide, by decide +kernel⟩
theorem gz_614 : gx_mok ⟨"ContractMachine", "hasGuard", "(I)Z"⟩ 1 := ⟨by decide, by decide, by decide +kernel⟩
theorem gz_615 : gx_mok ⟨"ContractMachine", "guardHolds", "(I)Z"⟩ 1 := ⟨by decide, by decide, by decide +kernel⟩
theorem gz_616 : gx_mok ⟨"ContractMachine", "stateOfInvariant", "(I)I"⟩ 1 := ⟨by decide, by decide, by decide +kernel⟩
theorem gz_617 : gx_mok ⟨"ContractMachine", "comparisonHolds", "(I)Z"⟩ 1 := ⟨by decide, by decide, by decide +kernel⟩
theorem gz_618 : gx_mok ⟨"ContractMachine", "verdictOf", "(I)I"⟩ 1 := ⟨by decide, by decide, by decide +kernel⟩
theorem gz_619 : gx_mok ⟨"ContractMachine", "chosenTransition", "(I)I"⟩ 1 := ⟨by decide, by decide, by decide +kernel⟩
theorem gz_620 : gx_mok ⟨"ContractMachine", "brokenInvariant", "(I)I"⟩ 1 := ⟨by decide, by decide, by decide +kernel⟩
theorem gz_621 : gx_mok ⟨"ContractMachine", "timesTaken", "(I)I"⟩ 1 := ⟨by decide, by decide, by decide +kernel⟩
theorem gz_622 : gx_mok ⟨"ContractMachine", "visitsOf", "(I)I"⟩ 1 := ⟨by decide, by decide, by decide +kernel⟩
theorem gz_623 : gx_mok ⟨"ContractMachine", "rejectedWith", "(I)I"⟩ 1 := ⟨by decide, by decide, by decide +kernel⟩
theorem gz_624 : gx_mok ⟨"ContractMachine", "isReachable", "(I)Z"⟩ 1 := ⟨by decide, by decide, by decide +kernel⟩
theorem gz_625 : gx_mok ⟨"ContractMachine", "canBeTaken", "(I)Z"⟩ 1 := ⟨by decide, by decide, by decide +kernel⟩
theorem gz_626 : gx_mok ⟨"ContractMachine", "stepsTo", "(I)I"⟩ 1 := ⟨by decide, by decide, by decide +kernel⟩
theorem gz_627 : gx_mok ⟨"ContractMachine", "firstEventTo", "(I)I"⟩ 1 := ⟨by decide, by decide, by decide +kernel⟩
theorem gz_628 : gx_mok ⟨"ContractMachine", "fire", "(I)I"⟩ 1 := ⟨by decide, by decide, by decide +kernel⟩
theorem gz_629 : gx_mok ⟨"ContractMachine", "setValue", "(II)I"⟩ 2 := ⟨by decide, by decide, by decide +kernel⟩
theorem gz_630 : gx_mok ⟨"ContractMachine", "addAlways", "(III)I"⟩ 3 := ⟨by decide, by decide, by decide +kernel⟩
theorem gz_631 : gx_mok ⟨"ContractMachine", "undo", "()I"⟩ 0 := ⟨by decide, by decide, by decide +kernel⟩
theorem gz_632 : gx_mok ⟨"ContractMachine", "restoreState", "()I"⟩ 0 := ⟨by decide, by decide, by decide +kernel⟩
def gx_df9 : List Value := [.null, .null, .int 0, .int 0, .int 0, .null, .null, .null, .null, .null, .null, .null, .int 0, .int 0, .null]
theorem gx_df9_ok : gx_df9 = (List.range 15).map fun k => defaultValue (tyX1 k) := rfl
def gx_df31 : List Value := [.null, .null, .null, .null, .int 0, .int 0, .int 0, .int 0, .int 0, .null, .null, .int 0, .null, .int 0, .int 0, .int 0, .int 0, .int 0, .int 0, .int 0, .int 0, .int 0, .int 0, .null, .null, .null, .int 0, .null, .null, .null, .int 0]
theorem gx_df31_ok : gx_df31 = (List.range 31).map fun k => defaultValue (tyX9 k) := rfl
theorem gz_635 : gx_mok ⟨"ContractMachine", "appendInput", "(IIIII)I"⟩ 5 := ⟨by decide, by decide, by decide +kernel⟩
theorem gz_636 : gx_mok ⟨"ContractMachineModel", "appendInput", "(IIIII)I"⟩ 5 := ⟨by decide, by decide, by decide +kernel⟩
theorem gz_637 : gx_mok ⟨"ContractMachine", "truncateInput", "(I)Z"⟩ 1 := ⟨by decide, by decide, by decide +kernel⟩
theorem gz_638 : gx_mok ⟨"ContractMachineModel", "truncateInput", "(I)Z"⟩ 1 := ⟨by decide, by decide, by decide +kernel⟩
theorem gz_639 : gx_mok ⟨"ContractMachine", "loadMachine", "()I"⟩ 0 := ⟨by decide, by decide, by decide +kernel⟩
theorem gz_640 : gx_mok ⟨"ContractMachineModel", "loadMachine", "()I"⟩ 0 := ⟨by decide, by decide, by decide +kernel⟩
theorem gz_641 : gx_mok ⟨"ContractMachine", "runScript", "()I"⟩ 0 := ⟨by decide, by decide, by decide +kernel⟩
theorem gz_642 : gx_mok ⟨"ContractMachineModel", "runScript", "()I"⟩ 0 := ⟨by decide, by decide, by decide +kernel⟩
theorem gz_643 : gx_mok ⟨"ContractMachine", "errorCode", "()I"⟩ 0 := ⟨by decide, by decide, by decide +kernel⟩
theorem gz_644 : gx_mok ⟨"ContractMachineModel", "errorCode", "()I"⟩ 0 := ⟨by decide, by decide, by decide +kernel⟩
theorem gz_645 : gx_mok ⟨"ContractMachine", "errorOffset", "()I"⟩ 0 := ⟨by decide, by decide, by decide +kernel⟩
theorem gz_646 : gx_mok ⟨"ContractMachineModel", "errorOffset", "()I"⟩ 0 := ⟨by decide, by decide, by decide +kernel⟩
theorem gz_647 : gx_mok ⟨"ContractMachine", "stateCount", "()I"⟩ 0 := ⟨by decide, by decide, by decide +kernel⟩
theorem gz_648 : gx_mok ⟨"ContractMachineModel", "stateCount", "()I"⟩ 0 := ⟨by decide, by decide, by decide +kernel⟩
theorem gz_649 : gx_mok ⟨"ContractMachine", "eventCount", "()I"⟩ 0 := ⟨by decide, by decide, by decide +kernel⟩
theorem gz_650 : gx_mok ⟨"ContractMachineModel", "eventCount", "()I"⟩ 0 := ⟨by decide, by decide, by decide +kernel⟩
theorem gz_651 : gx_mok ⟨"ContractMachine", "variableCount", "()I"⟩ 0 := ⟨by decide, by decide, by decide +kernel⟩
theorem gz_652 : gx_mok ⟨"ContractMachineModel", "variableCount", "()I"⟩ 0 := ⟨by decide, by decide, by decide +kernel⟩
theorem gz_653 : gx_mok ⟨"ContractMachine", "transitionCount", "()I"⟩ 0 := ⟨by decide, by decide, by decide +kernel⟩
theorem gz_654 : gx_mok ⟨"ContractMachineModel", "transitionCount", "()I"⟩ 0 := ⟨by decide, by decide, by decide +kernel⟩
theorem gz_655 : gx_mok ⟨"ContractMachine", "invariantCount", "()I"⟩ 0 := ⟨by decide, by decide, by decide +kernel⟩
theorem gz_656 : gx_mok ⟨"ContractMachineModel", "invariantCount", "()I"⟩ 0 := ⟨by decide, by decide, by decide +kernel⟩
theorem gz_657 : gx_mok ⟨"ContractMachineModel", "stateNameByte", "(II)I"⟩ 2 := ⟨by decide, by decide, by decide +kernel⟩
theorem gz_658 : gx_mok ⟨"ContractMachineModel", "thrown", "()I"⟩ 0 := ⟨by decide, by decide, by decide +kernel⟩
theorem gz_659 : gx_mok ⟨"ContractMachineLaw", "stateNameByte", "(LContractMachine;II[J)I"⟩ 4 := ⟨by decide, by decide, by decide +kernel⟩
theorem gz_660 : gx_mok ⟨"ContractMachineModel", "eventNameByte", "(II)I"⟩ 2 := ⟨by decide, by decide, by decide +kernel⟩
theorem gz_661 : gx_mok ⟨"ContractMachineLaw", "eventNameByte", "(LContractMachine;II[J)I"⟩ 4 := ⟨by decide, by decide, by decide +kernel⟩
theorem gz_662 : gx_mok ⟨"ContractMachineModel", "variableNameByte", "(II)I"⟩ 2 := ⟨by decide, by decide, by decide +kernel⟩
theorem gz_663 : gx_mok ⟨"ContractMachineLaw", "variableNameByte", "(LContractMachine;II[J)I"⟩ 4 := ⟨by decide, by decide, by decide +kernel⟩
theorem gz_664 : gx_mok ⟨"ContractMachine", "currentState", "()I"⟩ 0 := ⟨by decide, by decide, by decide +kernel⟩
theorem gz_665 : gx_mok ⟨"ContractMachineModel", "currentState", "()I"⟩ 0 := ⟨by decide, by decide, by decide +kernel⟩
theorem gz_666 : gx_mok ⟨"ContractMachineModel", "valueOf", "(I)I"⟩ 1 := ⟨by decide, by decide, by decide +kernel⟩
theorem gz_667 : gx_mok ⟨"ContractMachineLaw", "valueOf", "(LContractMachine;I[J)I"⟩ 3 := ⟨by decide, by decide, by decide +kernel⟩
theorem gz_668 : gx_mok ⟨"ContractMachineModel", "initialValueOf", "(I)I"⟩ 1 := ⟨by decide, by decide, by decide +kernel⟩
theorem gz_669 : gx_mok ⟨"ContractMachineLaw", "initialValueOf", "(LContractMachine;I[J)I"⟩ 3 := ⟨by decide, by decide, by decide +kernel⟩
theorem gz_670 : gx_mok ⟨"ContractMachineModel", "sourceOf", "(I)I"⟩ 1 := ⟨by decide, by decide, by decide +kernel⟩
theorem gz_671 : gx_mok ⟨"ContractMachineLaw", "sourceOf", "(LContractMachine;I[J)I"⟩ 3 := ⟨by decide, by decide, by decide +kernel⟩
theorem gz_672 : gx_mok ⟨"ContractMachineModel", "eventOf", "(I)I"⟩ 1 := ⟨by decide, by decide, by decide +kernel⟩
theorem gz_673 : gx_mok ⟨"ContractMachineLaw", "eventOf", "(LContractMachine;I[J)I"⟩ 3 := ⟨by decide, by decide, by decide +kernel⟩
theorem gz_674 : gx_mok ⟨"ContractMachineModel", "targetOf", "(I)I"⟩ 1 := ⟨by decide, by decide, by decide +kernel⟩
theorem gz_675 : gx_mok ⟨"ContractMachineLaw", "targetOf", "(LContractMachine;I[J)I"⟩ 3 := ⟨by decide, by decide, by decide +kernel⟩
theorem gz_676 : gx_mok ⟨"ContractMachineModel", "hasGuard", "(I)Z"⟩ 1 := ⟨by decide, by decide, by decide +kernel⟩
theorem gz_677 : gx_mok ⟨"ContractMachineLaw", "hasGuard", "(LContractMachine;I[J)I"⟩ 3 := ⟨by decide, by decide, by decide +kernel⟩
theorem gz_678 : gx_mok ⟨"ContractMachineModel", "guardHolds", "(I)Z"⟩ 1 := ⟨by decide, by decide, by decide +kernel⟩
theorem gz_679 : gx_mok ⟨"ContractMachineLaw", "guardHolds", "(LContractMachine;I[J)I"⟩ 3 := ⟨by decide, by decide, by decide +kernel⟩
theorem gz_680 : gx_mok ⟨"ContractMachineModel", "stateOfInvariant", "(I)I"⟩ 1 := ⟨by decide, by decide, by decide +kernel⟩
theorem gz_681 : gx_mok ⟨"ContractMachineLaw", "stateOfInvariant", "(LContractMachine;I[J)I"⟩ 3 := ⟨by decide, by decide, by decide +kernel⟩
theorem gz_682 : gx_mok ⟨"ContractMachineModel", "comparisonHolds", "(I)Z"⟩ 1 := ⟨by decide, by decide, by decide +kernel⟩
theorem gz_683 : gx_mok ⟨"ContractMachineLaw", "comparisonHolds", "(LContractMachine;I[J)I"⟩ 3 := ⟨by decide, by decide, by decide +kernel⟩
theorem gz_684 : gx_mok ⟨"ContractMachineModel", "verdictOf", "(I)I"⟩ 1 := ⟨by decide, by decide, by decide +kernel⟩
theorem gz_685 : gx_mok ⟨"ContractMachineLaw", "verdictOf", "(LContractMachine;I[J)I"⟩ 3 := ⟨by decide, by decide, by decide +kernel⟩
theorem gz_686 : gx_mok ⟨"ContractMachineModel", "chosenTransition", "(I)I"⟩ 1 := ⟨by decide, by decide, by decide +kernel⟩
theorem gz_687 : gx_mok ⟨"ContractMachineLaw", "chosenTransition", "(LContractMachine;I[J)I"⟩ 3 := ⟨by decide, by decide, by decide +kernel⟩
theorem gz_688 : gx_mok ⟨"ContractMachineModel", "brokenInvariant", "(I)I"⟩ 1 := ⟨by decide, by decide, by decide +kernel⟩
theorem gz_689 : gx_mok ⟨"ContractMachineLaw", "brokenInvariant", "(LContractMachine;I[J)I"⟩ 3 := ⟨by decide, by decide, by decide +kernel⟩
theorem gz_690 : gx_mok ⟨"ContractMachine", "isDeadlocked", "()Z"⟩ 0 := ⟨by decide, by decide, by decide +kernel⟩
theorem gz_691 : gx_mok ⟨"ContractMachineModel", "isDeadlocked", "()Z"⟩ 0 := ⟨by decide, by decide, by decide +kernel⟩
theorem gz_692 : gx_mok ⟨"ContractMachineModel", "timesTaken", "(I)I"⟩ 1 := ⟨by decide, by decide, by decide +kernel⟩
theorem gz_693 : gx_mok ⟨"ContractMachineLaw", "timesTaken", "(LContractMachine;I[J)I"⟩ 3 := ⟨by decide, by decide, by decide +kernel⟩
theorem gz_694 : gx_mok ⟨"ContractMachineModel", "visitsOf", "(I)I"⟩ 1 := ⟨by decide, by decide, by decide +kernel⟩
theorem gz_695 : gx_mok ⟨"ContractMachineLaw", "visitsOf", "(LContractMachine;I[J)I"⟩ 3 := ⟨by decide, by decide, by decide +kernel⟩
theorem gz_696 : gx_mok ⟨"ContractMachine", "acceptedCount", "()I"⟩ 0 := ⟨by decide, by decide, by decide +kernel⟩
theorem gz_697 : gx_mok ⟨"ContractMachineModel", "acceptedCount", "()I"⟩ 0 := ⟨by decide, by decide, by decide +kernel⟩
theorem gz_698 : gx_mok ⟨"ContractMachine", "rejectedCount", "()I"⟩ 0 := ⟨by decide, by decide, by decide +kernel⟩
theorem gz_699 : gx_mok ⟨"ContractMachineModel", "rejectedCount", "()I"⟩ 0 := ⟨by decide, by decide, by decide +kernel⟩
theorem gz_700 : gx_mok ⟨"ContractMachineModel", "rejectedWith", "(I)I"⟩ 1 := ⟨by decide, by decide, by decide +kernel⟩
theorem gz_701 : gx_mok ⟨"ContractMachineLaw", "rejectedWith", "(LContractMachine;I[J)I"⟩ 3 := ⟨by decide, by decide, by decide +kernel⟩
theorem gz_702 : gx_mok ⟨"ContractMachine", "stateCoverage", "()F"⟩ 0 := ⟨by decide, by decide, by decide +kernel⟩
theorem gz_703 : gx_mok ⟨"ContractMachineModel", "stateCoverage", "()F"⟩ 0 := ⟨by decide, by decide, by decide +kernel⟩
theorem gz_704 : gx_mok ⟨"ContractMachine", "transitionCoverage", "()F"⟩ 0 := ⟨by decide, by decide, by decide +kernel⟩
theorem gz_705 : gx_mok ⟨"ContractMachineModel", "transitionCoverage", "()F"⟩ 0 := ⟨by decide, by decide, by decide +kernel⟩
theorem gz_706 : gx_mok ⟨"ContractMachine", "firstUncovered", "()I"⟩ 0 := ⟨by decide, by decide, by decide +kernel⟩
theorem gz_707 : gx_mok ⟨"ContractMachineModel", "firstUncovered", "()I"⟩ 0 := ⟨by decide, by decide, by decide +kernel⟩
theorem gz_708 : gx_mok ⟨"ContractMachine", "mostVisitedState", "()I"⟩ 0 := ⟨by decide, by decide, by decide +kernel⟩
theorem gz_709 : gx_mok ⟨"ContractMachineModel", "mostVisitedState", "()I"⟩ 0 := ⟨by decide, by decide, by decide +kernel⟩
theorem gz_710 : gx_mok ⟨"ContractMachine", "traceLength", "()I"⟩ 0 := ⟨by decide, by decide, by decide +kernel⟩
theorem gz_711 : gx_mok ⟨"ContractMachineModel", "traceLength", "()I"⟩ 0 := ⟨by decide, by decide, by decide +kernel⟩
theorem gz_712 : gx_mok ⟨"ContractMachine", "traceEvent", "(I)I"⟩ 1 := ⟨by decide, by decide, by decide +kernel⟩
theorem gz_713 : gx_mok ⟨"ContractMachineModel", "traceEvent", "(I)I"⟩ 1 := ⟨by decide, by decide, by decide +kernel⟩
theorem gz_714 : gx_mok ⟨"ContractMachine", "traceTransition", "(I)I"⟩ 1 := ⟨by decide, by decide, by decide +kernel⟩
theorem gz_715 : gx_mok ⟨"ContractMachineModel", "traceTransition", "(I)I"⟩ 1 := ⟨by decide, by decide, by decide +kernel⟩
theorem gz_716 : gx_mok ⟨"ContractMachineModel", "reachableCount", "()I"⟩ 0 := ⟨by decide, by decide, by decide +kernel⟩
theorem gz_717 : gx_mok ⟨"ContractMachineModel", "isReachable", "(I)Z"⟩ 1 := ⟨by decide, by decide, by decide +kernel⟩
theorem gz_718 : gx_mok ⟨"ContractMachineLaw", "isReachable", "(LContractMachine;I[J)I"⟩ 3 := ⟨by decide, by decide, by decide +kernel⟩
theorem gz_719 : gx_mok ⟨"ContractMachineModel", "canBeTaken", "(I)Z"⟩ 1 := ⟨by decide, by decide, by decide +kernel⟩
theorem gz_720 : gx_mok ⟨"ContractMachineLaw", "canBeTaken", "(LContractMachine;I[J)I"⟩ 3 := ⟨by decide, by decide, by decide +kernel⟩
theorem gz_721 : gx_mok ⟨"ContractMachineModel", "stepsTo", "(I)I"⟩ 1 := ⟨by decide, by decide, by decide +kernel⟩
theorem gz_722 : gx_mok ⟨"ContractMachineLaw", "stepsTo", "(LContractMachine;I[J)I"⟩ 3 := ⟨by decide, by decide, by decide +kernel⟩
theorem gz_723 : gx_mok ⟨"ContractMachineModel", "firstEventTo", "(I)I"⟩ 1 := ⟨by decide, by decide, by decide +kernel⟩
theorem gz_724 : gx_mok ⟨"ContractMachineLaw", "firstEventTo", "(LContractMachine;I[J)I"⟩ 3 := ⟨by decide, by decide, by decide +kernel⟩
theorem gz_725 : gx_mok ⟨"ContractMachine", "deadlockCount", "()I"⟩ 0 := ⟨by decide, by decide, by decide +kernel⟩
theorem gz_726 : gx_mok ⟨"ContractMachineModel", "deadlockCount", "()I"⟩ 0 := ⟨by decide, by decide, by decide +kernel⟩
theorem gz_727 : gx_mok ⟨"ContractMachine", "stepsToDeadlock", "()I"⟩ 0 := ⟨by decide, by decide, by decide +kernel⟩
theorem gz_728 : gx_mok ⟨"ContractMachineModel", "stepsToDeadlock", "()I"⟩ 0 := ⟨by decide, by decide, by decide +kernel⟩
theorem gz_729 : gx_mok ⟨"ContractMachine", "isConsistent", "()Z"⟩ 0 := ⟨by decide, by decide, by decide +kernel⟩
theorem gz_730 : gx_mok ⟨"ContractMachineModel", "isConsistent", "()Z"⟩ 0 := ⟨by decide, by decide, by decide +kernel⟩
theorem gz_731 : gx_mok ⟨"ContractMachine", "meanValue", "()D"⟩ 0 := ⟨by decide, by decide, by decide +kernel⟩
theorem gz_732 : gx_mok ⟨"ContractMachineModel", "meanValue", "()D"⟩ 0 := ⟨by decide, by decide, by decide +kernel⟩
theorem gz_733 : gx_mok ⟨"ContractMachineModel", "fire", "(I)I"⟩ 1 := ⟨by decide, by decide, by decide +kernel⟩
theorem gz_734 : gx_mok ⟨"ContractMachineLaw", "fire", "(LContractMachine;I[J)I"⟩ 3 := ⟨by decide, by decide, by decide +kernel⟩
theorem gz_735 : gx_mok ⟨"ContractMachineModel", "setValue", "(II)I"⟩ 2 := ⟨by decide, by decide, by decide +kernel⟩
theorem gz_736 : gx_mok ⟨"ContractMachineLaw", "setValue", "(LContractMachine;II[J)I"⟩ 4 := ⟨by decide, by decide, by decide +kernel⟩
theorem gz_737 : gx_mok ⟨"ContractMachine", "reset", "()I"⟩ 0 := ⟨by decide, by decide, by decide +kernel⟩
theorem gz_738 : gx_mok ⟨"ContractMachineModel", "reset", "()I"⟩ 0 := ⟨by decide, by decide, by decide +kernel⟩
theorem gz_739 : gx_mok ⟨"ContractMachine", "clearCoverage", "()I"⟩ 0 := ⟨by decide, by decide, by decide +kernel⟩
theorem gz_740 : gx_mok ⟨"ContractMachineModel", "clearCoverage", "()I"⟩ 0 := ⟨by decide, by decide, by decide +kernel⟩
theorem gz_741 : gx_mok ⟨"ContractMachineModel", "addAlways", "(III)I"⟩ 3 := ⟨by decide, by decide, by decide +kernel⟩
theorem gz_742 : gx_mok ⟨"ContractMachineLaw", "addAlways", "(LContractMachine;III[J)I"⟩ 5 := ⟨by decide, by decide, by decide +kernel⟩
theorem gz_743 : gx_mok ⟨"ContractMachineModel", "undo", "()I"⟩ 0 := ⟨by decide, by decide, by decide +kernel⟩
theorem gz_744 : gx_mok ⟨"ContractMachineLaw", "undo", "(LContractMachine;[J)I"⟩ 2 := ⟨by decide, by decide, by decide +kernel⟩
theorem gz_745 : gx_mok ⟨"ContractMachine", "writeConfiguration", "()I"⟩ 0 := ⟨by decide, by decide, by decide +kernel⟩
theorem gz_746 : gx_mok ⟨"ContractMachineModel", "writeConfiguration", "()I"⟩ 0 := ⟨by decide, by decide, by decide +kernel⟩
theorem gz_747 : gx_mok ⟨"ContractMachine", "outputByte", "(I)I"⟩ 1 := ⟨by decide, by decide, by decide +kernel⟩
theorem gz_748 : gx_mok ⟨"ContractMachineModel", "outputByte", "(I)I"⟩ 1 := ⟨by decide, by decide, by decide +kernel⟩
theorem gz_749 : gx_mok ⟨"ContractMachine", "saveState", "()I"⟩ 0 := ⟨by decide, by decide, by decide +kernel⟩
theorem gz_750 : gx_mok ⟨"ContractMachineModel", "saveState", "()I"⟩ 0 := ⟨by decide, by decide, by decide +kernel⟩
theorem gz_751 : gx_mok ⟨"ContractMachineModel", "restoreState", "()I"⟩ 0 := ⟨by decide, by decide, by decide +kernel⟩
theorem gz_752 : gx_mok ⟨"ContractMachineLaw", "restoreState", "(LContractMachine;[J)I"⟩ 2 := ⟨by decide, by decide, by decide +kernel⟩
theorem gz_753 : gx_mok ⟨"ContractMachineModel", "<init>", "()V"⟩ 0 := ⟨by decide, by decide, by decide +kernel⟩
theorem gz_754 : gx_mok ⟨"ContractMachine", "<init>", "()V"⟩ 0 := ⟨by decide, by decide, by decide +kernel⟩
