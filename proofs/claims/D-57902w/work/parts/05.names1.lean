/-! ContractMachine -/
set_option maxRecDepth 100000
def RX1 : String := "ContractMachine"
def TX1 : u_T := fun k => match k with
  | 0 => ("ContractMachine", "operators", "[LContractMachine$Operator;", true)
  | 1 => ("ContractMachine", "input", "[B", true)
  | 2 => ("ContractMachine", "inputLength", "I", false)
  | 3 => ("ContractMachine", "errorCode", "I", false)
  | 4 => ("ContractMachine", "errorOffset", "I", false)
  | 5 => ("ContractMachine", "definition", "LContractMachine$Definition;", false)
  | 6 => ("ContractMachine", "run", "LContractMachine$Run;", false)
  | 7 => ("ContractMachine", "saved", "LContractMachine$Run;", false)
  | 8 => ("ContractMachine", "history", "Ljava/util/ArrayDeque;", true)
  | 9 => ("ContractMachine", "depths", "[I", true)
  | 10 => ("ContractMachine", "firsts", "[I", true)
  | 11 => ("ContractMachine", "queue", "[I", true)
  | 12 => ("ContractMachine", "found", "I", false)
  | 13 => ("ContractMachine", "deadlocks", "I", false)
  | _ => ("ContractMachine", "output", "Ljava/lang/StringBuilder;", true)
def tyX1 : Nat → FieldType := fun k => match k with
  | 0 => .array (.object "ContractMachine$Operator")
  | 1 => .array .byte
  | 2 => .int
  | 3 => .int
  | 4 => .int
  | 5 => .object "ContractMachine$Definition"
  | 6 => .object "ContractMachine$Run"
  | 7 => .object "ContractMachine$Run"
  | 8 => .object "java/util/ArrayDeque"
  | 9 => .array .int
  | 10 => .array .int
  | 11 => .array .int
  | 12 => .int
  | 13 => .int
  | _ => .object "java/lang/StringBuilder"
abbrev wsX10 : List Cond := u_ws RX1 TX1 15
set_option maxRecDepth 100000 in
theorem nmX1 : ∀ a, a < 15 → ∀ b, b < 15 → a ≠ b → (TX1 a).2.1 ≠ (TX1 b).2.1 := by decide +kernel
set_option maxRecDepth 100000 in
theorem tyX1_ok : ∀ k, k < 15 → parseFieldDescriptor (TX1 k).2.2.1 = some (tyX1 k) := by decide +kernel
abbrev cX1_init : ByteArray := prog_1_method_8_code
def yX1_init : MethodName := ⟨RX1, "<init>", "()V"⟩
def dkwX1_init_16 : List UInt8 := [180, 0, 53, 42, 180, 0, 46, 180, 0, 161, 181, 0, 164, 42, 180, 0, 53, 182, 0, 167, 177]
abbrev dktX1_init_16 : List UInt8 := dkwX1_init_16 ++ []
def dkwX1_init_15 : List UInt8 := [187, 0, 125, 89, 4, 178, 0, 134, 4, 183, 0, 131, 183, 0, 152, 185, 0, 155, 2, 0, 61, 42]
abbrev dktX1_init_15 : List UInt8 := dkwX1_init_15 ++ dktX1_init_16
def dkwX1_init_14 : List UInt8 := [183, 0, 131, 183, 0, 152, 185, 0, 155, 2, 0, 60, 42, 180, 0, 53, 180, 0, 143, 187, 0, 147, 89, 3]
abbrev dktX1_init_14 : List UInt8 := dkwX1_init_14 ++ dktX1_init_15
def dkwX1_init_13 : List UInt8 := [182, 0, 121, 42, 180, 0, 53, 180, 0, 143, 187, 0, 147, 89, 2, 187, 0, 125, 89, 3, 178, 0, 149, 8]
abbrev dktX1_init_13 : List UInt8 := dkwX1_init_13 ++ dktX1_init_14
def dkwX1_init_12 : List UInt8 := [183, 0, 118, 182, 0, 121, 42, 3, 5, 3, 1, 187, 0, 110, 89, 3, 178, 0, 137, 4, 183, 0, 118]
abbrev dktX1_init_12 : List UInt8 := dkwX1_init_12 ++ dktX1_init_13
def dkwX1_init_11 : List UInt8 := [178, 0, 137, 4, 183, 0, 118, 182, 0, 121, 42, 5, 4, 3, 1, 187, 0, 110, 89, 3, 178, 0, 140, 3]
abbrev dktX1_init_11 : List UInt8 := dkwX1_init_11 ++ dktX1_init_12
def dkwX1_init_10 : List UInt8 := [182, 0, 121, 42, 4, 4, 3, 187, 0, 125, 89, 3, 178, 0, 134, 5, 183, 0, 131, 187, 0, 110, 89, 4]
abbrev dktX1_init_10 : List UInt8 := dkwX1_init_10 ++ dktX1_init_11
def dkwX1_init_9 : List UInt8 := [183, 0, 118, 182, 0, 121, 42, 4, 3, 4, 1, 187, 0, 110, 89, 3, 178, 0, 112, 4, 183, 0, 118]
abbrev dktX1_init_9 : List UInt8 := dkwX1_init_9 ++ dktX1_init_10
def dkwX1_init_8 : List UInt8 := [4, 3, 5, 187, 0, 125, 89, 3, 178, 0, 127, 5, 183, 0, 131, 187, 0, 110, 89, 3, 178, 0, 112, 4]
abbrev dktX1_init_8 : List UInt8 := dkwX1_init_8 ++ dktX1_init_9
def dkwX1_init_7 : List UInt8 := [182, 0, 104, 42, 3, 3, 4, 1, 187, 0, 110, 89, 3, 178, 0, 112, 4, 183, 0, 118, 182, 0, 121, 42]
abbrev dktX1_init_7 : List UInt8 := dkwX1_init_7 ++ dktX1_init_8
def dkwX1_init_6 : List UInt8 := [18, 97, 83, 182, 0, 99, 42, 180, 0, 46, 18, 102, 3, 182, 0, 104, 42, 180, 0, 46, 18, 108, 6]
abbrev dktX1_init_6 : List UInt8 := dkwX1_init_6 ++ dktX1_init_7
def dkwX1_init_5 : List UInt8 := [18, 87, 83, 182, 0, 89, 42, 6, 189, 0, 81, 89, 3, 18, 93, 83, 89, 4, 18, 95, 83, 89, 5]
abbrev dktX1_init_5 : List UInt8 := dkwX1_init_5 ++ dktX1_init_6
def dkwX1_init_4 : List UInt8 := [183, 0, 76, 181, 0, 77, 42, 6, 189, 0, 81, 89, 3, 18, 83, 83, 89, 4, 18, 85, 83, 89, 5]
abbrev dktX1_init_4 : List UInt8 := dkwX1_init_4 ++ dktX1_init_5
def dkwX1_init_3 : List UInt8 := [17, 39, 16, 188, 10, 181, 0, 68, 42, 17, 39, 16, 188, 10, 181, 0, 71, 42, 187, 0, 74, 89]
abbrev dktX1_init_3 : List UInt8 := dkwX1_init_3 ++ dktX1_init_4
def dkwX1_init_2 : List UInt8 := [181, 0, 53, 42, 187, 0, 57, 89, 183, 0, 59, 181, 0, 60, 42, 17, 39, 16, 188, 10, 181, 0, 64, 42]
abbrev dktX1_init_2 : List UInt8 := dkwX1_init_2 ++ dktX1_init_3
def dkwX1_init_1 : List UInt8 := [181, 0, 39, 42, 187, 0, 43, 89, 183, 0, 45, 181, 0, 46, 42, 187, 0, 50, 89, 183, 0, 52]
abbrev dktX1_init_1 : List UInt8 := dkwX1_init_1 ++ dktX1_init_2
def dkwX1_init_0 : List UInt8 := [42, 183, 0, 22, 42, 184, 0, 25, 181, 0, 31, 42, 17, 2, 188, 188, 8, 181, 0, 35, 42, 2]
abbrev dktX1_init_0 : List UInt8 := dkwX1_init_0 ++ dktX1_init_1
theorem dksX1_init_0 : cX1_init.data.toList.drop 0 = dktX1_init_0 := by decide +kernel
theorem dksX1_init_1 : cX1_init.data.toList.drop 22 = dktX1_init_1 := dk_seg dksX1_init_0 22 rfl rfl
theorem dksX1_init_2 : cX1_init.data.toList.drop 44 = dktX1_init_2 := dk_seg dksX1_init_1 22 rfl rfl
theorem dksX1_init_3 : cX1_init.data.toList.drop 68 = dktX1_init_3 := dk_seg dksX1_init_2 24 rfl rfl
theorem dksX1_init_4 : cX1_init.data.toList.drop 90 = dktX1_init_4 := dk_seg dksX1_init_3 22 rfl rfl
theorem dksX1_init_5 : cX1_init.data.toList.drop 113 = dktX1_init_5 := dk_seg dksX1_init_4 23 rfl rfl
theorem dksX1_init_6 : cX1_init.data.toList.drop 136 = dktX1_init_6 := dk_seg dksX1_init_5 23 rfl rfl
theorem dksX1_init_7 : cX1_init.data.toList.drop 159 = dktX1_init_7 := dk_seg dksX1_init_6 23 rfl rfl
theorem dksX1_init_8 : cX1_init.data.toList.drop 183 = dktX1_init_8 := dk_seg dksX1_init_7 24 rfl rfl
theorem dksX1_init_9 : cX1_init.data.toList.drop 207 = dktX1_init_9 := dk_seg dksX1_init_8 24 rfl rfl
theorem dksX1_init_10 : cX1_init.data.toList.drop 230 = dktX1_init_10 := dk_seg dksX1_init_9 23 rfl rfl
theorem dksX1_init_11 : cX1_init.data.toList.drop 254 = dktX1_init_11 := dk_seg dksX1_init_10 24 rfl rfl
theorem dksX1_init_12 : cX1_init.data.toList.drop 278 = dktX1_init_12 := dk_seg dksX1_init_11 24 rfl rfl
theorem dksX1_init_13 : cX1_init.data.toList.drop 301 = dktX1_init_13 := dk_seg dksX1_init_12 23 rfl rfl
theorem dksX1_init_14 : cX1_init.data.toList.drop 325 = dktX1_init_14 := dk_seg dksX1_init_13 24 rfl rfl
theorem dksX1_init_15 : cX1_init.data.toList.drop 349 = dktX1_init_15 := dk_seg dksX1_init_14 24 rfl rfl
theorem dksX1_init_16 : cX1_init.data.toList.drop 371 = dktX1_init_16 := dk_seg dksX1_init_15 22 rfl rfl
theorem dX1_init_0 : decode cX1_init 0 = .ok (.aload_n 0, 1) := dk_42 (dk_at dksX1_init_0 0 rfl rfl)
theorem dX1_init_1 : decode cX1_init 1 = .ok (.invokespecial 22, 3) := dk_183 0 22 (dk_at dksX1_init_0 1 rfl rfl)
theorem dX1_init_4 : decode cX1_init 4 = .ok (.aload_n 0, 1) := dk_42 (dk_at dksX1_init_0 4 rfl rfl)
theorem dX1_init_5 : decode cX1_init 5 = .ok (.invokestatic 25, 3) := dk_184 0 25 (dk_at dksX1_init_0 5 rfl rfl)
theorem dX1_init_8 : decode cX1_init 8 = .ok (.putfield 31, 3) := dk_181 0 31 (dk_at dksX1_init_0 8 rfl rfl)
theorem dX1_init_11 : decode cX1_init 11 = .ok (.aload_n 0, 1) := dk_42 (dk_at dksX1_init_0 11 rfl rfl)
theorem dX1_init_12 : decode cX1_init 12 = .ok (.sipush 700, 3) := dk_17 2 188 (dk_at dksX1_init_0 12 rfl rfl)
theorem dX1_init_15 : decode cX1_init 15 = .ok (.newarray .byte, 2) := dk_188_8 (dk_at dksX1_init_0 15 rfl rfl)
theorem dX1_init_17 : decode cX1_init 17 = .ok (.putfield 35, 3) := dk_181 0 35 (dk_at dksX1_init_0 17 rfl rfl)
theorem dX1_init_20 : decode cX1_init 20 = .ok (.aload_n 0, 1) := dk_42 (dk_at dksX1_init_0 20 rfl rfl)
theorem dX1_init_21 : decode cX1_init 21 = .ok (.iconst (-1), 1) := dk_2 (dk_at dksX1_init_0 21 rfl rfl)
theorem dX1_init_22 : decode cX1_init 22 = .ok (.putfield 39, 3) := dk_181 0 39 (dk_at dksX1_init_1 0 rfl rfl)
theorem dX1_init_25 : decode cX1_init 25 = .ok (.aload_n 0, 1) := dk_42 (dk_at dksX1_init_1 3 rfl rfl)
theorem dX1_init_26 : decode cX1_init 26 = .ok (.new 43, 3) := dk_187 0 43 (dk_at dksX1_init_1 4 rfl rfl)
theorem dX1_init_29 : decode cX1_init 29 = .ok (.dup, 1) := dk_89 (dk_at dksX1_init_1 7 rfl rfl)
theorem dX1_init_30 : decode cX1_init 30 = .ok (.invokespecial 45, 3) := dk_183 0 45 (dk_at dksX1_init_1 8 rfl rfl)
theorem dX1_init_33 : decode cX1_init 33 = .ok (.putfield 46, 3) := dk_181 0 46 (dk_at dksX1_init_1 11 rfl rfl)
theorem dX1_init_36 : decode cX1_init 36 = .ok (.aload_n 0, 1) := dk_42 (dk_at dksX1_init_1 14 rfl rfl)
theorem dX1_init_37 : decode cX1_init 37 = .ok (.new 50, 3) := dk_187 0 50 (dk_at dksX1_init_1 15 rfl rfl)
theorem dX1_init_40 : decode cX1_init 40 = .ok (.dup, 1) := dk_89 (dk_at dksX1_init_1 18 rfl rfl)
theorem dX1_init_41 : decode cX1_init 41 = .ok (.invokespecial 52, 3) := dk_183 0 52 (dk_at dksX1_init_1 19 rfl rfl)
theorem dX1_init_44 : decode cX1_init 44 = .ok (.putfield 53, 3) := dk_181 0 53 (dk_at dksX1_init_2 0 rfl rfl)
theorem dX1_init_47 : decode cX1_init 47 = .ok (.aload_n 0, 1) := dk_42 (dk_at dksX1_init_2 3 rfl rfl)
theorem dX1_init_48 : decode cX1_init 48 = .ok (.new 57, 3) := dk_187 0 57 (dk_at dksX1_init_2 4 rfl rfl)
theorem dX1_init_51 : decode cX1_init 51 = .ok (.dup, 1) := dk_89 (dk_at dksX1_init_2 7 rfl rfl)
theorem dX1_init_52 : decode cX1_init 52 = .ok (.invokespecial 59, 3) := dk_183 0 59 (dk_at dksX1_init_2 8 rfl rfl)
theorem dX1_init_55 : decode cX1_init 55 = .ok (.putfield 60, 3) := dk_181 0 60 (dk_at dksX1_init_2 11 rfl rfl)
theorem dX1_init_58 : decode cX1_init 58 = .ok (.aload_n 0, 1) := dk_42 (dk_at dksX1_init_2 14 rfl rfl)
theorem dX1_init_59 : decode cX1_init 59 = .ok (.sipush 10000, 3) := dk_17 39 16 (dk_at dksX1_init_2 15 rfl rfl)
theorem dX1_init_62 : decode cX1_init 62 = .ok (.newarray .int, 2) := dk_188_10 (dk_at dksX1_init_2 18 rfl rfl)
theorem dX1_init_64 : decode cX1_init 64 = .ok (.putfield 64, 3) := dk_181 0 64 (dk_at dksX1_init_2 20 rfl rfl)
theorem dX1_init_67 : decode cX1_init 67 = .ok (.aload_n 0, 1) := dk_42 (dk_at dksX1_init_2 23 rfl rfl)
theorem dX1_init_68 : decode cX1_init 68 = .ok (.sipush 10000, 3) := dk_17 39 16 (dk_at dksX1_init_3 0 rfl rfl)
theorem dX1_init_71 : decode cX1_init 71 = .ok (.newarray .int, 2) := dk_188_10 (dk_at dksX1_init_3 3 rfl rfl)
theorem dX1_init_73 : decode cX1_init 73 = .ok (.putfield 68, 3) := dk_181 0 68 (dk_at dksX1_init_3 5 rfl rfl)
theorem dX1_init_76 : decode cX1_init 76 = .ok (.aload_n 0, 1) := dk_42 (dk_at dksX1_init_3 8 rfl rfl)
theorem dX1_init_77 : decode cX1_init 77 = .ok (.sipush 10000, 3) := dk_17 39 16 (dk_at dksX1_init_3 9 rfl rfl)
theorem dX1_init_80 : decode cX1_init 80 = .ok (.newarray .int, 2) := dk_188_10 (dk_at dksX1_init_3 12 rfl rfl)
theorem dX1_init_82 : decode cX1_init 82 = .ok (.putfield 71, 3) := dk_181 0 71 (dk_at dksX1_init_3 14 rfl rfl)
theorem dX1_init_85 : decode cX1_init 85 = .ok (.aload_n 0, 1) := dk_42 (dk_at dksX1_init_3 17 rfl rfl)
theorem dX1_init_86 : decode cX1_init 86 = .ok (.new 74, 3) := dk_187 0 74 (dk_at dksX1_init_3 18 rfl rfl)
theorem dX1_init_89 : decode cX1_init 89 = .ok (.dup, 1) := dk_89 (dk_at dksX1_init_3 21 rfl rfl)
theorem dX1_init_90 : decode cX1_init 90 = .ok (.invokespecial 76, 3) := dk_183 0 76 (dk_at dksX1_init_4 0 rfl rfl)
theorem dX1_init_93 : decode cX1_init 93 = .ok (.putfield 77, 3) := dk_181 0 77 (dk_at dksX1_init_4 3 rfl rfl)
theorem dX1_init_96 : decode cX1_init 96 = .ok (.aload_n 0, 1) := dk_42 (dk_at dksX1_init_4 6 rfl rfl)
theorem dX1_init_97 : decode cX1_init 97 = .ok (.iconst 3, 1) := dk_6 (dk_at dksX1_init_4 7 rfl rfl)
theorem dX1_init_98 : decode cX1_init 98 = .ok (.anewarray 81, 3) := dk_189 0 81 (dk_at dksX1_init_4 8 rfl rfl)
theorem dX1_init_101 : decode cX1_init 101 = .ok (.dup, 1) := dk_89 (dk_at dksX1_init_4 11 rfl rfl)
theorem dX1_init_102 : decode cX1_init 102 = .ok (.iconst 0, 1) := dk_3 (dk_at dksX1_init_4 12 rfl rfl)
theorem dX1_init_103 : decode cX1_init 103 = .ok (.ldc 83, 2) := dk_18 83 (dk_at dksX1_init_4 13 rfl rfl)
theorem dX1_init_105 : decode cX1_init 105 = .ok (.aastore, 1) := dk_83 (dk_at dksX1_init_4 15 rfl rfl)
theorem dX1_init_106 : decode cX1_init 106 = .ok (.dup, 1) := dk_89 (dk_at dksX1_init_4 16 rfl rfl)
theorem dX1_init_107 : decode cX1_init 107 = .ok (.iconst 1, 1) := dk_4 (dk_at dksX1_init_4 17 rfl rfl)
theorem dX1_init_108 : decode cX1_init 108 = .ok (.ldc 85, 2) := dk_18 85 (dk_at dksX1_init_4 18 rfl rfl)
theorem dX1_init_110 : decode cX1_init 110 = .ok (.aastore, 1) := dk_83 (dk_at dksX1_init_4 20 rfl rfl)
theorem dX1_init_111 : decode cX1_init 111 = .ok (.dup, 1) := dk_89 (dk_at dksX1_init_4 21 rfl rfl)
theorem dX1_init_112 : decode cX1_init 112 = .ok (.iconst 2, 1) := dk_5 (dk_at dksX1_init_4 22 rfl rfl)
theorem dX1_init_113 : decode cX1_init 113 = .ok (.ldc 87, 2) := dk_18 87 (dk_at dksX1_init_5 0 rfl rfl)
theorem dX1_init_115 : decode cX1_init 115 = .ok (.aastore, 1) := dk_83 (dk_at dksX1_init_5 2 rfl rfl)
theorem dX1_init_116 : decode cX1_init 116 = .ok (.invokevirtual 89, 3) := dk_182 0 89 (dk_at dksX1_init_5 3 rfl rfl)
theorem dX1_init_119 : decode cX1_init 119 = .ok (.aload_n 0, 1) := dk_42 (dk_at dksX1_init_5 6 rfl rfl)
theorem dX1_init_120 : decode cX1_init 120 = .ok (.iconst 3, 1) := dk_6 (dk_at dksX1_init_5 7 rfl rfl)
theorem dX1_init_121 : decode cX1_init 121 = .ok (.anewarray 81, 3) := dk_189 0 81 (dk_at dksX1_init_5 8 rfl rfl)
theorem dX1_init_124 : decode cX1_init 124 = .ok (.dup, 1) := dk_89 (dk_at dksX1_init_5 11 rfl rfl)
theorem dX1_init_125 : decode cX1_init 125 = .ok (.iconst 0, 1) := dk_3 (dk_at dksX1_init_5 12 rfl rfl)
theorem dX1_init_126 : decode cX1_init 126 = .ok (.ldc 93, 2) := dk_18 93 (dk_at dksX1_init_5 13 rfl rfl)
theorem dX1_init_128 : decode cX1_init 128 = .ok (.aastore, 1) := dk_83 (dk_at dksX1_init_5 15 rfl rfl)
theorem dX1_init_129 : decode cX1_init 129 = .ok (.dup, 1) := dk_89 (dk_at dksX1_init_5 16 rfl rfl)
theorem dX1_init_130 : decode cX1_init 130 = .ok (.iconst 1, 1) := dk_4 (dk_at dksX1_init_5 17 rfl rfl)
theorem dX1_init_131 : decode cX1_init 131 = .ok (.ldc 95, 2) := dk_18 95 (dk_at dksX1_init_5 18 rfl rfl)
theorem dX1_init_133 : decode cX1_init 133 = .ok (.aastore, 1) := dk_83 (dk_at dksX1_init_5 20 rfl rfl)
theorem dX1_init_134 : decode cX1_init 134 = .ok (.dup, 1) := dk_89 (dk_at dksX1_init_5 21 rfl rfl)
theorem dX1_init_135 : decode cX1_init 135 = .ok (.iconst 2, 1) := dk_5 (dk_at dksX1_init_5 22 rfl rfl)
theorem dX1_init_136 : decode cX1_init 136 = .ok (.ldc 97, 2) := dk_18 97 (dk_at dksX1_init_6 0 rfl rfl)
theorem dX1_init_138 : decode cX1_init 138 = .ok (.aastore, 1) := dk_83 (dk_at dksX1_init_6 2 rfl rfl)
theorem dX1_init_139 : decode cX1_init 139 = .ok (.invokevirtual 99, 3) := dk_182 0 99 (dk_at dksX1_init_6 3 rfl rfl)
theorem dX1_init_142 : decode cX1_init 142 = .ok (.aload_n 0, 1) := dk_42 (dk_at dksX1_init_6 6 rfl rfl)
theorem dX1_init_143 : decode cX1_init 143 = .ok (.getfield 46, 3) := dk_180 0 46 (dk_at dksX1_init_6 7 rfl rfl)
theorem dX1_init_146 : decode cX1_init 146 = .ok (.ldc 102, 2) := dk_18 102 (dk_at dksX1_init_6 10 rfl rfl)
theorem dX1_init_148 : decode cX1_init 148 = .ok (.iconst 0, 1) := dk_3 (dk_at dksX1_init_6 12 rfl rfl)
theorem dX1_init_149 : decode cX1_init 149 = .ok (.invokevirtual 104, 3) := dk_182 0 104 (dk_at dksX1_init_6 13 rfl rfl)
theorem dX1_init_152 : decode cX1_init 152 = .ok (.aload_n 0, 1) := dk_42 (dk_at dksX1_init_6 16 rfl rfl)
theorem dX1_init_153 : decode cX1_init 153 = .ok (.getfield 46, 3) := dk_180 0 46 (dk_at dksX1_init_6 17 rfl rfl)
theorem dX1_init_156 : decode cX1_init 156 = .ok (.ldc 108, 2) := dk_18 108 (dk_at dksX1_init_6 20 rfl rfl)
theorem dX1_init_158 : decode cX1_init 158 = .ok (.iconst 3, 1) := dk_6 (dk_at dksX1_init_6 22 rfl rfl)
theorem dX1_init_159 : decode cX1_init 159 = .ok (.invokevirtual 104, 3) := dk_182 0 104 (dk_at dksX1_init_7 0 rfl rfl)
theorem dX1_init_162 : decode cX1_init 162 = .ok (.aload_n 0, 1) := dk_42 (dk_at dksX1_init_7 3 rfl rfl)
theorem dX1_init_163 : decode cX1_init 163 = .ok (.iconst 0, 1) := dk_3 (dk_at dksX1_init_7 4 rfl rfl)
theorem dX1_init_164 : decode cX1_init 164 = .ok (.iconst 0, 1) := dk_3 (dk_at dksX1_init_7 5 rfl rfl)
theorem dX1_init_165 : decode cX1_init 165 = .ok (.iconst 1, 1) := dk_4 (dk_at dksX1_init_7 6 rfl rfl)
theorem dX1_init_166 : decode cX1_init 166 = .ok (.aconst_null, 1) := dk_1 (dk_at dksX1_init_7 7 rfl rfl)
theorem dX1_init_167 : decode cX1_init 167 = .ok (.new 110, 3) := dk_187 0 110 (dk_at dksX1_init_7 8 rfl rfl)
theorem dX1_init_170 : decode cX1_init 170 = .ok (.dup, 1) := dk_89 (dk_at dksX1_init_7 11 rfl rfl)
theorem dX1_init_171 : decode cX1_init 171 = .ok (.iconst 0, 1) := dk_3 (dk_at dksX1_init_7 12 rfl rfl)
theorem dX1_init_172 : decode cX1_init 172 = .ok (.getstatic 112, 3) := dk_178 0 112 (dk_at dksX1_init_7 13 rfl rfl)
theorem dX1_init_175 : decode cX1_init 175 = .ok (.iconst 1, 1) := dk_4 (dk_at dksX1_init_7 16 rfl rfl)
theorem dX1_init_176 : decode cX1_init 176 = .ok (.invokespecial 118, 3) := dk_183 0 118 (dk_at dksX1_init_7 17 rfl rfl)
theorem dX1_init_179 : decode cX1_init 179 = .ok (.invokevirtual 121, 3) := dk_182 0 121 (dk_at dksX1_init_7 20 rfl rfl)
theorem dX1_init_182 : decode cX1_init 182 = .ok (.aload_n 0, 1) := dk_42 (dk_at dksX1_init_7 23 rfl rfl)
theorem dX1_init_183 : decode cX1_init 183 = .ok (.iconst 1, 1) := dk_4 (dk_at dksX1_init_8 0 rfl rfl)
theorem dX1_init_184 : decode cX1_init 184 = .ok (.iconst 0, 1) := dk_3 (dk_at dksX1_init_8 1 rfl rfl)
theorem dX1_init_185 : decode cX1_init 185 = .ok (.iconst 2, 1) := dk_5 (dk_at dksX1_init_8 2 rfl rfl)
theorem dX1_init_186 : decode cX1_init 186 = .ok (.new 125, 3) := dk_187 0 125 (dk_at dksX1_init_8 3 rfl rfl)
theorem dX1_init_189 : decode cX1_init 189 = .ok (.dup, 1) := dk_89 (dk_at dksX1_init_8 6 rfl rfl)
theorem dX1_init_190 : decode cX1_init 190 = .ok (.iconst 0, 1) := dk_3 (dk_at dksX1_init_8 7 rfl rfl)
theorem dX1_init_191 : decode cX1_init 191 = .ok (.getstatic 127, 3) := dk_178 0 127 (dk_at dksX1_init_8 8 rfl rfl)
theorem dX1_init_194 : decode cX1_init 194 = .ok (.iconst 2, 1) := dk_5 (dk_at dksX1_init_8 11 rfl rfl)
theorem dX1_init_195 : decode cX1_init 195 = .ok (.invokespecial 131, 3) := dk_183 0 131 (dk_at dksX1_init_8 12 rfl rfl)
theorem dX1_init_198 : decode cX1_init 198 = .ok (.new 110, 3) := dk_187 0 110 (dk_at dksX1_init_8 15 rfl rfl)
theorem dX1_init_201 : decode cX1_init 201 = .ok (.dup, 1) := dk_89 (dk_at dksX1_init_8 18 rfl rfl)
theorem dX1_init_202 : decode cX1_init 202 = .ok (.iconst 0, 1) := dk_3 (dk_at dksX1_init_8 19 rfl rfl)
theorem dX1_init_203 : decode cX1_init 203 = .ok (.getstatic 112, 3) := dk_178 0 112 (dk_at dksX1_init_8 20 rfl rfl)
theorem dX1_init_206 : decode cX1_init 206 = .ok (.iconst 1, 1) := dk_4 (dk_at dksX1_init_8 23 rfl rfl)
theorem dX1_init_207 : decode cX1_init 207 = .ok (.invokespecial 118, 3) := dk_183 0 118 (dk_at dksX1_init_9 0 rfl rfl)
theorem dX1_init_210 : decode cX1_init 210 = .ok (.invokevirtual 121, 3) := dk_182 0 121 (dk_at dksX1_init_9 3 rfl rfl)
theorem dX1_init_213 : decode cX1_init 213 = .ok (.aload_n 0, 1) := dk_42 (dk_at dksX1_init_9 6 rfl rfl)
theorem dX1_init_214 : decode cX1_init 214 = .ok (.iconst 1, 1) := dk_4 (dk_at dksX1_init_9 7 rfl rfl)
theorem dX1_init_215 : decode cX1_init 215 = .ok (.iconst 0, 1) := dk_3 (dk_at dksX1_init_9 8 rfl rfl)
theorem dX1_init_216 : decode cX1_init 216 = .ok (.iconst 1, 1) := dk_4 (dk_at dksX1_init_9 9 rfl rfl)
theorem dX1_init_217 : decode cX1_init 217 = .ok (.aconst_null, 1) := dk_1 (dk_at dksX1_init_9 10 rfl rfl)
theorem dX1_init_218 : decode cX1_init 218 = .ok (.new 110, 3) := dk_187 0 110 (dk_at dksX1_init_9 11 rfl rfl)
theorem dX1_init_221 : decode cX1_init 221 = .ok (.dup, 1) := dk_89 (dk_at dksX1_init_9 14 rfl rfl)
theorem dX1_init_222 : decode cX1_init 222 = .ok (.iconst 0, 1) := dk_3 (dk_at dksX1_init_9 15 rfl rfl)
theorem dX1_init_223 : decode cX1_init 223 = .ok (.getstatic 112, 3) := dk_178 0 112 (dk_at dksX1_init_9 16 rfl rfl)
theorem dX1_init_226 : decode cX1_init 226 = .ok (.iconst 1, 1) := dk_4 (dk_at dksX1_init_9 19 rfl rfl)
theorem dX1_init_227 : decode cX1_init 227 = .ok (.invokespecial 118, 3) := dk_183 0 118 (dk_at dksX1_init_9 20 rfl rfl)
theorem dX1_init_230 : decode cX1_init 230 = .ok (.invokevirtual 121, 3) := dk_182 0 121 (dk_at dksX1_init_10 0 rfl rfl)
theorem dX1_init_233 : decode cX1_init 233 = .ok (.aload_n 0, 1) := dk_42 (dk_at dksX1_init_10 3 rfl rfl)
theorem dX1_init_234 : decode cX1_init 234 = .ok (.iconst 1, 1) := dk_4 (dk_at dksX1_init_10 4 rfl rfl)
theorem dX1_init_235 : decode cX1_init 235 = .ok (.iconst 1, 1) := dk_4 (dk_at dksX1_init_10 5 rfl rfl)
theorem dX1_init_236 : decode cX1_init 236 = .ok (.iconst 0, 1) := dk_3 (dk_at dksX1_init_10 6 rfl rfl)
theorem dX1_init_237 : decode cX1_init 237 = .ok (.new 125, 3) := dk_187 0 125 (dk_at dksX1_init_10 7 rfl rfl)
theorem dX1_init_240 : decode cX1_init 240 = .ok (.dup, 1) := dk_89 (dk_at dksX1_init_10 10 rfl rfl)
theorem dX1_init_241 : decode cX1_init 241 = .ok (.iconst 0, 1) := dk_3 (dk_at dksX1_init_10 11 rfl rfl)
theorem dX1_init_242 : decode cX1_init 242 = .ok (.getstatic 134, 3) := dk_178 0 134 (dk_at dksX1_init_10 12 rfl rfl)
theorem dX1_init_245 : decode cX1_init 245 = .ok (.iconst 2, 1) := dk_5 (dk_at dksX1_init_10 15 rfl rfl)
theorem dX1_init_246 : decode cX1_init 246 = .ok (.invokespecial 131, 3) := dk_183 0 131 (dk_at dksX1_init_10 16 rfl rfl)
theorem dX1_init_249 : decode cX1_init 249 = .ok (.new 110, 3) := dk_187 0 110 (dk_at dksX1_init_10 19 rfl rfl)
theorem dX1_init_252 : decode cX1_init 252 = .ok (.dup, 1) := dk_89 (dk_at dksX1_init_10 22 rfl rfl)
theorem dX1_init_253 : decode cX1_init 253 = .ok (.iconst 1, 1) := dk_4 (dk_at dksX1_init_10 23 rfl rfl)
theorem dX1_init_254 : decode cX1_init 254 = .ok (.getstatic 137, 3) := dk_178 0 137 (dk_at dksX1_init_11 0 rfl rfl)
theorem dX1_init_257 : decode cX1_init 257 = .ok (.iconst 1, 1) := dk_4 (dk_at dksX1_init_11 3 rfl rfl)
theorem dX1_init_258 : decode cX1_init 258 = .ok (.invokespecial 118, 3) := dk_183 0 118 (dk_at dksX1_init_11 4 rfl rfl)
theorem dX1_init_261 : decode cX1_init 261 = .ok (.invokevirtual 121, 3) := dk_182 0 121 (dk_at dksX1_init_11 7 rfl rfl)
theorem dX1_init_264 : decode cX1_init 264 = .ok (.aload_n 0, 1) := dk_42 (dk_at dksX1_init_11 10 rfl rfl)
theorem dX1_init_265 : decode cX1_init 265 = .ok (.iconst 2, 1) := dk_5 (dk_at dksX1_init_11 11 rfl rfl)
theorem dX1_init_266 : decode cX1_init 266 = .ok (.iconst 1, 1) := dk_4 (dk_at dksX1_init_11 12 rfl rfl)
theorem dX1_init_267 : decode cX1_init 267 = .ok (.iconst 0, 1) := dk_3 (dk_at dksX1_init_11 13 rfl rfl)
theorem dX1_init_268 : decode cX1_init 268 = .ok (.aconst_null, 1) := dk_1 (dk_at dksX1_init_11 14 rfl rfl)
theorem dX1_init_269 : decode cX1_init 269 = .ok (.new 110, 3) := dk_187 0 110 (dk_at dksX1_init_11 15 rfl rfl)
theorem dX1_init_272 : decode cX1_init 272 = .ok (.dup, 1) := dk_89 (dk_at dksX1_init_11 18 rfl rfl)
theorem dX1_init_273 : decode cX1_init 273 = .ok (.iconst 0, 1) := dk_3 (dk_at dksX1_init_11 19 rfl rfl)
theorem dX1_init_274 : decode cX1_init 274 = .ok (.getstatic 140, 3) := dk_178 0 140 (dk_at dksX1_init_11 20 rfl rfl)
theorem dX1_init_277 : decode cX1_init 277 = .ok (.iconst 0, 1) := dk_3 (dk_at dksX1_init_11 23 rfl rfl)
theorem dX1_init_278 : decode cX1_init 278 = .ok (.invokespecial 118, 3) := dk_183 0 118 (dk_at dksX1_init_12 0 rfl rfl)
theorem dX1_init_281 : decode cX1_init 281 = .ok (.invokevirtual 121, 3) := dk_182 0 121 (dk_at dksX1_init_12 3 rfl rfl)
theorem dX1_init_284 : decode cX1_init 284 = .ok (.aload_n 0, 1) := dk_42 (dk_at dksX1_init_12 6 rfl rfl)
theorem dX1_init_285 : decode cX1_init 285 = .ok (.iconst 0, 1) := dk_3 (dk_at dksX1_init_12 7 rfl rfl)
theorem dX1_init_286 : decode cX1_init 286 = .ok (.iconst 2, 1) := dk_5 (dk_at dksX1_init_12 8 rfl rfl)
theorem dX1_init_287 : decode cX1_init 287 = .ok (.iconst 0, 1) := dk_3 (dk_at dksX1_init_12 9 rfl rfl)
theorem dX1_init_288 : decode cX1_init 288 = .ok (.aconst_null, 1) := dk_1 (dk_at dksX1_init_12 10 rfl rfl)
theorem dX1_init_289 : decode cX1_init 289 = .ok (.new 110, 3) := dk_187 0 110 (dk_at dksX1_init_12 11 rfl rfl)
theorem dX1_init_292 : decode cX1_init 292 = .ok (.dup, 1) := dk_89 (dk_at dksX1_init_12 14 rfl rfl)
theorem dX1_init_293 : decode cX1_init 293 = .ok (.iconst 0, 1) := dk_3 (dk_at dksX1_init_12 15 rfl rfl)
theorem dX1_init_294 : decode cX1_init 294 = .ok (.getstatic 137, 3) := dk_178 0 137 (dk_at dksX1_init_12 16 rfl rfl)
theorem dX1_init_297 : decode cX1_init 297 = .ok (.iconst 1, 1) := dk_4 (dk_at dksX1_init_12 19 rfl rfl)
theorem dX1_init_298 : decode cX1_init 298 = .ok (.invokespecial 118, 3) := dk_183 0 118 (dk_at dksX1_init_12 20 rfl rfl)
theorem dX1_init_301 : decode cX1_init 301 = .ok (.invokevirtual 121, 3) := dk_182 0 121 (dk_at dksX1_init_13 0 rfl rfl)
theorem dX1_init_304 : decode cX1_init 304 = .ok (.aload_n 0, 1) := dk_42 (dk_at dksX1_init_13 3 rfl rfl)
theorem dX1_init_305 : decode cX1_init 305 = .ok (.getfield 53, 3) := dk_180 0 53 (dk_at dksX1_init_13 4 rfl rfl)
theorem dX1_init_308 : decode cX1_init 308 = .ok (.getfield 143, 3) := dk_180 0 143 (dk_at dksX1_init_13 7 rfl rfl)
theorem dX1_init_311 : decode cX1_init 311 = .ok (.new 147, 3) := dk_187 0 147 (dk_at dksX1_init_13 10 rfl rfl)
theorem dX1_init_314 : decode cX1_init 314 = .ok (.dup, 1) := dk_89 (dk_at dksX1_init_13 13 rfl rfl)
theorem dX1_init_315 : decode cX1_init 315 = .ok (.iconst (-1), 1) := dk_2 (dk_at dksX1_init_13 14 rfl rfl)
theorem dX1_init_316 : decode cX1_init 316 = .ok (.new 125, 3) := dk_187 0 125 (dk_at dksX1_init_13 15 rfl rfl)
theorem dX1_init_319 : decode cX1_init 319 = .ok (.dup, 1) := dk_89 (dk_at dksX1_init_13 18 rfl rfl)
theorem dX1_init_320 : decode cX1_init 320 = .ok (.iconst 0, 1) := dk_3 (dk_at dksX1_init_13 19 rfl rfl)
theorem dX1_init_321 : decode cX1_init 321 = .ok (.getstatic 149, 3) := dk_178 0 149 (dk_at dksX1_init_13 20 rfl rfl)
theorem dX1_init_324 : decode cX1_init 324 = .ok (.iconst 5, 1) := dk_8 (dk_at dksX1_init_13 23 rfl rfl)
theorem dX1_init_325 : decode cX1_init 325 = .ok (.invokespecial 131, 3) := dk_183 0 131 (dk_at dksX1_init_14 0 rfl rfl)
theorem dX1_init_328 : decode cX1_init 328 = .ok (.invokespecial 152, 3) := dk_183 0 152 (dk_at dksX1_init_14 3 rfl rfl)
theorem dX1_init_331 : decode cX1_init 331 = .ok (.invokeinterface 155 2, 5) := by decide +kernel
theorem dX1_init_336 : decode cX1_init 336 = .ok (.istore_n 1, 1) := dk_60 (dk_at dksX1_init_14 11 rfl rfl)
theorem dX1_init_337 : decode cX1_init 337 = .ok (.aload_n 0, 1) := dk_42 (dk_at dksX1_init_14 12 rfl rfl)
theorem dX1_init_338 : decode cX1_init 338 = .ok (.getfield 53, 3) := dk_180 0 53 (dk_at dksX1_init_14 13 rfl rfl)
theorem dX1_init_341 : decode cX1_init 341 = .ok (.getfield 143, 3) := dk_180 0 143 (dk_at dksX1_init_14 16 rfl rfl)
theorem dX1_init_344 : decode cX1_init 344 = .ok (.new 147, 3) := dk_187 0 147 (dk_at dksX1_init_14 19 rfl rfl)
theorem dX1_init_347 : decode cX1_init 347 = .ok (.dup, 1) := dk_89 (dk_at dksX1_init_14 22 rfl rfl)
theorem dX1_init_348 : decode cX1_init 348 = .ok (.iconst 0, 1) := dk_3 (dk_at dksX1_init_14 23 rfl rfl)
theorem dX1_init_349 : decode cX1_init 349 = .ok (.new 125, 3) := dk_187 0 125 (dk_at dksX1_init_15 0 rfl rfl)
theorem dX1_init_352 : decode cX1_init 352 = .ok (.dup, 1) := dk_89 (dk_at dksX1_init_15 3 rfl rfl)
theorem dX1_init_353 : decode cX1_init 353 = .ok (.iconst 1, 1) := dk_4 (dk_at dksX1_init_15 4 rfl rfl)
theorem dX1_init_354 : decode cX1_init 354 = .ok (.getstatic 134, 3) := dk_178 0 134 (dk_at dksX1_init_15 5 rfl rfl)
theorem dX1_init_357 : decode cX1_init 357 = .ok (.iconst 1, 1) := dk_4 (dk_at dksX1_init_15 8 rfl rfl)
theorem dX1_init_358 : decode cX1_init 358 = .ok (.invokespecial 131, 3) := dk_183 0 131 (dk_at dksX1_init_15 9 rfl rfl)
theorem dX1_init_361 : decode cX1_init 361 = .ok (.invokespecial 152, 3) := dk_183 0 152 (dk_at dksX1_init_15 12 rfl rfl)
theorem dX1_init_364 : decode cX1_init 364 = .ok (.invokeinterface 155 2, 5) := by decide +kernel
theorem dX1_init_369 : decode cX1_init 369 = .ok (.istore_n 2, 1) := dk_61 (dk_at dksX1_init_15 20 rfl rfl)
theorem dX1_init_370 : decode cX1_init 370 = .ok (.aload_n 0, 1) := dk_42 (dk_at dksX1_init_15 21 rfl rfl)
theorem dX1_init_371 : decode cX1_init 371 = .ok (.getfield 53, 3) := dk_180 0 53 (dk_at dksX1_init_16 0 rfl rfl)
theorem dX1_init_374 : decode cX1_init 374 = .ok (.aload_n 0, 1) := dk_42 (dk_at dksX1_init_16 3 rfl rfl)
theorem dX1_init_375 : decode cX1_init 375 = .ok (.getfield 46, 3) := dk_180 0 46 (dk_at dksX1_init_16 4 rfl rfl)
theorem dX1_init_378 : decode cX1_init 378 = .ok (.getfield 161, 3) := dk_180 0 161 (dk_at dksX1_init_16 7 rfl rfl)
theorem dX1_init_381 : decode cX1_init 381 = .ok (.putfield 164, 3) := dk_181 0 164 (dk_at dksX1_init_16 10 rfl rfl)
theorem dX1_init_384 : decode cX1_init 384 = .ok (.aload_n 0, 1) := dk_42 (dk_at dksX1_init_16 13 rfl rfl)
theorem dX1_init_385 : decode cX1_init 385 = .ok (.getfield 53, 3) := dk_180 0 53 (dk_at dksX1_init_16 14 rfl rfl)
theorem dX1_init_388 : decode cX1_init 388 = .ok (.invokevirtual 167, 3) := dk_182 0 167 (dk_at dksX1_init_16 17 rfl rfl)
theorem dX1_init_391 : decode cX1_init 391 = .ok (.return_, 1) := dk_177 (dk_at dksX1_init_16 20 rfl rfl)
abbrev cX1_defineStates : ByteArray := prog_1_method_9_code
def yX1_defineStates : MethodName := ⟨RX1, "defineStates", "([Ljava/lang/String;)V"⟩
def dkwX1_defineStates_1 : List UInt8 := [180, 0, 170, 25, 5, 185, 0, 155, 2, 0, 54, 6, 132, 4, 1, 167, 255, 225, 177]
abbrev dktX1_defineStates_1 : List UInt8 := dkwX1_defineStates_1 ++ []
def dkwX1_defineStates_0 : List UInt8 := [43, 77, 44, 190, 62, 3, 54, 4, 21, 4, 29, 162, 0, 31, 44, 21, 4, 50, 58, 5, 42, 180, 0, 46]
abbrev dktX1_defineStates_0 : List UInt8 := dkwX1_defineStates_0 ++ dktX1_defineStates_1
theorem dksX1_defineStates_0 : cX1_defineStates.data.toList.drop 0 = dktX1_defineStates_0 := by decide +kernel
theorem dksX1_defineStates_1 : cX1_defineStates.data.toList.drop 24 = dktX1_defineStates_1 := dk_seg dksX1_defineStates_0 24 rfl rfl
theorem dX1_defineStates_0 : decode cX1_defineStates 0 = .ok (.aload_n 1, 1) := dk_43 (dk_at dksX1_defineStates_0 0 rfl rfl)
theorem dX1_defineStates_1 : decode cX1_defineStates 1 = .ok (.astore_n 2, 1) := dk_77 (dk_at dksX1_defineStates_0 1 rfl rfl)
theorem dX1_defineStates_2 : decode cX1_defineStates 2 = .ok (.aload_n 2, 1) := dk_44 (dk_at dksX1_defineStates_0 2 rfl rfl)
theorem dX1_defineStates_3 : decode cX1_defineStates 3 = .ok (.arraylength, 1) := dk_190 (dk_at dksX1_defineStates_0 3 rfl rfl)
theorem dX1_defineStates_4 : decode cX1_defineStates 4 = .ok (.istore_n 3, 1) := dk_62 (dk_at dksX1_defineStates_0 4 rfl rfl)
theorem dX1_defineStates_5 : decode cX1_defineStates 5 = .ok (.iconst 0, 1) := dk_3 (dk_at dksX1_defineStates_0 5 rfl rfl)
theorem dX1_defineStates_6 : decode cX1_defineStates 6 = .ok (.istore 4, 2) := dk_54 4 (dk_at dksX1_defineStates_0 6 rfl rfl)
theorem dX1_defineStates_8 : decode cX1_defineStates 8 = .ok (.iload 4, 2) := dk_21 4 (dk_at dksX1_defineStates_0 8 rfl rfl)
theorem dX1_defineStates_10 : decode cX1_defineStates 10 = .ok (.iload_n 3, 1) := dk_29 (dk_at dksX1_defineStates_0 10 rfl rfl)
theorem dX1_defineStates_11 : decode cX1_defineStates 11 = .ok (.if_icmp .ge 31, 3) := dk_162 0 31 (dk_at dksX1_defineStates_0 11 rfl rfl)
theorem dX1_defineStates_14 : decode cX1_defineStates 14 = .ok (.aload_n 2, 1) := dk_44 (dk_at dksX1_defineStates_0 14 rfl rfl)
theorem dX1_defineStates_15 : decode cX1_defineStates 15 = .ok (.iload 4, 2) := dk_21 4 (dk_at dksX1_defineStates_0 15 rfl rfl)
theorem dX1_defineStates_17 : decode cX1_defineStates 17 = .ok (.aaload, 1) := dk_50 (dk_at dksX1_defineStates_0 17 rfl rfl)
theorem dX1_defineStates_18 : decode cX1_defineStates 18 = .ok (.astore 5, 2) := dk_58 5 (dk_at dksX1_defineStates_0 18 rfl rfl)
theorem dX1_defineStates_20 : decode cX1_defineStates 20 = .ok (.aload_n 0, 1) := dk_42 (dk_at dksX1_defineStates_0 20 rfl rfl)
theorem dX1_defineStates_21 : decode cX1_defineStates 21 = .ok (.getfield 46, 3) := dk_180 0 46 (dk_at dksX1_defineStates_0 21 rfl rfl)
theorem dX1_defineStates_24 : decode cX1_defineStates 24 = .ok (.getfield 170, 3) := dk_180 0 170 (dk_at dksX1_defineStates_1 0 rfl rfl)
theorem dX1_defineStates_27 : decode cX1_defineStates 27 = .ok (.aload 5, 2) := dk_25 5 (dk_at dksX1_defineStates_1 3 rfl rfl)
theorem dX1_defineStates_29 : decode cX1_defineStates 29 = .ok (.invokeinterface 155 2, 5) := by decide +kernel
theorem dX1_defineStates_34 : decode cX1_defineStates 34 = .ok (.istore 6, 2) := dk_54 6 (dk_at dksX1_defineStates_1 10 rfl rfl)
theorem dX1_defineStates_36 : decode cX1_defineStates 36 = .ok (.iinc 4 1, 3) := dk_132 4 1 (dk_at dksX1_defineStates_1 12 rfl rfl)
theorem dX1_defineStates_39 : decode cX1_defineStates 39 = .ok (.goto (-31), 3) := dk_167 255 225 (dk_at dksX1_defineStates_1 15 rfl rfl)
theorem dX1_defineStates_42 : decode cX1_defineStates 42 = .ok (.return_, 1) := dk_177 (dk_at dksX1_defineStates_1 18 rfl rfl)
abbrev cX1_defineEvents : ByteArray := prog_1_method_10_code
def yX1_defineEvents : MethodName := ⟨RX1, "defineEvents", "([Ljava/lang/String;)V"⟩
def dkwX1_defineEvents_1 : List UInt8 := [180, 0, 173, 25, 5, 185, 0, 155, 2, 0, 54, 6, 132, 4, 1, 167, 255, 225, 177]
abbrev dktX1_defineEvents_1 : List UInt8 := dkwX1_defineEvents_1 ++ []
def dkwX1_defineEvents_0 : List UInt8 := [43, 77, 44, 190, 62, 3, 54, 4, 21, 4, 29, 162, 0, 31, 44, 21, 4, 50, 58, 5, 42, 180, 0, 46]
abbrev dktX1_defineEvents_0 : List UInt8 := dkwX1_defineEvents_0 ++ dktX1_defineEvents_1
theorem dksX1_defineEvents_0 : cX1_defineEvents.data.toList.drop 0 = dktX1_defineEvents_0 := by decide +kernel
theorem dksX1_defineEvents_1 : cX1_defineEvents.data.toList.drop 24 = dktX1_defineEvents_1 := dk_seg dksX1_defineEvents_0 24 rfl rfl
theorem dX1_defineEvents_0 : decode cX1_defineEvents 0 = .ok (.aload_n 1, 1) := dk_43 (dk_at dksX1_defineEvents_0 0 rfl rfl)
theorem dX1_defineEvents_1 : decode cX1_defineEvents 1 = .ok (.astore_n 2, 1) := dk_77 (dk_at dksX1_defineEvents_0 1 rfl rfl)
theorem dX1_defineEvents_2 : decode cX1_defineEvents 2 = .ok (.aload_n 2, 1) := dk_44 (dk_at dksX1_defineEvents_0 2 rfl rfl)
theorem dX1_defineEvents_3 : decode cX1_defineEvents 3 = .ok (.arraylength, 1) := dk_190 (dk_at dksX1_defineEvents_0 3 rfl rfl)
theorem dX1_defineEvents_4 : decode cX1_defineEvents 4 = .ok (.istore_n 3, 1) := dk_62 (dk_at dksX1_defineEvents_0 4 rfl rfl)
theorem dX1_defineEvents_5 : decode cX1_defineEvents 5 = .ok (.iconst 0, 1) := dk_3 (dk_at dksX1_defineEvents_0 5 rfl rfl)
theorem dX1_defineEvents_6 : decode cX1_defineEvents 6 = .ok (.istore 4, 2) := dk_54 4 (dk_at dksX1_defineEvents_0 6 rfl rfl)
theorem dX1_defineEvents_8 : decode cX1_defineEvents 8 = .ok (.iload 4, 2) := dk_21 4 (dk_at dksX1_defineEvents_0 8 rfl rfl)
theorem dX1_defineEvents_10 : decode cX1_defineEvents 10 = .ok (.iload_n 3, 1) := dk_29 (dk_at dksX1_defineEvents_0 10 rfl rfl)
theorem dX1_defineEvents_11 : decode cX1_defineEvents 11 = .ok (.if_icmp .ge 31, 3) := dk_162 0 31 (dk_at dksX1_defineEvents_0 11 rfl rfl)
theorem dX1_defineEvents_14 : decode cX1_defineEvents 14 = .ok (.aload_n 2, 1) := dk_44 (dk_at dksX1_defineEvents_0 14 rfl rfl)
theorem dX1_defineEvents_15 : decode cX1_defineEvents 15 = .ok (.iload 4, 2) := dk_21 4 (dk_at dksX1_defineEvents_0 15 rfl rfl)
theorem dX1_defineEvents_17 : decode cX1_defineEvents 17 = .ok (.aaload, 1) := dk_50 (dk_at dksX1_defineEvents_0 17 rfl rfl)
theorem dX1_defineEvents_18 : decode cX1_defineEvents 18 = .ok (.astore 5, 2) := dk_58 5 (dk_at dksX1_defineEvents_0 18 rfl rfl)
theorem dX1_defineEvents_20 : decode cX1_defineEvents 20 = .ok (.aload_n 0, 1) := dk_42 (dk_at dksX1_defineEvents_0 20 rfl rfl)
theorem dX1_defineEvents_21 : decode cX1_defineEvents 21 = .ok (.getfield 46, 3) := dk_180 0 46 (dk_at dksX1_defineEvents_0 21 rfl rfl)
theorem dX1_defineEvents_24 : decode cX1_defineEvents 24 = .ok (.getfield 173, 3) := dk_180 0 173 (dk_at dksX1_defineEvents_1 0 rfl rfl)
theorem dX1_defineEvents_27 : decode cX1_defineEvents 27 = .ok (.aload 5, 2) := dk_25 5 (dk_at dksX1_defineEvents_1 3 rfl rfl)
theorem dX1_defineEvents_29 : decode cX1_defineEvents 29 = .ok (.invokeinterface 155 2, 5) := by decide +kernel
theorem dX1_defineEvents_34 : decode cX1_defineEvents 34 = .ok (.istore 6, 2) := dk_54 6 (dk_at dksX1_defineEvents_1 10 rfl rfl)
theorem dX1_defineEvents_36 : decode cX1_defineEvents 36 = .ok (.iinc 4 1, 3) := dk_132 4 1 (dk_at dksX1_defineEvents_1 12 rfl rfl)
theorem dX1_defineEvents_39 : decode cX1_defineEvents 39 = .ok (.goto (-31), 3) := dk_167 255 225 (dk_at dksX1_defineEvents_1 15 rfl rfl)
theorem dX1_defineEvents_42 : decode cX1_defineEvents 42 = .ok (.return_, 1) := dk_177 (dk_at dksX1_defineEvents_1 18 rfl rfl)
abbrev cX1_weight : ByteArray := prog_1_method_6_code
def yX1_weight : MethodName := ⟨RX1, "weight", "(I)I"⟩
def dkwX1_weight_0 : List UInt8 := [26, 154, 0, 8, 16, 100, 167, 0, 14, 26, 4, 160, 0, 8, 16, 10, 167, 0, 4, 4, 172]
abbrev dktX1_weight_0 : List UInt8 := dkwX1_weight_0 ++ []
theorem dksX1_weight_0 : cX1_weight.data.toList.drop 0 = dktX1_weight_0 := by decide +kernel
theorem dX1_weight_0 : decode cX1_weight 0 = .ok (.iload_n 0, 1) := dk_26 (dk_at dksX1_weight_0 0 rfl rfl)
theorem dX1_weight_1 : decode cX1_weight 1 = .ok (.ifCond .ne 8, 3) := dk_154 0 8 (dk_at dksX1_weight_0 1 rfl rfl)
theorem dX1_weight_4 : decode cX1_weight 4 = .ok (.bipush 100, 2) := dk_16 100 (dk_at dksX1_weight_0 4 rfl rfl)
theorem dX1_weight_6 : decode cX1_weight 6 = .ok (.goto 14, 3) := dk_167 0 14 (dk_at dksX1_weight_0 6 rfl rfl)
theorem dX1_weight_9 : decode cX1_weight 9 = .ok (.iload_n 0, 1) := dk_26 (dk_at dksX1_weight_0 9 rfl rfl)
theorem dX1_weight_10 : decode cX1_weight 10 = .ok (.iconst 1, 1) := dk_4 (dk_at dksX1_weight_0 10 rfl rfl)
theorem dX1_weight_11 : decode cX1_weight 11 = .ok (.if_icmp .ne 8, 3) := dk_160 0 8 (dk_at dksX1_weight_0 11 rfl rfl)
theorem dX1_weight_14 : decode cX1_weight 14 = .ok (.bipush 10, 2) := dk_16 10 (dk_at dksX1_weight_0 14 rfl rfl)
theorem dX1_weight_16 : decode cX1_weight 16 = .ok (.goto 4, 3) := dk_167 0 4 (dk_at dksX1_weight_0 16 rfl rfl)
theorem dX1_weight_19 : decode cX1_weight 19 = .ok (.iconst 1, 1) := dk_4 (dk_at dksX1_weight_0 19 rfl rfl)
theorem dX1_weight_20 : decode cX1_weight 20 = .ok (.ireturn, 1) := dk_172 (dk_at dksX1_weight_0 20 rfl rfl)
abbrev cX1_define : ByteArray := prog_1_method_11_code
def yX1_define : MethodName := ⟨RX1, "define", "(IIILContractMachine$Comparison;LContractMachine$Action;)V"⟩
def dkwX1_define_1 : List UInt8 := [185, 0, 155, 2, 0, 54, 6, 177]
abbrev dktX1_define_1 : List UInt8 := dkwX1_define_1 ++ []
def dkwX1_define_0 : List UInt8 := [42, 180, 0, 46, 180, 0, 176, 187, 0, 179, 89, 27, 28, 29, 25, 4, 25, 5, 183, 0, 181]
abbrev dktX1_define_0 : List UInt8 := dkwX1_define_0 ++ dktX1_define_1
theorem dksX1_define_0 : cX1_define.data.toList.drop 0 = dktX1_define_0 := by decide +kernel
theorem dksX1_define_1 : cX1_define.data.toList.drop 21 = dktX1_define_1 := dk_seg dksX1_define_0 21 rfl rfl
theorem dX1_define_0 : decode cX1_define 0 = .ok (.aload_n 0, 1) := dk_42 (dk_at dksX1_define_0 0 rfl rfl)
theorem dX1_define_1 : decode cX1_define 1 = .ok (.getfield 46, 3) := dk_180 0 46 (dk_at dksX1_define_0 1 rfl rfl)
theorem dX1_define_4 : decode cX1_define 4 = .ok (.getfield 176, 3) := dk_180 0 176 (dk_at dksX1_define_0 4 rfl rfl)
theorem dX1_define_7 : decode cX1_define 7 = .ok (.new 179, 3) := dk_187 0 179 (dk_at dksX1_define_0 7 rfl rfl)
theorem dX1_define_10 : decode cX1_define 10 = .ok (.dup, 1) := dk_89 (dk_at dksX1_define_0 10 rfl rfl)
theorem dX1_define_11 : decode cX1_define 11 = .ok (.iload_n 1, 1) := dk_27 (dk_at dksX1_define_0 11 rfl rfl)
theorem dX1_define_12 : decode cX1_define 12 = .ok (.iload_n 2, 1) := dk_28 (dk_at dksX1_define_0 12 rfl rfl)
theorem dX1_define_13 : decode cX1_define 13 = .ok (.iload_n 3, 1) := dk_29 (dk_at dksX1_define_0 13 rfl rfl)
theorem dX1_define_14 : decode cX1_define 14 = .ok (.aload 4, 2) := dk_25 4 (dk_at dksX1_define_0 14 rfl rfl)
theorem dX1_define_16 : decode cX1_define 16 = .ok (.aload 5, 2) := dk_25 5 (dk_at dksX1_define_0 16 rfl rfl)
theorem dX1_define_18 : decode cX1_define 18 = .ok (.invokespecial 181, 3) := dk_183 0 181 (dk_at dksX1_define_0 18 rfl rfl)
theorem dX1_define_21 : decode cX1_define 21 = .ok (.invokeinterface 155 2, 5) := by decide +kernel
theorem dX1_define_26 : decode cX1_define 26 = .ok (.istore 6, 2) := dk_54 6 (dk_at dksX1_define_1 5 rfl rfl)
theorem dX1_define_28 : decode cX1_define 28 = .ok (.return_, 1) := dk_177 (dk_at dksX1_define_1 7 rfl rfl)
abbrev cX1_appendInput : ByteArray := prog_1_method_13_code
def yX1_appendInput : MethodName := ⟨RX1, "appendInput", "(IIIII)I"⟩
def dkwX1_appendInput_2 : List UInt8 := [172]
abbrev dktX1_appendInput_2 : List UInt8 := dkwX1_appendInput_2 ++ []
def dkwX1_appendInput_1 : List UInt8 := [182, 0, 186, 42, 29, 182, 0, 186, 42, 21, 4, 182, 0, 186, 42, 21, 5, 182, 0, 186, 42, 180, 0, 183]
abbrev dktX1_appendInput_1 : List UInt8 := dkwX1_appendInput_1 ++ dktX1_appendInput_2
def dkwX1_appendInput_0 : List UInt8 := [42, 180, 0, 183, 16, 20, 96, 17, 2, 188, 164, 0, 5, 2, 172, 42, 27, 182, 0, 186, 42, 28]
abbrev dktX1_appendInput_0 : List UInt8 := dkwX1_appendInput_0 ++ dktX1_appendInput_1
theorem dksX1_appendInput_0 : cX1_appendInput.data.toList.drop 0 = dktX1_appendInput_0 := by decide +kernel
theorem dksX1_appendInput_1 : cX1_appendInput.data.toList.drop 22 = dktX1_appendInput_1 := dk_seg dksX1_appendInput_0 22 rfl rfl
theorem dksX1_appendInput_2 : cX1_appendInput.data.toList.drop 46 = dktX1_appendInput_2 := dk_seg dksX1_appendInput_1 24 rfl rfl
theorem dX1_appendInput_0 : decode cX1_appendInput 0 = .ok (.aload_n 0, 1) := dk_42 (dk_at dksX1_appendInput_0 0 rfl rfl)
theorem dX1_appendInput_1 : decode cX1_appendInput 1 = .ok (.getfield 183, 3) := dk_180 0 183 (dk_at dksX1_appendInput_0 1 rfl rfl)
theorem dX1_appendInput_4 : decode cX1_appendInput 4 = .ok (.bipush 20, 2) := dk_16 20 (dk_at dksX1_appendInput_0 4 rfl rfl)
theorem dX1_appendInput_6 : decode cX1_appendInput 6 = .ok (.iadd, 1) := dk_96 (dk_at dksX1_appendInput_0 6 rfl rfl)
theorem dX1_appendInput_7 : decode cX1_appendInput 7 = .ok (.sipush 700, 3) := dk_17 2 188 (dk_at dksX1_appendInput_0 7 rfl rfl)
theorem dX1_appendInput_10 : decode cX1_appendInput 10 = .ok (.if_icmp .le 5, 3) := dk_164 0 5 (dk_at dksX1_appendInput_0 10 rfl rfl)
theorem dX1_appendInput_13 : decode cX1_appendInput 13 = .ok (.iconst (-1), 1) := dk_2 (dk_at dksX1_appendInput_0 13 rfl rfl)
theorem dX1_appendInput_14 : decode cX1_appendInput 14 = .ok (.ireturn, 1) := dk_172 (dk_at dksX1_appendInput_0 14 rfl rfl)
theorem dX1_appendInput_15 : decode cX1_appendInput 15 = .ok (.aload_n 0, 1) := dk_42 (dk_at dksX1_appendInput_0 15 rfl rfl)
theorem dX1_appendInput_16 : decode cX1_appendInput 16 = .ok (.iload_n 1, 1) := dk_27 (dk_at dksX1_appendInput_0 16 rfl rfl)
theorem dX1_appendInput_17 : decode cX1_appendInput 17 = .ok (.invokevirtual 186, 3) := dk_182 0 186 (dk_at dksX1_appendInput_0 17 rfl rfl)
theorem dX1_appendInput_20 : decode cX1_appendInput 20 = .ok (.aload_n 0, 1) := dk_42 (dk_at dksX1_appendInput_0 20 rfl rfl)
theorem dX1_appendInput_21 : decode cX1_appendInput 21 = .ok (.iload_n 2, 1) := dk_28 (dk_at dksX1_appendInput_0 21 rfl rfl)
theorem dX1_appendInput_22 : decode cX1_appendInput 22 = .ok (.invokevirtual 186, 3) := dk_182 0 186 (dk_at dksX1_appendInput_1 0 rfl rfl)
theorem dX1_appendInput_25 : decode cX1_appendInput 25 = .ok (.aload_n 0, 1) := dk_42 (dk_at dksX1_appendInput_1 3 rfl rfl)
theorem dX1_appendInput_26 : decode cX1_appendInput 26 = .ok (.iload_n 3, 1) := dk_29 (dk_at dksX1_appendInput_1 4 rfl rfl)
theorem dX1_appendInput_27 : decode cX1_appendInput 27 = .ok (.invokevirtual 186, 3) := dk_182 0 186 (dk_at dksX1_appendInput_1 5 rfl rfl)
theorem dX1_appendInput_30 : decode cX1_appendInput 30 = .ok (.aload_n 0, 1) := dk_42 (dk_at dksX1_appendInput_1 8 rfl rfl)
theorem dX1_appendInput_31 : decode cX1_appendInput 31 = .ok (.iload 4, 2) := dk_21 4 (dk_at dksX1_appendInput_1 9 rfl rfl)
theorem dX1_appendInput_33 : decode cX1_appendInput 33 = .ok (.invokevirtual 186, 3) := dk_182 0 186 (dk_at dksX1_appendInput_1 11 rfl rfl)
theorem dX1_appendInput_36 : decode cX1_appendInput 36 = .ok (.aload_n 0, 1) := dk_42 (dk_at dksX1_appendInput_1 14 rfl rfl)
theorem dX1_appendInput_37 : decode cX1_appendInput 37 = .ok (.iload 5, 2) := dk_21 5 (dk_at dksX1_appendInput_1 15 rfl rfl)
theorem dX1_appendInput_39 : decode cX1_appendInput 39 = .ok (.invokevirtual 186, 3) := dk_182 0 186 (dk_at dksX1_appendInput_1 17 rfl rfl)
theorem dX1_appendInput_42 : decode cX1_appendInput 42 = .ok (.aload_n 0, 1) := dk_42 (dk_at dksX1_appendInput_1 20 rfl rfl)
theorem dX1_appendInput_43 : decode cX1_appendInput 43 = .ok (.getfield 183, 3) := dk_180 0 183 (dk_at dksX1_appendInput_1 21 rfl rfl)
theorem dX1_appendInput_46 : decode cX1_appendInput 46 = .ok (.ireturn, 1) := dk_172 (dk_at dksX1_appendInput_2 0 rfl rfl)
abbrev cX1_append : ByteArray := prog_1_method_12_code
def yX1_append : MethodName := ⟨RX1, "append", "(I)V"⟩
def dkwX1_append_1 : List UInt8 := [180, 0, 183, 4, 96, 181, 0, 183, 132, 2, 248, 167, 255, 226, 177]
abbrev dktX1_append_1 : List UInt8 := dkwX1_append_1 ++ []
def dkwX1_append_0 : List UInt8 := [16, 24, 61, 28, 155, 0, 32, 42, 180, 0, 35, 42, 180, 0, 183, 27, 28, 122, 145, 84, 42, 89]
abbrev dktX1_append_0 : List UInt8 := dkwX1_append_0 ++ dktX1_append_1
theorem dksX1_append_0 : cX1_append.data.toList.drop 0 = dktX1_append_0 := by decide +kernel
theorem dksX1_append_1 : cX1_append.data.toList.drop 22 = dktX1_append_1 := dk_seg dksX1_append_0 22 rfl rfl
theorem dX1_append_0 : decode cX1_append 0 = .ok (.bipush 24, 2) := dk_16 24 (dk_at dksX1_append_0 0 rfl rfl)
theorem dX1_append_2 : decode cX1_append 2 = .ok (.istore_n 2, 1) := dk_61 (dk_at dksX1_append_0 2 rfl rfl)
theorem dX1_append_3 : decode cX1_append 3 = .ok (.iload_n 2, 1) := dk_28 (dk_at dksX1_append_0 3 rfl rfl)
theorem dX1_append_4 : decode cX1_append 4 = .ok (.ifCond .lt 32, 3) := dk_155 0 32 (dk_at dksX1_append_0 4 rfl rfl)
theorem dX1_append_7 : decode cX1_append 7 = .ok (.aload_n 0, 1) := dk_42 (dk_at dksX1_append_0 7 rfl rfl)
theorem dX1_append_8 : decode cX1_append 8 = .ok (.getfield 35, 3) := dk_180 0 35 (dk_at dksX1_append_0 8 rfl rfl)
theorem dX1_append_11 : decode cX1_append 11 = .ok (.aload_n 0, 1) := dk_42 (dk_at dksX1_append_0 11 rfl rfl)
theorem dX1_append_12 : decode cX1_append 12 = .ok (.getfield 183, 3) := dk_180 0 183 (dk_at dksX1_append_0 12 rfl rfl)
theorem dX1_append_15 : decode cX1_append 15 = .ok (.iload_n 1, 1) := dk_27 (dk_at dksX1_append_0 15 rfl rfl)
theorem dX1_append_16 : decode cX1_append 16 = .ok (.iload_n 2, 1) := dk_28 (dk_at dksX1_append_0 16 rfl rfl)
theorem dX1_append_17 : decode cX1_append 17 = .ok (.ishr, 1) := dk_122 (dk_at dksX1_append_0 17 rfl rfl)
theorem dX1_append_18 : decode cX1_append 18 = .ok (.i2b, 1) := dk_145 (dk_at dksX1_append_0 18 rfl rfl)
theorem dX1_append_19 : decode cX1_append 19 = .ok (.bastore, 1) := dk_84 (dk_at dksX1_append_0 19 rfl rfl)
theorem dX1_append_20 : decode cX1_append 20 = .ok (.aload_n 0, 1) := dk_42 (dk_at dksX1_append_0 20 rfl rfl)
theorem dX1_append_21 : decode cX1_append 21 = .ok (.dup, 1) := dk_89 (dk_at dksX1_append_0 21 rfl rfl)
theorem dX1_append_22 : decode cX1_append 22 = .ok (.getfield 183, 3) := dk_180 0 183 (dk_at dksX1_append_1 0 rfl rfl)
theorem dX1_append_25 : decode cX1_append 25 = .ok (.iconst 1, 1) := dk_4 (dk_at dksX1_append_1 3 rfl rfl)
theorem dX1_append_26 : decode cX1_append 26 = .ok (.iadd, 1) := dk_96 (dk_at dksX1_append_1 4 rfl rfl)
theorem dX1_append_27 : decode cX1_append 27 = .ok (.putfield 183, 3) := dk_181 0 183 (dk_at dksX1_append_1 5 rfl rfl)
theorem dX1_append_30 : decode cX1_append 30 = .ok (.iinc 2 (-8), 3) := dk_132 2 248 (dk_at dksX1_append_1 8 rfl rfl)
theorem dX1_append_33 : decode cX1_append 33 = .ok (.goto (-30), 3) := dk_167 255 226 (dk_at dksX1_append_1 11 rfl rfl)
theorem dX1_append_36 : decode cX1_append 36 = .ok (.return_, 1) := dk_177 (dk_at dksX1_append_1 14 rfl rfl)
abbrev cX1_truncateInput : ByteArray := prog_1_method_14_code
def yX1_truncateInput : MethodName := ⟨RX1, "truncateInput", "(I)Z"⟩
def dkwX1_truncateInput_0 : List UInt8 := [27, 133, 9, 42, 180, 0, 183, 133, 184, 0, 190, 154, 0, 5, 3, 172, 42, 27, 181, 0, 183, 4, 172]
abbrev dktX1_truncateInput_0 : List UInt8 := dkwX1_truncateInput_0 ++ []
theorem dksX1_truncateInput_0 : cX1_truncateInput.data.toList.drop 0 = dktX1_truncateInput_0 := by decide +kernel
theorem dX1_truncateInput_0 : decode cX1_truncateInput 0 = .ok (.iload_n 1, 1) := dk_27 (dk_at dksX1_truncateInput_0 0 rfl rfl)
theorem dX1_truncateInput_1 : decode cX1_truncateInput 1 = .ok (.i2l, 1) := dk_133 (dk_at dksX1_truncateInput_0 1 rfl rfl)
theorem dX1_truncateInput_2 : decode cX1_truncateInput 2 = .ok (.lconst 0, 1) := dk_9 (dk_at dksX1_truncateInput_0 2 rfl rfl)
theorem dX1_truncateInput_3 : decode cX1_truncateInput 3 = .ok (.aload_n 0, 1) := dk_42 (dk_at dksX1_truncateInput_0 3 rfl rfl)
theorem dX1_truncateInput_4 : decode cX1_truncateInput 4 = .ok (.getfield 183, 3) := dk_180 0 183 (dk_at dksX1_truncateInput_0 4 rfl rfl)
theorem dX1_truncateInput_7 : decode cX1_truncateInput 7 = .ok (.i2l, 1) := dk_133 (dk_at dksX1_truncateInput_0 7 rfl rfl)
theorem dX1_truncateInput_8 : decode cX1_truncateInput 8 = .ok (.invokestatic 190, 3) := dk_184 0 190 (dk_at dksX1_truncateInput_0 8 rfl rfl)
theorem dX1_truncateInput_11 : decode cX1_truncateInput 11 = .ok (.ifCond .ne 5, 3) := dk_154 0 5 (dk_at dksX1_truncateInput_0 11 rfl rfl)
theorem dX1_truncateInput_14 : decode cX1_truncateInput 14 = .ok (.iconst 0, 1) := dk_3 (dk_at dksX1_truncateInput_0 14 rfl rfl)
theorem dX1_truncateInput_15 : decode cX1_truncateInput 15 = .ok (.ireturn, 1) := dk_172 (dk_at dksX1_truncateInput_0 15 rfl rfl)
theorem dX1_truncateInput_16 : decode cX1_truncateInput 16 = .ok (.aload_n 0, 1) := dk_42 (dk_at dksX1_truncateInput_0 16 rfl rfl)
theorem dX1_truncateInput_17 : decode cX1_truncateInput 17 = .ok (.iload_n 1, 1) := dk_27 (dk_at dksX1_truncateInput_0 17 rfl rfl)
theorem dX1_truncateInput_18 : decode cX1_truncateInput 18 = .ok (.putfield 183, 3) := dk_181 0 183 (dk_at dksX1_truncateInput_0 18 rfl rfl)
theorem dX1_truncateInput_21 : decode cX1_truncateInput 21 = .ok (.iconst 1, 1) := dk_4 (dk_at dksX1_truncateInput_0 21 rfl rfl)
theorem dX1_truncateInput_22 : decode cX1_truncateInput 22 = .ok (.ireturn, 1) := dk_172 (dk_at dksX1_truncateInput_0 22 rfl rfl)
abbrev cX1_isWithin : ByteArray := prog_1_method_1_code
def yX1_isWithin : MethodName := ⟨RX1, "isWithin", "(JJJ)Z"⟩
def dkwX1_isWithin_0 : List UInt8 := [30, 32, 148, 155, 0, 14, 30, 22, 4, 148, 157, 0, 7, 4, 167, 0, 4, 3, 172]
abbrev dktX1_isWithin_0 : List UInt8 := dkwX1_isWithin_0 ++ []
theorem dksX1_isWithin_0 : cX1_isWithin.data.toList.drop 0 = dktX1_isWithin_0 := by decide +kernel
theorem dX1_isWithin_0 : decode cX1_isWithin 0 = .ok (.lload_n 0, 1) := dk_30 (dk_at dksX1_isWithin_0 0 rfl rfl)
theorem dX1_isWithin_1 : decode cX1_isWithin 1 = .ok (.lload_n 2, 1) := dk_32 (dk_at dksX1_isWithin_0 1 rfl rfl)
theorem dX1_isWithin_2 : decode cX1_isWithin 2 = .ok (.lcmp, 1) := dk_148 (dk_at dksX1_isWithin_0 2 rfl rfl)
theorem dX1_isWithin_3 : decode cX1_isWithin 3 = .ok (.ifCond .lt 14, 3) := dk_155 0 14 (dk_at dksX1_isWithin_0 3 rfl rfl)
theorem dX1_isWithin_6 : decode cX1_isWithin 6 = .ok (.lload_n 0, 1) := dk_30 (dk_at dksX1_isWithin_0 6 rfl rfl)
theorem dX1_isWithin_7 : decode cX1_isWithin 7 = .ok (.lload 4, 2) := dk_22 4 (dk_at dksX1_isWithin_0 7 rfl rfl)
theorem dX1_isWithin_9 : decode cX1_isWithin 9 = .ok (.lcmp, 1) := dk_148 (dk_at dksX1_isWithin_0 9 rfl rfl)
theorem dX1_isWithin_10 : decode cX1_isWithin 10 = .ok (.ifCond .gt 7, 3) := dk_157 0 7 (dk_at dksX1_isWithin_0 10 rfl rfl)
theorem dX1_isWithin_13 : decode cX1_isWithin 13 = .ok (.iconst 1, 1) := dk_4 (dk_at dksX1_isWithin_0 13 rfl rfl)
theorem dX1_isWithin_14 : decode cX1_isWithin 14 = .ok (.goto 4, 3) := dk_167 0 4 (dk_at dksX1_isWithin_0 14 rfl rfl)
theorem dX1_isWithin_17 : decode cX1_isWithin 17 = .ok (.iconst 0, 1) := dk_3 (dk_at dksX1_isWithin_0 17 rfl rfl)
theorem dX1_isWithin_18 : decode cX1_isWithin 18 = .ok (.ireturn, 1) := dk_172 (dk_at dksX1_isWithin_0 18 rfl rfl)
abbrev cX1_loadMachine : ByteArray := prog_1_method_17_code
def yX1_loadMachine : MethodName := ⟨RX1, "loadMachine", "()I"⟩
def dkwX1_loadMachine_3 : List UInt8 := [3, 181, 0, 183, 28, 172, 78, 42, 3, 181, 0, 183, 45, 191]
abbrev dktX1_loadMachine_3 : List UInt8 := dkwX1_loadMachine_3 ++ []
def dkwX1_loadMachine_2 : List UInt8 := [180, 0, 170, 185, 0, 224, 1, 0, 61, 42, 3, 181, 0, 183, 28, 172, 76, 42, 43, 182, 0, 228, 61, 42]
abbrev dktX1_loadMachine_2 : List UInt8 := dkwX1_loadMachine_2 ++ dktX1_loadMachine_3
def dkwX1_loadMachine_1 : List UInt8 := [180, 0, 217, 181, 0, 46, 42, 180, 0, 60, 182, 0, 220, 42, 1, 181, 0, 221, 42, 180, 0, 46]
abbrev dktX1_loadMachine_1 : List UInt8 := dkwX1_loadMachine_1 ++ dktX1_loadMachine_2
def dkwX1_loadMachine_0 : List UInt8 := [42, 182, 0, 205, 187, 0, 208, 89, 42, 183, 0, 210, 76, 42, 43, 182, 0, 213, 181, 0, 53, 42, 43]
abbrev dktX1_loadMachine_0 : List UInt8 := dkwX1_loadMachine_0 ++ dktX1_loadMachine_1
theorem dksX1_loadMachine_0 : cX1_loadMachine.data.toList.drop 0 = dktX1_loadMachine_0 := by decide +kernel
theorem dksX1_loadMachine_1 : cX1_loadMachine.data.toList.drop 23 = dktX1_loadMachine_1 := dk_seg dksX1_loadMachine_0 23 rfl rfl
theorem dksX1_loadMachine_2 : cX1_loadMachine.data.toList.drop 45 = dktX1_loadMachine_2 := dk_seg dksX1_loadMachine_1 22 rfl rfl
theorem dksX1_loadMachine_3 : cX1_loadMachine.data.toList.drop 69 = dktX1_loadMachine_3 := dk_seg dksX1_loadMachine_2 24 rfl rfl
theorem dX1_loadMachine_0 : decode cX1_loadMachine 0 = .ok (.aload_n 0, 1) := dk_42 (dk_at dksX1_loadMachine_0 0 rfl rfl)
theorem dX1_loadMachine_1 : decode cX1_loadMachine 1 = .ok (.invokevirtual 205, 3) := dk_182 0 205 (dk_at dksX1_loadMachine_0 1 rfl rfl)
theorem dX1_loadMachine_4 : decode cX1_loadMachine 4 = .ok (.new 208, 3) := dk_187 0 208 (dk_at dksX1_loadMachine_0 4 rfl rfl)
theorem dX1_loadMachine_7 : decode cX1_loadMachine 7 = .ok (.dup, 1) := dk_89 (dk_at dksX1_loadMachine_0 7 rfl rfl)
theorem dX1_loadMachine_8 : decode cX1_loadMachine 8 = .ok (.aload_n 0, 1) := dk_42 (dk_at dksX1_loadMachine_0 8 rfl rfl)
theorem dX1_loadMachine_9 : decode cX1_loadMachine 9 = .ok (.invokespecial 210, 3) := dk_183 0 210 (dk_at dksX1_loadMachine_0 9 rfl rfl)
theorem dX1_loadMachine_12 : decode cX1_loadMachine 12 = .ok (.astore_n 1, 1) := dk_76 (dk_at dksX1_loadMachine_0 12 rfl rfl)
theorem dX1_loadMachine_13 : decode cX1_loadMachine 13 = .ok (.aload_n 0, 1) := dk_42 (dk_at dksX1_loadMachine_0 13 rfl rfl)
theorem dX1_loadMachine_14 : decode cX1_loadMachine 14 = .ok (.aload_n 1, 1) := dk_43 (dk_at dksX1_loadMachine_0 14 rfl rfl)
theorem dX1_loadMachine_15 : decode cX1_loadMachine 15 = .ok (.invokevirtual 213, 3) := dk_182 0 213 (dk_at dksX1_loadMachine_0 15 rfl rfl)
theorem dX1_loadMachine_18 : decode cX1_loadMachine 18 = .ok (.putfield 53, 3) := dk_181 0 53 (dk_at dksX1_loadMachine_0 18 rfl rfl)
theorem dX1_loadMachine_21 : decode cX1_loadMachine 21 = .ok (.aload_n 0, 1) := dk_42 (dk_at dksX1_loadMachine_0 21 rfl rfl)
theorem dX1_loadMachine_22 : decode cX1_loadMachine 22 = .ok (.aload_n 1, 1) := dk_43 (dk_at dksX1_loadMachine_0 22 rfl rfl)
theorem dX1_loadMachine_23 : decode cX1_loadMachine 23 = .ok (.getfield 217, 3) := dk_180 0 217 (dk_at dksX1_loadMachine_1 0 rfl rfl)
theorem dX1_loadMachine_26 : decode cX1_loadMachine 26 = .ok (.putfield 46, 3) := dk_181 0 46 (dk_at dksX1_loadMachine_1 3 rfl rfl)
theorem dX1_loadMachine_29 : decode cX1_loadMachine 29 = .ok (.aload_n 0, 1) := dk_42 (dk_at dksX1_loadMachine_1 6 rfl rfl)
theorem dX1_loadMachine_30 : decode cX1_loadMachine 30 = .ok (.getfield 60, 3) := dk_180 0 60 (dk_at dksX1_loadMachine_1 7 rfl rfl)
theorem dX1_loadMachine_33 : decode cX1_loadMachine 33 = .ok (.invokevirtual 220, 3) := dk_182 0 220 (dk_at dksX1_loadMachine_1 10 rfl rfl)
theorem dX1_loadMachine_36 : decode cX1_loadMachine 36 = .ok (.aload_n 0, 1) := dk_42 (dk_at dksX1_loadMachine_1 13 rfl rfl)
theorem dX1_loadMachine_37 : decode cX1_loadMachine 37 = .ok (.aconst_null, 1) := dk_1 (dk_at dksX1_loadMachine_1 14 rfl rfl)
theorem dX1_loadMachine_38 : decode cX1_loadMachine 38 = .ok (.putfield 221, 3) := dk_181 0 221 (dk_at dksX1_loadMachine_1 15 rfl rfl)
theorem dX1_loadMachine_41 : decode cX1_loadMachine 41 = .ok (.aload_n 0, 1) := dk_42 (dk_at dksX1_loadMachine_1 18 rfl rfl)
theorem dX1_loadMachine_42 : decode cX1_loadMachine 42 = .ok (.getfield 46, 3) := dk_180 0 46 (dk_at dksX1_loadMachine_1 19 rfl rfl)
theorem dX1_loadMachine_45 : decode cX1_loadMachine 45 = .ok (.getfield 170, 3) := dk_180 0 170 (dk_at dksX1_loadMachine_2 0 rfl rfl)
theorem dX1_loadMachine_48 : decode cX1_loadMachine 48 = .ok (.invokeinterface 224 1, 5) := by decide +kernel
theorem dX1_loadMachine_53 : decode cX1_loadMachine 53 = .ok (.istore_n 2, 1) := dk_61 (dk_at dksX1_loadMachine_2 8 rfl rfl)
theorem dX1_loadMachine_54 : decode cX1_loadMachine 54 = .ok (.aload_n 0, 1) := dk_42 (dk_at dksX1_loadMachine_2 9 rfl rfl)
theorem dX1_loadMachine_55 : decode cX1_loadMachine 55 = .ok (.iconst 0, 1) := dk_3 (dk_at dksX1_loadMachine_2 10 rfl rfl)
theorem dX1_loadMachine_56 : decode cX1_loadMachine 56 = .ok (.putfield 183, 3) := dk_181 0 183 (dk_at dksX1_loadMachine_2 11 rfl rfl)
theorem dX1_loadMachine_59 : decode cX1_loadMachine 59 = .ok (.iload_n 2, 1) := dk_28 (dk_at dksX1_loadMachine_2 14 rfl rfl)
theorem dX1_loadMachine_60 : decode cX1_loadMachine 60 = .ok (.ireturn, 1) := dk_172 (dk_at dksX1_loadMachine_2 15 rfl rfl)
theorem dX1_loadMachine_61 : decode cX1_loadMachine 61 = .ok (.astore_n 1, 1) := dk_76 (dk_at dksX1_loadMachine_2 16 rfl rfl)
theorem dX1_loadMachine_62 : decode cX1_loadMachine 62 = .ok (.aload_n 0, 1) := dk_42 (dk_at dksX1_loadMachine_2 17 rfl rfl)
theorem dX1_loadMachine_63 : decode cX1_loadMachine 63 = .ok (.aload_n 1, 1) := dk_43 (dk_at dksX1_loadMachine_2 18 rfl rfl)
theorem dX1_loadMachine_64 : decode cX1_loadMachine 64 = .ok (.invokevirtual 228, 3) := dk_182 0 228 (dk_at dksX1_loadMachine_2 19 rfl rfl)
theorem dX1_loadMachine_67 : decode cX1_loadMachine 67 = .ok (.istore_n 2, 1) := dk_61 (dk_at dksX1_loadMachine_2 22 rfl rfl)
theorem dX1_loadMachine_68 : decode cX1_loadMachine 68 = .ok (.aload_n 0, 1) := dk_42 (dk_at dksX1_loadMachine_2 23 rfl rfl)
theorem dX1_loadMachine_69 : decode cX1_loadMachine 69 = .ok (.iconst 0, 1) := dk_3 (dk_at dksX1_loadMachine_3 0 rfl rfl)
theorem dX1_loadMachine_70 : decode cX1_loadMachine 70 = .ok (.putfield 183, 3) := dk_181 0 183 (dk_at dksX1_loadMachine_3 1 rfl rfl)
theorem dX1_loadMachine_73 : decode cX1_loadMachine 73 = .ok (.iload_n 2, 1) := dk_28 (dk_at dksX1_loadMachine_3 4 rfl rfl)
theorem dX1_loadMachine_74 : decode cX1_loadMachine 74 = .ok (.ireturn, 1) := dk_172 (dk_at dksX1_loadMachine_3 5 rfl rfl)
theorem dX1_loadMachine_75 : decode cX1_loadMachine 75 = .ok (.astore_n 3, 1) := dk_78 (dk_at dksX1_loadMachine_3 6 rfl rfl)
theorem dX1_loadMachine_76 : decode cX1_loadMachine 76 = .ok (.aload_n 0, 1) := dk_42 (dk_at dksX1_loadMachine_3 7 rfl rfl)
theorem dX1_loadMachine_77 : decode cX1_loadMachine 77 = .ok (.iconst 0, 1) := dk_3 (dk_at dksX1_loadMachine_3 8 rfl rfl)
theorem dX1_loadMachine_78 : decode cX1_loadMachine 78 = .ok (.putfield 183, 3) := dk_181 0 183 (dk_at dksX1_loadMachine_3 9 rfl rfl)
theorem dX1_loadMachine_81 : decode cX1_loadMachine 81 = .ok (.aload_n 3, 1) := dk_45 (dk_at dksX1_loadMachine_3 12 rfl rfl)
theorem dX1_loadMachine_82 : decode cX1_loadMachine 82 = .ok (.athrow, 1) := dk_191 (dk_at dksX1_loadMachine_3 13 rfl rfl)
abbrev cX1_clearError : ByteArray := prog_1_method_15_code
def yX1_clearError : MethodName := ⟨RX1, "clearError", "()V"⟩
def dkwX1_clearError_0 : List UInt8 := [42, 3, 181, 0, 194, 42, 2, 181, 0, 39, 177]
abbrev dktX1_clearError_0 : List UInt8 := dkwX1_clearError_0 ++ []
theorem dksX1_clearError_0 : cX1_clearError.data.toList.drop 0 = dktX1_clearError_0 := by decide +kernel
theorem dX1_clearError_0 : decode cX1_clearError 0 = .ok (.aload_n 0, 1) := dk_42 (dk_at dksX1_clearError_0 0 rfl rfl)
theorem dX1_clearError_1 : decode cX1_clearError 1 = .ok (.iconst 0, 1) := dk_3 (dk_at dksX1_clearError_0 1 rfl rfl)
theorem dX1_clearError_2 : decode cX1_clearError 2 = .ok (.putfield 194, 3) := dk_181 0 194 (dk_at dksX1_clearError_0 2 rfl rfl)
theorem dX1_clearError_5 : decode cX1_clearError 5 = .ok (.aload_n 0, 1) := dk_42 (dk_at dksX1_clearError_0 5 rfl rfl)
theorem dX1_clearError_6 : decode cX1_clearError 6 = .ok (.iconst (-1), 1) := dk_2 (dk_at dksX1_clearError_0 6 rfl rfl)
theorem dX1_clearError_7 : decode cX1_clearError 7 = .ok (.putfield 39, 3) := dk_181 0 39 (dk_at dksX1_clearError_0 7 rfl rfl)
theorem dX1_clearError_10 : decode cX1_clearError 10 = .ok (.return_, 1) := dk_177 (dk_at dksX1_clearError_0 10 rfl rfl)
abbrev cX1_valueIn : ByteArray := prog_1_method_7_code
def yX1_valueIn : MethodName := ⟨RX1, "valueIn", "(II)I"⟩
def dkwX1_valueIn_0 : List UInt8 := [26, 27, 184, 0, 18, 108, 16, 10, 112, 172]
abbrev dktX1_valueIn_0 : List UInt8 := dkwX1_valueIn_0 ++ []
theorem dksX1_valueIn_0 : cX1_valueIn.data.toList.drop 0 = dktX1_valueIn_0 := by decide +kernel
theorem dX1_valueIn_0 : decode cX1_valueIn 0 = .ok (.iload_n 0, 1) := dk_26 (dk_at dksX1_valueIn_0 0 rfl rfl)
theorem dX1_valueIn_1 : decode cX1_valueIn 1 = .ok (.iload_n 1, 1) := dk_27 (dk_at dksX1_valueIn_0 1 rfl rfl)
theorem dX1_valueIn_2 : decode cX1_valueIn 2 = .ok (.invokestatic 18, 3) := dk_184 0 18 (dk_at dksX1_valueIn_0 2 rfl rfl)
theorem dX1_valueIn_5 : decode cX1_valueIn 5 = .ok (.idiv, 1) := dk_108 (dk_at dksX1_valueIn_0 5 rfl rfl)
theorem dX1_valueIn_6 : decode cX1_valueIn 6 = .ok (.bipush 10, 2) := dk_16 10 (dk_at dksX1_valueIn_0 6 rfl rfl)
theorem dX1_valueIn_8 : decode cX1_valueIn 8 = .ok (.irem, 1) := dk_112 (dk_at dksX1_valueIn_0 8 rfl rfl)
theorem dX1_valueIn_9 : decode cX1_valueIn 9 = .ok (.ireturn, 1) := dk_172 (dk_at dksX1_valueIn_0 9 rfl rfl)
abbrev cX1_fail : ByteArray := prog_1_method_16_code
def yX1_fail : MethodName := ⟨RX1, "fail", "(LContractMachine$ParseException;)I"⟩
def dkwX1_fail_0 : List UInt8 := [42, 43, 180, 0, 197, 181, 0, 194, 42, 43, 180, 0, 202, 181, 0, 39, 2, 172]
abbrev dktX1_fail_0 : List UInt8 := dkwX1_fail_0 ++ []
theorem dksX1_fail_0 : cX1_fail.data.toList.drop 0 = dktX1_fail_0 := by decide +kernel
theorem dX1_fail_0 : decode cX1_fail 0 = .ok (.aload_n 0, 1) := dk_42 (dk_at dksX1_fail_0 0 rfl rfl)
theorem dX1_fail_1 : decode cX1_fail 1 = .ok (.aload_n 1, 1) := dk_43 (dk_at dksX1_fail_0 1 rfl rfl)
theorem dX1_fail_2 : decode cX1_fail 2 = .ok (.getfield 197, 3) := dk_180 0 197 (dk_at dksX1_fail_0 2 rfl rfl)
theorem dX1_fail_5 : decode cX1_fail 5 = .ok (.putfield 194, 3) := dk_181 0 194 (dk_at dksX1_fail_0 5 rfl rfl)
theorem dX1_fail_8 : decode cX1_fail 8 = .ok (.aload_n 0, 1) := dk_42 (dk_at dksX1_fail_0 8 rfl rfl)
theorem dX1_fail_9 : decode cX1_fail 9 = .ok (.aload_n 1, 1) := dk_43 (dk_at dksX1_fail_0 9 rfl rfl)
theorem dX1_fail_10 : decode cX1_fail 10 = .ok (.getfield 202, 3) := dk_180 0 202 (dk_at dksX1_fail_0 10 rfl rfl)
theorem dX1_fail_13 : decode cX1_fail 13 = .ok (.putfield 39, 3) := dk_181 0 39 (dk_at dksX1_fail_0 13 rfl rfl)
theorem dX1_fail_16 : decode cX1_fail 16 = .ok (.iconst (-1), 1) := dk_2 (dk_at dksX1_fail_0 16 rfl rfl)
theorem dX1_fail_17 : decode cX1_fail 17 = .ok (.ireturn, 1) := dk_172 (dk_at dksX1_fail_0 17 rfl rfl)
abbrev cX1_runScript : ByteArray := prog_1_method_18_code
def yX1_runScript : MethodName := ⟨RX1, "runScript", "()I"⟩
def dkwX1_runScript_2 : List UInt8 := [181, 0, 183, 45, 191]
abbrev dktX1_runScript_2 : List UInt8 := dkwX1_runScript_2 ++ []
def dkwX1_runScript_1 : List UInt8 := [181, 0, 183, 27, 172, 76, 42, 43, 182, 0, 228, 61, 42, 3, 181, 0, 183, 28, 172, 78, 42, 3]
abbrev dktX1_runScript_1 : List UInt8 := dkwX1_runScript_1 ++ dktX1_runScript_2
def dkwX1_runScript_0 : List UInt8 := [42, 182, 0, 205, 42, 187, 0, 232, 89, 42, 183, 0, 234, 182, 0, 235, 182, 0, 238, 60, 42, 3]
abbrev dktX1_runScript_0 : List UInt8 := dkwX1_runScript_0 ++ dktX1_runScript_1
theorem dksX1_runScript_0 : cX1_runScript.data.toList.drop 0 = dktX1_runScript_0 := by decide +kernel
theorem dksX1_runScript_1 : cX1_runScript.data.toList.drop 22 = dktX1_runScript_1 := dk_seg dksX1_runScript_0 22 rfl rfl
theorem dksX1_runScript_2 : cX1_runScript.data.toList.drop 44 = dktX1_runScript_2 := dk_seg dksX1_runScript_1 22 rfl rfl
theorem dX1_runScript_0 : decode cX1_runScript 0 = .ok (.aload_n 0, 1) := dk_42 (dk_at dksX1_runScript_0 0 rfl rfl)
theorem dX1_runScript_1 : decode cX1_runScript 1 = .ok (.invokevirtual 205, 3) := dk_182 0 205 (dk_at dksX1_runScript_0 1 rfl rfl)
theorem dX1_runScript_4 : decode cX1_runScript 4 = .ok (.aload_n 0, 1) := dk_42 (dk_at dksX1_runScript_0 4 rfl rfl)
theorem dX1_runScript_5 : decode cX1_runScript 5 = .ok (.new 232, 3) := dk_187 0 232 (dk_at dksX1_runScript_0 5 rfl rfl)
theorem dX1_runScript_8 : decode cX1_runScript 8 = .ok (.dup, 1) := dk_89 (dk_at dksX1_runScript_0 8 rfl rfl)
theorem dX1_runScript_9 : decode cX1_runScript 9 = .ok (.aload_n 0, 1) := dk_42 (dk_at dksX1_runScript_0 9 rfl rfl)
theorem dX1_runScript_10 : decode cX1_runScript 10 = .ok (.invokespecial 234, 3) := dk_183 0 234 (dk_at dksX1_runScript_0 10 rfl rfl)
theorem dX1_runScript_13 : decode cX1_runScript 13 = .ok (.invokevirtual 235, 3) := dk_182 0 235 (dk_at dksX1_runScript_0 13 rfl rfl)
theorem dX1_runScript_16 : decode cX1_runScript 16 = .ok (.invokevirtual 238, 3) := dk_182 0 238 (dk_at dksX1_runScript_0 16 rfl rfl)
theorem dX1_runScript_19 : decode cX1_runScript 19 = .ok (.istore_n 1, 1) := dk_60 (dk_at dksX1_runScript_0 19 rfl rfl)
theorem dX1_runScript_20 : decode cX1_runScript 20 = .ok (.aload_n 0, 1) := dk_42 (dk_at dksX1_runScript_0 20 rfl rfl)
theorem dX1_runScript_21 : decode cX1_runScript 21 = .ok (.iconst 0, 1) := dk_3 (dk_at dksX1_runScript_0 21 rfl rfl)
theorem dX1_runScript_22 : decode cX1_runScript 22 = .ok (.putfield 183, 3) := dk_181 0 183 (dk_at dksX1_runScript_1 0 rfl rfl)
theorem dX1_runScript_25 : decode cX1_runScript 25 = .ok (.iload_n 1, 1) := dk_27 (dk_at dksX1_runScript_1 3 rfl rfl)
theorem dX1_runScript_26 : decode cX1_runScript 26 = .ok (.ireturn, 1) := dk_172 (dk_at dksX1_runScript_1 4 rfl rfl)
theorem dX1_runScript_27 : decode cX1_runScript 27 = .ok (.astore_n 1, 1) := dk_76 (dk_at dksX1_runScript_1 5 rfl rfl)
theorem dX1_runScript_28 : decode cX1_runScript 28 = .ok (.aload_n 0, 1) := dk_42 (dk_at dksX1_runScript_1 6 rfl rfl)
theorem dX1_runScript_29 : decode cX1_runScript 29 = .ok (.aload_n 1, 1) := dk_43 (dk_at dksX1_runScript_1 7 rfl rfl)
theorem dX1_runScript_30 : decode cX1_runScript 30 = .ok (.invokevirtual 228, 3) := dk_182 0 228 (dk_at dksX1_runScript_1 8 rfl rfl)
theorem dX1_runScript_33 : decode cX1_runScript 33 = .ok (.istore_n 2, 1) := dk_61 (dk_at dksX1_runScript_1 11 rfl rfl)
theorem dX1_runScript_34 : decode cX1_runScript 34 = .ok (.aload_n 0, 1) := dk_42 (dk_at dksX1_runScript_1 12 rfl rfl)
theorem dX1_runScript_35 : decode cX1_runScript 35 = .ok (.iconst 0, 1) := dk_3 (dk_at dksX1_runScript_1 13 rfl rfl)
theorem dX1_runScript_36 : decode cX1_runScript 36 = .ok (.putfield 183, 3) := dk_181 0 183 (dk_at dksX1_runScript_1 14 rfl rfl)
theorem dX1_runScript_39 : decode cX1_runScript 39 = .ok (.iload_n 2, 1) := dk_28 (dk_at dksX1_runScript_1 17 rfl rfl)
theorem dX1_runScript_40 : decode cX1_runScript 40 = .ok (.ireturn, 1) := dk_172 (dk_at dksX1_runScript_1 18 rfl rfl)
theorem dX1_runScript_41 : decode cX1_runScript 41 = .ok (.astore_n 3, 1) := dk_78 (dk_at dksX1_runScript_1 19 rfl rfl)
theorem dX1_runScript_42 : decode cX1_runScript 42 = .ok (.aload_n 0, 1) := dk_42 (dk_at dksX1_runScript_1 20 rfl rfl)
theorem dX1_runScript_43 : decode cX1_runScript 43 = .ok (.iconst 0, 1) := dk_3 (dk_at dksX1_runScript_1 21 rfl rfl)
theorem dX1_runScript_44 : decode cX1_runScript 44 = .ok (.putfield 183, 3) := dk_181 0 183 (dk_at dksX1_runScript_2 0 rfl rfl)
theorem dX1_runScript_47 : decode cX1_runScript 47 = .ok (.aload_n 3, 1) := dk_45 (dk_at dksX1_runScript_2 3 rfl rfl)
theorem dX1_runScript_48 : decode cX1_runScript 48 = .ok (.athrow, 1) := dk_191 (dk_at dksX1_runScript_2 4 rfl rfl)
abbrev cX1_run : ByteArray := prog_1_method_19_code
def yX1_run : MethodName := ⟨RX1, "run", "(LContractMachine$ScriptParser;)I"⟩
def dkwX1_run_1 : List UInt8 := [153, 0, 9, 132, 3, 1, 167, 255, 233, 29, 172]
abbrev dktX1_run_1 : List UInt8 := dkwX1_run_1 ++ []
def dkwX1_run_0 : List UInt8 := [42, 182, 0, 241, 77, 3, 62, 29, 43, 180, 0, 244, 162, 0, 21, 43, 180, 0, 247, 29, 50, 182, 0, 251]
abbrev dktX1_run_0 : List UInt8 := dkwX1_run_0 ++ dktX1_run_1
theorem dksX1_run_0 : cX1_run.data.toList.drop 0 = dktX1_run_0 := by decide +kernel
theorem dksX1_run_1 : cX1_run.data.toList.drop 24 = dktX1_run_1 := dk_seg dksX1_run_0 24 rfl rfl
theorem dX1_run_0 : decode cX1_run 0 = .ok (.aload_n 0, 1) := dk_42 (dk_at dksX1_run_0 0 rfl rfl)
theorem dX1_run_1 : decode cX1_run 1 = .ok (.invokevirtual 241, 3) := dk_182 0 241 (dk_at dksX1_run_0 1 rfl rfl)
theorem dX1_run_4 : decode cX1_run 4 = .ok (.astore_n 2, 1) := dk_77 (dk_at dksX1_run_0 4 rfl rfl)
theorem dX1_run_5 : decode cX1_run 5 = .ok (.iconst 0, 1) := dk_3 (dk_at dksX1_run_0 5 rfl rfl)
theorem dX1_run_6 : decode cX1_run 6 = .ok (.istore_n 3, 1) := dk_62 (dk_at dksX1_run_0 6 rfl rfl)
theorem dX1_run_7 : decode cX1_run 7 = .ok (.iload_n 3, 1) := dk_29 (dk_at dksX1_run_0 7 rfl rfl)
theorem dX1_run_8 : decode cX1_run 8 = .ok (.aload_n 1, 1) := dk_43 (dk_at dksX1_run_0 8 rfl rfl)
theorem dX1_run_9 : decode cX1_run 9 = .ok (.getfield 244, 3) := dk_180 0 244 (dk_at dksX1_run_0 9 rfl rfl)
theorem dX1_run_12 : decode cX1_run 12 = .ok (.if_icmp .ge 21, 3) := dk_162 0 21 (dk_at dksX1_run_0 12 rfl rfl)
theorem dX1_run_15 : decode cX1_run 15 = .ok (.aload_n 1, 1) := dk_43 (dk_at dksX1_run_0 15 rfl rfl)
theorem dX1_run_16 : decode cX1_run 16 = .ok (.getfield 247, 3) := dk_180 0 247 (dk_at dksX1_run_0 16 rfl rfl)
theorem dX1_run_19 : decode cX1_run 19 = .ok (.iload_n 3, 1) := dk_29 (dk_at dksX1_run_0 19 rfl rfl)
theorem dX1_run_20 : decode cX1_run 20 = .ok (.aaload, 1) := dk_50 (dk_at dksX1_run_0 20 rfl rfl)
theorem dX1_run_21 : decode cX1_run 21 = .ok (.invokevirtual 251, 3) := dk_182 0 251 (dk_at dksX1_run_0 21 rfl rfl)
theorem dX1_run_24 : decode cX1_run 24 = .ok (.ifCond .eq 9, 3) := dk_153 0 9 (dk_at dksX1_run_1 0 rfl rfl)
theorem dX1_run_27 : decode cX1_run 27 = .ok (.iinc 3 1, 3) := dk_132 3 1 (dk_at dksX1_run_1 3 rfl rfl)
theorem dX1_run_30 : decode cX1_run 30 = .ok (.goto (-23), 3) := dk_167 255 233 (dk_at dksX1_run_1 6 rfl rfl)
theorem dX1_run_33 : decode cX1_run 33 = .ok (.iload_n 3, 1) := dk_29 (dk_at dksX1_run_1 9 rfl rfl)
theorem dX1_run_34 : decode cX1_run 34 = .ok (.ireturn, 1) := dk_172 (dk_at dksX1_run_1 10 rfl rfl)
abbrev cX1_changed : ByteArray := prog_1_method_78_code
def yX1_changed : MethodName := ⟨RX1, "changed", "()LContractMachine$Run;"⟩
def dkwX1_changed_1 : List UInt8 := [42, 180, 0, 53, 182, 1, 187, 42, 42, 180, 0, 53, 182, 1, 191, 181, 0, 53, 42, 180, 0, 53, 176]
abbrev dktX1_changed_1 : List UInt8 := dkwX1_changed_1 ++ []
def dkwX1_changed_0 : List UInt8 := [42, 180, 0, 60, 182, 1, 182, 16, 8, 160, 0, 11, 42, 180, 0, 60, 182, 1, 183, 87, 42, 180, 0, 60]
abbrev dktX1_changed_0 : List UInt8 := dkwX1_changed_0 ++ dktX1_changed_1
theorem dksX1_changed_0 : cX1_changed.data.toList.drop 0 = dktX1_changed_0 := by decide +kernel
theorem dksX1_changed_1 : cX1_changed.data.toList.drop 24 = dktX1_changed_1 := dk_seg dksX1_changed_0 24 rfl rfl
theorem dX1_changed_0 : decode cX1_changed 0 = .ok (.aload_n 0, 1) := dk_42 (dk_at dksX1_changed_0 0 rfl rfl)
theorem dX1_changed_1 : decode cX1_changed 1 = .ok (.getfield 60, 3) := dk_180 0 60 (dk_at dksX1_changed_0 1 rfl rfl)
theorem dX1_changed_4 : decode cX1_changed 4 = .ok (.invokevirtual 438, 3) := dk_182 1 182 (dk_at dksX1_changed_0 4 rfl rfl)
theorem dX1_changed_7 : decode cX1_changed 7 = .ok (.bipush 8, 2) := dk_16 8 (dk_at dksX1_changed_0 7 rfl rfl)
theorem dX1_changed_9 : decode cX1_changed 9 = .ok (.if_icmp .ne 11, 3) := dk_160 0 11 (dk_at dksX1_changed_0 9 rfl rfl)
theorem dX1_changed_12 : decode cX1_changed 12 = .ok (.aload_n 0, 1) := dk_42 (dk_at dksX1_changed_0 12 rfl rfl)
theorem dX1_changed_13 : decode cX1_changed 13 = .ok (.getfield 60, 3) := dk_180 0 60 (dk_at dksX1_changed_0 13 rfl rfl)
theorem dX1_changed_16 : decode cX1_changed 16 = .ok (.invokevirtual 439, 3) := dk_182 1 183 (dk_at dksX1_changed_0 16 rfl rfl)
theorem dX1_changed_19 : decode cX1_changed 19 = .ok (.pop, 1) := dk_87 (dk_at dksX1_changed_0 19 rfl rfl)
theorem dX1_changed_20 : decode cX1_changed 20 = .ok (.aload_n 0, 1) := dk_42 (dk_at dksX1_changed_0 20 rfl rfl)
theorem dX1_changed_21 : decode cX1_changed 21 = .ok (.getfield 60, 3) := dk_180 0 60 (dk_at dksX1_changed_0 21 rfl rfl)
theorem dX1_changed_24 : decode cX1_changed 24 = .ok (.aload_n 0, 1) := dk_42 (dk_at dksX1_changed_1 0 rfl rfl)
theorem dX1_changed_25 : decode cX1_changed 25 = .ok (.getfield 53, 3) := dk_180 0 53 (dk_at dksX1_changed_1 1 rfl rfl)
theorem dX1_changed_28 : decode cX1_changed 28 = .ok (.invokevirtual 443, 3) := dk_182 1 187 (dk_at dksX1_changed_1 4 rfl rfl)
theorem dX1_changed_31 : decode cX1_changed 31 = .ok (.aload_n 0, 1) := dk_42 (dk_at dksX1_changed_1 7 rfl rfl)
theorem dX1_changed_32 : decode cX1_changed 32 = .ok (.aload_n 0, 1) := dk_42 (dk_at dksX1_changed_1 8 rfl rfl)
theorem dX1_changed_33 : decode cX1_changed 33 = .ok (.getfield 53, 3) := dk_180 0 53 (dk_at dksX1_changed_1 9 rfl rfl)
theorem dX1_changed_36 : decode cX1_changed 36 = .ok (.invokevirtual 447, 3) := dk_182 1 191 (dk_at dksX1_changed_1 12 rfl rfl)
theorem dX1_changed_39 : decode cX1_changed 39 = .ok (.putfield 53, 3) := dk_181 0 53 (dk_at dksX1_changed_1 15 rfl rfl)
theorem dX1_changed_42 : decode cX1_changed 42 = .ok (.aload_n 0, 1) := dk_42 (dk_at dksX1_changed_1 18 rfl rfl)
theorem dX1_changed_43 : decode cX1_changed 43 = .ok (.getfield 53, 3) := dk_180 0 53 (dk_at dksX1_changed_1 19 rfl rfl)
theorem dX1_changed_46 : decode cX1_changed 46 = .ok (.areturn, 1) := dk_176 (dk_at dksX1_changed_1 22 rfl rfl)
abbrev cX1_outcome : ByteArray := prog_1_method_49_code
def yX1_outcome : MethodName := ⟨RX1, "outcome", "(I)LContractMachine$Outcome;"⟩
def dkwX1_outcome_2 : List UInt8 := [42, 42, 180, 0, 53, 180, 0, 164, 27, 182, 1, 95, 183, 1, 97, 176]
abbrev dktX1_outcome_2 : List UInt8 := dkwX1_outcome_2 ++ []
def dkwX1_outcome_1 : List UInt8 := [183, 1, 91, 176, 187, 1, 93, 89, 27, 42, 180, 0, 46, 42, 180, 0, 53, 180, 0, 164, 27, 182, 1, 73]
abbrev dktX1_outcome_1 : List UInt8 := dkwX1_outcome_1 ++ dktX1_outcome_2
def dkwX1_outcome_0 : List UInt8 := [42, 42, 180, 0, 53, 180, 0, 164, 27, 182, 1, 86, 61, 28, 153, 0, 12, 187, 1, 89, 89, 28]
abbrev dktX1_outcome_0 : List UInt8 := dkwX1_outcome_0 ++ dktX1_outcome_1
theorem dksX1_outcome_0 : cX1_outcome.data.toList.drop 0 = dktX1_outcome_0 := by decide +kernel
theorem dksX1_outcome_1 : cX1_outcome.data.toList.drop 22 = dktX1_outcome_1 := dk_seg dksX1_outcome_0 22 rfl rfl
theorem dksX1_outcome_2 : cX1_outcome.data.toList.drop 46 = dktX1_outcome_2 := dk_seg dksX1_outcome_1 24 rfl rfl
theorem dX1_outcome_0 : decode cX1_outcome 0 = .ok (.aload_n 0, 1) := dk_42 (dk_at dksX1_outcome_0 0 rfl rfl)
theorem dX1_outcome_1 : decode cX1_outcome 1 = .ok (.aload_n 0, 1) := dk_42 (dk_at dksX1_outcome_0 1 rfl rfl)
theorem dX1_outcome_2 : decode cX1_outcome 2 = .ok (.getfield 53, 3) := dk_180 0 53 (dk_at dksX1_outcome_0 2 rfl rfl)
theorem dX1_outcome_5 : decode cX1_outcome 5 = .ok (.getfield 164, 3) := dk_180 0 164 (dk_at dksX1_outcome_0 5 rfl rfl)
theorem dX1_outcome_8 : decode cX1_outcome 8 = .ok (.iload_n 1, 1) := dk_27 (dk_at dksX1_outcome_0 8 rfl rfl)
theorem dX1_outcome_9 : decode cX1_outcome 9 = .ok (.invokevirtual 342, 3) := dk_182 1 86 (dk_at dksX1_outcome_0 9 rfl rfl)
theorem dX1_outcome_12 : decode cX1_outcome 12 = .ok (.istore_n 2, 1) := dk_61 (dk_at dksX1_outcome_0 12 rfl rfl)
theorem dX1_outcome_13 : decode cX1_outcome 13 = .ok (.iload_n 2, 1) := dk_28 (dk_at dksX1_outcome_0 13 rfl rfl)
theorem dX1_outcome_14 : decode cX1_outcome 14 = .ok (.ifCond .eq 12, 3) := dk_153 0 12 (dk_at dksX1_outcome_0 14 rfl rfl)
theorem dX1_outcome_17 : decode cX1_outcome 17 = .ok (.new 345, 3) := dk_187 1 89 (dk_at dksX1_outcome_0 17 rfl rfl)
theorem dX1_outcome_20 : decode cX1_outcome 20 = .ok (.dup, 1) := dk_89 (dk_at dksX1_outcome_0 20 rfl rfl)
theorem dX1_outcome_21 : decode cX1_outcome 21 = .ok (.iload_n 2, 1) := dk_28 (dk_at dksX1_outcome_0 21 rfl rfl)
theorem dX1_outcome_22 : decode cX1_outcome 22 = .ok (.invokespecial 347, 3) := dk_183 1 91 (dk_at dksX1_outcome_1 0 rfl rfl)
theorem dX1_outcome_25 : decode cX1_outcome 25 = .ok (.areturn, 1) := dk_176 (dk_at dksX1_outcome_1 3 rfl rfl)
theorem dX1_outcome_26 : decode cX1_outcome 26 = .ok (.new 349, 3) := dk_187 1 93 (dk_at dksX1_outcome_1 4 rfl rfl)
theorem dX1_outcome_29 : decode cX1_outcome 29 = .ok (.dup, 1) := dk_89 (dk_at dksX1_outcome_1 7 rfl rfl)
theorem dX1_outcome_30 : decode cX1_outcome 30 = .ok (.iload_n 1, 1) := dk_27 (dk_at dksX1_outcome_1 8 rfl rfl)
theorem dX1_outcome_31 : decode cX1_outcome 31 = .ok (.aload_n 0, 1) := dk_42 (dk_at dksX1_outcome_1 9 rfl rfl)
theorem dX1_outcome_32 : decode cX1_outcome 32 = .ok (.getfield 46, 3) := dk_180 0 46 (dk_at dksX1_outcome_1 10 rfl rfl)
theorem dX1_outcome_35 : decode cX1_outcome 35 = .ok (.aload_n 0, 1) := dk_42 (dk_at dksX1_outcome_1 13 rfl rfl)
theorem dX1_outcome_36 : decode cX1_outcome 36 = .ok (.getfield 53, 3) := dk_180 0 53 (dk_at dksX1_outcome_1 14 rfl rfl)
theorem dX1_outcome_39 : decode cX1_outcome 39 = .ok (.getfield 164, 3) := dk_180 0 164 (dk_at dksX1_outcome_1 17 rfl rfl)
theorem dX1_outcome_42 : decode cX1_outcome 42 = .ok (.iload_n 1, 1) := dk_27 (dk_at dksX1_outcome_1 20 rfl rfl)
theorem dX1_outcome_43 : decode cX1_outcome 43 = .ok (.invokevirtual 329, 3) := dk_182 1 73 (dk_at dksX1_outcome_1 21 rfl rfl)
theorem dX1_outcome_46 : decode cX1_outcome 46 = .ok (.aload_n 0, 1) := dk_42 (dk_at dksX1_outcome_2 0 rfl rfl)
theorem dX1_outcome_47 : decode cX1_outcome 47 = .ok (.aload_n 0, 1) := dk_42 (dk_at dksX1_outcome_2 1 rfl rfl)
theorem dX1_outcome_48 : decode cX1_outcome 48 = .ok (.getfield 53, 3) := dk_180 0 53 (dk_at dksX1_outcome_2 2 rfl rfl)
theorem dX1_outcome_51 : decode cX1_outcome 51 = .ok (.getfield 164, 3) := dk_180 0 164 (dk_at dksX1_outcome_2 5 rfl rfl)
theorem dX1_outcome_54 : decode cX1_outcome 54 = .ok (.iload_n 1, 1) := dk_27 (dk_at dksX1_outcome_2 8 rfl rfl)
theorem dX1_outcome_55 : decode cX1_outcome 55 = .ok (.invokevirtual 351, 3) := dk_182 1 95 (dk_at dksX1_outcome_2 9 rfl rfl)
theorem dX1_outcome_58 : decode cX1_outcome 58 = .ok (.invokespecial 353, 3) := dk_183 1 97 (dk_at dksX1_outcome_2 12 rfl rfl)
theorem dX1_outcome_61 : decode cX1_outcome 61 = .ok (.areturn, 1) := dk_176 (dk_at dksX1_outcome_2 15 rfl rfl)
abbrev cX1_verdict : ByteArray := prog_1_method_47_code
def yX1_verdict : MethodName := ⟨RX1, "verdict", "(II)I"⟩
def dkwX1_verdict_3 : List UInt8 := [6, 172, 42, 180, 0, 53, 21, 4, 182, 1, 83, 2, 160, 0, 7, 3, 167, 0, 4, 7, 172]
abbrev dktX1_verdict_3 : List UInt8 := dkwX1_verdict_3 ++ []
def dkwX1_verdict_2 : List UInt8 := [185, 1, 12, 2, 0, 192, 0, 179, 27, 17, 3, 232, 112, 182, 1, 80, 54, 4, 21, 4, 2, 160, 0, 5]
abbrev dktX1_verdict_2 : List UInt8 := dkwX1_verdict_2 ++ dktX1_verdict_3
def dkwX1_verdict_1 : List UInt8 := [28, 182, 1, 76, 153, 0, 7, 5, 167, 0, 4, 4, 172, 42, 180, 0, 46, 180, 0, 176, 29]
abbrev dktX1_verdict_1 : List UInt8 := dkwX1_verdict_1 ++ dktX1_verdict_2
def dkwX1_verdict_0 : List UInt8 := [42, 180, 0, 46, 27, 28, 182, 1, 73, 62, 29, 2, 160, 0, 25, 42, 180, 0, 46, 27, 17, 3, 232, 108]
abbrev dktX1_verdict_0 : List UInt8 := dkwX1_verdict_0 ++ dktX1_verdict_1
theorem dksX1_verdict_0 : cX1_verdict.data.toList.drop 0 = dktX1_verdict_0 := by decide +kernel
theorem dksX1_verdict_1 : cX1_verdict.data.toList.drop 24 = dktX1_verdict_1 := dk_seg dksX1_verdict_0 24 rfl rfl
theorem dksX1_verdict_2 : cX1_verdict.data.toList.drop 45 = dktX1_verdict_2 := dk_seg dksX1_verdict_1 21 rfl rfl
theorem dksX1_verdict_3 : cX1_verdict.data.toList.drop 69 = dktX1_verdict_3 := dk_seg dksX1_verdict_2 24 rfl rfl
theorem dX1_verdict_0 : decode cX1_verdict 0 = .ok (.aload_n 0, 1) := dk_42 (dk_at dksX1_verdict_0 0 rfl rfl)
theorem dX1_verdict_1 : decode cX1_verdict 1 = .ok (.getfield 46, 3) := dk_180 0 46 (dk_at dksX1_verdict_0 1 rfl rfl)
theorem dX1_verdict_4 : decode cX1_verdict 4 = .ok (.iload_n 1, 1) := dk_27 (dk_at dksX1_verdict_0 4 rfl rfl)
theorem dX1_verdict_5 : decode cX1_verdict 5 = .ok (.iload_n 2, 1) := dk_28 (dk_at dksX1_verdict_0 5 rfl rfl)
theorem dX1_verdict_6 : decode cX1_verdict 6 = .ok (.invokevirtual 329, 3) := dk_182 1 73 (dk_at dksX1_verdict_0 6 rfl rfl)
theorem dX1_verdict_9 : decode cX1_verdict 9 = .ok (.istore_n 3, 1) := dk_62 (dk_at dksX1_verdict_0 9 rfl rfl)
theorem dX1_verdict_10 : decode cX1_verdict 10 = .ok (.iload_n 3, 1) := dk_29 (dk_at dksX1_verdict_0 10 rfl rfl)
theorem dX1_verdict_11 : decode cX1_verdict 11 = .ok (.iconst (-1), 1) := dk_2 (dk_at dksX1_verdict_0 11 rfl rfl)
theorem dX1_verdict_12 : decode cX1_verdict 12 = .ok (.if_icmp .ne 25, 3) := dk_160 0 25 (dk_at dksX1_verdict_0 12 rfl rfl)
theorem dX1_verdict_15 : decode cX1_verdict 15 = .ok (.aload_n 0, 1) := dk_42 (dk_at dksX1_verdict_0 15 rfl rfl)
theorem dX1_verdict_16 : decode cX1_verdict 16 = .ok (.getfield 46, 3) := dk_180 0 46 (dk_at dksX1_verdict_0 16 rfl rfl)
theorem dX1_verdict_19 : decode cX1_verdict 19 = .ok (.iload_n 1, 1) := dk_27 (dk_at dksX1_verdict_0 19 rfl rfl)
theorem dX1_verdict_20 : decode cX1_verdict 20 = .ok (.sipush 1000, 3) := dk_17 3 232 (dk_at dksX1_verdict_0 20 rfl rfl)
theorem dX1_verdict_23 : decode cX1_verdict 23 = .ok (.idiv, 1) := dk_108 (dk_at dksX1_verdict_0 23 rfl rfl)
theorem dX1_verdict_24 : decode cX1_verdict 24 = .ok (.iload_n 2, 1) := dk_28 (dk_at dksX1_verdict_1 0 rfl rfl)
theorem dX1_verdict_25 : decode cX1_verdict 25 = .ok (.invokevirtual 332, 3) := dk_182 1 76 (dk_at dksX1_verdict_1 1 rfl rfl)
theorem dX1_verdict_28 : decode cX1_verdict 28 = .ok (.ifCond .eq 7, 3) := dk_153 0 7 (dk_at dksX1_verdict_1 4 rfl rfl)
theorem dX1_verdict_31 : decode cX1_verdict 31 = .ok (.iconst 2, 1) := dk_5 (dk_at dksX1_verdict_1 7 rfl rfl)
theorem dX1_verdict_32 : decode cX1_verdict 32 = .ok (.goto 4, 3) := dk_167 0 4 (dk_at dksX1_verdict_1 8 rfl rfl)
theorem dX1_verdict_35 : decode cX1_verdict 35 = .ok (.iconst 1, 1) := dk_4 (dk_at dksX1_verdict_1 11 rfl rfl)
theorem dX1_verdict_36 : decode cX1_verdict 36 = .ok (.ireturn, 1) := dk_172 (dk_at dksX1_verdict_1 12 rfl rfl)
theorem dX1_verdict_37 : decode cX1_verdict 37 = .ok (.aload_n 0, 1) := dk_42 (dk_at dksX1_verdict_1 13 rfl rfl)
theorem dX1_verdict_38 : decode cX1_verdict 38 = .ok (.getfield 46, 3) := dk_180 0 46 (dk_at dksX1_verdict_1 14 rfl rfl)
theorem dX1_verdict_41 : decode cX1_verdict 41 = .ok (.getfield 176, 3) := dk_180 0 176 (dk_at dksX1_verdict_1 17 rfl rfl)
theorem dX1_verdict_44 : decode cX1_verdict 44 = .ok (.iload_n 3, 1) := dk_29 (dk_at dksX1_verdict_1 20 rfl rfl)
theorem dX1_verdict_45 : decode cX1_verdict 45 = .ok (.invokeinterface 268 2, 5) := by decide +kernel
theorem dX1_verdict_50 : decode cX1_verdict 50 = .ok (.checkcast 179, 3) := dk_192 0 179 (dk_at dksX1_verdict_2 5 rfl rfl)
theorem dX1_verdict_53 : decode cX1_verdict 53 = .ok (.iload_n 1, 1) := dk_27 (dk_at dksX1_verdict_2 8 rfl rfl)
theorem dX1_verdict_54 : decode cX1_verdict 54 = .ok (.sipush 1000, 3) := dk_17 3 232 (dk_at dksX1_verdict_2 9 rfl rfl)
theorem dX1_verdict_57 : decode cX1_verdict 57 = .ok (.irem, 1) := dk_112 (dk_at dksX1_verdict_2 12 rfl rfl)
theorem dX1_verdict_58 : decode cX1_verdict 58 = .ok (.invokevirtual 336, 3) := dk_182 1 80 (dk_at dksX1_verdict_2 13 rfl rfl)
theorem dX1_verdict_61 : decode cX1_verdict 61 = .ok (.istore 4, 2) := dk_54 4 (dk_at dksX1_verdict_2 16 rfl rfl)
theorem dX1_verdict_63 : decode cX1_verdict 63 = .ok (.iload 4, 2) := dk_21 4 (dk_at dksX1_verdict_2 18 rfl rfl)
theorem dX1_verdict_65 : decode cX1_verdict 65 = .ok (.iconst (-1), 1) := dk_2 (dk_at dksX1_verdict_2 20 rfl rfl)
theorem dX1_verdict_66 : decode cX1_verdict 66 = .ok (.if_icmp .ne 5, 3) := dk_160 0 5 (dk_at dksX1_verdict_2 21 rfl rfl)
theorem dX1_verdict_69 : decode cX1_verdict 69 = .ok (.iconst 3, 1) := dk_6 (dk_at dksX1_verdict_3 0 rfl rfl)
theorem dX1_verdict_70 : decode cX1_verdict 70 = .ok (.ireturn, 1) := dk_172 (dk_at dksX1_verdict_3 1 rfl rfl)
theorem dX1_verdict_71 : decode cX1_verdict 71 = .ok (.aload_n 0, 1) := dk_42 (dk_at dksX1_verdict_3 2 rfl rfl)
theorem dX1_verdict_72 : decode cX1_verdict 72 = .ok (.getfield 53, 3) := dk_180 0 53 (dk_at dksX1_verdict_3 3 rfl rfl)
theorem dX1_verdict_75 : decode cX1_verdict 75 = .ok (.iload 4, 2) := dk_21 4 (dk_at dksX1_verdict_3 6 rfl rfl)
theorem dX1_verdict_77 : decode cX1_verdict 77 = .ok (.invokevirtual 339, 3) := dk_182 1 83 (dk_at dksX1_verdict_3 8 rfl rfl)
theorem dX1_verdict_80 : decode cX1_verdict 80 = .ok (.iconst (-1), 1) := dk_2 (dk_at dksX1_verdict_3 11 rfl rfl)
theorem dX1_verdict_81 : decode cX1_verdict 81 = .ok (.if_icmp .ne 7, 3) := dk_160 0 7 (dk_at dksX1_verdict_3 12 rfl rfl)
theorem dX1_verdict_84 : decode cX1_verdict 84 = .ok (.iconst 0, 1) := dk_3 (dk_at dksX1_verdict_3 15 rfl rfl)
theorem dX1_verdict_85 : decode cX1_verdict 85 = .ok (.goto 4, 3) := dk_167 0 4 (dk_at dksX1_verdict_3 16 rfl rfl)
theorem dX1_verdict_88 : decode cX1_verdict 88 = .ok (.iconst 4, 1) := dk_7 (dk_at dksX1_verdict_3 19 rfl rfl)
theorem dX1_verdict_89 : decode cX1_verdict 89 = .ok (.ireturn, 1) := dk_172 (dk_at dksX1_verdict_3 20 rfl rfl)
abbrev cX1_next : ByteArray := prog_1_method_48_code
def yX1_next : MethodName := ⟨RX1, "next", "(II)I"⟩
def dkwX1_next_2 : List UInt8 := [159, 0, 16, 42, 180, 0, 53, 21, 4, 182, 1, 83, 2, 159, 0, 7, 2, 167, 0, 5, 21, 4, 172]
abbrev dktX1_next_2 : List UInt8 := dkwX1_next_2 ++ []
def dkwX1_next_1 : List UInt8 := [29, 185, 1, 12, 2, 0, 192, 0, 179, 27, 17, 3, 232, 112, 182, 1, 80, 54, 4, 21, 4, 2]
abbrev dktX1_next_1 : List UInt8 := dkwX1_next_1 ++ dktX1_next_2
def dkwX1_next_0 : List UInt8 := [42, 180, 0, 46, 27, 28, 182, 1, 73, 62, 29, 2, 160, 0, 5, 2, 172, 42, 180, 0, 46, 180, 0, 176]
abbrev dktX1_next_0 : List UInt8 := dkwX1_next_0 ++ dktX1_next_1
theorem dksX1_next_0 : cX1_next.data.toList.drop 0 = dktX1_next_0 := by decide +kernel
theorem dksX1_next_1 : cX1_next.data.toList.drop 24 = dktX1_next_1 := dk_seg dksX1_next_0 24 rfl rfl
theorem dksX1_next_2 : cX1_next.data.toList.drop 46 = dktX1_next_2 := dk_seg dksX1_next_1 22 rfl rfl
theorem dX1_next_0 : decode cX1_next 0 = .ok (.aload_n 0, 1) := dk_42 (dk_at dksX1_next_0 0 rfl rfl)
theorem dX1_next_1 : decode cX1_next 1 = .ok (.getfield 46, 3) := dk_180 0 46 (dk_at dksX1_next_0 1 rfl rfl)
theorem dX1_next_4 : decode cX1_next 4 = .ok (.iload_n 1, 1) := dk_27 (dk_at dksX1_next_0 4 rfl rfl)
theorem dX1_next_5 : decode cX1_next 5 = .ok (.iload_n 2, 1) := dk_28 (dk_at dksX1_next_0 5 rfl rfl)
theorem dX1_next_6 : decode cX1_next 6 = .ok (.invokevirtual 329, 3) := dk_182 1 73 (dk_at dksX1_next_0 6 rfl rfl)
theorem dX1_next_9 : decode cX1_next 9 = .ok (.istore_n 3, 1) := dk_62 (dk_at dksX1_next_0 9 rfl rfl)
theorem dX1_next_10 : decode cX1_next 10 = .ok (.iload_n 3, 1) := dk_29 (dk_at dksX1_next_0 10 rfl rfl)
theorem dX1_next_11 : decode cX1_next 11 = .ok (.iconst (-1), 1) := dk_2 (dk_at dksX1_next_0 11 rfl rfl)
theorem dX1_next_12 : decode cX1_next 12 = .ok (.if_icmp .ne 5, 3) := dk_160 0 5 (dk_at dksX1_next_0 12 rfl rfl)
theorem dX1_next_15 : decode cX1_next 15 = .ok (.iconst (-1), 1) := dk_2 (dk_at dksX1_next_0 15 rfl rfl)
theorem dX1_next_16 : decode cX1_next 16 = .ok (.ireturn, 1) := dk_172 (dk_at dksX1_next_0 16 rfl rfl)
theorem dX1_next_17 : decode cX1_next 17 = .ok (.aload_n 0, 1) := dk_42 (dk_at dksX1_next_0 17 rfl rfl)
theorem dX1_next_18 : decode cX1_next 18 = .ok (.getfield 46, 3) := dk_180 0 46 (dk_at dksX1_next_0 18 rfl rfl)
theorem dX1_next_21 : decode cX1_next 21 = .ok (.getfield 176, 3) := dk_180 0 176 (dk_at dksX1_next_0 21 rfl rfl)
theorem dX1_next_24 : decode cX1_next 24 = .ok (.iload_n 3, 1) := dk_29 (dk_at dksX1_next_1 0 rfl rfl)
theorem dX1_next_25 : decode cX1_next 25 = .ok (.invokeinterface 268 2, 5) := by decide +kernel
theorem dX1_next_30 : decode cX1_next 30 = .ok (.checkcast 179, 3) := dk_192 0 179 (dk_at dksX1_next_1 6 rfl rfl)
theorem dX1_next_33 : decode cX1_next 33 = .ok (.iload_n 1, 1) := dk_27 (dk_at dksX1_next_1 9 rfl rfl)
theorem dX1_next_34 : decode cX1_next 34 = .ok (.sipush 1000, 3) := dk_17 3 232 (dk_at dksX1_next_1 10 rfl rfl)
theorem dX1_next_37 : decode cX1_next 37 = .ok (.irem, 1) := dk_112 (dk_at dksX1_next_1 13 rfl rfl)
theorem dX1_next_38 : decode cX1_next 38 = .ok (.invokevirtual 336, 3) := dk_182 1 80 (dk_at dksX1_next_1 14 rfl rfl)
theorem dX1_next_41 : decode cX1_next 41 = .ok (.istore 4, 2) := dk_54 4 (dk_at dksX1_next_1 17 rfl rfl)
theorem dX1_next_43 : decode cX1_next 43 = .ok (.iload 4, 2) := dk_21 4 (dk_at dksX1_next_1 19 rfl rfl)
theorem dX1_next_45 : decode cX1_next 45 = .ok (.iconst (-1), 1) := dk_2 (dk_at dksX1_next_1 21 rfl rfl)
theorem dX1_next_46 : decode cX1_next 46 = .ok (.if_icmp .eq 16, 3) := dk_159 0 16 (dk_at dksX1_next_2 0 rfl rfl)
theorem dX1_next_49 : decode cX1_next 49 = .ok (.aload_n 0, 1) := dk_42 (dk_at dksX1_next_2 3 rfl rfl)
theorem dX1_next_50 : decode cX1_next 50 = .ok (.getfield 53, 3) := dk_180 0 53 (dk_at dksX1_next_2 4 rfl rfl)
theorem dX1_next_53 : decode cX1_next 53 = .ok (.iload 4, 2) := dk_21 4 (dk_at dksX1_next_2 7 rfl rfl)
theorem dX1_next_55 : decode cX1_next 55 = .ok (.invokevirtual 339, 3) := dk_182 1 83 (dk_at dksX1_next_2 9 rfl rfl)
theorem dX1_next_58 : decode cX1_next 58 = .ok (.iconst (-1), 1) := dk_2 (dk_at dksX1_next_2 12 rfl rfl)
theorem dX1_next_59 : decode cX1_next 59 = .ok (.if_icmp .eq 7, 3) := dk_159 0 7 (dk_at dksX1_next_2 13 rfl rfl)
theorem dX1_next_62 : decode cX1_next 62 = .ok (.iconst (-1), 1) := dk_2 (dk_at dksX1_next_2 16 rfl rfl)
theorem dX1_next_63 : decode cX1_next 63 = .ok (.goto 5, 3) := dk_167 0 5 (dk_at dksX1_next_2 17 rfl rfl)
theorem dX1_next_66 : decode cX1_next 66 = .ok (.iload 4, 2) := dk_21 4 (dk_at dksX1_next_2 20 rfl rfl)
theorem dX1_next_68 : decode cX1_next 68 = .ok (.ireturn, 1) := dk_172 (dk_at dksX1_next_2 22 rfl rfl)
abbrev cX1_canSet : ByteArray := prog_1_method_81_code
def yX1_canSet : MethodName := ⟨RX1, "canSet", "(II)Z"⟩
def dkwX1_canSet_0 : List UInt8 := [42, 180, 0, 53, 42, 27, 28, 182, 1, 206, 182, 1, 83, 2, 160, 0, 7, 4, 167, 0, 4, 3, 172]
abbrev dktX1_canSet_0 : List UInt8 := dkwX1_canSet_0 ++ []
theorem dksX1_canSet_0 : cX1_canSet.data.toList.drop 0 = dktX1_canSet_0 := by decide +kernel
theorem dX1_canSet_0 : decode cX1_canSet 0 = .ok (.aload_n 0, 1) := dk_42 (dk_at dksX1_canSet_0 0 rfl rfl)
theorem dX1_canSet_1 : decode cX1_canSet 1 = .ok (.getfield 53, 3) := dk_180 0 53 (dk_at dksX1_canSet_0 1 rfl rfl)
theorem dX1_canSet_4 : decode cX1_canSet 4 = .ok (.aload_n 0, 1) := dk_42 (dk_at dksX1_canSet_0 4 rfl rfl)
theorem dX1_canSet_5 : decode cX1_canSet 5 = .ok (.iload_n 1, 1) := dk_27 (dk_at dksX1_canSet_0 5 rfl rfl)
theorem dX1_canSet_6 : decode cX1_canSet 6 = .ok (.iload_n 2, 1) := dk_28 (dk_at dksX1_canSet_0 6 rfl rfl)
theorem dX1_canSet_7 : decode cX1_canSet 7 = .ok (.invokevirtual 462, 3) := dk_182 1 206 (dk_at dksX1_canSet_0 7 rfl rfl)
theorem dX1_canSet_10 : decode cX1_canSet 10 = .ok (.invokevirtual 339, 3) := dk_182 1 83 (dk_at dksX1_canSet_0 10 rfl rfl)
theorem dX1_canSet_13 : decode cX1_canSet 13 = .ok (.iconst (-1), 1) := dk_2 (dk_at dksX1_canSet_0 13 rfl rfl)
theorem dX1_canSet_14 : decode cX1_canSet 14 = .ok (.if_icmp .ne 7, 3) := dk_160 0 7 (dk_at dksX1_canSet_0 14 rfl rfl)
theorem dX1_canSet_17 : decode cX1_canSet 17 = .ok (.iconst 1, 1) := dk_4 (dk_at dksX1_canSet_0 17 rfl rfl)
theorem dX1_canSet_18 : decode cX1_canSet 18 = .ok (.goto 4, 3) := dk_167 0 4 (dk_at dksX1_canSet_0 18 rfl rfl)
theorem dX1_canSet_21 : decode cX1_canSet 21 = .ok (.iconst 0, 1) := dk_3 (dk_at dksX1_canSet_0 21 rfl rfl)
theorem dX1_canSet_22 : decode cX1_canSet 22 = .ok (.ireturn, 1) := dk_172 (dk_at dksX1_canSet_0 22 rfl rfl)
abbrev cX1_configurationWith : ByteArray := prog_1_method_80_code
def yX1_configurationWith : MethodName := ⟨RX1, "configurationWith", "(II)I"⟩
def dkwX1_configurationWith_1 : List UInt8 := [104, 96, 172]
abbrev dktX1_configurationWith_1 : List UInt8 := dkwX1_configurationWith_1 ++ []
def dkwX1_configurationWith_0 : List UInt8 := [42, 180, 0, 53, 180, 0, 164, 28, 42, 180, 0, 53, 182, 1, 33, 27, 184, 1, 36, 100, 27, 184, 0, 18]
abbrev dktX1_configurationWith_0 : List UInt8 := dkwX1_configurationWith_0 ++ dktX1_configurationWith_1
theorem dksX1_configurationWith_0 : cX1_configurationWith.data.toList.drop 0 = dktX1_configurationWith_0 := by decide +kernel
theorem dksX1_configurationWith_1 : cX1_configurationWith.data.toList.drop 24 = dktX1_configurationWith_1 := dk_seg dksX1_configurationWith_0 24 rfl rfl
theorem dX1_configurationWith_0 : decode cX1_configurationWith 0 = .ok (.aload_n 0, 1) := dk_42 (dk_at dksX1_configurationWith_0 0 rfl rfl)
theorem dX1_configurationWith_1 : decode cX1_configurationWith 1 = .ok (.getfield 53, 3) := dk_180 0 53 (dk_at dksX1_configurationWith_0 1 rfl rfl)
theorem dX1_configurationWith_4 : decode cX1_configurationWith 4 = .ok (.getfield 164, 3) := dk_180 0 164 (dk_at dksX1_configurationWith_0 4 rfl rfl)
theorem dX1_configurationWith_7 : decode cX1_configurationWith 7 = .ok (.iload_n 2, 1) := dk_28 (dk_at dksX1_configurationWith_0 7 rfl rfl)
theorem dX1_configurationWith_8 : decode cX1_configurationWith 8 = .ok (.aload_n 0, 1) := dk_42 (dk_at dksX1_configurationWith_0 8 rfl rfl)
theorem dX1_configurationWith_9 : decode cX1_configurationWith 9 = .ok (.getfield 53, 3) := dk_180 0 53 (dk_at dksX1_configurationWith_0 9 rfl rfl)
theorem dX1_configurationWith_12 : decode cX1_configurationWith 12 = .ok (.invokevirtual 289, 3) := dk_182 1 33 (dk_at dksX1_configurationWith_0 12 rfl rfl)
theorem dX1_configurationWith_15 : decode cX1_configurationWith 15 = .ok (.iload_n 1, 1) := dk_27 (dk_at dksX1_configurationWith_0 15 rfl rfl)
theorem dX1_configurationWith_16 : decode cX1_configurationWith 16 = .ok (.invokestatic 292, 3) := dk_184 1 36 (dk_at dksX1_configurationWith_0 16 rfl rfl)
theorem dX1_configurationWith_19 : decode cX1_configurationWith 19 = .ok (.isub, 1) := dk_100 (dk_at dksX1_configurationWith_0 19 rfl rfl)
theorem dX1_configurationWith_20 : decode cX1_configurationWith 20 = .ok (.iload_n 1, 1) := dk_27 (dk_at dksX1_configurationWith_0 20 rfl rfl)
theorem dX1_configurationWith_21 : decode cX1_configurationWith 21 = .ok (.invokestatic 18, 3) := dk_184 0 18 (dk_at dksX1_configurationWith_0 21 rfl rfl)
theorem dX1_configurationWith_24 : decode cX1_configurationWith 24 = .ok (.imul, 1) := dk_104 (dk_at dksX1_configurationWith_1 0 rfl rfl)
theorem dX1_configurationWith_25 : decode cX1_configurationWith 25 = .ok (.iadd, 1) := dk_96 (dk_at dksX1_configurationWith_1 1 rfl rfl)
theorem dX1_configurationWith_26 : decode cX1_configurationWith 26 = .ok (.ireturn, 1) := dk_172 (dk_at dksX1_configurationWith_1 2 rfl rfl)
abbrev cX1_set : ByteArray := prog_1_method_82_code
def yX1_set : MethodName := ⟨RX1, "set", "(II)I"⟩
def dkwX1_set_1 : List UInt8 := [181, 0, 164, 29, 172]
abbrev dktX1_set_1 : List UInt8 := dkwX1_set_1 ++ []
def dkwX1_set_0 : List UInt8 := [42, 180, 0, 53, 182, 1, 33, 27, 184, 1, 36, 62, 42, 180, 0, 53, 42, 27, 28, 182, 1, 206]
abbrev dktX1_set_0 : List UInt8 := dkwX1_set_0 ++ dktX1_set_1
theorem dksX1_set_0 : cX1_set.data.toList.drop 0 = dktX1_set_0 := by decide +kernel
theorem dksX1_set_1 : cX1_set.data.toList.drop 22 = dktX1_set_1 := dk_seg dksX1_set_0 22 rfl rfl
theorem dX1_set_0 : decode cX1_set 0 = .ok (.aload_n 0, 1) := dk_42 (dk_at dksX1_set_0 0 rfl rfl)
theorem dX1_set_1 : decode cX1_set 1 = .ok (.getfield 53, 3) := dk_180 0 53 (dk_at dksX1_set_0 1 rfl rfl)
theorem dX1_set_4 : decode cX1_set 4 = .ok (.invokevirtual 289, 3) := dk_182 1 33 (dk_at dksX1_set_0 4 rfl rfl)
theorem dX1_set_7 : decode cX1_set 7 = .ok (.iload_n 1, 1) := dk_27 (dk_at dksX1_set_0 7 rfl rfl)
theorem dX1_set_8 : decode cX1_set 8 = .ok (.invokestatic 292, 3) := dk_184 1 36 (dk_at dksX1_set_0 8 rfl rfl)
theorem dX1_set_11 : decode cX1_set 11 = .ok (.istore_n 3, 1) := dk_62 (dk_at dksX1_set_0 11 rfl rfl)
theorem dX1_set_12 : decode cX1_set 12 = .ok (.aload_n 0, 1) := dk_42 (dk_at dksX1_set_0 12 rfl rfl)
theorem dX1_set_13 : decode cX1_set 13 = .ok (.getfield 53, 3) := dk_180 0 53 (dk_at dksX1_set_0 13 rfl rfl)
theorem dX1_set_16 : decode cX1_set 16 = .ok (.aload_n 0, 1) := dk_42 (dk_at dksX1_set_0 16 rfl rfl)
theorem dX1_set_17 : decode cX1_set 17 = .ok (.iload_n 1, 1) := dk_27 (dk_at dksX1_set_0 17 rfl rfl)
theorem dX1_set_18 : decode cX1_set 18 = .ok (.iload_n 2, 1) := dk_28 (dk_at dksX1_set_0 18 rfl rfl)
theorem dX1_set_19 : decode cX1_set 19 = .ok (.invokevirtual 462, 3) := dk_182 1 206 (dk_at dksX1_set_0 19 rfl rfl)
theorem dX1_set_22 : decode cX1_set 22 = .ok (.putfield 164, 3) := dk_181 0 164 (dk_at dksX1_set_1 0 rfl rfl)
theorem dX1_set_25 : decode cX1_set 25 = .ok (.iload_n 3, 1) := dk_29 (dk_at dksX1_set_1 3 rfl rfl)
theorem dX1_set_26 : decode cX1_set 26 = .ok (.ireturn, 1) := dk_172 (dk_at dksX1_set_1 4 rfl rfl)
abbrev cX1_restart : ByteArray := prog_1_method_84_code
def yX1_restart : MethodName := ⟨RX1, "restart", "()I"⟩
def dkwX1_restart_1 : List UInt8 := [180, 0, 53, 3, 181, 1, 129, 27, 172]
abbrev dktX1_restart_1 : List UInt8 := dkwX1_restart_1 ++ []
def dkwX1_restart_0 : List UInt8 := [42, 180, 0, 53, 182, 1, 27, 60, 42, 180, 0, 53, 42, 180, 0, 46, 180, 0, 161, 181, 0, 164, 42]
abbrev dktX1_restart_0 : List UInt8 := dkwX1_restart_0 ++ dktX1_restart_1
theorem dksX1_restart_0 : cX1_restart.data.toList.drop 0 = dktX1_restart_0 := by decide +kernel
theorem dksX1_restart_1 : cX1_restart.data.toList.drop 23 = dktX1_restart_1 := dk_seg dksX1_restart_0 23 rfl rfl
theorem dX1_restart_0 : decode cX1_restart 0 = .ok (.aload_n 0, 1) := dk_42 (dk_at dksX1_restart_0 0 rfl rfl)
theorem dX1_restart_1 : decode cX1_restart 1 = .ok (.getfield 53, 3) := dk_180 0 53 (dk_at dksX1_restart_0 1 rfl rfl)
theorem dX1_restart_4 : decode cX1_restart 4 = .ok (.invokevirtual 283, 3) := dk_182 1 27 (dk_at dksX1_restart_0 4 rfl rfl)
theorem dX1_restart_7 : decode cX1_restart 7 = .ok (.istore_n 1, 1) := dk_60 (dk_at dksX1_restart_0 7 rfl rfl)
theorem dX1_restart_8 : decode cX1_restart 8 = .ok (.aload_n 0, 1) := dk_42 (dk_at dksX1_restart_0 8 rfl rfl)
theorem dX1_restart_9 : decode cX1_restart 9 = .ok (.getfield 53, 3) := dk_180 0 53 (dk_at dksX1_restart_0 9 rfl rfl)
theorem dX1_restart_12 : decode cX1_restart 12 = .ok (.aload_n 0, 1) := dk_42 (dk_at dksX1_restart_0 12 rfl rfl)
theorem dX1_restart_13 : decode cX1_restart 13 = .ok (.getfield 46, 3) := dk_180 0 46 (dk_at dksX1_restart_0 13 rfl rfl)
theorem dX1_restart_16 : decode cX1_restart 16 = .ok (.getfield 161, 3) := dk_180 0 161 (dk_at dksX1_restart_0 16 rfl rfl)
theorem dX1_restart_19 : decode cX1_restart 19 = .ok (.putfield 164, 3) := dk_181 0 164 (dk_at dksX1_restart_0 19 rfl rfl)
theorem dX1_restart_22 : decode cX1_restart 22 = .ok (.aload_n 0, 1) := dk_42 (dk_at dksX1_restart_0 22 rfl rfl)
theorem dX1_restart_23 : decode cX1_restart 23 = .ok (.getfield 53, 3) := dk_180 0 53 (dk_at dksX1_restart_1 0 rfl rfl)
theorem dX1_restart_26 : decode cX1_restart 26 = .ok (.iconst 0, 1) := dk_3 (dk_at dksX1_restart_1 3 rfl rfl)
theorem dX1_restart_27 : decode cX1_restart 27 = .ok (.putfield 385, 3) := dk_181 1 129 (dk_at dksX1_restart_1 4 rfl rfl)
theorem dX1_restart_30 : decode cX1_restart 30 = .ok (.iload_n 1, 1) := dk_27 (dk_at dksX1_restart_1 7 rfl rfl)
theorem dX1_restart_31 : decode cX1_restart 31 = .ok (.ireturn, 1) := dk_172 (dk_at dksX1_restart_1 8 rfl rfl)
abbrev cX1_errorCode : ByteArray := prog_1_method_20_code
def yX1_errorCode : MethodName := ⟨RX1, "errorCode", "()I"⟩
theorem dX1_errorCode_0 : decode cX1_errorCode 0 = .ok (.aload_n 0, 1) := by decide +kernel
theorem dX1_errorCode_1 : decode cX1_errorCode 1 = .ok (.getfield 194, 3) := by decide +kernel
theorem dX1_errorCode_4 : decode cX1_errorCode 4 = .ok (.ireturn, 1) := by decide +kernel
abbrev cX1_errorOffset : ByteArray := prog_1_method_21_code
def yX1_errorOffset : MethodName := ⟨RX1, "errorOffset", "()I"⟩
theorem dX1_errorOffset_0 : decode cX1_errorOffset 0 = .ok (.aload_n 0, 1) := by decide +kernel
theorem dX1_errorOffset_1 : decode cX1_errorOffset 1 = .ok (.getfield 39, 3) := by decide +kernel
theorem dX1_errorOffset_4 : decode cX1_errorOffset 4 = .ok (.ireturn, 1) := by decide +kernel
abbrev cX1_stateCount : ByteArray := prog_1_method_29_code
def yX1_stateCount : MethodName := ⟨RX1, "stateCount", "()I"⟩
def dkwX1_stateCount_0 : List UInt8 := [42, 180, 0, 46, 180, 0, 170, 185, 0, 224, 1, 0, 172]
abbrev dktX1_stateCount_0 : List UInt8 := dkwX1_stateCount_0 ++ []
theorem dksX1_stateCount_0 : cX1_stateCount.data.toList.drop 0 = dktX1_stateCount_0 := by decide +kernel
theorem dX1_stateCount_0 : decode cX1_stateCount 0 = .ok (.aload_n 0, 1) := dk_42 (dk_at dksX1_stateCount_0 0 rfl rfl)
theorem dX1_stateCount_1 : decode cX1_stateCount 1 = .ok (.getfield 46, 3) := dk_180 0 46 (dk_at dksX1_stateCount_0 1 rfl rfl)
theorem dX1_stateCount_4 : decode cX1_stateCount 4 = .ok (.getfield 170, 3) := dk_180 0 170 (dk_at dksX1_stateCount_0 4 rfl rfl)
theorem dX1_stateCount_7 : decode cX1_stateCount 7 = .ok (.invokeinterface 224 1, 5) := by decide +kernel
theorem dX1_stateCount_12 : decode cX1_stateCount 12 = .ok (.ireturn, 1) := dk_172 (dk_at dksX1_stateCount_0 12 rfl rfl)
abbrev cX1_eventCount : ByteArray := prog_1_method_30_code
def yX1_eventCount : MethodName := ⟨RX1, "eventCount", "()I"⟩
def dkwX1_eventCount_0 : List UInt8 := [42, 180, 0, 46, 180, 0, 173, 185, 0, 224, 1, 0, 172]
abbrev dktX1_eventCount_0 : List UInt8 := dkwX1_eventCount_0 ++ []
theorem dksX1_eventCount_0 : cX1_eventCount.data.toList.drop 0 = dktX1_eventCount_0 := by decide +kernel
theorem dX1_eventCount_0 : decode cX1_eventCount 0 = .ok (.aload_n 0, 1) := dk_42 (dk_at dksX1_eventCount_0 0 rfl rfl)
theorem dX1_eventCount_1 : decode cX1_eventCount 1 = .ok (.getfield 46, 3) := dk_180 0 46 (dk_at dksX1_eventCount_0 1 rfl rfl)
theorem dX1_eventCount_4 : decode cX1_eventCount 4 = .ok (.getfield 173, 3) := dk_180 0 173 (dk_at dksX1_eventCount_0 4 rfl rfl)
theorem dX1_eventCount_7 : decode cX1_eventCount 7 = .ok (.invokeinterface 224 1, 5) := by decide +kernel
theorem dX1_eventCount_12 : decode cX1_eventCount 12 = .ok (.ireturn, 1) := dk_172 (dk_at dksX1_eventCount_0 12 rfl rfl)
abbrev cX1_variableCount : ByteArray := prog_1_method_31_code
def yX1_variableCount : MethodName := ⟨RX1, "variableCount", "()I"⟩
def dkwX1_variableCount_0 : List UInt8 := [42, 180, 0, 46, 180, 1, 9, 185, 0, 224, 1, 0, 172]
abbrev dktX1_variableCount_0 : List UInt8 := dkwX1_variableCount_0 ++ []
theorem dksX1_variableCount_0 : cX1_variableCount.data.toList.drop 0 = dktX1_variableCount_0 := by decide +kernel
theorem dX1_variableCount_0 : decode cX1_variableCount 0 = .ok (.aload_n 0, 1) := dk_42 (dk_at dksX1_variableCount_0 0 rfl rfl)
theorem dX1_variableCount_1 : decode cX1_variableCount 1 = .ok (.getfield 46, 3) := dk_180 0 46 (dk_at dksX1_variableCount_0 1 rfl rfl)
theorem dX1_variableCount_4 : decode cX1_variableCount 4 = .ok (.getfield 265, 3) := dk_180 1 9 (dk_at dksX1_variableCount_0 4 rfl rfl)
theorem dX1_variableCount_7 : decode cX1_variableCount 7 = .ok (.invokeinterface 224 1, 5) := by decide +kernel
theorem dX1_variableCount_12 : decode cX1_variableCount 12 = .ok (.ireturn, 1) := dk_172 (dk_at dksX1_variableCount_0 12 rfl rfl)
abbrev cX1_transitionCount : ByteArray := prog_1_method_32_code
def yX1_transitionCount : MethodName := ⟨RX1, "transitionCount", "()I"⟩
def dkwX1_transitionCount_0 : List UInt8 := [42, 180, 0, 46, 180, 0, 176, 185, 0, 224, 1, 0, 172]
abbrev dktX1_transitionCount_0 : List UInt8 := dkwX1_transitionCount_0 ++ []
theorem dksX1_transitionCount_0 : cX1_transitionCount.data.toList.drop 0 = dktX1_transitionCount_0 := by decide +kernel
theorem dX1_transitionCount_0 : decode cX1_transitionCount 0 = .ok (.aload_n 0, 1) := dk_42 (dk_at dksX1_transitionCount_0 0 rfl rfl)
theorem dX1_transitionCount_1 : decode cX1_transitionCount 1 = .ok (.getfield 46, 3) := dk_180 0 46 (dk_at dksX1_transitionCount_0 1 rfl rfl)
theorem dX1_transitionCount_4 : decode cX1_transitionCount 4 = .ok (.getfield 176, 3) := dk_180 0 176 (dk_at dksX1_transitionCount_0 4 rfl rfl)
theorem dX1_transitionCount_7 : decode cX1_transitionCount 7 = .ok (.invokeinterface 224 1, 5) := by decide +kernel
theorem dX1_transitionCount_12 : decode cX1_transitionCount 12 = .ok (.ireturn, 1) := dk_172 (dk_at dksX1_transitionCount_0 12 rfl rfl)
abbrev cX1_invariantCount : ByteArray := prog_1_method_33_code
def yX1_invariantCount : MethodName := ⟨RX1, "invariantCount", "()I"⟩
def dkwX1_invariantCount_0 : List UInt8 := [42, 180, 0, 53, 180, 0, 143, 185, 0, 224, 1, 0, 172]
abbrev dktX1_invariantCount_0 : List UInt8 := dkwX1_invariantCount_0 ++ []
theorem dksX1_invariantCount_0 : cX1_invariantCount.data.toList.drop 0 = dktX1_invariantCount_0 := by decide +kernel
theorem dX1_invariantCount_0 : decode cX1_invariantCount 0 = .ok (.aload_n 0, 1) := dk_42 (dk_at dksX1_invariantCount_0 0 rfl rfl)
theorem dX1_invariantCount_1 : decode cX1_invariantCount 1 = .ok (.getfield 53, 3) := dk_180 0 53 (dk_at dksX1_invariantCount_0 1 rfl rfl)
theorem dX1_invariantCount_4 : decode cX1_invariantCount 4 = .ok (.getfield 143, 3) := dk_180 0 143 (dk_at dksX1_invariantCount_0 4 rfl rfl)
theorem dX1_invariantCount_7 : decode cX1_invariantCount 7 = .ok (.invokeinterface 224 1, 5) := by decide +kernel
theorem dX1_invariantCount_12 : decode cX1_invariantCount 12 = .ok (.ireturn, 1) := dk_172 (dk_at dksX1_invariantCount_0 12 rfl rfl)
abbrev cX1_currentState : ByteArray := prog_1_method_37_code
def yX1_currentState : MethodName := ⟨RX1, "currentState", "()I"⟩
def dkwX1_currentState_0 : List UInt8 := [42, 180, 0, 53, 182, 1, 27, 172]
abbrev dktX1_currentState_0 : List UInt8 := dkwX1_currentState_0 ++ []
theorem dksX1_currentState_0 : cX1_currentState.data.toList.drop 0 = dktX1_currentState_0 := by decide +kernel
theorem dX1_currentState_0 : decode cX1_currentState 0 = .ok (.aload_n 0, 1) := dk_42 (dk_at dksX1_currentState_0 0 rfl rfl)
theorem dX1_currentState_1 : decode cX1_currentState 1 = .ok (.getfield 53, 3) := dk_180 0 53 (dk_at dksX1_currentState_0 1 rfl rfl)
theorem dX1_currentState_4 : decode cX1_currentState 4 = .ok (.invokevirtual 283, 3) := dk_182 1 27 (dk_at dksX1_currentState_0 4 rfl rfl)
theorem dX1_currentState_7 : decode cX1_currentState 7 = .ok (.ireturn, 1) := dk_172 (dk_at dksX1_currentState_0 7 rfl rfl)
abbrev cX1_isDeadlocked : ByteArray := prog_1_method_54_code
def yX1_isDeadlocked : MethodName := ⟨RX1, "isDeadlocked", "()Z"⟩
def dkwX1_isDeadlocked_0 : List UInt8 := [42, 42, 180, 0, 53, 180, 0, 164, 182, 1, 103, 172]
abbrev dktX1_isDeadlocked_0 : List UInt8 := dkwX1_isDeadlocked_0 ++ []
theorem dksX1_isDeadlocked_0 : cX1_isDeadlocked.data.toList.drop 0 = dktX1_isDeadlocked_0 := by decide +kernel
theorem dX1_isDeadlocked_0 : decode cX1_isDeadlocked 0 = .ok (.aload_n 0, 1) := dk_42 (dk_at dksX1_isDeadlocked_0 0 rfl rfl)
theorem dX1_isDeadlocked_1 : decode cX1_isDeadlocked 1 = .ok (.aload_n 0, 1) := dk_42 (dk_at dksX1_isDeadlocked_0 1 rfl rfl)
theorem dX1_isDeadlocked_2 : decode cX1_isDeadlocked 2 = .ok (.getfield 53, 3) := dk_180 0 53 (dk_at dksX1_isDeadlocked_0 2 rfl rfl)
theorem dX1_isDeadlocked_5 : decode cX1_isDeadlocked 5 = .ok (.getfield 164, 3) := dk_180 0 164 (dk_at dksX1_isDeadlocked_0 5 rfl rfl)
theorem dX1_isDeadlocked_8 : decode cX1_isDeadlocked 8 = .ok (.invokevirtual 359, 3) := dk_182 1 103 (dk_at dksX1_isDeadlocked_0 8 rfl rfl)
theorem dX1_isDeadlocked_11 : decode cX1_isDeadlocked 11 = .ok (.ireturn, 1) := dk_172 (dk_at dksX1_isDeadlocked_0 11 rfl rfl)
abbrev cX1_isDeadlock : ByteArray := prog_1_method_53_code
def yX1_isDeadlock : MethodName := ⟨RX1, "isDeadlock", "(I)Z"⟩
def dkwX1_isDeadlock_1 : List UInt8 := [2, 159, 0, 5, 3, 172, 132, 2, 1, 167, 255, 225, 4, 172]
abbrev dktX1_isDeadlock_1 : List UInt8 := dkwX1_isDeadlock_1 ++ []
def dkwX1_isDeadlock_0 : List UInt8 := [3, 61, 28, 42, 180, 0, 46, 180, 0, 173, 185, 0, 224, 1, 0, 162, 0, 21, 42, 27, 28, 182, 1, 95]
abbrev dktX1_isDeadlock_0 : List UInt8 := dkwX1_isDeadlock_0 ++ dktX1_isDeadlock_1
theorem dksX1_isDeadlock_0 : cX1_isDeadlock.data.toList.drop 0 = dktX1_isDeadlock_0 := by decide +kernel
theorem dksX1_isDeadlock_1 : cX1_isDeadlock.data.toList.drop 24 = dktX1_isDeadlock_1 := dk_seg dksX1_isDeadlock_0 24 rfl rfl
theorem dX1_isDeadlock_0 : decode cX1_isDeadlock 0 = .ok (.iconst 0, 1) := dk_3 (dk_at dksX1_isDeadlock_0 0 rfl rfl)
theorem dX1_isDeadlock_1 : decode cX1_isDeadlock 1 = .ok (.istore_n 2, 1) := dk_61 (dk_at dksX1_isDeadlock_0 1 rfl rfl)
theorem dX1_isDeadlock_2 : decode cX1_isDeadlock 2 = .ok (.iload_n 2, 1) := dk_28 (dk_at dksX1_isDeadlock_0 2 rfl rfl)
theorem dX1_isDeadlock_3 : decode cX1_isDeadlock 3 = .ok (.aload_n 0, 1) := dk_42 (dk_at dksX1_isDeadlock_0 3 rfl rfl)
theorem dX1_isDeadlock_4 : decode cX1_isDeadlock 4 = .ok (.getfield 46, 3) := dk_180 0 46 (dk_at dksX1_isDeadlock_0 4 rfl rfl)
theorem dX1_isDeadlock_7 : decode cX1_isDeadlock 7 = .ok (.getfield 173, 3) := dk_180 0 173 (dk_at dksX1_isDeadlock_0 7 rfl rfl)
theorem dX1_isDeadlock_10 : decode cX1_isDeadlock 10 = .ok (.invokeinterface 224 1, 5) := by decide +kernel
theorem dX1_isDeadlock_15 : decode cX1_isDeadlock 15 = .ok (.if_icmp .ge 21, 3) := dk_162 0 21 (dk_at dksX1_isDeadlock_0 15 rfl rfl)
theorem dX1_isDeadlock_18 : decode cX1_isDeadlock 18 = .ok (.aload_n 0, 1) := dk_42 (dk_at dksX1_isDeadlock_0 18 rfl rfl)
theorem dX1_isDeadlock_19 : decode cX1_isDeadlock 19 = .ok (.iload_n 1, 1) := dk_27 (dk_at dksX1_isDeadlock_0 19 rfl rfl)
theorem dX1_isDeadlock_20 : decode cX1_isDeadlock 20 = .ok (.iload_n 2, 1) := dk_28 (dk_at dksX1_isDeadlock_0 20 rfl rfl)
theorem dX1_isDeadlock_21 : decode cX1_isDeadlock 21 = .ok (.invokevirtual 351, 3) := dk_182 1 95 (dk_at dksX1_isDeadlock_0 21 rfl rfl)
theorem dX1_isDeadlock_24 : decode cX1_isDeadlock 24 = .ok (.iconst (-1), 1) := dk_2 (dk_at dksX1_isDeadlock_1 0 rfl rfl)
theorem dX1_isDeadlock_25 : decode cX1_isDeadlock 25 = .ok (.if_icmp .eq 5, 3) := dk_159 0 5 (dk_at dksX1_isDeadlock_1 1 rfl rfl)
theorem dX1_isDeadlock_28 : decode cX1_isDeadlock 28 = .ok (.iconst 0, 1) := dk_3 (dk_at dksX1_isDeadlock_1 4 rfl rfl)
theorem dX1_isDeadlock_29 : decode cX1_isDeadlock 29 = .ok (.ireturn, 1) := dk_172 (dk_at dksX1_isDeadlock_1 5 rfl rfl)
theorem dX1_isDeadlock_30 : decode cX1_isDeadlock 30 = .ok (.iinc 2 1, 3) := dk_132 2 1 (dk_at dksX1_isDeadlock_1 6 rfl rfl)
theorem dX1_isDeadlock_33 : decode cX1_isDeadlock 33 = .ok (.goto (-31), 3) := dk_167 255 225 (dk_at dksX1_isDeadlock_1 9 rfl rfl)
theorem dX1_isDeadlock_36 : decode cX1_isDeadlock 36 = .ok (.iconst 1, 1) := dk_4 (dk_at dksX1_isDeadlock_1 12 rfl rfl)
theorem dX1_isDeadlock_37 : decode cX1_isDeadlock 37 = .ok (.ireturn, 1) := dk_172 (dk_at dksX1_isDeadlock_1 13 rfl rfl)
abbrev cX1_acceptedCount : ByteArray := prog_1_method_57_code
def yX1_acceptedCount : MethodName := ⟨RX1, "acceptedCount", "()I"⟩
def dkwX1_acceptedCount_0 : List UInt8 := [42, 180, 0, 53, 180, 1, 115, 172]
abbrev dktX1_acceptedCount_0 : List UInt8 := dkwX1_acceptedCount_0 ++ []
theorem dksX1_acceptedCount_0 : cX1_acceptedCount.data.toList.drop 0 = dktX1_acceptedCount_0 := by decide +kernel
theorem dX1_acceptedCount_0 : decode cX1_acceptedCount 0 = .ok (.aload_n 0, 1) := dk_42 (dk_at dksX1_acceptedCount_0 0 rfl rfl)
theorem dX1_acceptedCount_1 : decode cX1_acceptedCount 1 = .ok (.getfield 53, 3) := dk_180 0 53 (dk_at dksX1_acceptedCount_0 1 rfl rfl)
theorem dX1_acceptedCount_4 : decode cX1_acceptedCount 4 = .ok (.getfield 371, 3) := dk_180 1 115 (dk_at dksX1_acceptedCount_0 4 rfl rfl)
theorem dX1_acceptedCount_7 : decode cX1_acceptedCount 7 = .ok (.ireturn, 1) := dk_172 (dk_at dksX1_acceptedCount_0 7 rfl rfl)
abbrev cX1_rejectedCount : ByteArray := prog_1_method_58_code
def yX1_rejectedCount : MethodName := ⟨RX1, "rejectedCount", "()I"⟩
def dkwX1_rejectedCount_0 : List UInt8 := [42, 180, 0, 53, 182, 1, 118, 172]
abbrev dktX1_rejectedCount_0 : List UInt8 := dkwX1_rejectedCount_0 ++ []
theorem dksX1_rejectedCount_0 : cX1_rejectedCount.data.toList.drop 0 = dktX1_rejectedCount_0 := by decide +kernel
theorem dX1_rejectedCount_0 : decode cX1_rejectedCount 0 = .ok (.aload_n 0, 1) := dk_42 (dk_at dksX1_rejectedCount_0 0 rfl rfl)
theorem dX1_rejectedCount_1 : decode cX1_rejectedCount 1 = .ok (.getfield 53, 3) := dk_180 0 53 (dk_at dksX1_rejectedCount_0 1 rfl rfl)
theorem dX1_rejectedCount_4 : decode cX1_rejectedCount 4 = .ok (.invokevirtual 374, 3) := dk_182 1 118 (dk_at dksX1_rejectedCount_0 4 rfl rfl)
theorem dX1_rejectedCount_7 : decode cX1_rejectedCount 7 = .ok (.ireturn, 1) := dk_172 (dk_at dksX1_rejectedCount_0 7 rfl rfl)
abbrev cX1_stateCoverage : ByteArray := prog_1_method_60_code
def yX1_stateCoverage : MethodName := ⟨RX1, "stateCoverage", "()F"⟩
def dkwX1_stateCoverage_2 : List UInt8 := [180, 0, 46, 180, 0, 170, 185, 0, 224, 1, 0, 134, 110, 174]
abbrev dktX1_stateCoverage_2 : List UInt8 := dkwX1_stateCoverage_2 ++ []
def dkwX1_stateCoverage_1 : List UInt8 := [21, 4, 46, 54, 5, 21, 5, 158, 0, 6, 132, 1, 1, 132, 4, 1, 167, 255, 233, 27, 134, 42]
abbrev dktX1_stateCoverage_1 : List UInt8 := dkwX1_stateCoverage_1 ++ dktX1_stateCoverage_2
def dkwX1_stateCoverage_0 : List UInt8 := [3, 60, 42, 180, 0, 53, 180, 1, 112, 77, 44, 190, 62, 3, 54, 4, 21, 4, 29, 162, 0, 23, 44]
abbrev dktX1_stateCoverage_0 : List UInt8 := dkwX1_stateCoverage_0 ++ dktX1_stateCoverage_1
theorem dksX1_stateCoverage_0 : cX1_stateCoverage.data.toList.drop 0 = dktX1_stateCoverage_0 := by decide +kernel
theorem dksX1_stateCoverage_1 : cX1_stateCoverage.data.toList.drop 23 = dktX1_stateCoverage_1 := dk_seg dksX1_stateCoverage_0 23 rfl rfl
theorem dksX1_stateCoverage_2 : cX1_stateCoverage.data.toList.drop 45 = dktX1_stateCoverage_2 := dk_seg dksX1_stateCoverage_1 22 rfl rfl
theorem dX1_stateCoverage_0 : decode cX1_stateCoverage 0 = .ok (.iconst 0, 1) := dk_3 (dk_at dksX1_stateCoverage_0 0 rfl rfl)
theorem dX1_stateCoverage_1 : decode cX1_stateCoverage 1 = .ok (.istore_n 1, 1) := dk_60 (dk_at dksX1_stateCoverage_0 1 rfl rfl)
theorem dX1_stateCoverage_2 : decode cX1_stateCoverage 2 = .ok (.aload_n 0, 1) := dk_42 (dk_at dksX1_stateCoverage_0 2 rfl rfl)
theorem dX1_stateCoverage_3 : decode cX1_stateCoverage 3 = .ok (.getfield 53, 3) := dk_180 0 53 (dk_at dksX1_stateCoverage_0 3 rfl rfl)
theorem dX1_stateCoverage_6 : decode cX1_stateCoverage 6 = .ok (.getfield 368, 3) := dk_180 1 112 (dk_at dksX1_stateCoverage_0 6 rfl rfl)
theorem dX1_stateCoverage_9 : decode cX1_stateCoverage 9 = .ok (.astore_n 2, 1) := dk_77 (dk_at dksX1_stateCoverage_0 9 rfl rfl)
theorem dX1_stateCoverage_10 : decode cX1_stateCoverage 10 = .ok (.aload_n 2, 1) := dk_44 (dk_at dksX1_stateCoverage_0 10 rfl rfl)
theorem dX1_stateCoverage_11 : decode cX1_stateCoverage 11 = .ok (.arraylength, 1) := dk_190 (dk_at dksX1_stateCoverage_0 11 rfl rfl)
theorem dX1_stateCoverage_12 : decode cX1_stateCoverage 12 = .ok (.istore_n 3, 1) := dk_62 (dk_at dksX1_stateCoverage_0 12 rfl rfl)
theorem dX1_stateCoverage_13 : decode cX1_stateCoverage 13 = .ok (.iconst 0, 1) := dk_3 (dk_at dksX1_stateCoverage_0 13 rfl rfl)
theorem dX1_stateCoverage_14 : decode cX1_stateCoverage 14 = .ok (.istore 4, 2) := dk_54 4 (dk_at dksX1_stateCoverage_0 14 rfl rfl)
theorem dX1_stateCoverage_16 : decode cX1_stateCoverage 16 = .ok (.iload 4, 2) := dk_21 4 (dk_at dksX1_stateCoverage_0 16 rfl rfl)
theorem dX1_stateCoverage_18 : decode cX1_stateCoverage 18 = .ok (.iload_n 3, 1) := dk_29 (dk_at dksX1_stateCoverage_0 18 rfl rfl)
theorem dX1_stateCoverage_19 : decode cX1_stateCoverage 19 = .ok (.if_icmp .ge 23, 3) := dk_162 0 23 (dk_at dksX1_stateCoverage_0 19 rfl rfl)
theorem dX1_stateCoverage_22 : decode cX1_stateCoverage 22 = .ok (.aload_n 2, 1) := dk_44 (dk_at dksX1_stateCoverage_0 22 rfl rfl)
theorem dX1_stateCoverage_23 : decode cX1_stateCoverage 23 = .ok (.iload 4, 2) := dk_21 4 (dk_at dksX1_stateCoverage_1 0 rfl rfl)
theorem dX1_stateCoverage_25 : decode cX1_stateCoverage 25 = .ok (.iaload, 1) := dk_46 (dk_at dksX1_stateCoverage_1 2 rfl rfl)
theorem dX1_stateCoverage_26 : decode cX1_stateCoverage 26 = .ok (.istore 5, 2) := dk_54 5 (dk_at dksX1_stateCoverage_1 3 rfl rfl)
theorem dX1_stateCoverage_28 : decode cX1_stateCoverage 28 = .ok (.iload 5, 2) := dk_21 5 (dk_at dksX1_stateCoverage_1 5 rfl rfl)
theorem dX1_stateCoverage_30 : decode cX1_stateCoverage 30 = .ok (.ifCond .le 6, 3) := dk_158 0 6 (dk_at dksX1_stateCoverage_1 7 rfl rfl)
theorem dX1_stateCoverage_33 : decode cX1_stateCoverage 33 = .ok (.iinc 1 1, 3) := dk_132 1 1 (dk_at dksX1_stateCoverage_1 10 rfl rfl)
theorem dX1_stateCoverage_36 : decode cX1_stateCoverage 36 = .ok (.iinc 4 1, 3) := dk_132 4 1 (dk_at dksX1_stateCoverage_1 13 rfl rfl)
theorem dX1_stateCoverage_39 : decode cX1_stateCoverage 39 = .ok (.goto (-23), 3) := dk_167 255 233 (dk_at dksX1_stateCoverage_1 16 rfl rfl)
theorem dX1_stateCoverage_42 : decode cX1_stateCoverage 42 = .ok (.iload_n 1, 1) := dk_27 (dk_at dksX1_stateCoverage_1 19 rfl rfl)
theorem dX1_stateCoverage_43 : decode cX1_stateCoverage 43 = .ok (.i2f, 1) := dk_134 (dk_at dksX1_stateCoverage_1 20 rfl rfl)
theorem dX1_stateCoverage_44 : decode cX1_stateCoverage 44 = .ok (.aload_n 0, 1) := dk_42 (dk_at dksX1_stateCoverage_1 21 rfl rfl)
theorem dX1_stateCoverage_45 : decode cX1_stateCoverage 45 = .ok (.getfield 46, 3) := dk_180 0 46 (dk_at dksX1_stateCoverage_2 0 rfl rfl)
theorem dX1_stateCoverage_48 : decode cX1_stateCoverage 48 = .ok (.getfield 170, 3) := dk_180 0 170 (dk_at dksX1_stateCoverage_2 3 rfl rfl)
theorem dX1_stateCoverage_51 : decode cX1_stateCoverage 51 = .ok (.invokeinterface 224 1, 5) := by decide +kernel
theorem dX1_stateCoverage_56 : decode cX1_stateCoverage 56 = .ok (.i2f, 1) := dk_134 (dk_at dksX1_stateCoverage_2 11 rfl rfl)
theorem dX1_stateCoverage_57 : decode cX1_stateCoverage 57 = .ok (.fdiv, 1) := dk_110 (dk_at dksX1_stateCoverage_2 12 rfl rfl)
theorem dX1_stateCoverage_58 : decode cX1_stateCoverage 58 = .ok (.freturn, 1) := dk_174 (dk_at dksX1_stateCoverage_2 13 rfl rfl)
abbrev cX1_transitionCoverage : ByteArray := prog_1_method_61_code
def yX1_transitionCoverage : MethodName := ⟨RX1, "transitionCoverage", "()F"⟩
def dkwX1_transitionCoverage_2 : List UInt8 := [180, 0, 176, 185, 0, 224, 1, 0, 61, 28, 154, 0, 7, 12, 167, 0, 8, 27, 134, 28, 134, 110, 174]
abbrev dktX1_transitionCoverage_2 : List UInt8 := dkwX1_transitionCoverage_2 ++ []
def dkwX1_transitionCoverage_1 : List UInt8 := [21, 4, 46, 54, 5, 21, 5, 158, 0, 6, 132, 1, 1, 132, 4, 1, 167, 255, 233, 42, 180, 0, 46]
abbrev dktX1_transitionCoverage_1 : List UInt8 := dkwX1_transitionCoverage_1 ++ dktX1_transitionCoverage_2
def dkwX1_transitionCoverage_0 : List UInt8 := [3, 60, 42, 180, 0, 53, 180, 1, 106, 77, 44, 190, 62, 3, 54, 4, 21, 4, 29, 162, 0, 23, 44]
abbrev dktX1_transitionCoverage_0 : List UInt8 := dkwX1_transitionCoverage_0 ++ dktX1_transitionCoverage_1
theorem dksX1_transitionCoverage_0 : cX1_transitionCoverage.data.toList.drop 0 = dktX1_transitionCoverage_0 := by decide +kernel
theorem dksX1_transitionCoverage_1 : cX1_transitionCoverage.data.toList.drop 23 = dktX1_transitionCoverage_1 := dk_seg dksX1_transitionCoverage_0 23 rfl rfl
theorem dksX1_transitionCoverage_2 : cX1_transitionCoverage.data.toList.drop 46 = dktX1_transitionCoverage_2 := dk_seg dksX1_transitionCoverage_1 23 rfl rfl
theorem dX1_transitionCoverage_0 : decode cX1_transitionCoverage 0 = .ok (.iconst 0, 1) := dk_3 (dk_at dksX1_transitionCoverage_0 0 rfl rfl)
theorem dX1_transitionCoverage_1 : decode cX1_transitionCoverage 1 = .ok (.istore_n 1, 1) := dk_60 (dk_at dksX1_transitionCoverage_0 1 rfl rfl)
theorem dX1_transitionCoverage_2 : decode cX1_transitionCoverage 2 = .ok (.aload_n 0, 1) := dk_42 (dk_at dksX1_transitionCoverage_0 2 rfl rfl)
theorem dX1_transitionCoverage_3 : decode cX1_transitionCoverage 3 = .ok (.getfield 53, 3) := dk_180 0 53 (dk_at dksX1_transitionCoverage_0 3 rfl rfl)
theorem dX1_transitionCoverage_6 : decode cX1_transitionCoverage 6 = .ok (.getfield 362, 3) := dk_180 1 106 (dk_at dksX1_transitionCoverage_0 6 rfl rfl)
theorem dX1_transitionCoverage_9 : decode cX1_transitionCoverage 9 = .ok (.astore_n 2, 1) := dk_77 (dk_at dksX1_transitionCoverage_0 9 rfl rfl)
theorem dX1_transitionCoverage_10 : decode cX1_transitionCoverage 10 = .ok (.aload_n 2, 1) := dk_44 (dk_at dksX1_transitionCoverage_0 10 rfl rfl)
theorem dX1_transitionCoverage_11 : decode cX1_transitionCoverage 11 = .ok (.arraylength, 1) := dk_190 (dk_at dksX1_transitionCoverage_0 11 rfl rfl)
theorem dX1_transitionCoverage_12 : decode cX1_transitionCoverage 12 = .ok (.istore_n 3, 1) := dk_62 (dk_at dksX1_transitionCoverage_0 12 rfl rfl)
theorem dX1_transitionCoverage_13 : decode cX1_transitionCoverage 13 = .ok (.iconst 0, 1) := dk_3 (dk_at dksX1_transitionCoverage_0 13 rfl rfl)
theorem dX1_transitionCoverage_14 : decode cX1_transitionCoverage 14 = .ok (.istore 4, 2) := dk_54 4 (dk_at dksX1_transitionCoverage_0 14 rfl rfl)
theorem dX1_transitionCoverage_16 : decode cX1_transitionCoverage 16 = .ok (.iload 4, 2) := dk_21 4 (dk_at dksX1_transitionCoverage_0 16 rfl rfl)
theorem dX1_transitionCoverage_18 : decode cX1_transitionCoverage 18 = .ok (.iload_n 3, 1) := dk_29 (dk_at dksX1_transitionCoverage_0 18 rfl rfl)
theorem dX1_transitionCoverage_19 : decode cX1_transitionCoverage 19 = .ok (.if_icmp .ge 23, 3) := dk_162 0 23 (dk_at dksX1_transitionCoverage_0 19 rfl rfl)
theorem dX1_transitionCoverage_22 : decode cX1_transitionCoverage 22 = .ok (.aload_n 2, 1) := dk_44 (dk_at dksX1_transitionCoverage_0 22 rfl rfl)
theorem dX1_transitionCoverage_23 : decode cX1_transitionCoverage 23 = .ok (.iload 4, 2) := dk_21 4 (dk_at dksX1_transitionCoverage_1 0 rfl rfl)
theorem dX1_transitionCoverage_25 : decode cX1_transitionCoverage 25 = .ok (.iaload, 1) := dk_46 (dk_at dksX1_transitionCoverage_1 2 rfl rfl)
theorem dX1_transitionCoverage_26 : decode cX1_transitionCoverage 26 = .ok (.istore 5, 2) := dk_54 5 (dk_at dksX1_transitionCoverage_1 3 rfl rfl)
theorem dX1_transitionCoverage_28 : decode cX1_transitionCoverage 28 = .ok (.iload 5, 2) := dk_21 5 (dk_at dksX1_transitionCoverage_1 5 rfl rfl)
theorem dX1_transitionCoverage_30 : decode cX1_transitionCoverage 30 = .ok (.ifCond .le 6, 3) := dk_158 0 6 (dk_at dksX1_transitionCoverage_1 7 rfl rfl)
theorem dX1_transitionCoverage_33 : decode cX1_transitionCoverage 33 = .ok (.iinc 1 1, 3) := dk_132 1 1 (dk_at dksX1_transitionCoverage_1 10 rfl rfl)
theorem dX1_transitionCoverage_36 : decode cX1_transitionCoverage 36 = .ok (.iinc 4 1, 3) := dk_132 4 1 (dk_at dksX1_transitionCoverage_1 13 rfl rfl)
theorem dX1_transitionCoverage_39 : decode cX1_transitionCoverage 39 = .ok (.goto (-23), 3) := dk_167 255 233 (dk_at dksX1_transitionCoverage_1 16 rfl rfl)
theorem dX1_transitionCoverage_42 : decode cX1_transitionCoverage 42 = .ok (.aload_n 0, 1) := dk_42 (dk_at dksX1_transitionCoverage_1 19 rfl rfl)
theorem dX1_transitionCoverage_43 : decode cX1_transitionCoverage 43 = .ok (.getfield 46, 3) := dk_180 0 46 (dk_at dksX1_transitionCoverage_1 20 rfl rfl)
theorem dX1_transitionCoverage_46 : decode cX1_transitionCoverage 46 = .ok (.getfield 176, 3) := dk_180 0 176 (dk_at dksX1_transitionCoverage_2 0 rfl rfl)
theorem dX1_transitionCoverage_49 : decode cX1_transitionCoverage 49 = .ok (.invokeinterface 224 1, 5) := by decide +kernel
theorem dX1_transitionCoverage_54 : decode cX1_transitionCoverage 54 = .ok (.istore_n 2, 1) := dk_61 (dk_at dksX1_transitionCoverage_2 8 rfl rfl)
theorem dX1_transitionCoverage_55 : decode cX1_transitionCoverage 55 = .ok (.iload_n 2, 1) := dk_28 (dk_at dksX1_transitionCoverage_2 9 rfl rfl)
theorem dX1_transitionCoverage_56 : decode cX1_transitionCoverage 56 = .ok (.ifCond .ne 7, 3) := dk_154 0 7 (dk_at dksX1_transitionCoverage_2 10 rfl rfl)
theorem dX1_transitionCoverage_59 : decode cX1_transitionCoverage 59 = .ok (.fconst 1, 1) := dk_12 (dk_at dksX1_transitionCoverage_2 13 rfl rfl)
theorem dX1_transitionCoverage_60 : decode cX1_transitionCoverage 60 = .ok (.goto 8, 3) := dk_167 0 8 (dk_at dksX1_transitionCoverage_2 14 rfl rfl)
theorem dX1_transitionCoverage_63 : decode cX1_transitionCoverage 63 = .ok (.iload_n 1, 1) := dk_27 (dk_at dksX1_transitionCoverage_2 17 rfl rfl)
theorem dX1_transitionCoverage_64 : decode cX1_transitionCoverage 64 = .ok (.i2f, 1) := dk_134 (dk_at dksX1_transitionCoverage_2 18 rfl rfl)
theorem dX1_transitionCoverage_65 : decode cX1_transitionCoverage 65 = .ok (.iload_n 2, 1) := dk_28 (dk_at dksX1_transitionCoverage_2 19 rfl rfl)
theorem dX1_transitionCoverage_66 : decode cX1_transitionCoverage 66 = .ok (.i2f, 1) := dk_134 (dk_at dksX1_transitionCoverage_2 20 rfl rfl)
theorem dX1_transitionCoverage_67 : decode cX1_transitionCoverage 67 = .ok (.fdiv, 1) := dk_110 (dk_at dksX1_transitionCoverage_2 21 rfl rfl)
theorem dX1_transitionCoverage_68 : decode cX1_transitionCoverage 68 = .ok (.freturn, 1) := dk_174 (dk_at dksX1_transitionCoverage_2 22 rfl rfl)
abbrev cX1_firstUncovered : ByteArray := prog_1_method_62_code
def yX1_firstUncovered : MethodName := ⟨RX1, "firstUncovered", "()I"⟩
def dkwX1_firstUncovered_1 : List UInt8 := [180, 1, 106, 27, 46, 154, 0, 5, 27, 172, 132, 1, 1, 167, 255, 223, 2, 172]
abbrev dktX1_firstUncovered_1 : List UInt8 := dkwX1_firstUncovered_1 ++ []
def dkwX1_firstUncovered_0 : List UInt8 := [3, 60, 27, 42, 180, 0, 46, 180, 0, 176, 185, 0, 224, 1, 0, 162, 0, 23, 42, 180, 0, 53]
abbrev dktX1_firstUncovered_0 : List UInt8 := dkwX1_firstUncovered_0 ++ dktX1_firstUncovered_1
theorem dksX1_firstUncovered_0 : cX1_firstUncovered.data.toList.drop 0 = dktX1_firstUncovered_0 := by decide +kernel
theorem dksX1_firstUncovered_1 : cX1_firstUncovered.data.toList.drop 22 = dktX1_firstUncovered_1 := dk_seg dksX1_firstUncovered_0 22 rfl rfl
theorem dX1_firstUncovered_0 : decode cX1_firstUncovered 0 = .ok (.iconst 0, 1) := dk_3 (dk_at dksX1_firstUncovered_0 0 rfl rfl)
theorem dX1_firstUncovered_1 : decode cX1_firstUncovered 1 = .ok (.istore_n 1, 1) := dk_60 (dk_at dksX1_firstUncovered_0 1 rfl rfl)
theorem dX1_firstUncovered_2 : decode cX1_firstUncovered 2 = .ok (.iload_n 1, 1) := dk_27 (dk_at dksX1_firstUncovered_0 2 rfl rfl)
theorem dX1_firstUncovered_3 : decode cX1_firstUncovered 3 = .ok (.aload_n 0, 1) := dk_42 (dk_at dksX1_firstUncovered_0 3 rfl rfl)
theorem dX1_firstUncovered_4 : decode cX1_firstUncovered 4 = .ok (.getfield 46, 3) := dk_180 0 46 (dk_at dksX1_firstUncovered_0 4 rfl rfl)
theorem dX1_firstUncovered_7 : decode cX1_firstUncovered 7 = .ok (.getfield 176, 3) := dk_180 0 176 (dk_at dksX1_firstUncovered_0 7 rfl rfl)
theorem dX1_firstUncovered_10 : decode cX1_firstUncovered 10 = .ok (.invokeinterface 224 1, 5) := by decide +kernel
theorem dX1_firstUncovered_15 : decode cX1_firstUncovered 15 = .ok (.if_icmp .ge 23, 3) := dk_162 0 23 (dk_at dksX1_firstUncovered_0 15 rfl rfl)
theorem dX1_firstUncovered_18 : decode cX1_firstUncovered 18 = .ok (.aload_n 0, 1) := dk_42 (dk_at dksX1_firstUncovered_0 18 rfl rfl)
theorem dX1_firstUncovered_19 : decode cX1_firstUncovered 19 = .ok (.getfield 53, 3) := dk_180 0 53 (dk_at dksX1_firstUncovered_0 19 rfl rfl)
theorem dX1_firstUncovered_22 : decode cX1_firstUncovered 22 = .ok (.getfield 362, 3) := dk_180 1 106 (dk_at dksX1_firstUncovered_1 0 rfl rfl)
theorem dX1_firstUncovered_25 : decode cX1_firstUncovered 25 = .ok (.iload_n 1, 1) := dk_27 (dk_at dksX1_firstUncovered_1 3 rfl rfl)
theorem dX1_firstUncovered_26 : decode cX1_firstUncovered 26 = .ok (.iaload, 1) := dk_46 (dk_at dksX1_firstUncovered_1 4 rfl rfl)
theorem dX1_firstUncovered_27 : decode cX1_firstUncovered 27 = .ok (.ifCond .ne 5, 3) := dk_154 0 5 (dk_at dksX1_firstUncovered_1 5 rfl rfl)
theorem dX1_firstUncovered_30 : decode cX1_firstUncovered 30 = .ok (.iload_n 1, 1) := dk_27 (dk_at dksX1_firstUncovered_1 8 rfl rfl)
theorem dX1_firstUncovered_31 : decode cX1_firstUncovered 31 = .ok (.ireturn, 1) := dk_172 (dk_at dksX1_firstUncovered_1 9 rfl rfl)
theorem dX1_firstUncovered_32 : decode cX1_firstUncovered 32 = .ok (.iinc 1 1, 3) := dk_132 1 1 (dk_at dksX1_firstUncovered_1 10 rfl rfl)
theorem dX1_firstUncovered_35 : decode cX1_firstUncovered 35 = .ok (.goto (-33), 3) := dk_167 255 223 (dk_at dksX1_firstUncovered_1 13 rfl rfl)
theorem dX1_firstUncovered_38 : decode cX1_firstUncovered 38 = .ok (.iconst (-1), 1) := dk_2 (dk_at dksX1_firstUncovered_1 16 rfl rfl)
theorem dX1_firstUncovered_39 : decode cX1_firstUncovered 39 = .ok (.ireturn, 1) := dk_172 (dk_at dksX1_firstUncovered_1 17 rfl rfl)
abbrev cX1_mostVisitedState : ByteArray := prog_1_method_63_code
def yX1_mostVisitedState : MethodName := ⟨RX1, "mostVisitedState", "()I"⟩
def dkwX1_mostVisitedState_2 : List UInt8 := [167, 255, 214, 27, 172]
abbrev dktX1_mostVisitedState_2 : List UInt8 := dkwX1_mostVisitedState_2 ++ []
def dkwX1_mostVisitedState_1 : List UInt8 := [180, 1, 112, 28, 46, 42, 180, 0, 53, 180, 1, 112, 27, 46, 164, 0, 5, 28, 60, 132, 2, 1]
abbrev dktX1_mostVisitedState_1 : List UInt8 := dkwX1_mostVisitedState_1 ++ dktX1_mostVisitedState_2
def dkwX1_mostVisitedState_0 : List UInt8 := [3, 60, 4, 61, 28, 42, 180, 0, 46, 180, 0, 170, 185, 0, 224, 1, 0, 162, 0, 32, 42, 180, 0, 53]
abbrev dktX1_mostVisitedState_0 : List UInt8 := dkwX1_mostVisitedState_0 ++ dktX1_mostVisitedState_1
theorem dksX1_mostVisitedState_0 : cX1_mostVisitedState.data.toList.drop 0 = dktX1_mostVisitedState_0 := by decide +kernel
theorem dksX1_mostVisitedState_1 : cX1_mostVisitedState.data.toList.drop 24 = dktX1_mostVisitedState_1 := dk_seg dksX1_mostVisitedState_0 24 rfl rfl
theorem dksX1_mostVisitedState_2 : cX1_mostVisitedState.data.toList.drop 46 = dktX1_mostVisitedState_2 := dk_seg dksX1_mostVisitedState_1 22 rfl rfl
theorem dX1_mostVisitedState_0 : decode cX1_mostVisitedState 0 = .ok (.iconst 0, 1) := dk_3 (dk_at dksX1_mostVisitedState_0 0 rfl rfl)
theorem dX1_mostVisitedState_1 : decode cX1_mostVisitedState 1 = .ok (.istore_n 1, 1) := dk_60 (dk_at dksX1_mostVisitedState_0 1 rfl rfl)
theorem dX1_mostVisitedState_2 : decode cX1_mostVisitedState 2 = .ok (.iconst 1, 1) := dk_4 (dk_at dksX1_mostVisitedState_0 2 rfl rfl)
theorem dX1_mostVisitedState_3 : decode cX1_mostVisitedState 3 = .ok (.istore_n 2, 1) := dk_61 (dk_at dksX1_mostVisitedState_0 3 rfl rfl)
theorem dX1_mostVisitedState_4 : decode cX1_mostVisitedState 4 = .ok (.iload_n 2, 1) := dk_28 (dk_at dksX1_mostVisitedState_0 4 rfl rfl)
theorem dX1_mostVisitedState_5 : decode cX1_mostVisitedState 5 = .ok (.aload_n 0, 1) := dk_42 (dk_at dksX1_mostVisitedState_0 5 rfl rfl)
theorem dX1_mostVisitedState_6 : decode cX1_mostVisitedState 6 = .ok (.getfield 46, 3) := dk_180 0 46 (dk_at dksX1_mostVisitedState_0 6 rfl rfl)
theorem dX1_mostVisitedState_9 : decode cX1_mostVisitedState 9 = .ok (.getfield 170, 3) := dk_180 0 170 (dk_at dksX1_mostVisitedState_0 9 rfl rfl)
theorem dX1_mostVisitedState_12 : decode cX1_mostVisitedState 12 = .ok (.invokeinterface 224 1, 5) := by decide +kernel
theorem dX1_mostVisitedState_17 : decode cX1_mostVisitedState 17 = .ok (.if_icmp .ge 32, 3) := dk_162 0 32 (dk_at dksX1_mostVisitedState_0 17 rfl rfl)
theorem dX1_mostVisitedState_20 : decode cX1_mostVisitedState 20 = .ok (.aload_n 0, 1) := dk_42 (dk_at dksX1_mostVisitedState_0 20 rfl rfl)
theorem dX1_mostVisitedState_21 : decode cX1_mostVisitedState 21 = .ok (.getfield 53, 3) := dk_180 0 53 (dk_at dksX1_mostVisitedState_0 21 rfl rfl)
theorem dX1_mostVisitedState_24 : decode cX1_mostVisitedState 24 = .ok (.getfield 368, 3) := dk_180 1 112 (dk_at dksX1_mostVisitedState_1 0 rfl rfl)
theorem dX1_mostVisitedState_27 : decode cX1_mostVisitedState 27 = .ok (.iload_n 2, 1) := dk_28 (dk_at dksX1_mostVisitedState_1 3 rfl rfl)
theorem dX1_mostVisitedState_28 : decode cX1_mostVisitedState 28 = .ok (.iaload, 1) := dk_46 (dk_at dksX1_mostVisitedState_1 4 rfl rfl)
theorem dX1_mostVisitedState_29 : decode cX1_mostVisitedState 29 = .ok (.aload_n 0, 1) := dk_42 (dk_at dksX1_mostVisitedState_1 5 rfl rfl)
theorem dX1_mostVisitedState_30 : decode cX1_mostVisitedState 30 = .ok (.getfield 53, 3) := dk_180 0 53 (dk_at dksX1_mostVisitedState_1 6 rfl rfl)
theorem dX1_mostVisitedState_33 : decode cX1_mostVisitedState 33 = .ok (.getfield 368, 3) := dk_180 1 112 (dk_at dksX1_mostVisitedState_1 9 rfl rfl)
theorem dX1_mostVisitedState_36 : decode cX1_mostVisitedState 36 = .ok (.iload_n 1, 1) := dk_27 (dk_at dksX1_mostVisitedState_1 12 rfl rfl)
theorem dX1_mostVisitedState_37 : decode cX1_mostVisitedState 37 = .ok (.iaload, 1) := dk_46 (dk_at dksX1_mostVisitedState_1 13 rfl rfl)
theorem dX1_mostVisitedState_38 : decode cX1_mostVisitedState 38 = .ok (.if_icmp .le 5, 3) := dk_164 0 5 (dk_at dksX1_mostVisitedState_1 14 rfl rfl)
theorem dX1_mostVisitedState_41 : decode cX1_mostVisitedState 41 = .ok (.iload_n 2, 1) := dk_28 (dk_at dksX1_mostVisitedState_1 17 rfl rfl)
theorem dX1_mostVisitedState_42 : decode cX1_mostVisitedState 42 = .ok (.istore_n 1, 1) := dk_60 (dk_at dksX1_mostVisitedState_1 18 rfl rfl)
theorem dX1_mostVisitedState_43 : decode cX1_mostVisitedState 43 = .ok (.iinc 2 1, 3) := dk_132 2 1 (dk_at dksX1_mostVisitedState_1 19 rfl rfl)
theorem dX1_mostVisitedState_46 : decode cX1_mostVisitedState 46 = .ok (.goto (-42), 3) := dk_167 255 214 (dk_at dksX1_mostVisitedState_2 0 rfl rfl)
theorem dX1_mostVisitedState_49 : decode cX1_mostVisitedState 49 = .ok (.iload_n 1, 1) := dk_27 (dk_at dksX1_mostVisitedState_2 3 rfl rfl)
theorem dX1_mostVisitedState_50 : decode cX1_mostVisitedState 50 = .ok (.ireturn, 1) := dk_172 (dk_at dksX1_mostVisitedState_2 4 rfl rfl)
abbrev cX1_traceLength : ByteArray := prog_1_method_64_code
def yX1_traceLength : MethodName := ⟨RX1, "traceLength", "()I"⟩
def dkwX1_traceLength_0 : List UInt8 := [42, 180, 0, 53, 180, 1, 129, 172]
abbrev dktX1_traceLength_0 : List UInt8 := dkwX1_traceLength_0 ++ []
theorem dksX1_traceLength_0 : cX1_traceLength.data.toList.drop 0 = dktX1_traceLength_0 := by decide +kernel
theorem dX1_traceLength_0 : decode cX1_traceLength 0 = .ok (.aload_n 0, 1) := dk_42 (dk_at dksX1_traceLength_0 0 rfl rfl)
theorem dX1_traceLength_1 : decode cX1_traceLength 1 = .ok (.getfield 53, 3) := dk_180 0 53 (dk_at dksX1_traceLength_0 1 rfl rfl)
theorem dX1_traceLength_4 : decode cX1_traceLength 4 = .ok (.getfield 385, 3) := dk_180 1 129 (dk_at dksX1_traceLength_0 4 rfl rfl)
theorem dX1_traceLength_7 : decode cX1_traceLength 7 = .ok (.ireturn, 1) := dk_172 (dk_at dksX1_traceLength_0 7 rfl rfl)
abbrev cX1_traceEvent : ByteArray := prog_1_method_65_code
def yX1_traceEvent : MethodName := ⟨RX1, "traceEvent", "(I)I"⟩
def dkwX1_traceEvent_1 : List UInt8 := [180, 1, 132, 27, 46, 167, 0, 4, 2, 172]
abbrev dktX1_traceEvent_1 : List UInt8 := dkwX1_traceEvent_1 ++ []
def dkwX1_traceEvent_0 : List UInt8 := [27, 133, 9, 42, 180, 0, 53, 180, 1, 129, 4, 100, 133, 184, 0, 190, 153, 0, 15, 42, 180, 0, 53]
abbrev dktX1_traceEvent_0 : List UInt8 := dkwX1_traceEvent_0 ++ dktX1_traceEvent_1
theorem dksX1_traceEvent_0 : cX1_traceEvent.data.toList.drop 0 = dktX1_traceEvent_0 := by decide +kernel
theorem dksX1_traceEvent_1 : cX1_traceEvent.data.toList.drop 23 = dktX1_traceEvent_1 := dk_seg dksX1_traceEvent_0 23 rfl rfl
theorem dX1_traceEvent_0 : decode cX1_traceEvent 0 = .ok (.iload_n 1, 1) := dk_27 (dk_at dksX1_traceEvent_0 0 rfl rfl)
theorem dX1_traceEvent_1 : decode cX1_traceEvent 1 = .ok (.i2l, 1) := dk_133 (dk_at dksX1_traceEvent_0 1 rfl rfl)
theorem dX1_traceEvent_2 : decode cX1_traceEvent 2 = .ok (.lconst 0, 1) := dk_9 (dk_at dksX1_traceEvent_0 2 rfl rfl)
theorem dX1_traceEvent_3 : decode cX1_traceEvent 3 = .ok (.aload_n 0, 1) := dk_42 (dk_at dksX1_traceEvent_0 3 rfl rfl)
theorem dX1_traceEvent_4 : decode cX1_traceEvent 4 = .ok (.getfield 53, 3) := dk_180 0 53 (dk_at dksX1_traceEvent_0 4 rfl rfl)
theorem dX1_traceEvent_7 : decode cX1_traceEvent 7 = .ok (.getfield 385, 3) := dk_180 1 129 (dk_at dksX1_traceEvent_0 7 rfl rfl)
theorem dX1_traceEvent_10 : decode cX1_traceEvent 10 = .ok (.iconst 1, 1) := dk_4 (dk_at dksX1_traceEvent_0 10 rfl rfl)
theorem dX1_traceEvent_11 : decode cX1_traceEvent 11 = .ok (.isub, 1) := dk_100 (dk_at dksX1_traceEvent_0 11 rfl rfl)
theorem dX1_traceEvent_12 : decode cX1_traceEvent 12 = .ok (.i2l, 1) := dk_133 (dk_at dksX1_traceEvent_0 12 rfl rfl)
theorem dX1_traceEvent_13 : decode cX1_traceEvent 13 = .ok (.invokestatic 190, 3) := dk_184 0 190 (dk_at dksX1_traceEvent_0 13 rfl rfl)
theorem dX1_traceEvent_16 : decode cX1_traceEvent 16 = .ok (.ifCond .eq 15, 3) := dk_153 0 15 (dk_at dksX1_traceEvent_0 16 rfl rfl)
theorem dX1_traceEvent_19 : decode cX1_traceEvent 19 = .ok (.aload_n 0, 1) := dk_42 (dk_at dksX1_traceEvent_0 19 rfl rfl)
theorem dX1_traceEvent_20 : decode cX1_traceEvent 20 = .ok (.getfield 53, 3) := dk_180 0 53 (dk_at dksX1_traceEvent_0 20 rfl rfl)
theorem dX1_traceEvent_23 : decode cX1_traceEvent 23 = .ok (.getfield 388, 3) := dk_180 1 132 (dk_at dksX1_traceEvent_1 0 rfl rfl)
theorem dX1_traceEvent_26 : decode cX1_traceEvent 26 = .ok (.iload_n 1, 1) := dk_27 (dk_at dksX1_traceEvent_1 3 rfl rfl)
theorem dX1_traceEvent_27 : decode cX1_traceEvent 27 = .ok (.iaload, 1) := dk_46 (dk_at dksX1_traceEvent_1 4 rfl rfl)
theorem dX1_traceEvent_28 : decode cX1_traceEvent 28 = .ok (.goto 4, 3) := dk_167 0 4 (dk_at dksX1_traceEvent_1 5 rfl rfl)
theorem dX1_traceEvent_31 : decode cX1_traceEvent 31 = .ok (.iconst (-1), 1) := dk_2 (dk_at dksX1_traceEvent_1 8 rfl rfl)
theorem dX1_traceEvent_32 : decode cX1_traceEvent 32 = .ok (.ireturn, 1) := dk_172 (dk_at dksX1_traceEvent_1 9 rfl rfl)
abbrev cX1_traceTransition : ByteArray := prog_1_method_66_code
def yX1_traceTransition : MethodName := ⟨RX1, "traceTransition", "(I)I"⟩
def dkwX1_traceTransition_1 : List UInt8 := [180, 1, 135, 27, 46, 167, 0, 4, 2, 172]
abbrev dktX1_traceTransition_1 : List UInt8 := dkwX1_traceTransition_1 ++ []
def dkwX1_traceTransition_0 : List UInt8 := [27, 133, 9, 42, 180, 0, 53, 180, 1, 129, 4, 100, 133, 184, 0, 190, 153, 0, 15, 42, 180, 0, 53]
abbrev dktX1_traceTransition_0 : List UInt8 := dkwX1_traceTransition_0 ++ dktX1_traceTransition_1
theorem dksX1_traceTransition_0 : cX1_traceTransition.data.toList.drop 0 = dktX1_traceTransition_0 := by decide +kernel
theorem dksX1_traceTransition_1 : cX1_traceTransition.data.toList.drop 23 = dktX1_traceTransition_1 := dk_seg dksX1_traceTransition_0 23 rfl rfl
theorem dX1_traceTransition_0 : decode cX1_traceTransition 0 = .ok (.iload_n 1, 1) := dk_27 (dk_at dksX1_traceTransition_0 0 rfl rfl)
theorem dX1_traceTransition_1 : decode cX1_traceTransition 1 = .ok (.i2l, 1) := dk_133 (dk_at dksX1_traceTransition_0 1 rfl rfl)
theorem dX1_traceTransition_2 : decode cX1_traceTransition 2 = .ok (.lconst 0, 1) := dk_9 (dk_at dksX1_traceTransition_0 2 rfl rfl)
theorem dX1_traceTransition_3 : decode cX1_traceTransition 3 = .ok (.aload_n 0, 1) := dk_42 (dk_at dksX1_traceTransition_0 3 rfl rfl)
theorem dX1_traceTransition_4 : decode cX1_traceTransition 4 = .ok (.getfield 53, 3) := dk_180 0 53 (dk_at dksX1_traceTransition_0 4 rfl rfl)
theorem dX1_traceTransition_7 : decode cX1_traceTransition 7 = .ok (.getfield 385, 3) := dk_180 1 129 (dk_at dksX1_traceTransition_0 7 rfl rfl)
theorem dX1_traceTransition_10 : decode cX1_traceTransition 10 = .ok (.iconst 1, 1) := dk_4 (dk_at dksX1_traceTransition_0 10 rfl rfl)
theorem dX1_traceTransition_11 : decode cX1_traceTransition 11 = .ok (.isub, 1) := dk_100 (dk_at dksX1_traceTransition_0 11 rfl rfl)
theorem dX1_traceTransition_12 : decode cX1_traceTransition 12 = .ok (.i2l, 1) := dk_133 (dk_at dksX1_traceTransition_0 12 rfl rfl)
theorem dX1_traceTransition_13 : decode cX1_traceTransition 13 = .ok (.invokestatic 190, 3) := dk_184 0 190 (dk_at dksX1_traceTransition_0 13 rfl rfl)
theorem dX1_traceTransition_16 : decode cX1_traceTransition 16 = .ok (.ifCond .eq 15, 3) := dk_153 0 15 (dk_at dksX1_traceTransition_0 16 rfl rfl)
theorem dX1_traceTransition_19 : decode cX1_traceTransition 19 = .ok (.aload_n 0, 1) := dk_42 (dk_at dksX1_traceTransition_0 19 rfl rfl)
theorem dX1_traceTransition_20 : decode cX1_traceTransition 20 = .ok (.getfield 53, 3) := dk_180 0 53 (dk_at dksX1_traceTransition_0 20 rfl rfl)
theorem dX1_traceTransition_23 : decode cX1_traceTransition 23 = .ok (.getfield 391, 3) := dk_180 1 135 (dk_at dksX1_traceTransition_1 0 rfl rfl)
theorem dX1_traceTransition_26 : decode cX1_traceTransition 26 = .ok (.iload_n 1, 1) := dk_27 (dk_at dksX1_traceTransition_1 3 rfl rfl)
theorem dX1_traceTransition_27 : decode cX1_traceTransition 27 = .ok (.iaload, 1) := dk_46 (dk_at dksX1_traceTransition_1 4 rfl rfl)
theorem dX1_traceTransition_28 : decode cX1_traceTransition 28 = .ok (.goto 4, 3) := dk_167 0 4 (dk_at dksX1_traceTransition_1 5 rfl rfl)
theorem dX1_traceTransition_31 : decode cX1_traceTransition 31 = .ok (.iconst (-1), 1) := dk_2 (dk_at dksX1_traceTransition_1 8 rfl rfl)
theorem dX1_traceTransition_32 : decode cX1_traceTransition 32 = .ok (.ireturn, 1) := dk_172 (dk_at dksX1_traceTransition_1 9 rfl rfl)
abbrev cX1_reachableCount : ByteArray := prog_1_method_68_code
def yX1_reachableCount : MethodName := ⟨RX1, "reachableCount", "()I"⟩
def dkwX1_reachableCount_0 : List UInt8 := [187, 1, 138, 89, 42, 183, 1, 140, 187, 1, 153, 89, 42, 183, 1, 155, 182, 1, 146, 172]
abbrev dktX1_reachableCount_0 : List UInt8 := dkwX1_reachableCount_0 ++ []
theorem dksX1_reachableCount_0 : cX1_reachableCount.data.toList.drop 0 = dktX1_reachableCount_0 := by decide +kernel
theorem dX1_reachableCount_0 : decode cX1_reachableCount 0 = .ok (.new 394, 3) := dk_187 1 138 (dk_at dksX1_reachableCount_0 0 rfl rfl)
theorem dX1_reachableCount_3 : decode cX1_reachableCount 3 = .ok (.dup, 1) := dk_89 (dk_at dksX1_reachableCount_0 3 rfl rfl)
theorem dX1_reachableCount_4 : decode cX1_reachableCount 4 = .ok (.aload_n 0, 1) := dk_42 (dk_at dksX1_reachableCount_0 4 rfl rfl)
theorem dX1_reachableCount_5 : decode cX1_reachableCount 5 = .ok (.invokespecial 396, 3) := dk_183 1 140 (dk_at dksX1_reachableCount_0 5 rfl rfl)
theorem dX1_reachableCount_8 : decode cX1_reachableCount 8 = .ok (.new 409, 3) := dk_187 1 153 (dk_at dksX1_reachableCount_0 8 rfl rfl)
theorem dX1_reachableCount_11 : decode cX1_reachableCount 11 = .ok (.dup, 1) := dk_89 (dk_at dksX1_reachableCount_0 11 rfl rfl)
theorem dX1_reachableCount_12 : decode cX1_reachableCount 12 = .ok (.aload_n 0, 1) := dk_42 (dk_at dksX1_reachableCount_0 12 rfl rfl)
theorem dX1_reachableCount_13 : decode cX1_reachableCount 13 = .ok (.invokespecial 411, 3) := dk_183 1 155 (dk_at dksX1_reachableCount_0 13 rfl rfl)
theorem dX1_reachableCount_16 : decode cX1_reachableCount 16 = .ok (.invokevirtual 402, 3) := dk_182 1 146 (dk_at dksX1_reachableCount_0 16 rfl rfl)
theorem dX1_reachableCount_19 : decode cX1_reachableCount 19 = .ok (.ireturn, 1) := dk_172 (dk_at dksX1_reachableCount_0 19 rfl rfl)
abbrev cX1_deadlockCount : ByteArray := prog_1_method_73_code
def yX1_deadlockCount : MethodName := ⟨RX1, "deadlockCount", "()I"⟩
def dkwX1_deadlockCount_1 : List UInt8 := [60, 42, 180, 1, 164, 172]
abbrev dktX1_deadlockCount_1 : List UInt8 := dkwX1_deadlockCount_1 ++ []
def dkwX1_deadlockCount_0 : List UInt8 := [42, 3, 181, 1, 164, 187, 1, 138, 89, 42, 183, 1, 140, 187, 1, 167, 89, 42, 183, 1, 169, 182, 1, 146]
abbrev dktX1_deadlockCount_0 : List UInt8 := dkwX1_deadlockCount_0 ++ dktX1_deadlockCount_1
theorem dksX1_deadlockCount_0 : cX1_deadlockCount.data.toList.drop 0 = dktX1_deadlockCount_0 := by decide +kernel
theorem dksX1_deadlockCount_1 : cX1_deadlockCount.data.toList.drop 24 = dktX1_deadlockCount_1 := dk_seg dksX1_deadlockCount_0 24 rfl rfl
theorem dX1_deadlockCount_0 : decode cX1_deadlockCount 0 = .ok (.aload_n 0, 1) := dk_42 (dk_at dksX1_deadlockCount_0 0 rfl rfl)
theorem dX1_deadlockCount_1 : decode cX1_deadlockCount 1 = .ok (.iconst 0, 1) := dk_3 (dk_at dksX1_deadlockCount_0 1 rfl rfl)
theorem dX1_deadlockCount_2 : decode cX1_deadlockCount 2 = .ok (.putfield 420, 3) := dk_181 1 164 (dk_at dksX1_deadlockCount_0 2 rfl rfl)
theorem dX1_deadlockCount_5 : decode cX1_deadlockCount 5 = .ok (.new 394, 3) := dk_187 1 138 (dk_at dksX1_deadlockCount_0 5 rfl rfl)
theorem dX1_deadlockCount_8 : decode cX1_deadlockCount 8 = .ok (.dup, 1) := dk_89 (dk_at dksX1_deadlockCount_0 8 rfl rfl)
theorem dX1_deadlockCount_9 : decode cX1_deadlockCount 9 = .ok (.aload_n 0, 1) := dk_42 (dk_at dksX1_deadlockCount_0 9 rfl rfl)
theorem dX1_deadlockCount_10 : decode cX1_deadlockCount 10 = .ok (.invokespecial 396, 3) := dk_183 1 140 (dk_at dksX1_deadlockCount_0 10 rfl rfl)
theorem dX1_deadlockCount_13 : decode cX1_deadlockCount 13 = .ok (.new 423, 3) := dk_187 1 167 (dk_at dksX1_deadlockCount_0 13 rfl rfl)
theorem dX1_deadlockCount_16 : decode cX1_deadlockCount 16 = .ok (.dup, 1) := dk_89 (dk_at dksX1_deadlockCount_0 16 rfl rfl)
theorem dX1_deadlockCount_17 : decode cX1_deadlockCount 17 = .ok (.aload_n 0, 1) := dk_42 (dk_at dksX1_deadlockCount_0 17 rfl rfl)
theorem dX1_deadlockCount_18 : decode cX1_deadlockCount 18 = .ok (.invokespecial 425, 3) := dk_183 1 169 (dk_at dksX1_deadlockCount_0 18 rfl rfl)
theorem dX1_deadlockCount_21 : decode cX1_deadlockCount 21 = .ok (.invokevirtual 402, 3) := dk_182 1 146 (dk_at dksX1_deadlockCount_0 21 rfl rfl)
theorem dX1_deadlockCount_24 : decode cX1_deadlockCount 24 = .ok (.istore_n 1, 1) := dk_60 (dk_at dksX1_deadlockCount_1 0 rfl rfl)
theorem dX1_deadlockCount_25 : decode cX1_deadlockCount 25 = .ok (.aload_n 0, 1) := dk_42 (dk_at dksX1_deadlockCount_1 1 rfl rfl)
theorem dX1_deadlockCount_26 : decode cX1_deadlockCount 26 = .ok (.getfield 420, 3) := dk_180 1 164 (dk_at dksX1_deadlockCount_1 2 rfl rfl)
theorem dX1_deadlockCount_29 : decode cX1_deadlockCount 29 = .ok (.ireturn, 1) := dk_172 (dk_at dksX1_deadlockCount_1 5 rfl rfl)
abbrev cX1_stepsToDeadlock : ByteArray := prog_1_method_74_code
def yX1_stepsToDeadlock : MethodName := ⟨RX1, "stepsToDeadlock", "()I"⟩
def dkwX1_stepsToDeadlock_1 : List UInt8 := [2, 160, 0, 7, 2, 167, 0, 12, 42, 180, 0, 64, 42, 180, 1, 150, 46, 172]
abbrev dktX1_stepsToDeadlock_1 : List UInt8 := dkwX1_stepsToDeadlock_1 ++ []
def dkwX1_stepsToDeadlock_0 : List UInt8 := [187, 1, 138, 89, 42, 183, 1, 140, 187, 1, 170, 89, 42, 183, 1, 172, 182, 1, 146, 60, 42, 180, 1, 150]
abbrev dktX1_stepsToDeadlock_0 : List UInt8 := dkwX1_stepsToDeadlock_0 ++ dktX1_stepsToDeadlock_1
theorem dksX1_stepsToDeadlock_0 : cX1_stepsToDeadlock.data.toList.drop 0 = dktX1_stepsToDeadlock_0 := by decide +kernel
theorem dksX1_stepsToDeadlock_1 : cX1_stepsToDeadlock.data.toList.drop 24 = dktX1_stepsToDeadlock_1 := dk_seg dksX1_stepsToDeadlock_0 24 rfl rfl
theorem dX1_stepsToDeadlock_0 : decode cX1_stepsToDeadlock 0 = .ok (.new 394, 3) := dk_187 1 138 (dk_at dksX1_stepsToDeadlock_0 0 rfl rfl)
theorem dX1_stepsToDeadlock_3 : decode cX1_stepsToDeadlock 3 = .ok (.dup, 1) := dk_89 (dk_at dksX1_stepsToDeadlock_0 3 rfl rfl)
theorem dX1_stepsToDeadlock_4 : decode cX1_stepsToDeadlock 4 = .ok (.aload_n 0, 1) := dk_42 (dk_at dksX1_stepsToDeadlock_0 4 rfl rfl)
theorem dX1_stepsToDeadlock_5 : decode cX1_stepsToDeadlock 5 = .ok (.invokespecial 396, 3) := dk_183 1 140 (dk_at dksX1_stepsToDeadlock_0 5 rfl rfl)
theorem dX1_stepsToDeadlock_8 : decode cX1_stepsToDeadlock 8 = .ok (.new 426, 3) := dk_187 1 170 (dk_at dksX1_stepsToDeadlock_0 8 rfl rfl)
theorem dX1_stepsToDeadlock_11 : decode cX1_stepsToDeadlock 11 = .ok (.dup, 1) := dk_89 (dk_at dksX1_stepsToDeadlock_0 11 rfl rfl)
theorem dX1_stepsToDeadlock_12 : decode cX1_stepsToDeadlock 12 = .ok (.aload_n 0, 1) := dk_42 (dk_at dksX1_stepsToDeadlock_0 12 rfl rfl)
theorem dX1_stepsToDeadlock_13 : decode cX1_stepsToDeadlock 13 = .ok (.invokespecial 428, 3) := dk_183 1 172 (dk_at dksX1_stepsToDeadlock_0 13 rfl rfl)
theorem dX1_stepsToDeadlock_16 : decode cX1_stepsToDeadlock 16 = .ok (.invokevirtual 402, 3) := dk_182 1 146 (dk_at dksX1_stepsToDeadlock_0 16 rfl rfl)
theorem dX1_stepsToDeadlock_19 : decode cX1_stepsToDeadlock 19 = .ok (.istore_n 1, 1) := dk_60 (dk_at dksX1_stepsToDeadlock_0 19 rfl rfl)
theorem dX1_stepsToDeadlock_20 : decode cX1_stepsToDeadlock 20 = .ok (.aload_n 0, 1) := dk_42 (dk_at dksX1_stepsToDeadlock_0 20 rfl rfl)
theorem dX1_stepsToDeadlock_21 : decode cX1_stepsToDeadlock 21 = .ok (.getfield 406, 3) := dk_180 1 150 (dk_at dksX1_stepsToDeadlock_0 21 rfl rfl)
theorem dX1_stepsToDeadlock_24 : decode cX1_stepsToDeadlock 24 = .ok (.iconst (-1), 1) := dk_2 (dk_at dksX1_stepsToDeadlock_1 0 rfl rfl)
theorem dX1_stepsToDeadlock_25 : decode cX1_stepsToDeadlock 25 = .ok (.if_icmp .ne 7, 3) := dk_160 0 7 (dk_at dksX1_stepsToDeadlock_1 1 rfl rfl)
theorem dX1_stepsToDeadlock_28 : decode cX1_stepsToDeadlock 28 = .ok (.iconst (-1), 1) := dk_2 (dk_at dksX1_stepsToDeadlock_1 4 rfl rfl)
theorem dX1_stepsToDeadlock_29 : decode cX1_stepsToDeadlock 29 = .ok (.goto 12, 3) := dk_167 0 12 (dk_at dksX1_stepsToDeadlock_1 5 rfl rfl)
theorem dX1_stepsToDeadlock_32 : decode cX1_stepsToDeadlock 32 = .ok (.aload_n 0, 1) := dk_42 (dk_at dksX1_stepsToDeadlock_1 8 rfl rfl)
theorem dX1_stepsToDeadlock_33 : decode cX1_stepsToDeadlock 33 = .ok (.getfield 64, 3) := dk_180 0 64 (dk_at dksX1_stepsToDeadlock_1 9 rfl rfl)
theorem dX1_stepsToDeadlock_36 : decode cX1_stepsToDeadlock 36 = .ok (.aload_n 0, 1) := dk_42 (dk_at dksX1_stepsToDeadlock_1 12 rfl rfl)
theorem dX1_stepsToDeadlock_37 : decode cX1_stepsToDeadlock 37 = .ok (.getfield 406, 3) := dk_180 1 150 (dk_at dksX1_stepsToDeadlock_1 13 rfl rfl)
theorem dX1_stepsToDeadlock_40 : decode cX1_stepsToDeadlock 40 = .ok (.iaload, 1) := dk_46 (dk_at dksX1_stepsToDeadlock_1 16 rfl rfl)
theorem dX1_stepsToDeadlock_41 : decode cX1_stepsToDeadlock 41 = .ok (.ireturn, 1) := dk_172 (dk_at dksX1_stepsToDeadlock_1 17 rfl rfl)
abbrev cX1_isConsistent : ByteArray := prog_1_method_76_code
def yX1_isConsistent : MethodName := ⟨RX1, "isConsistent", "()Z"⟩
def dkwX1_isConsistent_2 : List UInt8 := [182, 1, 179, 160, 0, 7, 4, 167, 0, 4, 3, 172]
abbrev dktX1_isConsistent_2 : List UInt8 := dkwX1_isConsistent_2 ++ []
def dkwX1_isConsistent_1 : List UInt8 := [27, 153, 0, 32, 42, 182, 1, 173, 153, 0, 25, 187, 1, 138, 89, 42, 183, 1, 140, 182, 1, 176, 42]
abbrev dktX1_isConsistent_1 : List UInt8 := dkwX1_isConsistent_1 ++ dktX1_isConsistent_2
def dkwX1_isConsistent_0 : List UInt8 := [42, 180, 0, 53, 42, 180, 0, 53, 180, 0, 164, 182, 1, 83, 2, 160, 0, 7, 4, 167, 0, 4, 3, 60]
abbrev dktX1_isConsistent_0 : List UInt8 := dkwX1_isConsistent_0 ++ dktX1_isConsistent_1
theorem dksX1_isConsistent_0 : cX1_isConsistent.data.toList.drop 0 = dktX1_isConsistent_0 := by decide +kernel
theorem dksX1_isConsistent_1 : cX1_isConsistent.data.toList.drop 24 = dktX1_isConsistent_1 := dk_seg dksX1_isConsistent_0 24 rfl rfl
theorem dksX1_isConsistent_2 : cX1_isConsistent.data.toList.drop 47 = dktX1_isConsistent_2 := dk_seg dksX1_isConsistent_1 23 rfl rfl
theorem dX1_isConsistent_0 : decode cX1_isConsistent 0 = .ok (.aload_n 0, 1) := dk_42 (dk_at dksX1_isConsistent_0 0 rfl rfl)
theorem dX1_isConsistent_1 : decode cX1_isConsistent 1 = .ok (.getfield 53, 3) := dk_180 0 53 (dk_at dksX1_isConsistent_0 1 rfl rfl)
theorem dX1_isConsistent_4 : decode cX1_isConsistent 4 = .ok (.aload_n 0, 1) := dk_42 (dk_at dksX1_isConsistent_0 4 rfl rfl)
theorem dX1_isConsistent_5 : decode cX1_isConsistent 5 = .ok (.getfield 53, 3) := dk_180 0 53 (dk_at dksX1_isConsistent_0 5 rfl rfl)
theorem dX1_isConsistent_8 : decode cX1_isConsistent 8 = .ok (.getfield 164, 3) := dk_180 0 164 (dk_at dksX1_isConsistent_0 8 rfl rfl)
theorem dX1_isConsistent_11 : decode cX1_isConsistent 11 = .ok (.invokevirtual 339, 3) := dk_182 1 83 (dk_at dksX1_isConsistent_0 11 rfl rfl)
theorem dX1_isConsistent_14 : decode cX1_isConsistent 14 = .ok (.iconst (-1), 1) := dk_2 (dk_at dksX1_isConsistent_0 14 rfl rfl)
theorem dX1_isConsistent_15 : decode cX1_isConsistent 15 = .ok (.if_icmp .ne 7, 3) := dk_160 0 7 (dk_at dksX1_isConsistent_0 15 rfl rfl)
theorem dX1_isConsistent_18 : decode cX1_isConsistent 18 = .ok (.iconst 1, 1) := dk_4 (dk_at dksX1_isConsistent_0 18 rfl rfl)
theorem dX1_isConsistent_19 : decode cX1_isConsistent 19 = .ok (.goto 4, 3) := dk_167 0 4 (dk_at dksX1_isConsistent_0 19 rfl rfl)
theorem dX1_isConsistent_22 : decode cX1_isConsistent 22 = .ok (.iconst 0, 1) := dk_3 (dk_at dksX1_isConsistent_0 22 rfl rfl)
theorem dX1_isConsistent_23 : decode cX1_isConsistent 23 = .ok (.istore_n 1, 1) := dk_60 (dk_at dksX1_isConsistent_0 23 rfl rfl)
theorem dX1_isConsistent_24 : decode cX1_isConsistent 24 = .ok (.iload_n 1, 1) := dk_27 (dk_at dksX1_isConsistent_1 0 rfl rfl)
theorem dX1_isConsistent_25 : decode cX1_isConsistent 25 = .ok (.ifCond .eq 32, 3) := dk_153 0 32 (dk_at dksX1_isConsistent_1 1 rfl rfl)
theorem dX1_isConsistent_28 : decode cX1_isConsistent 28 = .ok (.aload_n 0, 1) := dk_42 (dk_at dksX1_isConsistent_1 4 rfl rfl)
theorem dX1_isConsistent_29 : decode cX1_isConsistent 29 = .ok (.invokevirtual 429, 3) := dk_182 1 173 (dk_at dksX1_isConsistent_1 5 rfl rfl)
theorem dX1_isConsistent_32 : decode cX1_isConsistent 32 = .ok (.ifCond .eq 25, 3) := dk_153 0 25 (dk_at dksX1_isConsistent_1 8 rfl rfl)
theorem dX1_isConsistent_35 : decode cX1_isConsistent 35 = .ok (.new 394, 3) := dk_187 1 138 (dk_at dksX1_isConsistent_1 11 rfl rfl)
theorem dX1_isConsistent_38 : decode cX1_isConsistent 38 = .ok (.dup, 1) := dk_89 (dk_at dksX1_isConsistent_1 14 rfl rfl)
theorem dX1_isConsistent_39 : decode cX1_isConsistent 39 = .ok (.aload_n 0, 1) := dk_42 (dk_at dksX1_isConsistent_1 15 rfl rfl)
theorem dX1_isConsistent_40 : decode cX1_isConsistent 40 = .ok (.invokespecial 396, 3) := dk_183 1 140 (dk_at dksX1_isConsistent_1 16 rfl rfl)
theorem dX1_isConsistent_43 : decode cX1_isConsistent 43 = .ok (.invokevirtual 432, 3) := dk_182 1 176 (dk_at dksX1_isConsistent_1 19 rfl rfl)
theorem dX1_isConsistent_46 : decode cX1_isConsistent 46 = .ok (.aload_n 0, 1) := dk_42 (dk_at dksX1_isConsistent_1 22 rfl rfl)
theorem dX1_isConsistent_47 : decode cX1_isConsistent 47 = .ok (.invokevirtual 435, 3) := dk_182 1 179 (dk_at dksX1_isConsistent_2 0 rfl rfl)
theorem dX1_isConsistent_50 : decode cX1_isConsistent 50 = .ok (.if_icmp .ne 7, 3) := dk_160 0 7 (dk_at dksX1_isConsistent_2 3 rfl rfl)
theorem dX1_isConsistent_53 : decode cX1_isConsistent 53 = .ok (.iconst 1, 1) := dk_4 (dk_at dksX1_isConsistent_2 6 rfl rfl)
theorem dX1_isConsistent_54 : decode cX1_isConsistent 54 = .ok (.goto 4, 3) := dk_167 0 4 (dk_at dksX1_isConsistent_2 7 rfl rfl)
theorem dX1_isConsistent_57 : decode cX1_isConsistent 57 = .ok (.iconst 0, 1) := dk_3 (dk_at dksX1_isConsistent_2 10 rfl rfl)
theorem dX1_isConsistent_58 : decode cX1_isConsistent 58 = .ok (.ireturn, 1) := dk_172 (dk_at dksX1_isConsistent_2 11 rfl rfl)
abbrev cX1_areAccountsConsistent : ByteArray := prog_1_method_75_code
def yX1_areAccountsConsistent : MethodName := ⟨RX1, "areAccountsConsistent", "()Z"⟩
def dkwX1_areAccountsConsistent_5 : List UInt8 := [167, 0, 4, 3, 172]
abbrev dktX1_areAccountsConsistent_5 : List UInt8 := dkwX1_areAccountsConsistent_5 ++ []
def dkwX1_areAccountsConsistent_4 : List UInt8 := [180, 0, 53, 180, 1, 115, 4, 96, 160, 0, 19, 42, 180, 0, 53, 180, 1, 126, 3, 46, 154, 0, 7, 4]
abbrev dktX1_areAccountsConsistent_4 : List UInt8 := dkwX1_areAccountsConsistent_4 ++ dktX1_areAccountsConsistent_5
def dkwX1_areAccountsConsistent_3 : List UInt8 := [28, 21, 6, 96, 61, 132, 5, 1, 167, 255, 235, 27, 42, 180, 0, 53, 180, 1, 115, 160, 0, 32, 28, 42]
abbrev dktX1_areAccountsConsistent_3 : List UInt8 := dkwX1_areAccountsConsistent_3 ++ dktX1_areAccountsConsistent_4
def dkwX1_areAccountsConsistent_2 : List UInt8 := [180, 1, 112, 78, 45, 190, 54, 4, 3, 54, 5, 21, 5, 21, 4, 162, 0, 20, 45, 21, 5, 46, 54, 6]
abbrev dktX1_areAccountsConsistent_2 : List UInt8 := dkwX1_areAccountsConsistent_2 ++ dktX1_areAccountsConsistent_3
def dkwX1_areAccountsConsistent_1 : List UInt8 := [162, 0, 20, 45, 21, 5, 46, 54, 6, 27, 21, 6, 96, 60, 132, 5, 1, 167, 255, 235, 42, 180, 0, 53]
abbrev dktX1_areAccountsConsistent_1 : List UInt8 := dkwX1_areAccountsConsistent_1 ++ dktX1_areAccountsConsistent_2
def dkwX1_areAccountsConsistent_0 : List UInt8 := [3, 60, 3, 61, 42, 180, 0, 53, 180, 1, 106, 78, 45, 190, 54, 4, 3, 54, 5, 21, 5, 21, 4]
abbrev dktX1_areAccountsConsistent_0 : List UInt8 := dkwX1_areAccountsConsistent_0 ++ dktX1_areAccountsConsistent_1
theorem dksX1_areAccountsConsistent_0 : cX1_areAccountsConsistent.data.toList.drop 0 = dktX1_areAccountsConsistent_0 := by decide +kernel
theorem dksX1_areAccountsConsistent_1 : cX1_areAccountsConsistent.data.toList.drop 23 = dktX1_areAccountsConsistent_1 := dk_seg dksX1_areAccountsConsistent_0 23 rfl rfl
theorem dksX1_areAccountsConsistent_2 : cX1_areAccountsConsistent.data.toList.drop 47 = dktX1_areAccountsConsistent_2 := dk_seg dksX1_areAccountsConsistent_1 24 rfl rfl
theorem dksX1_areAccountsConsistent_3 : cX1_areAccountsConsistent.data.toList.drop 71 = dktX1_areAccountsConsistent_3 := dk_seg dksX1_areAccountsConsistent_2 24 rfl rfl
theorem dksX1_areAccountsConsistent_4 : cX1_areAccountsConsistent.data.toList.drop 95 = dktX1_areAccountsConsistent_4 := dk_seg dksX1_areAccountsConsistent_3 24 rfl rfl
theorem dksX1_areAccountsConsistent_5 : cX1_areAccountsConsistent.data.toList.drop 119 = dktX1_areAccountsConsistent_5 := dk_seg dksX1_areAccountsConsistent_4 24 rfl rfl
theorem dX1_areAccountsConsistent_0 : decode cX1_areAccountsConsistent 0 = .ok (.iconst 0, 1) := dk_3 (dk_at dksX1_areAccountsConsistent_0 0 rfl rfl)
theorem dX1_areAccountsConsistent_1 : decode cX1_areAccountsConsistent 1 = .ok (.istore_n 1, 1) := dk_60 (dk_at dksX1_areAccountsConsistent_0 1 rfl rfl)
theorem dX1_areAccountsConsistent_2 : decode cX1_areAccountsConsistent 2 = .ok (.iconst 0, 1) := dk_3 (dk_at dksX1_areAccountsConsistent_0 2 rfl rfl)
theorem dX1_areAccountsConsistent_3 : decode cX1_areAccountsConsistent 3 = .ok (.istore_n 2, 1) := dk_61 (dk_at dksX1_areAccountsConsistent_0 3 rfl rfl)
theorem dX1_areAccountsConsistent_4 : decode cX1_areAccountsConsistent 4 = .ok (.aload_n 0, 1) := dk_42 (dk_at dksX1_areAccountsConsistent_0 4 rfl rfl)
theorem dX1_areAccountsConsistent_5 : decode cX1_areAccountsConsistent 5 = .ok (.getfield 53, 3) := dk_180 0 53 (dk_at dksX1_areAccountsConsistent_0 5 rfl rfl)
theorem dX1_areAccountsConsistent_8 : decode cX1_areAccountsConsistent 8 = .ok (.getfield 362, 3) := dk_180 1 106 (dk_at dksX1_areAccountsConsistent_0 8 rfl rfl)
theorem dX1_areAccountsConsistent_11 : decode cX1_areAccountsConsistent 11 = .ok (.astore_n 3, 1) := dk_78 (dk_at dksX1_areAccountsConsistent_0 11 rfl rfl)
theorem dX1_areAccountsConsistent_12 : decode cX1_areAccountsConsistent 12 = .ok (.aload_n 3, 1) := dk_45 (dk_at dksX1_areAccountsConsistent_0 12 rfl rfl)
theorem dX1_areAccountsConsistent_13 : decode cX1_areAccountsConsistent 13 = .ok (.arraylength, 1) := dk_190 (dk_at dksX1_areAccountsConsistent_0 13 rfl rfl)
theorem dX1_areAccountsConsistent_14 : decode cX1_areAccountsConsistent 14 = .ok (.istore 4, 2) := dk_54 4 (dk_at dksX1_areAccountsConsistent_0 14 rfl rfl)
theorem dX1_areAccountsConsistent_16 : decode cX1_areAccountsConsistent 16 = .ok (.iconst 0, 1) := dk_3 (dk_at dksX1_areAccountsConsistent_0 16 rfl rfl)
theorem dX1_areAccountsConsistent_17 : decode cX1_areAccountsConsistent 17 = .ok (.istore 5, 2) := dk_54 5 (dk_at dksX1_areAccountsConsistent_0 17 rfl rfl)
theorem dX1_areAccountsConsistent_19 : decode cX1_areAccountsConsistent 19 = .ok (.iload 5, 2) := dk_21 5 (dk_at dksX1_areAccountsConsistent_0 19 rfl rfl)
theorem dX1_areAccountsConsistent_21 : decode cX1_areAccountsConsistent 21 = .ok (.iload 4, 2) := dk_21 4 (dk_at dksX1_areAccountsConsistent_0 21 rfl rfl)
theorem dX1_areAccountsConsistent_23 : decode cX1_areAccountsConsistent 23 = .ok (.if_icmp .ge 20, 3) := dk_162 0 20 (dk_at dksX1_areAccountsConsistent_1 0 rfl rfl)
theorem dX1_areAccountsConsistent_26 : decode cX1_areAccountsConsistent 26 = .ok (.aload_n 3, 1) := dk_45 (dk_at dksX1_areAccountsConsistent_1 3 rfl rfl)
theorem dX1_areAccountsConsistent_27 : decode cX1_areAccountsConsistent 27 = .ok (.iload 5, 2) := dk_21 5 (dk_at dksX1_areAccountsConsistent_1 4 rfl rfl)
theorem dX1_areAccountsConsistent_29 : decode cX1_areAccountsConsistent 29 = .ok (.iaload, 1) := dk_46 (dk_at dksX1_areAccountsConsistent_1 6 rfl rfl)
theorem dX1_areAccountsConsistent_30 : decode cX1_areAccountsConsistent 30 = .ok (.istore 6, 2) := dk_54 6 (dk_at dksX1_areAccountsConsistent_1 7 rfl rfl)
theorem dX1_areAccountsConsistent_32 : decode cX1_areAccountsConsistent 32 = .ok (.iload_n 1, 1) := dk_27 (dk_at dksX1_areAccountsConsistent_1 9 rfl rfl)
theorem dX1_areAccountsConsistent_33 : decode cX1_areAccountsConsistent 33 = .ok (.iload 6, 2) := dk_21 6 (dk_at dksX1_areAccountsConsistent_1 10 rfl rfl)
theorem dX1_areAccountsConsistent_35 : decode cX1_areAccountsConsistent 35 = .ok (.iadd, 1) := dk_96 (dk_at dksX1_areAccountsConsistent_1 12 rfl rfl)
theorem dX1_areAccountsConsistent_36 : decode cX1_areAccountsConsistent 36 = .ok (.istore_n 1, 1) := dk_60 (dk_at dksX1_areAccountsConsistent_1 13 rfl rfl)
theorem dX1_areAccountsConsistent_37 : decode cX1_areAccountsConsistent 37 = .ok (.iinc 5 1, 3) := dk_132 5 1 (dk_at dksX1_areAccountsConsistent_1 14 rfl rfl)
theorem dX1_areAccountsConsistent_40 : decode cX1_areAccountsConsistent 40 = .ok (.goto (-21), 3) := dk_167 255 235 (dk_at dksX1_areAccountsConsistent_1 17 rfl rfl)
theorem dX1_areAccountsConsistent_43 : decode cX1_areAccountsConsistent 43 = .ok (.aload_n 0, 1) := dk_42 (dk_at dksX1_areAccountsConsistent_1 20 rfl rfl)
theorem dX1_areAccountsConsistent_44 : decode cX1_areAccountsConsistent 44 = .ok (.getfield 53, 3) := dk_180 0 53 (dk_at dksX1_areAccountsConsistent_1 21 rfl rfl)
theorem dX1_areAccountsConsistent_47 : decode cX1_areAccountsConsistent 47 = .ok (.getfield 368, 3) := dk_180 1 112 (dk_at dksX1_areAccountsConsistent_2 0 rfl rfl)
theorem dX1_areAccountsConsistent_50 : decode cX1_areAccountsConsistent 50 = .ok (.astore_n 3, 1) := dk_78 (dk_at dksX1_areAccountsConsistent_2 3 rfl rfl)
theorem dX1_areAccountsConsistent_51 : decode cX1_areAccountsConsistent 51 = .ok (.aload_n 3, 1) := dk_45 (dk_at dksX1_areAccountsConsistent_2 4 rfl rfl)
theorem dX1_areAccountsConsistent_52 : decode cX1_areAccountsConsistent 52 = .ok (.arraylength, 1) := dk_190 (dk_at dksX1_areAccountsConsistent_2 5 rfl rfl)
theorem dX1_areAccountsConsistent_53 : decode cX1_areAccountsConsistent 53 = .ok (.istore 4, 2) := dk_54 4 (dk_at dksX1_areAccountsConsistent_2 6 rfl rfl)
theorem dX1_areAccountsConsistent_55 : decode cX1_areAccountsConsistent 55 = .ok (.iconst 0, 1) := dk_3 (dk_at dksX1_areAccountsConsistent_2 8 rfl rfl)
theorem dX1_areAccountsConsistent_56 : decode cX1_areAccountsConsistent 56 = .ok (.istore 5, 2) := dk_54 5 (dk_at dksX1_areAccountsConsistent_2 9 rfl rfl)
theorem dX1_areAccountsConsistent_58 : decode cX1_areAccountsConsistent 58 = .ok (.iload 5, 2) := dk_21 5 (dk_at dksX1_areAccountsConsistent_2 11 rfl rfl)
theorem dX1_areAccountsConsistent_60 : decode cX1_areAccountsConsistent 60 = .ok (.iload 4, 2) := dk_21 4 (dk_at dksX1_areAccountsConsistent_2 13 rfl rfl)
theorem dX1_areAccountsConsistent_62 : decode cX1_areAccountsConsistent 62 = .ok (.if_icmp .ge 20, 3) := dk_162 0 20 (dk_at dksX1_areAccountsConsistent_2 15 rfl rfl)
theorem dX1_areAccountsConsistent_65 : decode cX1_areAccountsConsistent 65 = .ok (.aload_n 3, 1) := dk_45 (dk_at dksX1_areAccountsConsistent_2 18 rfl rfl)
theorem dX1_areAccountsConsistent_66 : decode cX1_areAccountsConsistent 66 = .ok (.iload 5, 2) := dk_21 5 (dk_at dksX1_areAccountsConsistent_2 19 rfl rfl)
theorem dX1_areAccountsConsistent_68 : decode cX1_areAccountsConsistent 68 = .ok (.iaload, 1) := dk_46 (dk_at dksX1_areAccountsConsistent_2 21 rfl rfl)
theorem dX1_areAccountsConsistent_69 : decode cX1_areAccountsConsistent 69 = .ok (.istore 6, 2) := dk_54 6 (dk_at dksX1_areAccountsConsistent_2 22 rfl rfl)
theorem dX1_areAccountsConsistent_71 : decode cX1_areAccountsConsistent 71 = .ok (.iload_n 2, 1) := dk_28 (dk_at dksX1_areAccountsConsistent_3 0 rfl rfl)
theorem dX1_areAccountsConsistent_72 : decode cX1_areAccountsConsistent 72 = .ok (.iload 6, 2) := dk_21 6 (dk_at dksX1_areAccountsConsistent_3 1 rfl rfl)
theorem dX1_areAccountsConsistent_74 : decode cX1_areAccountsConsistent 74 = .ok (.iadd, 1) := dk_96 (dk_at dksX1_areAccountsConsistent_3 3 rfl rfl)
theorem dX1_areAccountsConsistent_75 : decode cX1_areAccountsConsistent 75 = .ok (.istore_n 2, 1) := dk_61 (dk_at dksX1_areAccountsConsistent_3 4 rfl rfl)
theorem dX1_areAccountsConsistent_76 : decode cX1_areAccountsConsistent 76 = .ok (.iinc 5 1, 3) := dk_132 5 1 (dk_at dksX1_areAccountsConsistent_3 5 rfl rfl)
theorem dX1_areAccountsConsistent_79 : decode cX1_areAccountsConsistent 79 = .ok (.goto (-21), 3) := dk_167 255 235 (dk_at dksX1_areAccountsConsistent_3 8 rfl rfl)
theorem dX1_areAccountsConsistent_82 : decode cX1_areAccountsConsistent 82 = .ok (.iload_n 1, 1) := dk_27 (dk_at dksX1_areAccountsConsistent_3 11 rfl rfl)
theorem dX1_areAccountsConsistent_83 : decode cX1_areAccountsConsistent 83 = .ok (.aload_n 0, 1) := dk_42 (dk_at dksX1_areAccountsConsistent_3 12 rfl rfl)
theorem dX1_areAccountsConsistent_84 : decode cX1_areAccountsConsistent 84 = .ok (.getfield 53, 3) := dk_180 0 53 (dk_at dksX1_areAccountsConsistent_3 13 rfl rfl)
theorem dX1_areAccountsConsistent_87 : decode cX1_areAccountsConsistent 87 = .ok (.getfield 371, 3) := dk_180 1 115 (dk_at dksX1_areAccountsConsistent_3 16 rfl rfl)
theorem dX1_areAccountsConsistent_90 : decode cX1_areAccountsConsistent 90 = .ok (.if_icmp .ne 32, 3) := dk_160 0 32 (dk_at dksX1_areAccountsConsistent_3 19 rfl rfl)
theorem dX1_areAccountsConsistent_93 : decode cX1_areAccountsConsistent 93 = .ok (.iload_n 2, 1) := dk_28 (dk_at dksX1_areAccountsConsistent_3 22 rfl rfl)
theorem dX1_areAccountsConsistent_94 : decode cX1_areAccountsConsistent 94 = .ok (.aload_n 0, 1) := dk_42 (dk_at dksX1_areAccountsConsistent_3 23 rfl rfl)
theorem dX1_areAccountsConsistent_95 : decode cX1_areAccountsConsistent 95 = .ok (.getfield 53, 3) := dk_180 0 53 (dk_at dksX1_areAccountsConsistent_4 0 rfl rfl)
theorem dX1_areAccountsConsistent_98 : decode cX1_areAccountsConsistent 98 = .ok (.getfield 371, 3) := dk_180 1 115 (dk_at dksX1_areAccountsConsistent_4 3 rfl rfl)
theorem dX1_areAccountsConsistent_101 : decode cX1_areAccountsConsistent 101 = .ok (.iconst 1, 1) := dk_4 (dk_at dksX1_areAccountsConsistent_4 6 rfl rfl)
theorem dX1_areAccountsConsistent_102 : decode cX1_areAccountsConsistent 102 = .ok (.iadd, 1) := dk_96 (dk_at dksX1_areAccountsConsistent_4 7 rfl rfl)
theorem dX1_areAccountsConsistent_103 : decode cX1_areAccountsConsistent 103 = .ok (.if_icmp .ne 19, 3) := dk_160 0 19 (dk_at dksX1_areAccountsConsistent_4 8 rfl rfl)
theorem dX1_areAccountsConsistent_106 : decode cX1_areAccountsConsistent 106 = .ok (.aload_n 0, 1) := dk_42 (dk_at dksX1_areAccountsConsistent_4 11 rfl rfl)
theorem dX1_areAccountsConsistent_107 : decode cX1_areAccountsConsistent 107 = .ok (.getfield 53, 3) := dk_180 0 53 (dk_at dksX1_areAccountsConsistent_4 12 rfl rfl)
theorem dX1_areAccountsConsistent_110 : decode cX1_areAccountsConsistent 110 = .ok (.getfield 382, 3) := dk_180 1 126 (dk_at dksX1_areAccountsConsistent_4 15 rfl rfl)
theorem dX1_areAccountsConsistent_113 : decode cX1_areAccountsConsistent 113 = .ok (.iconst 0, 1) := dk_3 (dk_at dksX1_areAccountsConsistent_4 18 rfl rfl)
theorem dX1_areAccountsConsistent_114 : decode cX1_areAccountsConsistent 114 = .ok (.iaload, 1) := dk_46 (dk_at dksX1_areAccountsConsistent_4 19 rfl rfl)
theorem dX1_areAccountsConsistent_115 : decode cX1_areAccountsConsistent 115 = .ok (.ifCond .ne 7, 3) := dk_154 0 7 (dk_at dksX1_areAccountsConsistent_4 20 rfl rfl)
theorem dX1_areAccountsConsistent_118 : decode cX1_areAccountsConsistent 118 = .ok (.iconst 1, 1) := dk_4 (dk_at dksX1_areAccountsConsistent_4 23 rfl rfl)
theorem dX1_areAccountsConsistent_119 : decode cX1_areAccountsConsistent 119 = .ok (.goto 4, 3) := dk_167 0 4 (dk_at dksX1_areAccountsConsistent_5 0 rfl rfl)
theorem dX1_areAccountsConsistent_122 : decode cX1_areAccountsConsistent 122 = .ok (.iconst 0, 1) := dk_3 (dk_at dksX1_areAccountsConsistent_5 3 rfl rfl)
theorem dX1_areAccountsConsistent_123 : decode cX1_areAccountsConsistent 123 = .ok (.ireturn, 1) := dk_172 (dk_at dksX1_areAccountsConsistent_5 4 rfl rfl)
abbrev cX1_meanValue : ByteArray := prog_1_method_77_code
def yX1_meanValue : MethodName := ⟨RX1, "meanValue", "()D"⟩
def dkwX1_meanValue_2 : List UInt8 := [180, 1, 9, 185, 0, 224, 1, 0, 135, 111, 175]
abbrev dktX1_meanValue_2 : List UInt8 := dkwX1_meanValue_2 ++ []
def dkwX1_meanValue_1 : List UInt8 := [180, 0, 53, 182, 1, 33, 28, 184, 1, 36, 96, 60, 132, 2, 1, 167, 255, 223, 27, 135, 42, 180, 0, 46]
abbrev dktX1_meanValue_1 : List UInt8 := dkwX1_meanValue_1 ++ dktX1_meanValue_2
def dkwX1_meanValue_0 : List UInt8 := [3, 60, 3, 61, 28, 42, 180, 0, 46, 180, 1, 9, 185, 0, 224, 1, 0, 162, 0, 23, 27, 42]
abbrev dktX1_meanValue_0 : List UInt8 := dkwX1_meanValue_0 ++ dktX1_meanValue_1
theorem dksX1_meanValue_0 : cX1_meanValue.data.toList.drop 0 = dktX1_meanValue_0 := by decide +kernel
theorem dksX1_meanValue_1 : cX1_meanValue.data.toList.drop 22 = dktX1_meanValue_1 := dk_seg dksX1_meanValue_0 22 rfl rfl
theorem dksX1_meanValue_2 : cX1_meanValue.data.toList.drop 46 = dktX1_meanValue_2 := dk_seg dksX1_meanValue_1 24 rfl rfl
theorem dX1_meanValue_0 : decode cX1_meanValue 0 = .ok (.iconst 0, 1) := dk_3 (dk_at dksX1_meanValue_0 0 rfl rfl)
theorem dX1_meanValue_1 : decode cX1_meanValue 1 = .ok (.istore_n 1, 1) := dk_60 (dk_at dksX1_meanValue_0 1 rfl rfl)
theorem dX1_meanValue_2 : decode cX1_meanValue 2 = .ok (.iconst 0, 1) := dk_3 (dk_at dksX1_meanValue_0 2 rfl rfl)
theorem dX1_meanValue_3 : decode cX1_meanValue 3 = .ok (.istore_n 2, 1) := dk_61 (dk_at dksX1_meanValue_0 3 rfl rfl)
theorem dX1_meanValue_4 : decode cX1_meanValue 4 = .ok (.iload_n 2, 1) := dk_28 (dk_at dksX1_meanValue_0 4 rfl rfl)
theorem dX1_meanValue_5 : decode cX1_meanValue 5 = .ok (.aload_n 0, 1) := dk_42 (dk_at dksX1_meanValue_0 5 rfl rfl)
theorem dX1_meanValue_6 : decode cX1_meanValue 6 = .ok (.getfield 46, 3) := dk_180 0 46 (dk_at dksX1_meanValue_0 6 rfl rfl)
theorem dX1_meanValue_9 : decode cX1_meanValue 9 = .ok (.getfield 265, 3) := dk_180 1 9 (dk_at dksX1_meanValue_0 9 rfl rfl)
theorem dX1_meanValue_12 : decode cX1_meanValue 12 = .ok (.invokeinterface 224 1, 5) := by decide +kernel
theorem dX1_meanValue_17 : decode cX1_meanValue 17 = .ok (.if_icmp .ge 23, 3) := dk_162 0 23 (dk_at dksX1_meanValue_0 17 rfl rfl)
theorem dX1_meanValue_20 : decode cX1_meanValue 20 = .ok (.iload_n 1, 1) := dk_27 (dk_at dksX1_meanValue_0 20 rfl rfl)
theorem dX1_meanValue_21 : decode cX1_meanValue 21 = .ok (.aload_n 0, 1) := dk_42 (dk_at dksX1_meanValue_0 21 rfl rfl)
theorem dX1_meanValue_22 : decode cX1_meanValue 22 = .ok (.getfield 53, 3) := dk_180 0 53 (dk_at dksX1_meanValue_1 0 rfl rfl)
theorem dX1_meanValue_25 : decode cX1_meanValue 25 = .ok (.invokevirtual 289, 3) := dk_182 1 33 (dk_at dksX1_meanValue_1 3 rfl rfl)
theorem dX1_meanValue_28 : decode cX1_meanValue 28 = .ok (.iload_n 2, 1) := dk_28 (dk_at dksX1_meanValue_1 6 rfl rfl)
theorem dX1_meanValue_29 : decode cX1_meanValue 29 = .ok (.invokestatic 292, 3) := dk_184 1 36 (dk_at dksX1_meanValue_1 7 rfl rfl)
theorem dX1_meanValue_32 : decode cX1_meanValue 32 = .ok (.iadd, 1) := dk_96 (dk_at dksX1_meanValue_1 10 rfl rfl)
theorem dX1_meanValue_33 : decode cX1_meanValue 33 = .ok (.istore_n 1, 1) := dk_60 (dk_at dksX1_meanValue_1 11 rfl rfl)
theorem dX1_meanValue_34 : decode cX1_meanValue 34 = .ok (.iinc 2 1, 3) := dk_132 2 1 (dk_at dksX1_meanValue_1 12 rfl rfl)
theorem dX1_meanValue_37 : decode cX1_meanValue 37 = .ok (.goto (-33), 3) := dk_167 255 223 (dk_at dksX1_meanValue_1 15 rfl rfl)
theorem dX1_meanValue_40 : decode cX1_meanValue 40 = .ok (.iload_n 1, 1) := dk_27 (dk_at dksX1_meanValue_1 18 rfl rfl)
theorem dX1_meanValue_41 : decode cX1_meanValue 41 = .ok (.i2d, 1) := dk_135 (dk_at dksX1_meanValue_1 19 rfl rfl)
theorem dX1_meanValue_42 : decode cX1_meanValue 42 = .ok (.aload_n 0, 1) := dk_42 (dk_at dksX1_meanValue_1 20 rfl rfl)
theorem dX1_meanValue_43 : decode cX1_meanValue 43 = .ok (.getfield 46, 3) := dk_180 0 46 (dk_at dksX1_meanValue_1 21 rfl rfl)
theorem dX1_meanValue_46 : decode cX1_meanValue 46 = .ok (.getfield 265, 3) := dk_180 1 9 (dk_at dksX1_meanValue_2 0 rfl rfl)
theorem dX1_meanValue_49 : decode cX1_meanValue 49 = .ok (.invokeinterface 224 1, 5) := by decide +kernel
theorem dX1_meanValue_54 : decode cX1_meanValue 54 = .ok (.i2d, 1) := dk_135 (dk_at dksX1_meanValue_2 8 rfl rfl)
theorem dX1_meanValue_55 : decode cX1_meanValue 55 = .ok (.ddiv, 1) := dk_111 (dk_at dksX1_meanValue_2 9 rfl rfl)
theorem dX1_meanValue_56 : decode cX1_meanValue 56 = .ok (.dreturn, 1) := dk_175 (dk_at dksX1_meanValue_2 10 rfl rfl)
abbrev cX1_reset : ByteArray := prog_1_method_85_code
def yX1_reset : MethodName := ⟨RX1, "reset", "()I"⟩
def dkwX1_reset_0 : List UInt8 := [42, 182, 0, 241, 76, 42, 182, 1, 220, 172]
abbrev dktX1_reset_0 : List UInt8 := dkwX1_reset_0 ++ []
theorem dksX1_reset_0 : cX1_reset.data.toList.drop 0 = dktX1_reset_0 := by decide +kernel
theorem dX1_reset_0 : decode cX1_reset 0 = .ok (.aload_n 0, 1) := dk_42 (dk_at dksX1_reset_0 0 rfl rfl)
theorem dX1_reset_1 : decode cX1_reset 1 = .ok (.invokevirtual 241, 3) := dk_182 0 241 (dk_at dksX1_reset_0 1 rfl rfl)
theorem dX1_reset_4 : decode cX1_reset 4 = .ok (.astore_n 1, 1) := dk_76 (dk_at dksX1_reset_0 4 rfl rfl)
theorem dX1_reset_5 : decode cX1_reset 5 = .ok (.aload_n 0, 1) := dk_42 (dk_at dksX1_reset_0 5 rfl rfl)
theorem dX1_reset_6 : decode cX1_reset 6 = .ok (.invokevirtual 476, 3) := dk_182 1 220 (dk_at dksX1_reset_0 6 rfl rfl)
theorem dX1_reset_9 : decode cX1_reset 9 = .ok (.ireturn, 1) := dk_172 (dk_at dksX1_reset_0 9 rfl rfl)
abbrev cX1_clearCoverage : ByteArray := prog_1_method_86_code
def yX1_clearCoverage : MethodName := ⟨RX1, "clearCoverage", "()I"⟩
def dkwX1_clearCoverage_0 : List UInt8 := [42, 182, 0, 241, 76, 43, 180, 1, 115, 61, 43, 182, 0, 167, 28, 172]
abbrev dktX1_clearCoverage_0 : List UInt8 := dkwX1_clearCoverage_0 ++ []
theorem dksX1_clearCoverage_0 : cX1_clearCoverage.data.toList.drop 0 = dktX1_clearCoverage_0 := by decide +kernel
theorem dX1_clearCoverage_0 : decode cX1_clearCoverage 0 = .ok (.aload_n 0, 1) := dk_42 (dk_at dksX1_clearCoverage_0 0 rfl rfl)
theorem dX1_clearCoverage_1 : decode cX1_clearCoverage 1 = .ok (.invokevirtual 241, 3) := dk_182 0 241 (dk_at dksX1_clearCoverage_0 1 rfl rfl)
theorem dX1_clearCoverage_4 : decode cX1_clearCoverage 4 = .ok (.astore_n 1, 1) := dk_76 (dk_at dksX1_clearCoverage_0 4 rfl rfl)
theorem dX1_clearCoverage_5 : decode cX1_clearCoverage 5 = .ok (.aload_n 1, 1) := dk_43 (dk_at dksX1_clearCoverage_0 5 rfl rfl)
theorem dX1_clearCoverage_6 : decode cX1_clearCoverage 6 = .ok (.getfield 371, 3) := dk_180 1 115 (dk_at dksX1_clearCoverage_0 6 rfl rfl)
theorem dX1_clearCoverage_9 : decode cX1_clearCoverage 9 = .ok (.istore_n 2, 1) := dk_61 (dk_at dksX1_clearCoverage_0 9 rfl rfl)
theorem dX1_clearCoverage_10 : decode cX1_clearCoverage 10 = .ok (.aload_n 1, 1) := dk_43 (dk_at dksX1_clearCoverage_0 10 rfl rfl)
theorem dX1_clearCoverage_11 : decode cX1_clearCoverage 11 = .ok (.invokevirtual 167, 3) := dk_182 0 167 (dk_at dksX1_clearCoverage_0 11 rfl rfl)
theorem dX1_clearCoverage_14 : decode cX1_clearCoverage 14 = .ok (.iload_n 2, 1) := dk_28 (dk_at dksX1_clearCoverage_0 14 rfl rfl)
theorem dX1_clearCoverage_15 : decode cX1_clearCoverage 15 = .ok (.ireturn, 1) := dk_172 (dk_at dksX1_clearCoverage_0 15 rfl rfl)
abbrev cX1_writeConfiguration : ByteArray := prog_1_method_90_code
def yX1_writeConfiguration : MethodName := ⟨RX1, "writeConfiguration", "()I"⟩
def dkwX1_writeConfiguration_5 : List UInt8 := [172]
abbrev dktX1_writeConfiguration_5 : List UInt8 := dkwX1_writeConfiguration_5 ++ []
def dkwX1_writeConfiguration_4 : List UInt8 := [182, 1, 33, 27, 184, 1, 36, 182, 1, 250, 87, 132, 1, 1, 167, 255, 189, 42, 180, 0, 77, 182, 1, 253]
abbrev dktX1_writeConfiguration_4 : List UInt8 := dkwX1_writeConfiguration_4 ++ dktX1_writeConfiguration_5
def dkwX1_writeConfiguration_3 : List UInt8 := [180, 1, 9, 27, 185, 1, 12, 2, 0, 192, 0, 81, 182, 1, 244, 16, 61, 182, 1, 247, 42, 180, 0, 53]
abbrev dktX1_writeConfiguration_3 : List UInt8 := dkwX1_writeConfiguration_3 ++ dktX1_writeConfiguration_4
def dkwX1_writeConfiguration_2 : List UInt8 := [180, 1, 9, 185, 0, 224, 1, 0, 162, 0, 57, 42, 180, 0, 77, 16, 32, 182, 1, 247, 42, 180, 0, 46]
abbrev dktX1_writeConfiguration_2 : List UInt8 := dkwX1_writeConfiguration_2 ++ dktX1_writeConfiguration_3
def dkwX1_writeConfiguration_1 : List UInt8 := [182, 1, 27, 185, 1, 12, 2, 0, 192, 0, 81, 182, 1, 244, 87, 3, 60, 27, 42, 180, 0, 46]
abbrev dktX1_writeConfiguration_1 : List UInt8 := dkwX1_writeConfiguration_1 ++ dktX1_writeConfiguration_2
def dkwX1_writeConfiguration_0 : List UInt8 := [42, 180, 0, 77, 3, 182, 1, 241, 42, 180, 0, 77, 42, 180, 0, 46, 180, 0, 170, 42, 180, 0, 53]
abbrev dktX1_writeConfiguration_0 : List UInt8 := dkwX1_writeConfiguration_0 ++ dktX1_writeConfiguration_1
theorem dksX1_writeConfiguration_0 : cX1_writeConfiguration.data.toList.drop 0 = dktX1_writeConfiguration_0 := by decide +kernel
theorem dksX1_writeConfiguration_1 : cX1_writeConfiguration.data.toList.drop 23 = dktX1_writeConfiguration_1 := dk_seg dksX1_writeConfiguration_0 23 rfl rfl
theorem dksX1_writeConfiguration_2 : cX1_writeConfiguration.data.toList.drop 45 = dktX1_writeConfiguration_2 := dk_seg dksX1_writeConfiguration_1 22 rfl rfl
theorem dksX1_writeConfiguration_3 : cX1_writeConfiguration.data.toList.drop 69 = dktX1_writeConfiguration_3 := dk_seg dksX1_writeConfiguration_2 24 rfl rfl
theorem dksX1_writeConfiguration_4 : cX1_writeConfiguration.data.toList.drop 93 = dktX1_writeConfiguration_4 := dk_seg dksX1_writeConfiguration_3 24 rfl rfl
theorem dksX1_writeConfiguration_5 : cX1_writeConfiguration.data.toList.drop 117 = dktX1_writeConfiguration_5 := dk_seg dksX1_writeConfiguration_4 24 rfl rfl
theorem dX1_writeConfiguration_0 : decode cX1_writeConfiguration 0 = .ok (.aload_n 0, 1) := dk_42 (dk_at dksX1_writeConfiguration_0 0 rfl rfl)
theorem dX1_writeConfiguration_1 : decode cX1_writeConfiguration 1 = .ok (.getfield 77, 3) := dk_180 0 77 (dk_at dksX1_writeConfiguration_0 1 rfl rfl)
theorem dX1_writeConfiguration_4 : decode cX1_writeConfiguration 4 = .ok (.iconst 0, 1) := dk_3 (dk_at dksX1_writeConfiguration_0 4 rfl rfl)
theorem dX1_writeConfiguration_5 : decode cX1_writeConfiguration 5 = .ok (.invokevirtual 497, 3) := dk_182 1 241 (dk_at dksX1_writeConfiguration_0 5 rfl rfl)
theorem dX1_writeConfiguration_8 : decode cX1_writeConfiguration 8 = .ok (.aload_n 0, 1) := dk_42 (dk_at dksX1_writeConfiguration_0 8 rfl rfl)
theorem dX1_writeConfiguration_9 : decode cX1_writeConfiguration 9 = .ok (.getfield 77, 3) := dk_180 0 77 (dk_at dksX1_writeConfiguration_0 9 rfl rfl)
theorem dX1_writeConfiguration_12 : decode cX1_writeConfiguration 12 = .ok (.aload_n 0, 1) := dk_42 (dk_at dksX1_writeConfiguration_0 12 rfl rfl)
theorem dX1_writeConfiguration_13 : decode cX1_writeConfiguration 13 = .ok (.getfield 46, 3) := dk_180 0 46 (dk_at dksX1_writeConfiguration_0 13 rfl rfl)
theorem dX1_writeConfiguration_16 : decode cX1_writeConfiguration 16 = .ok (.getfield 170, 3) := dk_180 0 170 (dk_at dksX1_writeConfiguration_0 16 rfl rfl)
theorem dX1_writeConfiguration_19 : decode cX1_writeConfiguration 19 = .ok (.aload_n 0, 1) := dk_42 (dk_at dksX1_writeConfiguration_0 19 rfl rfl)
theorem dX1_writeConfiguration_20 : decode cX1_writeConfiguration 20 = .ok (.getfield 53, 3) := dk_180 0 53 (dk_at dksX1_writeConfiguration_0 20 rfl rfl)
theorem dX1_writeConfiguration_23 : decode cX1_writeConfiguration 23 = .ok (.invokevirtual 283, 3) := dk_182 1 27 (dk_at dksX1_writeConfiguration_1 0 rfl rfl)
theorem dX1_writeConfiguration_26 : decode cX1_writeConfiguration 26 = .ok (.invokeinterface 268 2, 5) := by decide +kernel
theorem dX1_writeConfiguration_31 : decode cX1_writeConfiguration 31 = .ok (.checkcast 81, 3) := dk_192 0 81 (dk_at dksX1_writeConfiguration_1 8 rfl rfl)
theorem dX1_writeConfiguration_34 : decode cX1_writeConfiguration 34 = .ok (.invokevirtual 500, 3) := dk_182 1 244 (dk_at dksX1_writeConfiguration_1 11 rfl rfl)
theorem dX1_writeConfiguration_37 : decode cX1_writeConfiguration 37 = .ok (.pop, 1) := dk_87 (dk_at dksX1_writeConfiguration_1 14 rfl rfl)
theorem dX1_writeConfiguration_38 : decode cX1_writeConfiguration 38 = .ok (.iconst 0, 1) := dk_3 (dk_at dksX1_writeConfiguration_1 15 rfl rfl)
theorem dX1_writeConfiguration_39 : decode cX1_writeConfiguration 39 = .ok (.istore_n 1, 1) := dk_60 (dk_at dksX1_writeConfiguration_1 16 rfl rfl)
theorem dX1_writeConfiguration_40 : decode cX1_writeConfiguration 40 = .ok (.iload_n 1, 1) := dk_27 (dk_at dksX1_writeConfiguration_1 17 rfl rfl)
theorem dX1_writeConfiguration_41 : decode cX1_writeConfiguration 41 = .ok (.aload_n 0, 1) := dk_42 (dk_at dksX1_writeConfiguration_1 18 rfl rfl)
theorem dX1_writeConfiguration_42 : decode cX1_writeConfiguration 42 = .ok (.getfield 46, 3) := dk_180 0 46 (dk_at dksX1_writeConfiguration_1 19 rfl rfl)
theorem dX1_writeConfiguration_45 : decode cX1_writeConfiguration 45 = .ok (.getfield 265, 3) := dk_180 1 9 (dk_at dksX1_writeConfiguration_2 0 rfl rfl)
theorem dX1_writeConfiguration_48 : decode cX1_writeConfiguration 48 = .ok (.invokeinterface 224 1, 5) := by decide +kernel
theorem dX1_writeConfiguration_53 : decode cX1_writeConfiguration 53 = .ok (.if_icmp .ge 57, 3) := dk_162 0 57 (dk_at dksX1_writeConfiguration_2 8 rfl rfl)
theorem dX1_writeConfiguration_56 : decode cX1_writeConfiguration 56 = .ok (.aload_n 0, 1) := dk_42 (dk_at dksX1_writeConfiguration_2 11 rfl rfl)
theorem dX1_writeConfiguration_57 : decode cX1_writeConfiguration 57 = .ok (.getfield 77, 3) := dk_180 0 77 (dk_at dksX1_writeConfiguration_2 12 rfl rfl)
theorem dX1_writeConfiguration_60 : decode cX1_writeConfiguration 60 = .ok (.bipush 32, 2) := dk_16 32 (dk_at dksX1_writeConfiguration_2 15 rfl rfl)
theorem dX1_writeConfiguration_62 : decode cX1_writeConfiguration 62 = .ok (.invokevirtual 503, 3) := dk_182 1 247 (dk_at dksX1_writeConfiguration_2 17 rfl rfl)
theorem dX1_writeConfiguration_65 : decode cX1_writeConfiguration 65 = .ok (.aload_n 0, 1) := dk_42 (dk_at dksX1_writeConfiguration_2 20 rfl rfl)
theorem dX1_writeConfiguration_66 : decode cX1_writeConfiguration 66 = .ok (.getfield 46, 3) := dk_180 0 46 (dk_at dksX1_writeConfiguration_2 21 rfl rfl)
theorem dX1_writeConfiguration_69 : decode cX1_writeConfiguration 69 = .ok (.getfield 265, 3) := dk_180 1 9 (dk_at dksX1_writeConfiguration_3 0 rfl rfl)
theorem dX1_writeConfiguration_72 : decode cX1_writeConfiguration 72 = .ok (.iload_n 1, 1) := dk_27 (dk_at dksX1_writeConfiguration_3 3 rfl rfl)
theorem dX1_writeConfiguration_73 : decode cX1_writeConfiguration 73 = .ok (.invokeinterface 268 2, 5) := by decide +kernel
theorem dX1_writeConfiguration_78 : decode cX1_writeConfiguration 78 = .ok (.checkcast 81, 3) := dk_192 0 81 (dk_at dksX1_writeConfiguration_3 9 rfl rfl)
theorem dX1_writeConfiguration_81 : decode cX1_writeConfiguration 81 = .ok (.invokevirtual 500, 3) := dk_182 1 244 (dk_at dksX1_writeConfiguration_3 12 rfl rfl)
theorem dX1_writeConfiguration_84 : decode cX1_writeConfiguration 84 = .ok (.bipush 61, 2) := dk_16 61 (dk_at dksX1_writeConfiguration_3 15 rfl rfl)
theorem dX1_writeConfiguration_86 : decode cX1_writeConfiguration 86 = .ok (.invokevirtual 503, 3) := dk_182 1 247 (dk_at dksX1_writeConfiguration_3 17 rfl rfl)
theorem dX1_writeConfiguration_89 : decode cX1_writeConfiguration 89 = .ok (.aload_n 0, 1) := dk_42 (dk_at dksX1_writeConfiguration_3 20 rfl rfl)
theorem dX1_writeConfiguration_90 : decode cX1_writeConfiguration 90 = .ok (.getfield 53, 3) := dk_180 0 53 (dk_at dksX1_writeConfiguration_3 21 rfl rfl)
theorem dX1_writeConfiguration_93 : decode cX1_writeConfiguration 93 = .ok (.invokevirtual 289, 3) := dk_182 1 33 (dk_at dksX1_writeConfiguration_4 0 rfl rfl)
theorem dX1_writeConfiguration_96 : decode cX1_writeConfiguration 96 = .ok (.iload_n 1, 1) := dk_27 (dk_at dksX1_writeConfiguration_4 3 rfl rfl)
theorem dX1_writeConfiguration_97 : decode cX1_writeConfiguration 97 = .ok (.invokestatic 292, 3) := dk_184 1 36 (dk_at dksX1_writeConfiguration_4 4 rfl rfl)
theorem dX1_writeConfiguration_100 : decode cX1_writeConfiguration 100 = .ok (.invokevirtual 506, 3) := dk_182 1 250 (dk_at dksX1_writeConfiguration_4 7 rfl rfl)
theorem dX1_writeConfiguration_103 : decode cX1_writeConfiguration 103 = .ok (.pop, 1) := dk_87 (dk_at dksX1_writeConfiguration_4 10 rfl rfl)
theorem dX1_writeConfiguration_104 : decode cX1_writeConfiguration 104 = .ok (.iinc 1 1, 3) := dk_132 1 1 (dk_at dksX1_writeConfiguration_4 11 rfl rfl)
theorem dX1_writeConfiguration_107 : decode cX1_writeConfiguration 107 = .ok (.goto (-67), 3) := dk_167 255 189 (dk_at dksX1_writeConfiguration_4 14 rfl rfl)
theorem dX1_writeConfiguration_110 : decode cX1_writeConfiguration 110 = .ok (.aload_n 0, 1) := dk_42 (dk_at dksX1_writeConfiguration_4 17 rfl rfl)
theorem dX1_writeConfiguration_111 : decode cX1_writeConfiguration 111 = .ok (.getfield 77, 3) := dk_180 0 77 (dk_at dksX1_writeConfiguration_4 18 rfl rfl)
theorem dX1_writeConfiguration_114 : decode cX1_writeConfiguration 114 = .ok (.invokevirtual 509, 3) := dk_182 1 253 (dk_at dksX1_writeConfiguration_4 21 rfl rfl)
theorem dX1_writeConfiguration_117 : decode cX1_writeConfiguration 117 = .ok (.ireturn, 1) := dk_172 (dk_at dksX1_writeConfiguration_5 0 rfl rfl)
abbrev cX1_outputByte : ByteArray := prog_1_method_91_code
def yX1_outputByte : MethodName := ⟨RX1, "outputByte", "(I)I"⟩
def dkwX1_outputByte_1 : List UInt8 := [182, 1, 254, 167, 0, 4, 2, 172]
abbrev dktX1_outputByte_1 : List UInt8 := dkwX1_outputByte_1 ++ []
def dkwX1_outputByte_0 : List UInt8 := [27, 133, 9, 42, 180, 0, 77, 182, 1, 253, 4, 100, 133, 184, 0, 190, 153, 0, 14, 42, 180, 0, 77, 27]
abbrev dktX1_outputByte_0 : List UInt8 := dkwX1_outputByte_0 ++ dktX1_outputByte_1
theorem dksX1_outputByte_0 : cX1_outputByte.data.toList.drop 0 = dktX1_outputByte_0 := by decide +kernel
theorem dksX1_outputByte_1 : cX1_outputByte.data.toList.drop 24 = dktX1_outputByte_1 := dk_seg dksX1_outputByte_0 24 rfl rfl
theorem dX1_outputByte_0 : decode cX1_outputByte 0 = .ok (.iload_n 1, 1) := dk_27 (dk_at dksX1_outputByte_0 0 rfl rfl)
theorem dX1_outputByte_1 : decode cX1_outputByte 1 = .ok (.i2l, 1) := dk_133 (dk_at dksX1_outputByte_0 1 rfl rfl)
theorem dX1_outputByte_2 : decode cX1_outputByte 2 = .ok (.lconst 0, 1) := dk_9 (dk_at dksX1_outputByte_0 2 rfl rfl)
theorem dX1_outputByte_3 : decode cX1_outputByte 3 = .ok (.aload_n 0, 1) := dk_42 (dk_at dksX1_outputByte_0 3 rfl rfl)
theorem dX1_outputByte_4 : decode cX1_outputByte 4 = .ok (.getfield 77, 3) := dk_180 0 77 (dk_at dksX1_outputByte_0 4 rfl rfl)
theorem dX1_outputByte_7 : decode cX1_outputByte 7 = .ok (.invokevirtual 509, 3) := dk_182 1 253 (dk_at dksX1_outputByte_0 7 rfl rfl)
theorem dX1_outputByte_10 : decode cX1_outputByte 10 = .ok (.iconst 1, 1) := dk_4 (dk_at dksX1_outputByte_0 10 rfl rfl)
theorem dX1_outputByte_11 : decode cX1_outputByte 11 = .ok (.isub, 1) := dk_100 (dk_at dksX1_outputByte_0 11 rfl rfl)
theorem dX1_outputByte_12 : decode cX1_outputByte 12 = .ok (.i2l, 1) := dk_133 (dk_at dksX1_outputByte_0 12 rfl rfl)
theorem dX1_outputByte_13 : decode cX1_outputByte 13 = .ok (.invokestatic 190, 3) := dk_184 0 190 (dk_at dksX1_outputByte_0 13 rfl rfl)
theorem dX1_outputByte_16 : decode cX1_outputByte 16 = .ok (.ifCond .eq 14, 3) := dk_153 0 14 (dk_at dksX1_outputByte_0 16 rfl rfl)
theorem dX1_outputByte_19 : decode cX1_outputByte 19 = .ok (.aload_n 0, 1) := dk_42 (dk_at dksX1_outputByte_0 19 rfl rfl)
theorem dX1_outputByte_20 : decode cX1_outputByte 20 = .ok (.getfield 77, 3) := dk_180 0 77 (dk_at dksX1_outputByte_0 20 rfl rfl)
theorem dX1_outputByte_23 : decode cX1_outputByte 23 = .ok (.iload_n 1, 1) := dk_27 (dk_at dksX1_outputByte_0 23 rfl rfl)
theorem dX1_outputByte_24 : decode cX1_outputByte 24 = .ok (.invokevirtual 510, 3) := dk_182 1 254 (dk_at dksX1_outputByte_1 0 rfl rfl)
theorem dX1_outputByte_27 : decode cX1_outputByte 27 = .ok (.goto 4, 3) := dk_167 0 4 (dk_at dksX1_outputByte_1 3 rfl rfl)
theorem dX1_outputByte_30 : decode cX1_outputByte 30 = .ok (.iconst (-1), 1) := dk_2 (dk_at dksX1_outputByte_1 6 rfl rfl)
theorem dX1_outputByte_31 : decode cX1_outputByte 31 = .ok (.ireturn, 1) := dk_172 (dk_at dksX1_outputByte_1 7 rfl rfl)
abbrev cX1_saveState : ByteArray := prog_1_method_92_code
def yX1_saveState : MethodName := ⟨RX1, "saveState", "()I"⟩
def dkwX1_saveState_0 : List UInt8 := [42, 42, 180, 0, 53, 182, 1, 191, 181, 0, 221, 42, 180, 0, 221, 182, 1, 27, 172]
abbrev dktX1_saveState_0 : List UInt8 := dkwX1_saveState_0 ++ []
theorem dksX1_saveState_0 : cX1_saveState.data.toList.drop 0 = dktX1_saveState_0 := by decide +kernel
theorem dX1_saveState_0 : decode cX1_saveState 0 = .ok (.aload_n 0, 1) := dk_42 (dk_at dksX1_saveState_0 0 rfl rfl)
theorem dX1_saveState_1 : decode cX1_saveState 1 = .ok (.aload_n 0, 1) := dk_42 (dk_at dksX1_saveState_0 1 rfl rfl)
theorem dX1_saveState_2 : decode cX1_saveState 2 = .ok (.getfield 53, 3) := dk_180 0 53 (dk_at dksX1_saveState_0 2 rfl rfl)
theorem dX1_saveState_5 : decode cX1_saveState 5 = .ok (.invokevirtual 447, 3) := dk_182 1 191 (dk_at dksX1_saveState_0 5 rfl rfl)
theorem dX1_saveState_8 : decode cX1_saveState 8 = .ok (.putfield 221, 3) := dk_181 0 221 (dk_at dksX1_saveState_0 8 rfl rfl)
theorem dX1_saveState_11 : decode cX1_saveState 11 = .ok (.aload_n 0, 1) := dk_42 (dk_at dksX1_saveState_0 11 rfl rfl)
theorem dX1_saveState_12 : decode cX1_saveState 12 = .ok (.getfield 221, 3) := dk_180 0 221 (dk_at dksX1_saveState_0 12 rfl rfl)
theorem dX1_saveState_15 : decode cX1_saveState 15 = .ok (.invokevirtual 283, 3) := dk_182 1 27 (dk_at dksX1_saveState_0 15 rfl rfl)
theorem dX1_saveState_18 : decode cX1_saveState 18 = .ok (.ireturn, 1) := dk_172 (dk_at dksX1_saveState_0 18 rfl rfl)
abbrev cX1_stateNameByte : ByteArray := prog_1_method_34_code
def yX1_stateNameByte : MethodName := ⟨RX1, "stateNameByte", "(II)I"⟩
def dkwX1_stateNameByte_0 : List UInt8 := [42, 180, 0, 46, 180, 0, 170, 27, 28, 184, 1, 23, 172]
abbrev dktX1_stateNameByte_0 : List UInt8 := dkwX1_stateNameByte_0 ++ []
theorem dksX1_stateNameByte_0 : cX1_stateNameByte.data.toList.drop 0 = dktX1_stateNameByte_0 := by decide +kernel
theorem dX1_stateNameByte_0 : decode cX1_stateNameByte 0 = .ok (.aload_n 0, 1) := dk_42 (dk_at dksX1_stateNameByte_0 0 rfl rfl)
theorem dX1_stateNameByte_1 : decode cX1_stateNameByte 1 = .ok (.getfield 46, 3) := dk_180 0 46 (dk_at dksX1_stateNameByte_0 1 rfl rfl)
theorem dX1_stateNameByte_4 : decode cX1_stateNameByte 4 = .ok (.getfield 170, 3) := dk_180 0 170 (dk_at dksX1_stateNameByte_0 4 rfl rfl)
theorem dX1_stateNameByte_7 : decode cX1_stateNameByte 7 = .ok (.iload_n 1, 1) := dk_27 (dk_at dksX1_stateNameByte_0 7 rfl rfl)
theorem dX1_stateNameByte_8 : decode cX1_stateNameByte 8 = .ok (.iload_n 2, 1) := dk_28 (dk_at dksX1_stateNameByte_0 8 rfl rfl)
theorem dX1_stateNameByte_9 : decode cX1_stateNameByte 9 = .ok (.invokestatic 279, 3) := dk_184 1 23 (dk_at dksX1_stateNameByte_0 9 rfl rfl)
theorem dX1_stateNameByte_12 : decode cX1_stateNameByte 12 = .ok (.ireturn, 1) := dk_172 (dk_at dksX1_stateNameByte_0 12 rfl rfl)
abbrev cX1_letter : ByteArray := prog_1_method_28_code
def yX1_letter : MethodName := ⟨RX1, "letter", "(Ljava/util/List;II)I"⟩
def dkwX1_letter_1 : List UInt8 := [45, 182, 1, 16, 4, 100, 133, 184, 0, 190, 153, 0, 11, 45, 28, 182, 1, 19, 167, 0, 4, 2, 172]
abbrev dktX1_letter_1 : List UInt8 := dkwX1_letter_1 ++ []
def dkwX1_letter_0 : List UInt8 := [27, 42, 185, 0, 224, 1, 0, 184, 1, 5, 42, 27, 185, 1, 12, 2, 0, 192, 0, 81, 78, 28, 133, 9]
abbrev dktX1_letter_0 : List UInt8 := dkwX1_letter_0 ++ dktX1_letter_1
theorem dksX1_letter_0 : cX1_letter.data.toList.drop 0 = dktX1_letter_0 := by decide +kernel
theorem dksX1_letter_1 : cX1_letter.data.toList.drop 24 = dktX1_letter_1 := dk_seg dksX1_letter_0 24 rfl rfl
theorem dX1_letter_0 : decode cX1_letter 0 = .ok (.iload_n 1, 1) := dk_27 (dk_at dksX1_letter_0 0 rfl rfl)
theorem dX1_letter_1 : decode cX1_letter 1 = .ok (.aload_n 0, 1) := dk_42 (dk_at dksX1_letter_0 1 rfl rfl)
theorem dX1_letter_2 : decode cX1_letter 2 = .ok (.invokeinterface 224 1, 5) := by decide +kernel
theorem dX1_letter_7 : decode cX1_letter 7 = .ok (.invokestatic 261, 3) := dk_184 1 5 (dk_at dksX1_letter_0 7 rfl rfl)
theorem dX1_letter_10 : decode cX1_letter 10 = .ok (.aload_n 0, 1) := dk_42 (dk_at dksX1_letter_0 10 rfl rfl)
theorem dX1_letter_11 : decode cX1_letter 11 = .ok (.iload_n 1, 1) := dk_27 (dk_at dksX1_letter_0 11 rfl rfl)
theorem dX1_letter_12 : decode cX1_letter 12 = .ok (.invokeinterface 268 2, 5) := by decide +kernel
theorem dX1_letter_17 : decode cX1_letter 17 = .ok (.checkcast 81, 3) := dk_192 0 81 (dk_at dksX1_letter_0 17 rfl rfl)
theorem dX1_letter_20 : decode cX1_letter 20 = .ok (.astore_n 3, 1) := dk_78 (dk_at dksX1_letter_0 20 rfl rfl)
theorem dX1_letter_21 : decode cX1_letter 21 = .ok (.iload_n 2, 1) := dk_28 (dk_at dksX1_letter_0 21 rfl rfl)
theorem dX1_letter_22 : decode cX1_letter 22 = .ok (.i2l, 1) := dk_133 (dk_at dksX1_letter_0 22 rfl rfl)
theorem dX1_letter_23 : decode cX1_letter 23 = .ok (.lconst 0, 1) := dk_9 (dk_at dksX1_letter_0 23 rfl rfl)
theorem dX1_letter_24 : decode cX1_letter 24 = .ok (.aload_n 3, 1) := dk_45 (dk_at dksX1_letter_1 0 rfl rfl)
theorem dX1_letter_25 : decode cX1_letter 25 = .ok (.invokevirtual 272, 3) := dk_182 1 16 (dk_at dksX1_letter_1 1 rfl rfl)
theorem dX1_letter_28 : decode cX1_letter 28 = .ok (.iconst 1, 1) := dk_4 (dk_at dksX1_letter_1 4 rfl rfl)
theorem dX1_letter_29 : decode cX1_letter 29 = .ok (.isub, 1) := dk_100 (dk_at dksX1_letter_1 5 rfl rfl)
theorem dX1_letter_30 : decode cX1_letter 30 = .ok (.i2l, 1) := dk_133 (dk_at dksX1_letter_1 6 rfl rfl)
theorem dX1_letter_31 : decode cX1_letter 31 = .ok (.invokestatic 190, 3) := dk_184 0 190 (dk_at dksX1_letter_1 7 rfl rfl)
theorem dX1_letter_34 : decode cX1_letter 34 = .ok (.ifCond .eq 11, 3) := dk_153 0 11 (dk_at dksX1_letter_1 10 rfl rfl)
theorem dX1_letter_37 : decode cX1_letter 37 = .ok (.aload_n 3, 1) := dk_45 (dk_at dksX1_letter_1 13 rfl rfl)
theorem dX1_letter_38 : decode cX1_letter 38 = .ok (.iload_n 2, 1) := dk_28 (dk_at dksX1_letter_1 14 rfl rfl)
theorem dX1_letter_39 : decode cX1_letter 39 = .ok (.invokevirtual 275, 3) := dk_182 1 19 (dk_at dksX1_letter_1 15 rfl rfl)
theorem dX1_letter_42 : decode cX1_letter 42 = .ok (.goto 4, 3) := dk_167 0 4 (dk_at dksX1_letter_1 18 rfl rfl)
theorem dX1_letter_45 : decode cX1_letter 45 = .ok (.iconst (-1), 1) := dk_2 (dk_at dksX1_letter_1 21 rfl rfl)
theorem dX1_letter_46 : decode cX1_letter 46 = .ok (.ireturn, 1) := dk_172 (dk_at dksX1_letter_1 22 rfl rfl)
abbrev cX1_checkIndex : ByteArray := prog_1_method_22_code
def yX1_checkIndex : MethodName := ⟨RX1, "checkIndex", "(II)V"⟩
def dkwX1_checkIndex_0 : List UInt8 := [26, 133, 9, 27, 4, 100, 133, 184, 0, 190, 184, 1, 1, 177]
abbrev dktX1_checkIndex_0 : List UInt8 := dkwX1_checkIndex_0 ++ []
theorem dksX1_checkIndex_0 : cX1_checkIndex.data.toList.drop 0 = dktX1_checkIndex_0 := by decide +kernel
theorem dX1_checkIndex_0 : decode cX1_checkIndex 0 = .ok (.iload_n 0, 1) := dk_26 (dk_at dksX1_checkIndex_0 0 rfl rfl)
theorem dX1_checkIndex_1 : decode cX1_checkIndex 1 = .ok (.i2l, 1) := dk_133 (dk_at dksX1_checkIndex_0 1 rfl rfl)
theorem dX1_checkIndex_2 : decode cX1_checkIndex 2 = .ok (.lconst 0, 1) := dk_9 (dk_at dksX1_checkIndex_0 2 rfl rfl)
theorem dX1_checkIndex_3 : decode cX1_checkIndex 3 = .ok (.iload_n 1, 1) := dk_27 (dk_at dksX1_checkIndex_0 3 rfl rfl)
theorem dX1_checkIndex_4 : decode cX1_checkIndex 4 = .ok (.iconst 1, 1) := dk_4 (dk_at dksX1_checkIndex_0 4 rfl rfl)
theorem dX1_checkIndex_5 : decode cX1_checkIndex 5 = .ok (.isub, 1) := dk_100 (dk_at dksX1_checkIndex_0 5 rfl rfl)
theorem dX1_checkIndex_6 : decode cX1_checkIndex 6 = .ok (.i2l, 1) := dk_133 (dk_at dksX1_checkIndex_0 6 rfl rfl)
theorem dX1_checkIndex_7 : decode cX1_checkIndex 7 = .ok (.invokestatic 190, 3) := dk_184 0 190 (dk_at dksX1_checkIndex_0 7 rfl rfl)
theorem dX1_checkIndex_10 : decode cX1_checkIndex 10 = .ok (.invokestatic 257, 3) := dk_184 1 1 (dk_at dksX1_checkIndex_0 10 rfl rfl)
theorem dX1_checkIndex_13 : decode cX1_checkIndex 13 = .ok (.return_, 1) := dk_177 (dk_at dksX1_checkIndex_0 13 rfl rfl)
abbrev cX1_requireIndex : ByteArray := prog_1_method_2_code
def yX1_requireIndex : MethodName := ⟨RX1, "requireIndex", "(Z)V"⟩
def dkwX1_requireIndex_0 : List UInt8 := [26, 154, 0, 11, 187, 0, 3, 89, 183, 0, 5, 191, 177]
abbrev dktX1_requireIndex_0 : List UInt8 := dkwX1_requireIndex_0 ++ []
theorem dksX1_requireIndex_0 : cX1_requireIndex.data.toList.drop 0 = dktX1_requireIndex_0 := by decide +kernel
theorem dX1_requireIndex_0 : decode cX1_requireIndex 0 = .ok (.iload_n 0, 1) := dk_26 (dk_at dksX1_requireIndex_0 0 rfl rfl)
theorem dX1_requireIndex_1 : decode cX1_requireIndex 1 = .ok (.ifCond .ne 11, 3) := dk_154 0 11 (dk_at dksX1_requireIndex_0 1 rfl rfl)
theorem dX1_requireIndex_4 : decode cX1_requireIndex 4 = .ok (.new 3, 3) := dk_187 0 3 (dk_at dksX1_requireIndex_0 4 rfl rfl)
theorem dX1_requireIndex_7 : decode cX1_requireIndex 7 = .ok (.dup, 1) := dk_89 (dk_at dksX1_requireIndex_0 7 rfl rfl)
theorem dX1_requireIndex_8 : decode cX1_requireIndex 8 = .ok (.invokespecial 5, 3) := dk_183 0 5 (dk_at dksX1_requireIndex_0 8 rfl rfl)
theorem dX1_requireIndex_11 : decode cX1_requireIndex 11 = .ok (.athrow, 1) := dk_191 (dk_at dksX1_requireIndex_0 11 rfl rfl)
theorem dX1_requireIndex_12 : decode cX1_requireIndex 12 = .ok (.return_, 1) := dk_177 (dk_at dksX1_requireIndex_0 12 rfl rfl)
abbrev cX1_eventNameByte : ByteArray := prog_1_method_35_code
def yX1_eventNameByte : MethodName := ⟨RX1, "eventNameByte", "(II)I"⟩
def dkwX1_eventNameByte_0 : List UInt8 := [42, 180, 0, 46, 180, 0, 173, 27, 28, 184, 1, 23, 172]
abbrev dktX1_eventNameByte_0 : List UInt8 := dkwX1_eventNameByte_0 ++ []
theorem dksX1_eventNameByte_0 : cX1_eventNameByte.data.toList.drop 0 = dktX1_eventNameByte_0 := by decide +kernel
theorem dX1_eventNameByte_0 : decode cX1_eventNameByte 0 = .ok (.aload_n 0, 1) := dk_42 (dk_at dksX1_eventNameByte_0 0 rfl rfl)
theorem dX1_eventNameByte_1 : decode cX1_eventNameByte 1 = .ok (.getfield 46, 3) := dk_180 0 46 (dk_at dksX1_eventNameByte_0 1 rfl rfl)
theorem dX1_eventNameByte_4 : decode cX1_eventNameByte 4 = .ok (.getfield 173, 3) := dk_180 0 173 (dk_at dksX1_eventNameByte_0 4 rfl rfl)
theorem dX1_eventNameByte_7 : decode cX1_eventNameByte 7 = .ok (.iload_n 1, 1) := dk_27 (dk_at dksX1_eventNameByte_0 7 rfl rfl)
theorem dX1_eventNameByte_8 : decode cX1_eventNameByte 8 = .ok (.iload_n 2, 1) := dk_28 (dk_at dksX1_eventNameByte_0 8 rfl rfl)
theorem dX1_eventNameByte_9 : decode cX1_eventNameByte 9 = .ok (.invokestatic 279, 3) := dk_184 1 23 (dk_at dksX1_eventNameByte_0 9 rfl rfl)
theorem dX1_eventNameByte_12 : decode cX1_eventNameByte 12 = .ok (.ireturn, 1) := dk_172 (dk_at dksX1_eventNameByte_0 12 rfl rfl)
abbrev cX1_variableNameByte : ByteArray := prog_1_method_36_code
def yX1_variableNameByte : MethodName := ⟨RX1, "variableNameByte", "(II)I"⟩
def dkwX1_variableNameByte_0 : List UInt8 := [42, 180, 0, 46, 180, 1, 9, 27, 28, 184, 1, 23, 172]
abbrev dktX1_variableNameByte_0 : List UInt8 := dkwX1_variableNameByte_0 ++ []
theorem dksX1_variableNameByte_0 : cX1_variableNameByte.data.toList.drop 0 = dktX1_variableNameByte_0 := by decide +kernel
theorem dX1_variableNameByte_0 : decode cX1_variableNameByte 0 = .ok (.aload_n 0, 1) := dk_42 (dk_at dksX1_variableNameByte_0 0 rfl rfl)
theorem dX1_variableNameByte_1 : decode cX1_variableNameByte 1 = .ok (.getfield 46, 3) := dk_180 0 46 (dk_at dksX1_variableNameByte_0 1 rfl rfl)
theorem dX1_variableNameByte_4 : decode cX1_variableNameByte 4 = .ok (.getfield 265, 3) := dk_180 1 9 (dk_at dksX1_variableNameByte_0 4 rfl rfl)
theorem dX1_variableNameByte_7 : decode cX1_variableNameByte 7 = .ok (.iload_n 1, 1) := dk_27 (dk_at dksX1_variableNameByte_0 7 rfl rfl)
theorem dX1_variableNameByte_8 : decode cX1_variableNameByte 8 = .ok (.iload_n 2, 1) := dk_28 (dk_at dksX1_variableNameByte_0 8 rfl rfl)
theorem dX1_variableNameByte_9 : decode cX1_variableNameByte 9 = .ok (.invokestatic 279, 3) := dk_184 1 23 (dk_at dksX1_variableNameByte_0 9 rfl rfl)
theorem dX1_variableNameByte_12 : decode cX1_variableNameByte 12 = .ok (.ireturn, 1) := dk_172 (dk_at dksX1_variableNameByte_0 12 rfl rfl)
abbrev cX1_valueOf : ByteArray := prog_1_method_38_code
def yX1_valueOf : MethodName := ⟨RX1, "valueOf", "(I)I"⟩
def dkwX1_valueOf_0 : List UInt8 := [42, 27, 182, 1, 30, 42, 180, 0, 53, 182, 1, 33, 27, 184, 1, 36, 172]
abbrev dktX1_valueOf_0 : List UInt8 := dkwX1_valueOf_0 ++ []
theorem dksX1_valueOf_0 : cX1_valueOf.data.toList.drop 0 = dktX1_valueOf_0 := by decide +kernel
theorem dX1_valueOf_0 : decode cX1_valueOf 0 = .ok (.aload_n 0, 1) := dk_42 (dk_at dksX1_valueOf_0 0 rfl rfl)
theorem dX1_valueOf_1 : decode cX1_valueOf 1 = .ok (.iload_n 1, 1) := dk_27 (dk_at dksX1_valueOf_0 1 rfl rfl)
theorem dX1_valueOf_2 : decode cX1_valueOf 2 = .ok (.invokevirtual 286, 3) := dk_182 1 30 (dk_at dksX1_valueOf_0 2 rfl rfl)
theorem dX1_valueOf_5 : decode cX1_valueOf 5 = .ok (.aload_n 0, 1) := dk_42 (dk_at dksX1_valueOf_0 5 rfl rfl)
theorem dX1_valueOf_6 : decode cX1_valueOf 6 = .ok (.getfield 53, 3) := dk_180 0 53 (dk_at dksX1_valueOf_0 6 rfl rfl)
theorem dX1_valueOf_9 : decode cX1_valueOf 9 = .ok (.invokevirtual 289, 3) := dk_182 1 33 (dk_at dksX1_valueOf_0 9 rfl rfl)
theorem dX1_valueOf_12 : decode cX1_valueOf 12 = .ok (.iload_n 1, 1) := dk_27 (dk_at dksX1_valueOf_0 12 rfl rfl)
theorem dX1_valueOf_13 : decode cX1_valueOf 13 = .ok (.invokestatic 292, 3) := dk_184 1 36 (dk_at dksX1_valueOf_0 13 rfl rfl)
theorem dX1_valueOf_16 : decode cX1_valueOf 16 = .ok (.ireturn, 1) := dk_172 (dk_at dksX1_valueOf_0 16 rfl rfl)
abbrev cX1_checkVariable : ByteArray := prog_1_method_25_code
def yX1_checkVariable : MethodName := ⟨RX1, "checkVariable", "(I)V"⟩
def dkwX1_checkVariable_0 : List UInt8 := [27, 42, 180, 0, 46, 180, 1, 9, 185, 0, 224, 1, 0, 184, 1, 5, 177]
abbrev dktX1_checkVariable_0 : List UInt8 := dkwX1_checkVariable_0 ++ []
theorem dksX1_checkVariable_0 : cX1_checkVariable.data.toList.drop 0 = dktX1_checkVariable_0 := by decide +kernel
theorem dX1_checkVariable_0 : decode cX1_checkVariable 0 = .ok (.iload_n 1, 1) := dk_27 (dk_at dksX1_checkVariable_0 0 rfl rfl)
theorem dX1_checkVariable_1 : decode cX1_checkVariable 1 = .ok (.aload_n 0, 1) := dk_42 (dk_at dksX1_checkVariable_0 1 rfl rfl)
theorem dX1_checkVariable_2 : decode cX1_checkVariable 2 = .ok (.getfield 46, 3) := dk_180 0 46 (dk_at dksX1_checkVariable_0 2 rfl rfl)
theorem dX1_checkVariable_5 : decode cX1_checkVariable 5 = .ok (.getfield 265, 3) := dk_180 1 9 (dk_at dksX1_checkVariable_0 5 rfl rfl)
theorem dX1_checkVariable_8 : decode cX1_checkVariable 8 = .ok (.invokeinterface 224 1, 5) := by decide +kernel
theorem dX1_checkVariable_13 : decode cX1_checkVariable 13 = .ok (.invokestatic 261, 3) := dk_184 1 5 (dk_at dksX1_checkVariable_0 13 rfl rfl)
theorem dX1_checkVariable_16 : decode cX1_checkVariable 16 = .ok (.return_, 1) := dk_177 (dk_at dksX1_checkVariable_0 16 rfl rfl)
abbrev cX1_initialValueOf : ByteArray := prog_1_method_39_code
def yX1_initialValueOf : MethodName := ⟨RX1, "initialValueOf", "(I)I"⟩
def dkwX1_initialValueOf_0 : List UInt8 := [42, 27, 182, 1, 30, 42, 180, 0, 46, 180, 0, 161, 27, 184, 1, 36, 172]
abbrev dktX1_initialValueOf_0 : List UInt8 := dkwX1_initialValueOf_0 ++ []
theorem dksX1_initialValueOf_0 : cX1_initialValueOf.data.toList.drop 0 = dktX1_initialValueOf_0 := by decide +kernel
theorem dX1_initialValueOf_0 : decode cX1_initialValueOf 0 = .ok (.aload_n 0, 1) := dk_42 (dk_at dksX1_initialValueOf_0 0 rfl rfl)
theorem dX1_initialValueOf_1 : decode cX1_initialValueOf 1 = .ok (.iload_n 1, 1) := dk_27 (dk_at dksX1_initialValueOf_0 1 rfl rfl)
theorem dX1_initialValueOf_2 : decode cX1_initialValueOf 2 = .ok (.invokevirtual 286, 3) := dk_182 1 30 (dk_at dksX1_initialValueOf_0 2 rfl rfl)
theorem dX1_initialValueOf_5 : decode cX1_initialValueOf 5 = .ok (.aload_n 0, 1) := dk_42 (dk_at dksX1_initialValueOf_0 5 rfl rfl)
theorem dX1_initialValueOf_6 : decode cX1_initialValueOf 6 = .ok (.getfield 46, 3) := dk_180 0 46 (dk_at dksX1_initialValueOf_0 6 rfl rfl)
theorem dX1_initialValueOf_9 : decode cX1_initialValueOf 9 = .ok (.getfield 161, 3) := dk_180 0 161 (dk_at dksX1_initialValueOf_0 9 rfl rfl)
theorem dX1_initialValueOf_12 : decode cX1_initialValueOf 12 = .ok (.iload_n 1, 1) := dk_27 (dk_at dksX1_initialValueOf_0 12 rfl rfl)
theorem dX1_initialValueOf_13 : decode cX1_initialValueOf 13 = .ok (.invokestatic 292, 3) := dk_184 1 36 (dk_at dksX1_initialValueOf_0 13 rfl rfl)
theorem dX1_initialValueOf_16 : decode cX1_initialValueOf 16 = .ok (.ireturn, 1) := dk_172 (dk_at dksX1_initialValueOf_0 16 rfl rfl)
abbrev cX1_sourceOf : ByteArray := prog_1_method_40_code
def yX1_sourceOf : MethodName := ⟨RX1, "sourceOf", "(I)I"⟩
def dkwX1_sourceOf_0 : List UInt8 := [42, 27, 182, 1, 40, 180, 1, 44, 172]
abbrev dktX1_sourceOf_0 : List UInt8 := dkwX1_sourceOf_0 ++ []
theorem dksX1_sourceOf_0 : cX1_sourceOf.data.toList.drop 0 = dktX1_sourceOf_0 := by decide +kernel
theorem dX1_sourceOf_0 : decode cX1_sourceOf 0 = .ok (.aload_n 0, 1) := dk_42 (dk_at dksX1_sourceOf_0 0 rfl rfl)
theorem dX1_sourceOf_1 : decode cX1_sourceOf 1 = .ok (.iload_n 1, 1) := dk_27 (dk_at dksX1_sourceOf_0 1 rfl rfl)
theorem dX1_sourceOf_2 : decode cX1_sourceOf 2 = .ok (.invokevirtual 296, 3) := dk_182 1 40 (dk_at dksX1_sourceOf_0 2 rfl rfl)
theorem dX1_sourceOf_5 : decode cX1_sourceOf 5 = .ok (.getfield 300, 3) := dk_180 1 44 (dk_at dksX1_sourceOf_0 5 rfl rfl)
theorem dX1_sourceOf_8 : decode cX1_sourceOf 8 = .ok (.ireturn, 1) := dk_172 (dk_at dksX1_sourceOf_0 8 rfl rfl)
abbrev cX1_transition : ByteArray := prog_1_method_26_code
def yX1_transition : MethodName := ⟨RX1, "transition", "(I)LContractMachine$Transition;"⟩
def dkwX1_transition_1 : List UInt8 := [185, 1, 12, 2, 0, 192, 0, 179, 176]
abbrev dktX1_transition_1 : List UInt8 := dkwX1_transition_1 ++ []
def dkwX1_transition_0 : List UInt8 := [27, 42, 180, 0, 46, 180, 0, 176, 185, 0, 224, 1, 0, 184, 1, 5, 42, 180, 0, 46, 180, 0, 176, 27]
abbrev dktX1_transition_0 : List UInt8 := dkwX1_transition_0 ++ dktX1_transition_1
theorem dksX1_transition_0 : cX1_transition.data.toList.drop 0 = dktX1_transition_0 := by decide +kernel
theorem dksX1_transition_1 : cX1_transition.data.toList.drop 24 = dktX1_transition_1 := dk_seg dksX1_transition_0 24 rfl rfl
theorem dX1_transition_0 : decode cX1_transition 0 = .ok (.iload_n 1, 1) := dk_27 (dk_at dksX1_transition_0 0 rfl rfl)
theorem dX1_transition_1 : decode cX1_transition 1 = .ok (.aload_n 0, 1) := dk_42 (dk_at dksX1_transition_0 1 rfl rfl)
theorem dX1_transition_2 : decode cX1_transition 2 = .ok (.getfield 46, 3) := dk_180 0 46 (dk_at dksX1_transition_0 2 rfl rfl)
theorem dX1_transition_5 : decode cX1_transition 5 = .ok (.getfield 176, 3) := dk_180 0 176 (dk_at dksX1_transition_0 5 rfl rfl)
theorem dX1_transition_8 : decode cX1_transition 8 = .ok (.invokeinterface 224 1, 5) := by decide +kernel
theorem dX1_transition_13 : decode cX1_transition 13 = .ok (.invokestatic 261, 3) := dk_184 1 5 (dk_at dksX1_transition_0 13 rfl rfl)
theorem dX1_transition_16 : decode cX1_transition 16 = .ok (.aload_n 0, 1) := dk_42 (dk_at dksX1_transition_0 16 rfl rfl)
theorem dX1_transition_17 : decode cX1_transition 17 = .ok (.getfield 46, 3) := dk_180 0 46 (dk_at dksX1_transition_0 17 rfl rfl)
theorem dX1_transition_20 : decode cX1_transition 20 = .ok (.getfield 176, 3) := dk_180 0 176 (dk_at dksX1_transition_0 20 rfl rfl)
theorem dX1_transition_23 : decode cX1_transition 23 = .ok (.iload_n 1, 1) := dk_27 (dk_at dksX1_transition_0 23 rfl rfl)
theorem dX1_transition_24 : decode cX1_transition 24 = .ok (.invokeinterface 268 2, 5) := by decide +kernel
theorem dX1_transition_29 : decode cX1_transition 29 = .ok (.checkcast 179, 3) := dk_192 0 179 (dk_at dksX1_transition_1 5 rfl rfl)
theorem dX1_transition_32 : decode cX1_transition 32 = .ok (.areturn, 1) := dk_176 (dk_at dksX1_transition_1 8 rfl rfl)
abbrev cX1_eventOf : ByteArray := prog_1_method_41_code
def yX1_eventOf : MethodName := ⟨RX1, "eventOf", "(I)I"⟩
def dkwX1_eventOf_0 : List UInt8 := [42, 27, 182, 1, 40, 180, 1, 47, 172]
abbrev dktX1_eventOf_0 : List UInt8 := dkwX1_eventOf_0 ++ []
theorem dksX1_eventOf_0 : cX1_eventOf.data.toList.drop 0 = dktX1_eventOf_0 := by decide +kernel
theorem dX1_eventOf_0 : decode cX1_eventOf 0 = .ok (.aload_n 0, 1) := dk_42 (dk_at dksX1_eventOf_0 0 rfl rfl)
theorem dX1_eventOf_1 : decode cX1_eventOf 1 = .ok (.iload_n 1, 1) := dk_27 (dk_at dksX1_eventOf_0 1 rfl rfl)
theorem dX1_eventOf_2 : decode cX1_eventOf 2 = .ok (.invokevirtual 296, 3) := dk_182 1 40 (dk_at dksX1_eventOf_0 2 rfl rfl)
theorem dX1_eventOf_5 : decode cX1_eventOf 5 = .ok (.getfield 303, 3) := dk_180 1 47 (dk_at dksX1_eventOf_0 5 rfl rfl)
theorem dX1_eventOf_8 : decode cX1_eventOf 8 = .ok (.ireturn, 1) := dk_172 (dk_at dksX1_eventOf_0 8 rfl rfl)
abbrev cX1_targetOf : ByteArray := prog_1_method_42_code
def yX1_targetOf : MethodName := ⟨RX1, "targetOf", "(I)I"⟩
def dkwX1_targetOf_0 : List UInt8 := [42, 27, 182, 1, 40, 180, 1, 50, 172]
abbrev dktX1_targetOf_0 : List UInt8 := dkwX1_targetOf_0 ++ []
theorem dksX1_targetOf_0 : cX1_targetOf.data.toList.drop 0 = dktX1_targetOf_0 := by decide +kernel
theorem dX1_targetOf_0 : decode cX1_targetOf 0 = .ok (.aload_n 0, 1) := dk_42 (dk_at dksX1_targetOf_0 0 rfl rfl)
theorem dX1_targetOf_1 : decode cX1_targetOf 1 = .ok (.iload_n 1, 1) := dk_27 (dk_at dksX1_targetOf_0 1 rfl rfl)
theorem dX1_targetOf_2 : decode cX1_targetOf 2 = .ok (.invokevirtual 296, 3) := dk_182 1 40 (dk_at dksX1_targetOf_0 2 rfl rfl)
theorem dX1_targetOf_5 : decode cX1_targetOf 5 = .ok (.getfield 306, 3) := dk_180 1 50 (dk_at dksX1_targetOf_0 5 rfl rfl)
theorem dX1_targetOf_8 : decode cX1_targetOf 8 = .ok (.ireturn, 1) := dk_172 (dk_at dksX1_targetOf_0 8 rfl rfl)
abbrev cX1_hasGuard : ByteArray := prog_1_method_43_code
def yX1_hasGuard : MethodName := ⟨RX1, "hasGuard", "(I)Z"⟩
def dkwX1_hasGuard_0 : List UInt8 := [42, 27, 182, 1, 40, 180, 1, 53, 198, 0, 7, 4, 167, 0, 4, 3, 172]
abbrev dktX1_hasGuard_0 : List UInt8 := dkwX1_hasGuard_0 ++ []
theorem dksX1_hasGuard_0 : cX1_hasGuard.data.toList.drop 0 = dktX1_hasGuard_0 := by decide +kernel
theorem dX1_hasGuard_0 : decode cX1_hasGuard 0 = .ok (.aload_n 0, 1) := dk_42 (dk_at dksX1_hasGuard_0 0 rfl rfl)
theorem dX1_hasGuard_1 : decode cX1_hasGuard 1 = .ok (.iload_n 1, 1) := dk_27 (dk_at dksX1_hasGuard_0 1 rfl rfl)
theorem dX1_hasGuard_2 : decode cX1_hasGuard 2 = .ok (.invokevirtual 296, 3) := dk_182 1 40 (dk_at dksX1_hasGuard_0 2 rfl rfl)
theorem dX1_hasGuard_5 : decode cX1_hasGuard 5 = .ok (.getfield 309, 3) := dk_180 1 53 (dk_at dksX1_hasGuard_0 5 rfl rfl)
theorem dX1_hasGuard_8 : decode cX1_hasGuard 8 = .ok (.ifnull 7, 3) := dk_198 0 7 (dk_at dksX1_hasGuard_0 8 rfl rfl)
theorem dX1_hasGuard_11 : decode cX1_hasGuard 11 = .ok (.iconst 1, 1) := dk_4 (dk_at dksX1_hasGuard_0 11 rfl rfl)
theorem dX1_hasGuard_12 : decode cX1_hasGuard 12 = .ok (.goto 4, 3) := dk_167 0 4 (dk_at dksX1_hasGuard_0 12 rfl rfl)
theorem dX1_hasGuard_15 : decode cX1_hasGuard 15 = .ok (.iconst 0, 1) := dk_3 (dk_at dksX1_hasGuard_0 15 rfl rfl)
theorem dX1_hasGuard_16 : decode cX1_hasGuard 16 = .ok (.ireturn, 1) := dk_172 (dk_at dksX1_hasGuard_0 16 rfl rfl)
abbrev cX1_guardHolds : ByteArray := prog_1_method_44_code
def yX1_guardHolds : MethodName := ⟨RX1, "guardHolds", "(I)Z"⟩
def dkwX1_guardHolds_0 : List UInt8 := [42, 27, 182, 1, 40, 42, 180, 0, 53, 182, 1, 33, 182, 1, 57, 172]
abbrev dktX1_guardHolds_0 : List UInt8 := dkwX1_guardHolds_0 ++ []
theorem dksX1_guardHolds_0 : cX1_guardHolds.data.toList.drop 0 = dktX1_guardHolds_0 := by decide +kernel
theorem dX1_guardHolds_0 : decode cX1_guardHolds 0 = .ok (.aload_n 0, 1) := dk_42 (dk_at dksX1_guardHolds_0 0 rfl rfl)
theorem dX1_guardHolds_1 : decode cX1_guardHolds 1 = .ok (.iload_n 1, 1) := dk_27 (dk_at dksX1_guardHolds_0 1 rfl rfl)
theorem dX1_guardHolds_2 : decode cX1_guardHolds 2 = .ok (.invokevirtual 296, 3) := dk_182 1 40 (dk_at dksX1_guardHolds_0 2 rfl rfl)
theorem dX1_guardHolds_5 : decode cX1_guardHolds 5 = .ok (.aload_n 0, 1) := dk_42 (dk_at dksX1_guardHolds_0 5 rfl rfl)
theorem dX1_guardHolds_6 : decode cX1_guardHolds 6 = .ok (.getfield 53, 3) := dk_180 0 53 (dk_at dksX1_guardHolds_0 6 rfl rfl)
theorem dX1_guardHolds_9 : decode cX1_guardHolds 9 = .ok (.invokevirtual 289, 3) := dk_182 1 33 (dk_at dksX1_guardHolds_0 9 rfl rfl)
theorem dX1_guardHolds_12 : decode cX1_guardHolds 12 = .ok (.invokevirtual 313, 3) := dk_182 1 57 (dk_at dksX1_guardHolds_0 12 rfl rfl)
theorem dX1_guardHolds_15 : decode cX1_guardHolds 15 = .ok (.ireturn, 1) := dk_172 (dk_at dksX1_guardHolds_0 15 rfl rfl)
abbrev cX1_stateOfInvariant : ByteArray := prog_1_method_45_code
def yX1_stateOfInvariant : MethodName := ⟨RX1, "stateOfInvariant", "(I)I"⟩
def dkwX1_stateOfInvariant_0 : List UInt8 := [42, 27, 182, 1, 61, 180, 1, 65, 172]
abbrev dktX1_stateOfInvariant_0 : List UInt8 := dkwX1_stateOfInvariant_0 ++ []
theorem dksX1_stateOfInvariant_0 : cX1_stateOfInvariant.data.toList.drop 0 = dktX1_stateOfInvariant_0 := by decide +kernel
theorem dX1_stateOfInvariant_0 : decode cX1_stateOfInvariant 0 = .ok (.aload_n 0, 1) := dk_42 (dk_at dksX1_stateOfInvariant_0 0 rfl rfl)
theorem dX1_stateOfInvariant_1 : decode cX1_stateOfInvariant 1 = .ok (.iload_n 1, 1) := dk_27 (dk_at dksX1_stateOfInvariant_0 1 rfl rfl)
theorem dX1_stateOfInvariant_2 : decode cX1_stateOfInvariant 2 = .ok (.invokevirtual 317, 3) := dk_182 1 61 (dk_at dksX1_stateOfInvariant_0 2 rfl rfl)
theorem dX1_stateOfInvariant_5 : decode cX1_stateOfInvariant 5 = .ok (.getfield 321, 3) := dk_180 1 65 (dk_at dksX1_stateOfInvariant_0 5 rfl rfl)
theorem dX1_stateOfInvariant_8 : decode cX1_stateOfInvariant 8 = .ok (.ireturn, 1) := dk_172 (dk_at dksX1_stateOfInvariant_0 8 rfl rfl)
abbrev cX1_invariant : ByteArray := prog_1_method_27_code
def yX1_invariant : MethodName := ⟨RX1, "invariant", "(I)LContractMachine$Invariant;"⟩
def dkwX1_invariant_1 : List UInt8 := [185, 1, 12, 2, 0, 192, 0, 147, 176]
abbrev dktX1_invariant_1 : List UInt8 := dkwX1_invariant_1 ++ []
def dkwX1_invariant_0 : List UInt8 := [27, 42, 180, 0, 53, 180, 0, 143, 185, 0, 224, 1, 0, 184, 1, 5, 42, 180, 0, 53, 180, 0, 143, 27]
abbrev dktX1_invariant_0 : List UInt8 := dkwX1_invariant_0 ++ dktX1_invariant_1
theorem dksX1_invariant_0 : cX1_invariant.data.toList.drop 0 = dktX1_invariant_0 := by decide +kernel
theorem dksX1_invariant_1 : cX1_invariant.data.toList.drop 24 = dktX1_invariant_1 := dk_seg dksX1_invariant_0 24 rfl rfl
theorem dX1_invariant_0 : decode cX1_invariant 0 = .ok (.iload_n 1, 1) := dk_27 (dk_at dksX1_invariant_0 0 rfl rfl)
theorem dX1_invariant_1 : decode cX1_invariant 1 = .ok (.aload_n 0, 1) := dk_42 (dk_at dksX1_invariant_0 1 rfl rfl)
theorem dX1_invariant_2 : decode cX1_invariant 2 = .ok (.getfield 53, 3) := dk_180 0 53 (dk_at dksX1_invariant_0 2 rfl rfl)
theorem dX1_invariant_5 : decode cX1_invariant 5 = .ok (.getfield 143, 3) := dk_180 0 143 (dk_at dksX1_invariant_0 5 rfl rfl)
theorem dX1_invariant_8 : decode cX1_invariant 8 = .ok (.invokeinterface 224 1, 5) := by decide +kernel
theorem dX1_invariant_13 : decode cX1_invariant 13 = .ok (.invokestatic 261, 3) := dk_184 1 5 (dk_at dksX1_invariant_0 13 rfl rfl)
theorem dX1_invariant_16 : decode cX1_invariant 16 = .ok (.aload_n 0, 1) := dk_42 (dk_at dksX1_invariant_0 16 rfl rfl)
theorem dX1_invariant_17 : decode cX1_invariant 17 = .ok (.getfield 53, 3) := dk_180 0 53 (dk_at dksX1_invariant_0 17 rfl rfl)
theorem dX1_invariant_20 : decode cX1_invariant 20 = .ok (.getfield 143, 3) := dk_180 0 143 (dk_at dksX1_invariant_0 20 rfl rfl)
theorem dX1_invariant_23 : decode cX1_invariant 23 = .ok (.iload_n 1, 1) := dk_27 (dk_at dksX1_invariant_0 23 rfl rfl)
theorem dX1_invariant_24 : decode cX1_invariant 24 = .ok (.invokeinterface 268 2, 5) := by decide +kernel
theorem dX1_invariant_29 : decode cX1_invariant 29 = .ok (.checkcast 147, 3) := dk_192 0 147 (dk_at dksX1_invariant_1 5 rfl rfl)
theorem dX1_invariant_32 : decode cX1_invariant 32 = .ok (.areturn, 1) := dk_176 (dk_at dksX1_invariant_1 8 rfl rfl)
abbrev cX1_comparisonHolds : ByteArray := prog_1_method_46_code
def yX1_comparisonHolds : MethodName := ⟨RX1, "comparisonHolds", "(I)Z"⟩
def dkwX1_comparisonHolds_0 : List UInt8 := [42, 27, 182, 1, 61, 180, 1, 67, 42, 180, 0, 53, 182, 1, 33, 182, 1, 70, 172]
abbrev dktX1_comparisonHolds_0 : List UInt8 := dkwX1_comparisonHolds_0 ++ []
theorem dksX1_comparisonHolds_0 : cX1_comparisonHolds.data.toList.drop 0 = dktX1_comparisonHolds_0 := by decide +kernel
theorem dX1_comparisonHolds_0 : decode cX1_comparisonHolds 0 = .ok (.aload_n 0, 1) := dk_42 (dk_at dksX1_comparisonHolds_0 0 rfl rfl)
theorem dX1_comparisonHolds_1 : decode cX1_comparisonHolds 1 = .ok (.iload_n 1, 1) := dk_27 (dk_at dksX1_comparisonHolds_0 1 rfl rfl)
theorem dX1_comparisonHolds_2 : decode cX1_comparisonHolds 2 = .ok (.invokevirtual 317, 3) := dk_182 1 61 (dk_at dksX1_comparisonHolds_0 2 rfl rfl)
theorem dX1_comparisonHolds_5 : decode cX1_comparisonHolds 5 = .ok (.getfield 323, 3) := dk_180 1 67 (dk_at dksX1_comparisonHolds_0 5 rfl rfl)
theorem dX1_comparisonHolds_8 : decode cX1_comparisonHolds 8 = .ok (.aload_n 0, 1) := dk_42 (dk_at dksX1_comparisonHolds_0 8 rfl rfl)
theorem dX1_comparisonHolds_9 : decode cX1_comparisonHolds 9 = .ok (.getfield 53, 3) := dk_180 0 53 (dk_at dksX1_comparisonHolds_0 9 rfl rfl)
theorem dX1_comparisonHolds_12 : decode cX1_comparisonHolds 12 = .ok (.invokevirtual 289, 3) := dk_182 1 33 (dk_at dksX1_comparisonHolds_0 12 rfl rfl)
theorem dX1_comparisonHolds_15 : decode cX1_comparisonHolds 15 = .ok (.invokevirtual 326, 3) := dk_182 1 70 (dk_at dksX1_comparisonHolds_0 15 rfl rfl)
theorem dX1_comparisonHolds_18 : decode cX1_comparisonHolds 18 = .ok (.ireturn, 1) := dk_172 (dk_at dksX1_comparisonHolds_0 18 rfl rfl)
abbrev cX1_verdictOf : ByteArray := prog_1_method_50_code
def yX1_verdictOf : MethodName := ⟨RX1, "verdictOf", "(I)I"⟩
def dkwX1_verdictOf_0 : List UInt8 := [42, 27, 182, 1, 100, 42, 42, 180, 0, 53, 180, 0, 164, 27, 182, 1, 86, 172]
abbrev dktX1_verdictOf_0 : List UInt8 := dkwX1_verdictOf_0 ++ []
theorem dksX1_verdictOf_0 : cX1_verdictOf.data.toList.drop 0 = dktX1_verdictOf_0 := by decide +kernel
theorem dX1_verdictOf_0 : decode cX1_verdictOf 0 = .ok (.aload_n 0, 1) := dk_42 (dk_at dksX1_verdictOf_0 0 rfl rfl)
theorem dX1_verdictOf_1 : decode cX1_verdictOf 1 = .ok (.iload_n 1, 1) := dk_27 (dk_at dksX1_verdictOf_0 1 rfl rfl)
theorem dX1_verdictOf_2 : decode cX1_verdictOf 2 = .ok (.invokevirtual 356, 3) := dk_182 1 100 (dk_at dksX1_verdictOf_0 2 rfl rfl)
theorem dX1_verdictOf_5 : decode cX1_verdictOf 5 = .ok (.aload_n 0, 1) := dk_42 (dk_at dksX1_verdictOf_0 5 rfl rfl)
theorem dX1_verdictOf_6 : decode cX1_verdictOf 6 = .ok (.aload_n 0, 1) := dk_42 (dk_at dksX1_verdictOf_0 6 rfl rfl)
theorem dX1_verdictOf_7 : decode cX1_verdictOf 7 = .ok (.getfield 53, 3) := dk_180 0 53 (dk_at dksX1_verdictOf_0 7 rfl rfl)
theorem dX1_verdictOf_10 : decode cX1_verdictOf 10 = .ok (.getfield 164, 3) := dk_180 0 164 (dk_at dksX1_verdictOf_0 10 rfl rfl)
theorem dX1_verdictOf_13 : decode cX1_verdictOf 13 = .ok (.iload_n 1, 1) := dk_27 (dk_at dksX1_verdictOf_0 13 rfl rfl)
theorem dX1_verdictOf_14 : decode cX1_verdictOf 14 = .ok (.invokevirtual 342, 3) := dk_182 1 86 (dk_at dksX1_verdictOf_0 14 rfl rfl)
theorem dX1_verdictOf_17 : decode cX1_verdictOf 17 = .ok (.ireturn, 1) := dk_172 (dk_at dksX1_verdictOf_0 17 rfl rfl)
abbrev cX1_checkEvent : ByteArray := prog_1_method_24_code
def yX1_checkEvent : MethodName := ⟨RX1, "checkEvent", "(I)V"⟩
def dkwX1_checkEvent_0 : List UInt8 := [27, 42, 180, 0, 46, 180, 0, 173, 185, 0, 224, 1, 0, 184, 1, 5, 177]
abbrev dktX1_checkEvent_0 : List UInt8 := dkwX1_checkEvent_0 ++ []
theorem dksX1_checkEvent_0 : cX1_checkEvent.data.toList.drop 0 = dktX1_checkEvent_0 := by decide +kernel
theorem dX1_checkEvent_0 : decode cX1_checkEvent 0 = .ok (.iload_n 1, 1) := dk_27 (dk_at dksX1_checkEvent_0 0 rfl rfl)
theorem dX1_checkEvent_1 : decode cX1_checkEvent 1 = .ok (.aload_n 0, 1) := dk_42 (dk_at dksX1_checkEvent_0 1 rfl rfl)
theorem dX1_checkEvent_2 : decode cX1_checkEvent 2 = .ok (.getfield 46, 3) := dk_180 0 46 (dk_at dksX1_checkEvent_0 2 rfl rfl)
theorem dX1_checkEvent_5 : decode cX1_checkEvent 5 = .ok (.getfield 173, 3) := dk_180 0 173 (dk_at dksX1_checkEvent_0 5 rfl rfl)
theorem dX1_checkEvent_8 : decode cX1_checkEvent 8 = .ok (.invokeinterface 224 1, 5) := by decide +kernel
theorem dX1_checkEvent_13 : decode cX1_checkEvent 13 = .ok (.invokestatic 261, 3) := dk_184 1 5 (dk_at dksX1_checkEvent_0 13 rfl rfl)
theorem dX1_checkEvent_16 : decode cX1_checkEvent 16 = .ok (.return_, 1) := dk_177 (dk_at dksX1_checkEvent_0 16 rfl rfl)
abbrev cX1_chosenTransition : ByteArray := prog_1_method_51_code
def yX1_chosenTransition : MethodName := ⟨RX1, "chosenTransition", "(I)I"⟩
def dkwX1_chosenTransition_0 : List UInt8 := [42, 27, 182, 1, 100, 42, 180, 0, 46, 42, 180, 0, 53, 180, 0, 164, 27, 182, 1, 73, 172]
abbrev dktX1_chosenTransition_0 : List UInt8 := dkwX1_chosenTransition_0 ++ []
theorem dksX1_chosenTransition_0 : cX1_chosenTransition.data.toList.drop 0 = dktX1_chosenTransition_0 := by decide +kernel
theorem dX1_chosenTransition_0 : decode cX1_chosenTransition 0 = .ok (.aload_n 0, 1) := dk_42 (dk_at dksX1_chosenTransition_0 0 rfl rfl)
theorem dX1_chosenTransition_1 : decode cX1_chosenTransition 1 = .ok (.iload_n 1, 1) := dk_27 (dk_at dksX1_chosenTransition_0 1 rfl rfl)
theorem dX1_chosenTransition_2 : decode cX1_chosenTransition 2 = .ok (.invokevirtual 356, 3) := dk_182 1 100 (dk_at dksX1_chosenTransition_0 2 rfl rfl)
theorem dX1_chosenTransition_5 : decode cX1_chosenTransition 5 = .ok (.aload_n 0, 1) := dk_42 (dk_at dksX1_chosenTransition_0 5 rfl rfl)
theorem dX1_chosenTransition_6 : decode cX1_chosenTransition 6 = .ok (.getfield 46, 3) := dk_180 0 46 (dk_at dksX1_chosenTransition_0 6 rfl rfl)
theorem dX1_chosenTransition_9 : decode cX1_chosenTransition 9 = .ok (.aload_n 0, 1) := dk_42 (dk_at dksX1_chosenTransition_0 9 rfl rfl)
theorem dX1_chosenTransition_10 : decode cX1_chosenTransition 10 = .ok (.getfield 53, 3) := dk_180 0 53 (dk_at dksX1_chosenTransition_0 10 rfl rfl)
theorem dX1_chosenTransition_13 : decode cX1_chosenTransition 13 = .ok (.getfield 164, 3) := dk_180 0 164 (dk_at dksX1_chosenTransition_0 13 rfl rfl)
theorem dX1_chosenTransition_16 : decode cX1_chosenTransition 16 = .ok (.iload_n 1, 1) := dk_27 (dk_at dksX1_chosenTransition_0 16 rfl rfl)
theorem dX1_chosenTransition_17 : decode cX1_chosenTransition 17 = .ok (.invokevirtual 329, 3) := dk_182 1 73 (dk_at dksX1_chosenTransition_0 17 rfl rfl)
theorem dX1_chosenTransition_20 : decode cX1_chosenTransition 20 = .ok (.ireturn, 1) := dk_172 (dk_at dksX1_chosenTransition_0 20 rfl rfl)
abbrev cX1_brokenInvariant : ByteArray := prog_1_method_52_code
def yX1_brokenInvariant : MethodName := ⟨RX1, "brokenInvariant", "(I)I"⟩
def dkwX1_brokenInvariant_3 : List UInt8 := [182, 1, 83, 172]
abbrev dktX1_brokenInvariant_3 : List UInt8 := dkwX1_brokenInvariant_3 ++ []
def dkwX1_brokenInvariant_2 : List UInt8 := [180, 0, 176, 28, 185, 1, 12, 2, 0, 192, 0, 179, 42, 180, 0, 53, 182, 1, 33, 182, 1, 80]
abbrev dktX1_brokenInvariant_2 : List UInt8 := dkwX1_brokenInvariant_2 ++ dktX1_brokenInvariant_3
def dkwX1_brokenInvariant_1 : List UInt8 := [180, 0, 46, 42, 180, 0, 53, 180, 0, 164, 27, 182, 1, 73, 61, 42, 180, 0, 53, 42, 180, 0, 46]
abbrev dktX1_brokenInvariant_1 : List UInt8 := dkwX1_brokenInvariant_1 ++ dktX1_brokenInvariant_2
def dkwX1_brokenInvariant_0 : List UInt8 := [42, 27, 182, 1, 100, 42, 42, 180, 0, 53, 180, 0, 164, 27, 182, 1, 86, 7, 159, 0, 5, 2, 172, 42]
abbrev dktX1_brokenInvariant_0 : List UInt8 := dkwX1_brokenInvariant_0 ++ dktX1_brokenInvariant_1
theorem dksX1_brokenInvariant_0 : cX1_brokenInvariant.data.toList.drop 0 = dktX1_brokenInvariant_0 := by decide +kernel
theorem dksX1_brokenInvariant_1 : cX1_brokenInvariant.data.toList.drop 24 = dktX1_brokenInvariant_1 := dk_seg dksX1_brokenInvariant_0 24 rfl rfl
theorem dksX1_brokenInvariant_2 : cX1_brokenInvariant.data.toList.drop 47 = dktX1_brokenInvariant_2 := dk_seg dksX1_brokenInvariant_1 23 rfl rfl
theorem dksX1_brokenInvariant_3 : cX1_brokenInvariant.data.toList.drop 69 = dktX1_brokenInvariant_3 := dk_seg dksX1_brokenInvariant_2 22 rfl rfl
theorem dX1_brokenInvariant_0 : decode cX1_brokenInvariant 0 = .ok (.aload_n 0, 1) := dk_42 (dk_at dksX1_brokenInvariant_0 0 rfl rfl)
theorem dX1_brokenInvariant_1 : decode cX1_brokenInvariant 1 = .ok (.iload_n 1, 1) := dk_27 (dk_at dksX1_brokenInvariant_0 1 rfl rfl)
theorem dX1_brokenInvariant_2 : decode cX1_brokenInvariant 2 = .ok (.invokevirtual 356, 3) := dk_182 1 100 (dk_at dksX1_brokenInvariant_0 2 rfl rfl)
theorem dX1_brokenInvariant_5 : decode cX1_brokenInvariant 5 = .ok (.aload_n 0, 1) := dk_42 (dk_at dksX1_brokenInvariant_0 5 rfl rfl)
theorem dX1_brokenInvariant_6 : decode cX1_brokenInvariant 6 = .ok (.aload_n 0, 1) := dk_42 (dk_at dksX1_brokenInvariant_0 6 rfl rfl)
theorem dX1_brokenInvariant_7 : decode cX1_brokenInvariant 7 = .ok (.getfield 53, 3) := dk_180 0 53 (dk_at dksX1_brokenInvariant_0 7 rfl rfl)
theorem dX1_brokenInvariant_10 : decode cX1_brokenInvariant 10 = .ok (.getfield 164, 3) := dk_180 0 164 (dk_at dksX1_brokenInvariant_0 10 rfl rfl)
theorem dX1_brokenInvariant_13 : decode cX1_brokenInvariant 13 = .ok (.iload_n 1, 1) := dk_27 (dk_at dksX1_brokenInvariant_0 13 rfl rfl)
theorem dX1_brokenInvariant_14 : decode cX1_brokenInvariant 14 = .ok (.invokevirtual 342, 3) := dk_182 1 86 (dk_at dksX1_brokenInvariant_0 14 rfl rfl)
theorem dX1_brokenInvariant_17 : decode cX1_brokenInvariant 17 = .ok (.iconst 4, 1) := dk_7 (dk_at dksX1_brokenInvariant_0 17 rfl rfl)
theorem dX1_brokenInvariant_18 : decode cX1_brokenInvariant 18 = .ok (.if_icmp .eq 5, 3) := dk_159 0 5 (dk_at dksX1_brokenInvariant_0 18 rfl rfl)
theorem dX1_brokenInvariant_21 : decode cX1_brokenInvariant 21 = .ok (.iconst (-1), 1) := dk_2 (dk_at dksX1_brokenInvariant_0 21 rfl rfl)
theorem dX1_brokenInvariant_22 : decode cX1_brokenInvariant 22 = .ok (.ireturn, 1) := dk_172 (dk_at dksX1_brokenInvariant_0 22 rfl rfl)
theorem dX1_brokenInvariant_23 : decode cX1_brokenInvariant 23 = .ok (.aload_n 0, 1) := dk_42 (dk_at dksX1_brokenInvariant_0 23 rfl rfl)
theorem dX1_brokenInvariant_24 : decode cX1_brokenInvariant 24 = .ok (.getfield 46, 3) := dk_180 0 46 (dk_at dksX1_brokenInvariant_1 0 rfl rfl)
theorem dX1_brokenInvariant_27 : decode cX1_brokenInvariant 27 = .ok (.aload_n 0, 1) := dk_42 (dk_at dksX1_brokenInvariant_1 3 rfl rfl)
theorem dX1_brokenInvariant_28 : decode cX1_brokenInvariant 28 = .ok (.getfield 53, 3) := dk_180 0 53 (dk_at dksX1_brokenInvariant_1 4 rfl rfl)
theorem dX1_brokenInvariant_31 : decode cX1_brokenInvariant 31 = .ok (.getfield 164, 3) := dk_180 0 164 (dk_at dksX1_brokenInvariant_1 7 rfl rfl)
theorem dX1_brokenInvariant_34 : decode cX1_brokenInvariant 34 = .ok (.iload_n 1, 1) := dk_27 (dk_at dksX1_brokenInvariant_1 10 rfl rfl)
theorem dX1_brokenInvariant_35 : decode cX1_brokenInvariant 35 = .ok (.invokevirtual 329, 3) := dk_182 1 73 (dk_at dksX1_brokenInvariant_1 11 rfl rfl)
theorem dX1_brokenInvariant_38 : decode cX1_brokenInvariant 38 = .ok (.istore_n 2, 1) := dk_61 (dk_at dksX1_brokenInvariant_1 14 rfl rfl)
theorem dX1_brokenInvariant_39 : decode cX1_brokenInvariant 39 = .ok (.aload_n 0, 1) := dk_42 (dk_at dksX1_brokenInvariant_1 15 rfl rfl)
theorem dX1_brokenInvariant_40 : decode cX1_brokenInvariant 40 = .ok (.getfield 53, 3) := dk_180 0 53 (dk_at dksX1_brokenInvariant_1 16 rfl rfl)
theorem dX1_brokenInvariant_43 : decode cX1_brokenInvariant 43 = .ok (.aload_n 0, 1) := dk_42 (dk_at dksX1_brokenInvariant_1 19 rfl rfl)
theorem dX1_brokenInvariant_44 : decode cX1_brokenInvariant 44 = .ok (.getfield 46, 3) := dk_180 0 46 (dk_at dksX1_brokenInvariant_1 20 rfl rfl)
theorem dX1_brokenInvariant_47 : decode cX1_brokenInvariant 47 = .ok (.getfield 176, 3) := dk_180 0 176 (dk_at dksX1_brokenInvariant_2 0 rfl rfl)
theorem dX1_brokenInvariant_50 : decode cX1_brokenInvariant 50 = .ok (.iload_n 2, 1) := dk_28 (dk_at dksX1_brokenInvariant_2 3 rfl rfl)
theorem dX1_brokenInvariant_51 : decode cX1_brokenInvariant 51 = .ok (.invokeinterface 268 2, 5) := by decide +kernel
theorem dX1_brokenInvariant_56 : decode cX1_brokenInvariant 56 = .ok (.checkcast 179, 3) := dk_192 0 179 (dk_at dksX1_brokenInvariant_2 9 rfl rfl)
theorem dX1_brokenInvariant_59 : decode cX1_brokenInvariant 59 = .ok (.aload_n 0, 1) := dk_42 (dk_at dksX1_brokenInvariant_2 12 rfl rfl)
theorem dX1_brokenInvariant_60 : decode cX1_brokenInvariant 60 = .ok (.getfield 53, 3) := dk_180 0 53 (dk_at dksX1_brokenInvariant_2 13 rfl rfl)
theorem dX1_brokenInvariant_63 : decode cX1_brokenInvariant 63 = .ok (.invokevirtual 289, 3) := dk_182 1 33 (dk_at dksX1_brokenInvariant_2 16 rfl rfl)
theorem dX1_brokenInvariant_66 : decode cX1_brokenInvariant 66 = .ok (.invokevirtual 336, 3) := dk_182 1 80 (dk_at dksX1_brokenInvariant_2 19 rfl rfl)
theorem dX1_brokenInvariant_69 : decode cX1_brokenInvariant 69 = .ok (.invokevirtual 339, 3) := dk_182 1 83 (dk_at dksX1_brokenInvariant_3 0 rfl rfl)
theorem dX1_brokenInvariant_72 : decode cX1_brokenInvariant 72 = .ok (.ireturn, 1) := dk_172 (dk_at dksX1_brokenInvariant_3 3 rfl rfl)
abbrev cX1_timesTaken : ByteArray := prog_1_method_55_code
def yX1_timesTaken : MethodName := ⟨RX1, "timesTaken", "(I)I"⟩
def dkwX1_timesTaken_0 : List UInt8 := [42, 27, 182, 1, 40, 77, 42, 180, 0, 53, 180, 1, 106, 27, 46, 172]
abbrev dktX1_timesTaken_0 : List UInt8 := dkwX1_timesTaken_0 ++ []
theorem dksX1_timesTaken_0 : cX1_timesTaken.data.toList.drop 0 = dktX1_timesTaken_0 := by decide +kernel
theorem dX1_timesTaken_0 : decode cX1_timesTaken 0 = .ok (.aload_n 0, 1) := dk_42 (dk_at dksX1_timesTaken_0 0 rfl rfl)
theorem dX1_timesTaken_1 : decode cX1_timesTaken 1 = .ok (.iload_n 1, 1) := dk_27 (dk_at dksX1_timesTaken_0 1 rfl rfl)
theorem dX1_timesTaken_2 : decode cX1_timesTaken 2 = .ok (.invokevirtual 296, 3) := dk_182 1 40 (dk_at dksX1_timesTaken_0 2 rfl rfl)
theorem dX1_timesTaken_5 : decode cX1_timesTaken 5 = .ok (.astore_n 2, 1) := dk_77 (dk_at dksX1_timesTaken_0 5 rfl rfl)
theorem dX1_timesTaken_6 : decode cX1_timesTaken 6 = .ok (.aload_n 0, 1) := dk_42 (dk_at dksX1_timesTaken_0 6 rfl rfl)
theorem dX1_timesTaken_7 : decode cX1_timesTaken 7 = .ok (.getfield 53, 3) := dk_180 0 53 (dk_at dksX1_timesTaken_0 7 rfl rfl)
theorem dX1_timesTaken_10 : decode cX1_timesTaken 10 = .ok (.getfield 362, 3) := dk_180 1 106 (dk_at dksX1_timesTaken_0 10 rfl rfl)
theorem dX1_timesTaken_13 : decode cX1_timesTaken 13 = .ok (.iload_n 1, 1) := dk_27 (dk_at dksX1_timesTaken_0 13 rfl rfl)
theorem dX1_timesTaken_14 : decode cX1_timesTaken 14 = .ok (.iaload, 1) := dk_46 (dk_at dksX1_timesTaken_0 14 rfl rfl)
theorem dX1_timesTaken_15 : decode cX1_timesTaken 15 = .ok (.ireturn, 1) := dk_172 (dk_at dksX1_timesTaken_0 15 rfl rfl)
abbrev cX1_visitsOf : ByteArray := prog_1_method_56_code
def yX1_visitsOf : MethodName := ⟨RX1, "visitsOf", "(I)I"⟩
def dkwX1_visitsOf_0 : List UInt8 := [42, 27, 182, 1, 109, 42, 180, 0, 53, 180, 1, 112, 27, 46, 172]
abbrev dktX1_visitsOf_0 : List UInt8 := dkwX1_visitsOf_0 ++ []
theorem dksX1_visitsOf_0 : cX1_visitsOf.data.toList.drop 0 = dktX1_visitsOf_0 := by decide +kernel
theorem dX1_visitsOf_0 : decode cX1_visitsOf 0 = .ok (.aload_n 0, 1) := dk_42 (dk_at dksX1_visitsOf_0 0 rfl rfl)
theorem dX1_visitsOf_1 : decode cX1_visitsOf 1 = .ok (.iload_n 1, 1) := dk_27 (dk_at dksX1_visitsOf_0 1 rfl rfl)
theorem dX1_visitsOf_2 : decode cX1_visitsOf 2 = .ok (.invokevirtual 365, 3) := dk_182 1 109 (dk_at dksX1_visitsOf_0 2 rfl rfl)
theorem dX1_visitsOf_5 : decode cX1_visitsOf 5 = .ok (.aload_n 0, 1) := dk_42 (dk_at dksX1_visitsOf_0 5 rfl rfl)
theorem dX1_visitsOf_6 : decode cX1_visitsOf 6 = .ok (.getfield 53, 3) := dk_180 0 53 (dk_at dksX1_visitsOf_0 6 rfl rfl)
theorem dX1_visitsOf_9 : decode cX1_visitsOf 9 = .ok (.getfield 368, 3) := dk_180 1 112 (dk_at dksX1_visitsOf_0 9 rfl rfl)
theorem dX1_visitsOf_12 : decode cX1_visitsOf 12 = .ok (.iload_n 1, 1) := dk_27 (dk_at dksX1_visitsOf_0 12 rfl rfl)
theorem dX1_visitsOf_13 : decode cX1_visitsOf 13 = .ok (.iaload, 1) := dk_46 (dk_at dksX1_visitsOf_0 13 rfl rfl)
theorem dX1_visitsOf_14 : decode cX1_visitsOf 14 = .ok (.ireturn, 1) := dk_172 (dk_at dksX1_visitsOf_0 14 rfl rfl)
abbrev cX1_checkState : ByteArray := prog_1_method_23_code
def yX1_checkState : MethodName := ⟨RX1, "checkState", "(I)V"⟩
def dkwX1_checkState_0 : List UInt8 := [27, 42, 180, 0, 46, 180, 0, 170, 185, 0, 224, 1, 0, 184, 1, 5, 177]
abbrev dktX1_checkState_0 : List UInt8 := dkwX1_checkState_0 ++ []
theorem dksX1_checkState_0 : cX1_checkState.data.toList.drop 0 = dktX1_checkState_0 := by decide +kernel
theorem dX1_checkState_0 : decode cX1_checkState 0 = .ok (.iload_n 1, 1) := dk_27 (dk_at dksX1_checkState_0 0 rfl rfl)
theorem dX1_checkState_1 : decode cX1_checkState 1 = .ok (.aload_n 0, 1) := dk_42 (dk_at dksX1_checkState_0 1 rfl rfl)
theorem dX1_checkState_2 : decode cX1_checkState 2 = .ok (.getfield 46, 3) := dk_180 0 46 (dk_at dksX1_checkState_0 2 rfl rfl)
theorem dX1_checkState_5 : decode cX1_checkState 5 = .ok (.getfield 170, 3) := dk_180 0 170 (dk_at dksX1_checkState_0 5 rfl rfl)
theorem dX1_checkState_8 : decode cX1_checkState 8 = .ok (.invokeinterface 224 1, 5) := by decide +kernel
theorem dX1_checkState_13 : decode cX1_checkState 13 = .ok (.invokestatic 261, 3) := dk_184 1 5 (dk_at dksX1_checkState_0 13 rfl rfl)
theorem dX1_checkState_16 : decode cX1_checkState 16 = .ok (.return_, 1) := dk_177 (dk_at dksX1_checkState_0 16 rfl rfl)
abbrev cX1_rejectedWith : ByteArray := prog_1_method_59_code
def yX1_rejectedWith : MethodName := ⟨RX1, "rejectedWith", "(I)I"⟩
def dkwX1_rejectedWith_0 : List UInt8 := [27, 133, 10, 20, 1, 121, 184, 0, 190, 184, 1, 123, 42, 180, 0, 53, 180, 1, 126, 27, 46, 172]
abbrev dktX1_rejectedWith_0 : List UInt8 := dkwX1_rejectedWith_0 ++ []
theorem dksX1_rejectedWith_0 : cX1_rejectedWith.data.toList.drop 0 = dktX1_rejectedWith_0 := by decide +kernel
theorem dX1_rejectedWith_0 : decode cX1_rejectedWith 0 = .ok (.iload_n 1, 1) := dk_27 (dk_at dksX1_rejectedWith_0 0 rfl rfl)
theorem dX1_rejectedWith_1 : decode cX1_rejectedWith 1 = .ok (.i2l, 1) := dk_133 (dk_at dksX1_rejectedWith_0 1 rfl rfl)
theorem dX1_rejectedWith_2 : decode cX1_rejectedWith 2 = .ok (.lconst 1, 1) := dk_10 (dk_at dksX1_rejectedWith_0 2 rfl rfl)
theorem dX1_rejectedWith_3 : decode cX1_rejectedWith 3 = .ok (.ldc2_w 377, 3) := dk_20 1 121 (dk_at dksX1_rejectedWith_0 3 rfl rfl)
theorem dX1_rejectedWith_6 : decode cX1_rejectedWith 6 = .ok (.invokestatic 190, 3) := dk_184 0 190 (dk_at dksX1_rejectedWith_0 6 rfl rfl)
theorem dX1_rejectedWith_9 : decode cX1_rejectedWith 9 = .ok (.invokestatic 379, 3) := dk_184 1 123 (dk_at dksX1_rejectedWith_0 9 rfl rfl)
theorem dX1_rejectedWith_12 : decode cX1_rejectedWith 12 = .ok (.aload_n 0, 1) := dk_42 (dk_at dksX1_rejectedWith_0 12 rfl rfl)
theorem dX1_rejectedWith_13 : decode cX1_rejectedWith 13 = .ok (.getfield 53, 3) := dk_180 0 53 (dk_at dksX1_rejectedWith_0 13 rfl rfl)
theorem dX1_rejectedWith_16 : decode cX1_rejectedWith 16 = .ok (.getfield 382, 3) := dk_180 1 126 (dk_at dksX1_rejectedWith_0 16 rfl rfl)
theorem dX1_rejectedWith_19 : decode cX1_rejectedWith 19 = .ok (.iload_n 1, 1) := dk_27 (dk_at dksX1_rejectedWith_0 19 rfl rfl)
theorem dX1_rejectedWith_20 : decode cX1_rejectedWith 20 = .ok (.iaload, 1) := dk_46 (dk_at dksX1_rejectedWith_0 20 rfl rfl)
theorem dX1_rejectedWith_21 : decode cX1_rejectedWith 21 = .ok (.ireturn, 1) := dk_172 (dk_at dksX1_rejectedWith_0 21 rfl rfl)
abbrev cX1_requireArgument : ByteArray := prog_1_method_3_code
def yX1_requireArgument : MethodName := ⟨RX1, "requireArgument", "(Z)V"⟩
def dkwX1_requireArgument_0 : List UInt8 := [26, 154, 0, 11, 187, 0, 9, 89, 183, 0, 11, 191, 177]
abbrev dktX1_requireArgument_0 : List UInt8 := dkwX1_requireArgument_0 ++ []
theorem dksX1_requireArgument_0 : cX1_requireArgument.data.toList.drop 0 = dktX1_requireArgument_0 := by decide +kernel
theorem dX1_requireArgument_0 : decode cX1_requireArgument 0 = .ok (.iload_n 0, 1) := dk_26 (dk_at dksX1_requireArgument_0 0 rfl rfl)
theorem dX1_requireArgument_1 : decode cX1_requireArgument 1 = .ok (.ifCond .ne 11, 3) := dk_154 0 11 (dk_at dksX1_requireArgument_0 1 rfl rfl)
theorem dX1_requireArgument_4 : decode cX1_requireArgument 4 = .ok (.new 9, 3) := dk_187 0 9 (dk_at dksX1_requireArgument_0 4 rfl rfl)
theorem dX1_requireArgument_7 : decode cX1_requireArgument 7 = .ok (.dup, 1) := dk_89 (dk_at dksX1_requireArgument_0 7 rfl rfl)
theorem dX1_requireArgument_8 : decode cX1_requireArgument 8 = .ok (.invokespecial 11, 3) := dk_183 0 11 (dk_at dksX1_requireArgument_0 8 rfl rfl)
theorem dX1_requireArgument_11 : decode cX1_requireArgument 11 = .ok (.athrow, 1) := dk_191 (dk_at dksX1_requireArgument_0 11 rfl rfl)
theorem dX1_requireArgument_12 : decode cX1_requireArgument 12 = .ok (.return_, 1) := dk_177 (dk_at dksX1_requireArgument_0 12 rfl rfl)
abbrev cX1_isReachable : ByteArray := prog_1_method_69_code
def yX1_isReachable : MethodName := ⟨RX1, "isReachable", "(I)Z"⟩
def dkwX1_isReachable_0 : List UInt8 := [42, 27, 182, 1, 156, 2, 159, 0, 7, 4, 167, 0, 4, 3, 172]
abbrev dktX1_isReachable_0 : List UInt8 := dkwX1_isReachable_0 ++ []
theorem dksX1_isReachable_0 : cX1_isReachable.data.toList.drop 0 = dktX1_isReachable_0 := by decide +kernel
theorem dX1_isReachable_0 : decode cX1_isReachable 0 = .ok (.aload_n 0, 1) := dk_42 (dk_at dksX1_isReachable_0 0 rfl rfl)
theorem dX1_isReachable_1 : decode cX1_isReachable 1 = .ok (.iload_n 1, 1) := dk_27 (dk_at dksX1_isReachable_0 1 rfl rfl)
theorem dX1_isReachable_2 : decode cX1_isReachable 2 = .ok (.invokevirtual 412, 3) := dk_182 1 156 (dk_at dksX1_isReachable_0 2 rfl rfl)
theorem dX1_isReachable_5 : decode cX1_isReachable 5 = .ok (.iconst (-1), 1) := dk_2 (dk_at dksX1_isReachable_0 5 rfl rfl)
theorem dX1_isReachable_6 : decode cX1_isReachable 6 = .ok (.if_icmp .eq 7, 3) := dk_159 0 7 (dk_at dksX1_isReachable_0 6 rfl rfl)
theorem dX1_isReachable_9 : decode cX1_isReachable 9 = .ok (.iconst 1, 1) := dk_4 (dk_at dksX1_isReachable_0 9 rfl rfl)
theorem dX1_isReachable_10 : decode cX1_isReachable 10 = .ok (.goto 4, 3) := dk_167 0 4 (dk_at dksX1_isReachable_0 10 rfl rfl)
theorem dX1_isReachable_13 : decode cX1_isReachable 13 = .ok (.iconst 0, 1) := dk_3 (dk_at dksX1_isReachable_0 13 rfl rfl)
theorem dX1_isReachable_14 : decode cX1_isReachable 14 = .ok (.ireturn, 1) := dk_172 (dk_at dksX1_isReachable_0 14 rfl rfl)
abbrev cX1_findState : ByteArray := prog_1_method_67_code
def yX1_findState : MethodName := ⟨RX1, "findState", "(I)I"⟩
def dkwX1_findState_1 : List UInt8 := [182, 1, 146, 61, 42, 180, 1, 150, 172]
abbrev dktX1_findState_1 : List UInt8 := dkwX1_findState_1 ++ []
def dkwX1_findState_0 : List UInt8 := [42, 27, 182, 1, 109, 187, 1, 138, 89, 42, 183, 1, 140, 187, 1, 141, 89, 42, 27, 183, 1, 143]
abbrev dktX1_findState_0 : List UInt8 := dkwX1_findState_0 ++ dktX1_findState_1
theorem dksX1_findState_0 : cX1_findState.data.toList.drop 0 = dktX1_findState_0 := by decide +kernel
theorem dksX1_findState_1 : cX1_findState.data.toList.drop 22 = dktX1_findState_1 := dk_seg dksX1_findState_0 22 rfl rfl
theorem dX1_findState_0 : decode cX1_findState 0 = .ok (.aload_n 0, 1) := dk_42 (dk_at dksX1_findState_0 0 rfl rfl)
theorem dX1_findState_1 : decode cX1_findState 1 = .ok (.iload_n 1, 1) := dk_27 (dk_at dksX1_findState_0 1 rfl rfl)
theorem dX1_findState_2 : decode cX1_findState 2 = .ok (.invokevirtual 365, 3) := dk_182 1 109 (dk_at dksX1_findState_0 2 rfl rfl)
theorem dX1_findState_5 : decode cX1_findState 5 = .ok (.new 394, 3) := dk_187 1 138 (dk_at dksX1_findState_0 5 rfl rfl)
theorem dX1_findState_8 : decode cX1_findState 8 = .ok (.dup, 1) := dk_89 (dk_at dksX1_findState_0 8 rfl rfl)
theorem dX1_findState_9 : decode cX1_findState 9 = .ok (.aload_n 0, 1) := dk_42 (dk_at dksX1_findState_0 9 rfl rfl)
theorem dX1_findState_10 : decode cX1_findState 10 = .ok (.invokespecial 396, 3) := dk_183 1 140 (dk_at dksX1_findState_0 10 rfl rfl)
theorem dX1_findState_13 : decode cX1_findState 13 = .ok (.new 397, 3) := dk_187 1 141 (dk_at dksX1_findState_0 13 rfl rfl)
theorem dX1_findState_16 : decode cX1_findState 16 = .ok (.dup, 1) := dk_89 (dk_at dksX1_findState_0 16 rfl rfl)
theorem dX1_findState_17 : decode cX1_findState 17 = .ok (.aload_n 0, 1) := dk_42 (dk_at dksX1_findState_0 17 rfl rfl)
theorem dX1_findState_18 : decode cX1_findState 18 = .ok (.iload_n 1, 1) := dk_27 (dk_at dksX1_findState_0 18 rfl rfl)
theorem dX1_findState_19 : decode cX1_findState 19 = .ok (.invokespecial 399, 3) := dk_183 1 143 (dk_at dksX1_findState_0 19 rfl rfl)
theorem dX1_findState_22 : decode cX1_findState 22 = .ok (.invokevirtual 402, 3) := dk_182 1 146 (dk_at dksX1_findState_1 0 rfl rfl)
theorem dX1_findState_25 : decode cX1_findState 25 = .ok (.istore_n 2, 1) := dk_61 (dk_at dksX1_findState_1 3 rfl rfl)
theorem dX1_findState_26 : decode cX1_findState 26 = .ok (.aload_n 0, 1) := dk_42 (dk_at dksX1_findState_1 4 rfl rfl)
theorem dX1_findState_27 : decode cX1_findState 27 = .ok (.getfield 406, 3) := dk_180 1 150 (dk_at dksX1_findState_1 5 rfl rfl)
theorem dX1_findState_30 : decode cX1_findState 30 = .ok (.ireturn, 1) := dk_172 (dk_at dksX1_findState_1 8 rfl rfl)
abbrev cX1_canBeTaken : ByteArray := prog_1_method_70_code
def yX1_canBeTaken : MethodName := ⟨RX1, "canBeTaken", "(I)Z"⟩
def dkwX1_canBeTaken_1 : List UInt8 := [182, 1, 146, 62, 42, 180, 1, 150, 2, 159, 0, 7, 4, 167, 0, 4, 3, 172]
abbrev dktX1_canBeTaken_1 : List UInt8 := dkwX1_canBeTaken_1 ++ []
def dkwX1_canBeTaken_0 : List UInt8 := [42, 27, 182, 1, 40, 77, 187, 1, 138, 89, 42, 183, 1, 140, 187, 1, 159, 89, 42, 44, 27, 183, 1, 161]
abbrev dktX1_canBeTaken_0 : List UInt8 := dkwX1_canBeTaken_0 ++ dktX1_canBeTaken_1
theorem dksX1_canBeTaken_0 : cX1_canBeTaken.data.toList.drop 0 = dktX1_canBeTaken_0 := by decide +kernel
theorem dksX1_canBeTaken_1 : cX1_canBeTaken.data.toList.drop 24 = dktX1_canBeTaken_1 := dk_seg dksX1_canBeTaken_0 24 rfl rfl
theorem dX1_canBeTaken_0 : decode cX1_canBeTaken 0 = .ok (.aload_n 0, 1) := dk_42 (dk_at dksX1_canBeTaken_0 0 rfl rfl)
theorem dX1_canBeTaken_1 : decode cX1_canBeTaken 1 = .ok (.iload_n 1, 1) := dk_27 (dk_at dksX1_canBeTaken_0 1 rfl rfl)
theorem dX1_canBeTaken_2 : decode cX1_canBeTaken 2 = .ok (.invokevirtual 296, 3) := dk_182 1 40 (dk_at dksX1_canBeTaken_0 2 rfl rfl)
theorem dX1_canBeTaken_5 : decode cX1_canBeTaken 5 = .ok (.astore_n 2, 1) := dk_77 (dk_at dksX1_canBeTaken_0 5 rfl rfl)
theorem dX1_canBeTaken_6 : decode cX1_canBeTaken 6 = .ok (.new 394, 3) := dk_187 1 138 (dk_at dksX1_canBeTaken_0 6 rfl rfl)
theorem dX1_canBeTaken_9 : decode cX1_canBeTaken 9 = .ok (.dup, 1) := dk_89 (dk_at dksX1_canBeTaken_0 9 rfl rfl)
theorem dX1_canBeTaken_10 : decode cX1_canBeTaken 10 = .ok (.aload_n 0, 1) := dk_42 (dk_at dksX1_canBeTaken_0 10 rfl rfl)
theorem dX1_canBeTaken_11 : decode cX1_canBeTaken 11 = .ok (.invokespecial 396, 3) := dk_183 1 140 (dk_at dksX1_canBeTaken_0 11 rfl rfl)
theorem dX1_canBeTaken_14 : decode cX1_canBeTaken 14 = .ok (.new 415, 3) := dk_187 1 159 (dk_at dksX1_canBeTaken_0 14 rfl rfl)
theorem dX1_canBeTaken_17 : decode cX1_canBeTaken 17 = .ok (.dup, 1) := dk_89 (dk_at dksX1_canBeTaken_0 17 rfl rfl)
theorem dX1_canBeTaken_18 : decode cX1_canBeTaken 18 = .ok (.aload_n 0, 1) := dk_42 (dk_at dksX1_canBeTaken_0 18 rfl rfl)
theorem dX1_canBeTaken_19 : decode cX1_canBeTaken 19 = .ok (.aload_n 2, 1) := dk_44 (dk_at dksX1_canBeTaken_0 19 rfl rfl)
theorem dX1_canBeTaken_20 : decode cX1_canBeTaken 20 = .ok (.iload_n 1, 1) := dk_27 (dk_at dksX1_canBeTaken_0 20 rfl rfl)
theorem dX1_canBeTaken_21 : decode cX1_canBeTaken 21 = .ok (.invokespecial 417, 3) := dk_183 1 161 (dk_at dksX1_canBeTaken_0 21 rfl rfl)
theorem dX1_canBeTaken_24 : decode cX1_canBeTaken 24 = .ok (.invokevirtual 402, 3) := dk_182 1 146 (dk_at dksX1_canBeTaken_1 0 rfl rfl)
theorem dX1_canBeTaken_27 : decode cX1_canBeTaken 27 = .ok (.istore_n 3, 1) := dk_62 (dk_at dksX1_canBeTaken_1 3 rfl rfl)
theorem dX1_canBeTaken_28 : decode cX1_canBeTaken 28 = .ok (.aload_n 0, 1) := dk_42 (dk_at dksX1_canBeTaken_1 4 rfl rfl)
theorem dX1_canBeTaken_29 : decode cX1_canBeTaken 29 = .ok (.getfield 406, 3) := dk_180 1 150 (dk_at dksX1_canBeTaken_1 5 rfl rfl)
theorem dX1_canBeTaken_32 : decode cX1_canBeTaken 32 = .ok (.iconst (-1), 1) := dk_2 (dk_at dksX1_canBeTaken_1 8 rfl rfl)
theorem dX1_canBeTaken_33 : decode cX1_canBeTaken 33 = .ok (.if_icmp .eq 7, 3) := dk_159 0 7 (dk_at dksX1_canBeTaken_1 9 rfl rfl)
theorem dX1_canBeTaken_36 : decode cX1_canBeTaken 36 = .ok (.iconst 1, 1) := dk_4 (dk_at dksX1_canBeTaken_1 12 rfl rfl)
theorem dX1_canBeTaken_37 : decode cX1_canBeTaken 37 = .ok (.goto 4, 3) := dk_167 0 4 (dk_at dksX1_canBeTaken_1 13 rfl rfl)
theorem dX1_canBeTaken_40 : decode cX1_canBeTaken 40 = .ok (.iconst 0, 1) := dk_3 (dk_at dksX1_canBeTaken_1 16 rfl rfl)
theorem dX1_canBeTaken_41 : decode cX1_canBeTaken 41 = .ok (.ireturn, 1) := dk_172 (dk_at dksX1_canBeTaken_1 17 rfl rfl)
abbrev cX1_stepsTo : ByteArray := prog_1_method_71_code
def yX1_stepsTo : MethodName := ⟨RX1, "stepsTo", "(I)I"⟩
def dkwX1_stepsTo_0 : List UInt8 := [42, 27, 182, 1, 156, 61, 28, 2, 160, 0, 7, 2, 167, 0, 9, 42, 180, 0, 64, 28, 46, 172]
abbrev dktX1_stepsTo_0 : List UInt8 := dkwX1_stepsTo_0 ++ []
theorem dksX1_stepsTo_0 : cX1_stepsTo.data.toList.drop 0 = dktX1_stepsTo_0 := by decide +kernel
theorem dX1_stepsTo_0 : decode cX1_stepsTo 0 = .ok (.aload_n 0, 1) := dk_42 (dk_at dksX1_stepsTo_0 0 rfl rfl)
theorem dX1_stepsTo_1 : decode cX1_stepsTo 1 = .ok (.iload_n 1, 1) := dk_27 (dk_at dksX1_stepsTo_0 1 rfl rfl)
theorem dX1_stepsTo_2 : decode cX1_stepsTo 2 = .ok (.invokevirtual 412, 3) := dk_182 1 156 (dk_at dksX1_stepsTo_0 2 rfl rfl)
theorem dX1_stepsTo_5 : decode cX1_stepsTo 5 = .ok (.istore_n 2, 1) := dk_61 (dk_at dksX1_stepsTo_0 5 rfl rfl)
theorem dX1_stepsTo_6 : decode cX1_stepsTo 6 = .ok (.iload_n 2, 1) := dk_28 (dk_at dksX1_stepsTo_0 6 rfl rfl)
theorem dX1_stepsTo_7 : decode cX1_stepsTo 7 = .ok (.iconst (-1), 1) := dk_2 (dk_at dksX1_stepsTo_0 7 rfl rfl)
theorem dX1_stepsTo_8 : decode cX1_stepsTo 8 = .ok (.if_icmp .ne 7, 3) := dk_160 0 7 (dk_at dksX1_stepsTo_0 8 rfl rfl)
theorem dX1_stepsTo_11 : decode cX1_stepsTo 11 = .ok (.iconst (-1), 1) := dk_2 (dk_at dksX1_stepsTo_0 11 rfl rfl)
theorem dX1_stepsTo_12 : decode cX1_stepsTo 12 = .ok (.goto 9, 3) := dk_167 0 9 (dk_at dksX1_stepsTo_0 12 rfl rfl)
theorem dX1_stepsTo_15 : decode cX1_stepsTo 15 = .ok (.aload_n 0, 1) := dk_42 (dk_at dksX1_stepsTo_0 15 rfl rfl)
theorem dX1_stepsTo_16 : decode cX1_stepsTo 16 = .ok (.getfield 64, 3) := dk_180 0 64 (dk_at dksX1_stepsTo_0 16 rfl rfl)
theorem dX1_stepsTo_19 : decode cX1_stepsTo 19 = .ok (.iload_n 2, 1) := dk_28 (dk_at dksX1_stepsTo_0 19 rfl rfl)
theorem dX1_stepsTo_20 : decode cX1_stepsTo 20 = .ok (.iaload, 1) := dk_46 (dk_at dksX1_stepsTo_0 20 rfl rfl)
theorem dX1_stepsTo_21 : decode cX1_stepsTo 21 = .ok (.ireturn, 1) := dk_172 (dk_at dksX1_stepsTo_0 21 rfl rfl)
abbrev cX1_firstEventTo : ByteArray := prog_1_method_72_code
def yX1_firstEventTo : MethodName := ⟨RX1, "firstEventTo", "(I)I"⟩
def dkwX1_firstEventTo_0 : List UInt8 := [42, 27, 182, 1, 156, 61, 28, 2, 160, 0, 7, 2, 167, 0, 9, 42, 180, 0, 68, 28, 46, 172]
abbrev dktX1_firstEventTo_0 : List UInt8 := dkwX1_firstEventTo_0 ++ []
theorem dksX1_firstEventTo_0 : cX1_firstEventTo.data.toList.drop 0 = dktX1_firstEventTo_0 := by decide +kernel
theorem dX1_firstEventTo_0 : decode cX1_firstEventTo 0 = .ok (.aload_n 0, 1) := dk_42 (dk_at dksX1_firstEventTo_0 0 rfl rfl)
theorem dX1_firstEventTo_1 : decode cX1_firstEventTo 1 = .ok (.iload_n 1, 1) := dk_27 (dk_at dksX1_firstEventTo_0 1 rfl rfl)
theorem dX1_firstEventTo_2 : decode cX1_firstEventTo 2 = .ok (.invokevirtual 412, 3) := dk_182 1 156 (dk_at dksX1_firstEventTo_0 2 rfl rfl)
theorem dX1_firstEventTo_5 : decode cX1_firstEventTo 5 = .ok (.istore_n 2, 1) := dk_61 (dk_at dksX1_firstEventTo_0 5 rfl rfl)
theorem dX1_firstEventTo_6 : decode cX1_firstEventTo 6 = .ok (.iload_n 2, 1) := dk_28 (dk_at dksX1_firstEventTo_0 6 rfl rfl)
theorem dX1_firstEventTo_7 : decode cX1_firstEventTo 7 = .ok (.iconst (-1), 1) := dk_2 (dk_at dksX1_firstEventTo_0 7 rfl rfl)
theorem dX1_firstEventTo_8 : decode cX1_firstEventTo 8 = .ok (.if_icmp .ne 7, 3) := dk_160 0 7 (dk_at dksX1_firstEventTo_0 8 rfl rfl)
theorem dX1_firstEventTo_11 : decode cX1_firstEventTo 11 = .ok (.iconst (-1), 1) := dk_2 (dk_at dksX1_firstEventTo_0 11 rfl rfl)
theorem dX1_firstEventTo_12 : decode cX1_firstEventTo 12 = .ok (.goto 9, 3) := dk_167 0 9 (dk_at dksX1_firstEventTo_0 12 rfl rfl)
theorem dX1_firstEventTo_15 : decode cX1_firstEventTo 15 = .ok (.aload_n 0, 1) := dk_42 (dk_at dksX1_firstEventTo_0 15 rfl rfl)
theorem dX1_firstEventTo_16 : decode cX1_firstEventTo 16 = .ok (.getfield 68, 3) := dk_180 0 68 (dk_at dksX1_firstEventTo_0 16 rfl rfl)
theorem dX1_firstEventTo_19 : decode cX1_firstEventTo 19 = .ok (.iload_n 2, 1) := dk_28 (dk_at dksX1_firstEventTo_0 19 rfl rfl)
theorem dX1_firstEventTo_20 : decode cX1_firstEventTo 20 = .ok (.iaload, 1) := dk_46 (dk_at dksX1_firstEventTo_0 20 rfl rfl)
theorem dX1_firstEventTo_21 : decode cX1_firstEventTo 21 = .ok (.ireturn, 1) := dk_172 (dk_at dksX1_firstEventTo_0 21 rfl rfl)
abbrev cX1_fire : ByteArray := prog_1_method_79_code
def yX1_fire : MethodName := ⟨RX1, "fire", "(I)I"⟩
def dkwX1_fire_1 : List UInt8 := [185, 1, 204, 1, 0, 172]
abbrev dktX1_fire_1 : List UInt8 := dkwX1_fire_1 ++ []
def dkwX1_fire_0 : List UInt8 := [42, 27, 182, 1, 100, 42, 27, 182, 1, 194, 77, 44, 42, 182, 0, 241, 185, 1, 198, 2, 0, 44]
abbrev dktX1_fire_0 : List UInt8 := dkwX1_fire_0 ++ dktX1_fire_1
theorem dksX1_fire_0 : cX1_fire.data.toList.drop 0 = dktX1_fire_0 := by decide +kernel
theorem dksX1_fire_1 : cX1_fire.data.toList.drop 22 = dktX1_fire_1 := dk_seg dksX1_fire_0 22 rfl rfl
theorem dX1_fire_0 : decode cX1_fire 0 = .ok (.aload_n 0, 1) := dk_42 (dk_at dksX1_fire_0 0 rfl rfl)
theorem dX1_fire_1 : decode cX1_fire 1 = .ok (.iload_n 1, 1) := dk_27 (dk_at dksX1_fire_0 1 rfl rfl)
theorem dX1_fire_2 : decode cX1_fire 2 = .ok (.invokevirtual 356, 3) := dk_182 1 100 (dk_at dksX1_fire_0 2 rfl rfl)
theorem dX1_fire_5 : decode cX1_fire 5 = .ok (.aload_n 0, 1) := dk_42 (dk_at dksX1_fire_0 5 rfl rfl)
theorem dX1_fire_6 : decode cX1_fire 6 = .ok (.iload_n 1, 1) := dk_27 (dk_at dksX1_fire_0 6 rfl rfl)
theorem dX1_fire_7 : decode cX1_fire 7 = .ok (.invokevirtual 450, 3) := dk_182 1 194 (dk_at dksX1_fire_0 7 rfl rfl)
theorem dX1_fire_10 : decode cX1_fire 10 = .ok (.astore_n 2, 1) := dk_77 (dk_at dksX1_fire_0 10 rfl rfl)
theorem dX1_fire_11 : decode cX1_fire 11 = .ok (.aload_n 2, 1) := dk_44 (dk_at dksX1_fire_0 11 rfl rfl)
theorem dX1_fire_12 : decode cX1_fire 12 = .ok (.aload_n 0, 1) := dk_42 (dk_at dksX1_fire_0 12 rfl rfl)
theorem dX1_fire_13 : decode cX1_fire 13 = .ok (.invokevirtual 241, 3) := dk_182 0 241 (dk_at dksX1_fire_0 13 rfl rfl)
theorem dX1_fire_16 : decode cX1_fire 16 = .ok (.invokeinterface 454 2, 5) := by decide +kernel
theorem dX1_fire_21 : decode cX1_fire 21 = .ok (.aload_n 2, 1) := dk_44 (dk_at dksX1_fire_0 21 rfl rfl)
theorem dX1_fire_22 : decode cX1_fire 22 = .ok (.invokeinterface 460 1, 5) := by decide +kernel
theorem dX1_fire_27 : decode cX1_fire 27 = .ok (.ireturn, 1) := dk_172 (dk_at dksX1_fire_1 5 rfl rfl)
abbrev cX1_setValue : ByteArray := prog_1_method_83_code
def yX1_setValue : MethodName := ⟨RX1, "setValue", "(II)I"⟩
def dkwX1_setValue_1 : List UInt8 := [184, 1, 214, 42, 182, 0, 241, 78, 42, 27, 28, 182, 1, 217, 172]
abbrev dktX1_setValue_1 : List UInt8 := dkwX1_setValue_1 ++ []
def dkwX1_setValue_0 : List UInt8 := [42, 27, 182, 1, 30, 28, 133, 9, 20, 1, 209, 184, 0, 190, 184, 1, 123, 42, 27, 28, 182, 1, 211]
abbrev dktX1_setValue_0 : List UInt8 := dkwX1_setValue_0 ++ dktX1_setValue_1
theorem dksX1_setValue_0 : cX1_setValue.data.toList.drop 0 = dktX1_setValue_0 := by decide +kernel
theorem dksX1_setValue_1 : cX1_setValue.data.toList.drop 23 = dktX1_setValue_1 := dk_seg dksX1_setValue_0 23 rfl rfl
theorem dX1_setValue_0 : decode cX1_setValue 0 = .ok (.aload_n 0, 1) := dk_42 (dk_at dksX1_setValue_0 0 rfl rfl)
theorem dX1_setValue_1 : decode cX1_setValue 1 = .ok (.iload_n 1, 1) := dk_27 (dk_at dksX1_setValue_0 1 rfl rfl)
theorem dX1_setValue_2 : decode cX1_setValue 2 = .ok (.invokevirtual 286, 3) := dk_182 1 30 (dk_at dksX1_setValue_0 2 rfl rfl)
theorem dX1_setValue_5 : decode cX1_setValue 5 = .ok (.iload_n 2, 1) := dk_28 (dk_at dksX1_setValue_0 5 rfl rfl)
theorem dX1_setValue_6 : decode cX1_setValue 6 = .ok (.i2l, 1) := dk_133 (dk_at dksX1_setValue_0 6 rfl rfl)
theorem dX1_setValue_7 : decode cX1_setValue 7 = .ok (.lconst 0, 1) := dk_9 (dk_at dksX1_setValue_0 7 rfl rfl)
theorem dX1_setValue_8 : decode cX1_setValue 8 = .ok (.ldc2_w 465, 3) := dk_20 1 209 (dk_at dksX1_setValue_0 8 rfl rfl)
theorem dX1_setValue_11 : decode cX1_setValue 11 = .ok (.invokestatic 190, 3) := dk_184 0 190 (dk_at dksX1_setValue_0 11 rfl rfl)
theorem dX1_setValue_14 : decode cX1_setValue 14 = .ok (.invokestatic 379, 3) := dk_184 1 123 (dk_at dksX1_setValue_0 14 rfl rfl)
theorem dX1_setValue_17 : decode cX1_setValue 17 = .ok (.aload_n 0, 1) := dk_42 (dk_at dksX1_setValue_0 17 rfl rfl)
theorem dX1_setValue_18 : decode cX1_setValue 18 = .ok (.iload_n 1, 1) := dk_27 (dk_at dksX1_setValue_0 18 rfl rfl)
theorem dX1_setValue_19 : decode cX1_setValue 19 = .ok (.iload_n 2, 1) := dk_28 (dk_at dksX1_setValue_0 19 rfl rfl)
theorem dX1_setValue_20 : decode cX1_setValue 20 = .ok (.invokevirtual 467, 3) := dk_182 1 211 (dk_at dksX1_setValue_0 20 rfl rfl)
theorem dX1_setValue_23 : decode cX1_setValue 23 = .ok (.invokestatic 470, 3) := dk_184 1 214 (dk_at dksX1_setValue_1 0 rfl rfl)
theorem dX1_setValue_26 : decode cX1_setValue 26 = .ok (.aload_n 0, 1) := dk_42 (dk_at dksX1_setValue_1 3 rfl rfl)
theorem dX1_setValue_27 : decode cX1_setValue 27 = .ok (.invokevirtual 241, 3) := dk_182 0 241 (dk_at dksX1_setValue_1 4 rfl rfl)
theorem dX1_setValue_30 : decode cX1_setValue 30 = .ok (.astore_n 3, 1) := dk_78 (dk_at dksX1_setValue_1 7 rfl rfl)
theorem dX1_setValue_31 : decode cX1_setValue 31 = .ok (.aload_n 0, 1) := dk_42 (dk_at dksX1_setValue_1 8 rfl rfl)
theorem dX1_setValue_32 : decode cX1_setValue 32 = .ok (.iload_n 1, 1) := dk_27 (dk_at dksX1_setValue_1 9 rfl rfl)
theorem dX1_setValue_33 : decode cX1_setValue 33 = .ok (.iload_n 2, 1) := dk_28 (dk_at dksX1_setValue_1 10 rfl rfl)
theorem dX1_setValue_34 : decode cX1_setValue 34 = .ok (.invokevirtual 473, 3) := dk_182 1 217 (dk_at dksX1_setValue_1 11 rfl rfl)
theorem dX1_setValue_37 : decode cX1_setValue 37 = .ok (.ireturn, 1) := dk_172 (dk_at dksX1_setValue_1 14 rfl rfl)
abbrev cX1_requireState : ByteArray := prog_1_method_4_code
def yX1_requireState : MethodName := ⟨RX1, "requireState", "(Z)V"⟩
def dkwX1_requireState_0 : List UInt8 := [26, 154, 0, 11, 187, 0, 12, 89, 183, 0, 14, 191, 177]
abbrev dktX1_requireState_0 : List UInt8 := dkwX1_requireState_0 ++ []
theorem dksX1_requireState_0 : cX1_requireState.data.toList.drop 0 = dktX1_requireState_0 := by decide +kernel
theorem dX1_requireState_0 : decode cX1_requireState 0 = .ok (.iload_n 0, 1) := dk_26 (dk_at dksX1_requireState_0 0 rfl rfl)
theorem dX1_requireState_1 : decode cX1_requireState 1 = .ok (.ifCond .ne 11, 3) := dk_154 0 11 (dk_at dksX1_requireState_0 1 rfl rfl)
theorem dX1_requireState_4 : decode cX1_requireState 4 = .ok (.new 12, 3) := dk_187 0 12 (dk_at dksX1_requireState_0 4 rfl rfl)
theorem dX1_requireState_7 : decode cX1_requireState 7 = .ok (.dup, 1) := dk_89 (dk_at dksX1_requireState_0 7 rfl rfl)
theorem dX1_requireState_8 : decode cX1_requireState 8 = .ok (.invokespecial 14, 3) := dk_183 0 14 (dk_at dksX1_requireState_0 8 rfl rfl)
theorem dX1_requireState_11 : decode cX1_requireState 11 = .ok (.athrow, 1) := dk_191 (dk_at dksX1_requireState_0 11 rfl rfl)
theorem dX1_requireState_12 : decode cX1_requireState 12 = .ok (.return_, 1) := dk_177 (dk_at dksX1_requireState_0 12 rfl rfl)
abbrev cX1_addAlways : ByteArray := prog_1_method_88_code
def yX1_addAlways : MethodName := ⟨RX1, "addAlways", "(III)I"⟩
def dkwX1_addAlways_4 : List UInt8 := [185, 0, 224, 1, 0, 4, 100, 172]
abbrev dktX1_addAlways_4 : List UInt8 := dkwX1_addAlways_4 ++ []
def dkwX1_addAlways_3 : List UInt8 := [42, 182, 0, 241, 180, 0, 143, 25, 4, 185, 0, 155, 2, 0, 54, 5, 42, 180, 0, 53, 180, 0, 143]
abbrev dktX1_addAlways_3 : List UInt8 := dkwX1_addAlways_3 ++ dktX1_addAlways_4
def dkwX1_addAlways_2 : List UInt8 := [42, 180, 0, 31, 28, 50, 29, 183, 0, 131, 183, 0, 152, 58, 4, 42, 25, 4, 182, 1, 228, 184, 1, 214]
abbrev dktX1_addAlways_2 : List UInt8 := dkwX1_addAlways_2 ++ dktX1_addAlways_3
def dkwX1_addAlways_1 : List UInt8 := [184, 0, 190, 153, 0, 7, 4, 167, 0, 4, 3, 184, 1, 123, 187, 0, 147, 89, 2, 187, 0, 125, 89, 27]
abbrev dktX1_addAlways_1 : List UInt8 := dkwX1_addAlways_1 ++ dktX1_addAlways_2
def dkwX1_addAlways_0 : List UInt8 := [42, 27, 182, 1, 30, 28, 133, 9, 20, 1, 226, 184, 0, 190, 153, 0, 19, 29, 133, 9, 20, 1, 209]
abbrev dktX1_addAlways_0 : List UInt8 := dkwX1_addAlways_0 ++ dktX1_addAlways_1
theorem dksX1_addAlways_0 : cX1_addAlways.data.toList.drop 0 = dktX1_addAlways_0 := by decide +kernel
theorem dksX1_addAlways_1 : cX1_addAlways.data.toList.drop 23 = dktX1_addAlways_1 := dk_seg dksX1_addAlways_0 23 rfl rfl
theorem dksX1_addAlways_2 : cX1_addAlways.data.toList.drop 47 = dktX1_addAlways_2 := dk_seg dksX1_addAlways_1 24 rfl rfl
theorem dksX1_addAlways_3 : cX1_addAlways.data.toList.drop 71 = dktX1_addAlways_3 := dk_seg dksX1_addAlways_2 24 rfl rfl
theorem dksX1_addAlways_4 : cX1_addAlways.data.toList.drop 94 = dktX1_addAlways_4 := dk_seg dksX1_addAlways_3 23 rfl rfl
theorem dX1_addAlways_0 : decode cX1_addAlways 0 = .ok (.aload_n 0, 1) := dk_42 (dk_at dksX1_addAlways_0 0 rfl rfl)
theorem dX1_addAlways_1 : decode cX1_addAlways 1 = .ok (.iload_n 1, 1) := dk_27 (dk_at dksX1_addAlways_0 1 rfl rfl)
theorem dX1_addAlways_2 : decode cX1_addAlways 2 = .ok (.invokevirtual 286, 3) := dk_182 1 30 (dk_at dksX1_addAlways_0 2 rfl rfl)
theorem dX1_addAlways_5 : decode cX1_addAlways 5 = .ok (.iload_n 2, 1) := dk_28 (dk_at dksX1_addAlways_0 5 rfl rfl)
theorem dX1_addAlways_6 : decode cX1_addAlways 6 = .ok (.i2l, 1) := dk_133 (dk_at dksX1_addAlways_0 6 rfl rfl)
theorem dX1_addAlways_7 : decode cX1_addAlways 7 = .ok (.lconst 0, 1) := dk_9 (dk_at dksX1_addAlways_0 7 rfl rfl)
theorem dX1_addAlways_8 : decode cX1_addAlways 8 = .ok (.ldc2_w 482, 3) := dk_20 1 226 (dk_at dksX1_addAlways_0 8 rfl rfl)
theorem dX1_addAlways_11 : decode cX1_addAlways 11 = .ok (.invokestatic 190, 3) := dk_184 0 190 (dk_at dksX1_addAlways_0 11 rfl rfl)
theorem dX1_addAlways_14 : decode cX1_addAlways 14 = .ok (.ifCond .eq 19, 3) := dk_153 0 19 (dk_at dksX1_addAlways_0 14 rfl rfl)
theorem dX1_addAlways_17 : decode cX1_addAlways 17 = .ok (.iload_n 3, 1) := dk_29 (dk_at dksX1_addAlways_0 17 rfl rfl)
theorem dX1_addAlways_18 : decode cX1_addAlways 18 = .ok (.i2l, 1) := dk_133 (dk_at dksX1_addAlways_0 18 rfl rfl)
theorem dX1_addAlways_19 : decode cX1_addAlways 19 = .ok (.lconst 0, 1) := dk_9 (dk_at dksX1_addAlways_0 19 rfl rfl)
theorem dX1_addAlways_20 : decode cX1_addAlways 20 = .ok (.ldc2_w 465, 3) := dk_20 1 209 (dk_at dksX1_addAlways_0 20 rfl rfl)
theorem dX1_addAlways_23 : decode cX1_addAlways 23 = .ok (.invokestatic 190, 3) := dk_184 0 190 (dk_at dksX1_addAlways_1 0 rfl rfl)
theorem dX1_addAlways_26 : decode cX1_addAlways 26 = .ok (.ifCond .eq 7, 3) := dk_153 0 7 (dk_at dksX1_addAlways_1 3 rfl rfl)
theorem dX1_addAlways_29 : decode cX1_addAlways 29 = .ok (.iconst 1, 1) := dk_4 (dk_at dksX1_addAlways_1 6 rfl rfl)
theorem dX1_addAlways_30 : decode cX1_addAlways 30 = .ok (.goto 4, 3) := dk_167 0 4 (dk_at dksX1_addAlways_1 7 rfl rfl)
theorem dX1_addAlways_33 : decode cX1_addAlways 33 = .ok (.iconst 0, 1) := dk_3 (dk_at dksX1_addAlways_1 10 rfl rfl)
theorem dX1_addAlways_34 : decode cX1_addAlways 34 = .ok (.invokestatic 379, 3) := dk_184 1 123 (dk_at dksX1_addAlways_1 11 rfl rfl)
theorem dX1_addAlways_37 : decode cX1_addAlways 37 = .ok (.new 147, 3) := dk_187 0 147 (dk_at dksX1_addAlways_1 14 rfl rfl)
theorem dX1_addAlways_40 : decode cX1_addAlways 40 = .ok (.dup, 1) := dk_89 (dk_at dksX1_addAlways_1 17 rfl rfl)
theorem dX1_addAlways_41 : decode cX1_addAlways 41 = .ok (.iconst (-1), 1) := dk_2 (dk_at dksX1_addAlways_1 18 rfl rfl)
theorem dX1_addAlways_42 : decode cX1_addAlways 42 = .ok (.new 125, 3) := dk_187 0 125 (dk_at dksX1_addAlways_1 19 rfl rfl)
theorem dX1_addAlways_45 : decode cX1_addAlways 45 = .ok (.dup, 1) := dk_89 (dk_at dksX1_addAlways_1 22 rfl rfl)
theorem dX1_addAlways_46 : decode cX1_addAlways 46 = .ok (.iload_n 1, 1) := dk_27 (dk_at dksX1_addAlways_1 23 rfl rfl)
theorem dX1_addAlways_47 : decode cX1_addAlways 47 = .ok (.aload_n 0, 1) := dk_42 (dk_at dksX1_addAlways_2 0 rfl rfl)
theorem dX1_addAlways_48 : decode cX1_addAlways 48 = .ok (.getfield 31, 3) := dk_180 0 31 (dk_at dksX1_addAlways_2 1 rfl rfl)
theorem dX1_addAlways_51 : decode cX1_addAlways 51 = .ok (.iload_n 2, 1) := dk_28 (dk_at dksX1_addAlways_2 4 rfl rfl)
theorem dX1_addAlways_52 : decode cX1_addAlways 52 = .ok (.aaload, 1) := dk_50 (dk_at dksX1_addAlways_2 5 rfl rfl)
theorem dX1_addAlways_53 : decode cX1_addAlways 53 = .ok (.iload_n 3, 1) := dk_29 (dk_at dksX1_addAlways_2 6 rfl rfl)
theorem dX1_addAlways_54 : decode cX1_addAlways 54 = .ok (.invokespecial 131, 3) := dk_183 0 131 (dk_at dksX1_addAlways_2 7 rfl rfl)
theorem dX1_addAlways_57 : decode cX1_addAlways 57 = .ok (.invokespecial 152, 3) := dk_183 0 152 (dk_at dksX1_addAlways_2 10 rfl rfl)
theorem dX1_addAlways_60 : decode cX1_addAlways 60 = .ok (.astore 4, 2) := dk_58 4 (dk_at dksX1_addAlways_2 13 rfl rfl)
theorem dX1_addAlways_62 : decode cX1_addAlways 62 = .ok (.aload_n 0, 1) := dk_42 (dk_at dksX1_addAlways_2 15 rfl rfl)
theorem dX1_addAlways_63 : decode cX1_addAlways 63 = .ok (.aload 4, 2) := dk_25 4 (dk_at dksX1_addAlways_2 16 rfl rfl)
theorem dX1_addAlways_65 : decode cX1_addAlways 65 = .ok (.invokevirtual 484, 3) := dk_182 1 228 (dk_at dksX1_addAlways_2 18 rfl rfl)
theorem dX1_addAlways_68 : decode cX1_addAlways 68 = .ok (.invokestatic 470, 3) := dk_184 1 214 (dk_at dksX1_addAlways_2 21 rfl rfl)
theorem dX1_addAlways_71 : decode cX1_addAlways 71 = .ok (.aload_n 0, 1) := dk_42 (dk_at dksX1_addAlways_3 0 rfl rfl)
theorem dX1_addAlways_72 : decode cX1_addAlways 72 = .ok (.invokevirtual 241, 3) := dk_182 0 241 (dk_at dksX1_addAlways_3 1 rfl rfl)
theorem dX1_addAlways_75 : decode cX1_addAlways 75 = .ok (.getfield 143, 3) := dk_180 0 143 (dk_at dksX1_addAlways_3 4 rfl rfl)
theorem dX1_addAlways_78 : decode cX1_addAlways 78 = .ok (.aload 4, 2) := dk_25 4 (dk_at dksX1_addAlways_3 7 rfl rfl)
theorem dX1_addAlways_80 : decode cX1_addAlways 80 = .ok (.invokeinterface 155 2, 5) := by decide +kernel
theorem dX1_addAlways_85 : decode cX1_addAlways 85 = .ok (.istore 5, 2) := dk_54 5 (dk_at dksX1_addAlways_3 14 rfl rfl)
theorem dX1_addAlways_87 : decode cX1_addAlways 87 = .ok (.aload_n 0, 1) := dk_42 (dk_at dksX1_addAlways_3 16 rfl rfl)
theorem dX1_addAlways_88 : decode cX1_addAlways 88 = .ok (.getfield 53, 3) := dk_180 0 53 (dk_at dksX1_addAlways_3 17 rfl rfl)
theorem dX1_addAlways_91 : decode cX1_addAlways 91 = .ok (.getfield 143, 3) := dk_180 0 143 (dk_at dksX1_addAlways_3 20 rfl rfl)
theorem dX1_addAlways_94 : decode cX1_addAlways 94 = .ok (.invokeinterface 224 1, 5) := by decide +kernel
theorem dX1_addAlways_99 : decode cX1_addAlways 99 = .ok (.iconst 1, 1) := dk_4 (dk_at dksX1_addAlways_4 5 rfl rfl)
theorem dX1_addAlways_100 : decode cX1_addAlways 100 = .ok (.isub, 1) := dk_100 (dk_at dksX1_addAlways_4 6 rfl rfl)
theorem dX1_addAlways_101 : decode cX1_addAlways 101 = .ok (.ireturn, 1) := dk_172 (dk_at dksX1_addAlways_4 7 rfl rfl)
abbrev cX1_canAdd : ByteArray := prog_1_method_87_code
def yX1_canAdd : MethodName := ⟨RX1, "canAdd", "(LContractMachine$Invariant;)Z"⟩
def dkwX1_canAdd_2 : List UInt8 := [167, 0, 4, 3, 172]
abbrev dktX1_canAdd_2 : List UInt8 := dkwX1_canAdd_2 ++ []
def dkwX1_canAdd_1 : List UInt8 := [180, 0, 164, 182, 1, 223, 154, 0, 21, 43, 42, 180, 0, 46, 180, 0, 161, 182, 1, 223, 154, 0, 7, 4]
abbrev dktX1_canAdd_1 : List UInt8 := dkwX1_canAdd_1 ++ dktX1_canAdd_2
def dkwX1_canAdd_0 : List UInt8 := [42, 180, 0, 53, 180, 0, 143, 185, 0, 224, 1, 0, 16, 12, 162, 0, 35, 43, 42, 180, 0, 53]
abbrev dktX1_canAdd_0 : List UInt8 := dkwX1_canAdd_0 ++ dktX1_canAdd_1
theorem dksX1_canAdd_0 : cX1_canAdd.data.toList.drop 0 = dktX1_canAdd_0 := by decide +kernel
theorem dksX1_canAdd_1 : cX1_canAdd.data.toList.drop 22 = dktX1_canAdd_1 := dk_seg dksX1_canAdd_0 22 rfl rfl
theorem dksX1_canAdd_2 : cX1_canAdd.data.toList.drop 46 = dktX1_canAdd_2 := dk_seg dksX1_canAdd_1 24 rfl rfl
theorem dX1_canAdd_0 : decode cX1_canAdd 0 = .ok (.aload_n 0, 1) := dk_42 (dk_at dksX1_canAdd_0 0 rfl rfl)
theorem dX1_canAdd_1 : decode cX1_canAdd 1 = .ok (.getfield 53, 3) := dk_180 0 53 (dk_at dksX1_canAdd_0 1 rfl rfl)
theorem dX1_canAdd_4 : decode cX1_canAdd 4 = .ok (.getfield 143, 3) := dk_180 0 143 (dk_at dksX1_canAdd_0 4 rfl rfl)
theorem dX1_canAdd_7 : decode cX1_canAdd 7 = .ok (.invokeinterface 224 1, 5) := by decide +kernel
theorem dX1_canAdd_12 : decode cX1_canAdd 12 = .ok (.bipush 12, 2) := dk_16 12 (dk_at dksX1_canAdd_0 12 rfl rfl)
theorem dX1_canAdd_14 : decode cX1_canAdd 14 = .ok (.if_icmp .ge 35, 3) := dk_162 0 35 (dk_at dksX1_canAdd_0 14 rfl rfl)
theorem dX1_canAdd_17 : decode cX1_canAdd 17 = .ok (.aload_n 1, 1) := dk_43 (dk_at dksX1_canAdd_0 17 rfl rfl)
theorem dX1_canAdd_18 : decode cX1_canAdd 18 = .ok (.aload_n 0, 1) := dk_42 (dk_at dksX1_canAdd_0 18 rfl rfl)
theorem dX1_canAdd_19 : decode cX1_canAdd 19 = .ok (.getfield 53, 3) := dk_180 0 53 (dk_at dksX1_canAdd_0 19 rfl rfl)
theorem dX1_canAdd_22 : decode cX1_canAdd 22 = .ok (.getfield 164, 3) := dk_180 0 164 (dk_at dksX1_canAdd_1 0 rfl rfl)
theorem dX1_canAdd_25 : decode cX1_canAdd 25 = .ok (.invokevirtual 479, 3) := dk_182 1 223 (dk_at dksX1_canAdd_1 3 rfl rfl)
theorem dX1_canAdd_28 : decode cX1_canAdd 28 = .ok (.ifCond .ne 21, 3) := dk_154 0 21 (dk_at dksX1_canAdd_1 6 rfl rfl)
theorem dX1_canAdd_31 : decode cX1_canAdd 31 = .ok (.aload_n 1, 1) := dk_43 (dk_at dksX1_canAdd_1 9 rfl rfl)
theorem dX1_canAdd_32 : decode cX1_canAdd 32 = .ok (.aload_n 0, 1) := dk_42 (dk_at dksX1_canAdd_1 10 rfl rfl)
theorem dX1_canAdd_33 : decode cX1_canAdd 33 = .ok (.getfield 46, 3) := dk_180 0 46 (dk_at dksX1_canAdd_1 11 rfl rfl)
theorem dX1_canAdd_36 : decode cX1_canAdd 36 = .ok (.getfield 161, 3) := dk_180 0 161 (dk_at dksX1_canAdd_1 14 rfl rfl)
theorem dX1_canAdd_39 : decode cX1_canAdd 39 = .ok (.invokevirtual 479, 3) := dk_182 1 223 (dk_at dksX1_canAdd_1 17 rfl rfl)
theorem dX1_canAdd_42 : decode cX1_canAdd 42 = .ok (.ifCond .ne 7, 3) := dk_154 0 7 (dk_at dksX1_canAdd_1 20 rfl rfl)
theorem dX1_canAdd_45 : decode cX1_canAdd 45 = .ok (.iconst 1, 1) := dk_4 (dk_at dksX1_canAdd_1 23 rfl rfl)
theorem dX1_canAdd_46 : decode cX1_canAdd 46 = .ok (.goto 4, 3) := dk_167 0 4 (dk_at dksX1_canAdd_2 0 rfl rfl)
theorem dX1_canAdd_49 : decode cX1_canAdd 49 = .ok (.iconst 0, 1) := dk_3 (dk_at dksX1_canAdd_2 3 rfl rfl)
theorem dX1_canAdd_50 : decode cX1_canAdd 50 = .ok (.ireturn, 1) := dk_172 (dk_at dksX1_canAdd_2 4 rfl rfl)
abbrev cX1_undo : ByteArray := prog_1_method_89_code
def yX1_undo : MethodName := ⟨RX1, "undo", "()I"⟩
def dkwX1_undo_1 : List UInt8 := [182, 1, 238, 192, 0, 50, 181, 0, 53, 42, 180, 0, 60, 182, 1, 182, 172]
abbrev dktX1_undo_1 : List UInt8 := dkwX1_undo_1 ++ []
def dkwX1_undo_0 : List UInt8 := [42, 180, 0, 60, 182, 1, 232, 154, 0, 7, 4, 167, 0, 4, 3, 184, 1, 235, 42, 42, 180, 0, 60]
abbrev dktX1_undo_0 : List UInt8 := dkwX1_undo_0 ++ dktX1_undo_1
theorem dksX1_undo_0 : cX1_undo.data.toList.drop 0 = dktX1_undo_0 := by decide +kernel
theorem dksX1_undo_1 : cX1_undo.data.toList.drop 23 = dktX1_undo_1 := dk_seg dksX1_undo_0 23 rfl rfl
theorem dX1_undo_0 : decode cX1_undo 0 = .ok (.aload_n 0, 1) := dk_42 (dk_at dksX1_undo_0 0 rfl rfl)
theorem dX1_undo_1 : decode cX1_undo 1 = .ok (.getfield 60, 3) := dk_180 0 60 (dk_at dksX1_undo_0 1 rfl rfl)
theorem dX1_undo_4 : decode cX1_undo 4 = .ok (.invokevirtual 488, 3) := dk_182 1 232 (dk_at dksX1_undo_0 4 rfl rfl)
theorem dX1_undo_7 : decode cX1_undo 7 = .ok (.ifCond .ne 7, 3) := dk_154 0 7 (dk_at dksX1_undo_0 7 rfl rfl)
theorem dX1_undo_10 : decode cX1_undo 10 = .ok (.iconst 1, 1) := dk_4 (dk_at dksX1_undo_0 10 rfl rfl)
theorem dX1_undo_11 : decode cX1_undo 11 = .ok (.goto 4, 3) := dk_167 0 4 (dk_at dksX1_undo_0 11 rfl rfl)
theorem dX1_undo_14 : decode cX1_undo 14 = .ok (.iconst 0, 1) := dk_3 (dk_at dksX1_undo_0 14 rfl rfl)
theorem dX1_undo_15 : decode cX1_undo 15 = .ok (.invokestatic 491, 3) := dk_184 1 235 (dk_at dksX1_undo_0 15 rfl rfl)
theorem dX1_undo_18 : decode cX1_undo 18 = .ok (.aload_n 0, 1) := dk_42 (dk_at dksX1_undo_0 18 rfl rfl)
theorem dX1_undo_19 : decode cX1_undo 19 = .ok (.aload_n 0, 1) := dk_42 (dk_at dksX1_undo_0 19 rfl rfl)
theorem dX1_undo_20 : decode cX1_undo 20 = .ok (.getfield 60, 3) := dk_180 0 60 (dk_at dksX1_undo_0 20 rfl rfl)
theorem dX1_undo_23 : decode cX1_undo 23 = .ok (.invokevirtual 494, 3) := dk_182 1 238 (dk_at dksX1_undo_1 0 rfl rfl)
theorem dX1_undo_26 : decode cX1_undo 26 = .ok (.checkcast 50, 3) := dk_192 0 50 (dk_at dksX1_undo_1 3 rfl rfl)
theorem dX1_undo_29 : decode cX1_undo 29 = .ok (.putfield 53, 3) := dk_181 0 53 (dk_at dksX1_undo_1 6 rfl rfl)
theorem dX1_undo_32 : decode cX1_undo 32 = .ok (.aload_n 0, 1) := dk_42 (dk_at dksX1_undo_1 9 rfl rfl)
theorem dX1_undo_33 : decode cX1_undo 33 = .ok (.getfield 60, 3) := dk_180 0 60 (dk_at dksX1_undo_1 10 rfl rfl)
theorem dX1_undo_36 : decode cX1_undo 36 = .ok (.invokevirtual 438, 3) := dk_182 1 182 (dk_at dksX1_undo_1 13 rfl rfl)
theorem dX1_undo_39 : decode cX1_undo 39 = .ok (.ireturn, 1) := dk_172 (dk_at dksX1_undo_1 16 rfl rfl)
abbrev cX1_requireElement : ByteArray := prog_1_method_5_code
def yX1_requireElement : MethodName := ⟨RX1, "requireElement", "(Z)V"⟩
def dkwX1_requireElement_0 : List UInt8 := [26, 154, 0, 11, 187, 0, 15, 89, 183, 0, 17, 191, 177]
abbrev dktX1_requireElement_0 : List UInt8 := dkwX1_requireElement_0 ++ []
theorem dksX1_requireElement_0 : cX1_requireElement.data.toList.drop 0 = dktX1_requireElement_0 := by decide +kernel
theorem dX1_requireElement_0 : decode cX1_requireElement 0 = .ok (.iload_n 0, 1) := dk_26 (dk_at dksX1_requireElement_0 0 rfl rfl)
theorem dX1_requireElement_1 : decode cX1_requireElement 1 = .ok (.ifCond .ne 11, 3) := dk_154 0 11 (dk_at dksX1_requireElement_0 1 rfl rfl)
theorem dX1_requireElement_4 : decode cX1_requireElement 4 = .ok (.new 15, 3) := dk_187 0 15 (dk_at dksX1_requireElement_0 4 rfl rfl)
theorem dX1_requireElement_7 : decode cX1_requireElement 7 = .ok (.dup, 1) := dk_89 (dk_at dksX1_requireElement_0 7 rfl rfl)
theorem dX1_requireElement_8 : decode cX1_requireElement 8 = .ok (.invokespecial 17, 3) := dk_183 0 17 (dk_at dksX1_requireElement_0 8 rfl rfl)
theorem dX1_requireElement_11 : decode cX1_requireElement 11 = .ok (.athrow, 1) := dk_191 (dk_at dksX1_requireElement_0 11 rfl rfl)
theorem dX1_requireElement_12 : decode cX1_requireElement 12 = .ok (.return_, 1) := dk_177 (dk_at dksX1_requireElement_0 12 rfl rfl)
abbrev cX1_restoreState : ByteArray := prog_1_method_93_code
def yX1_restoreState : MethodName := ⟨RX1, "restoreState", "()I"⟩
def dkwX1_restoreState_1 : List UInt8 := [181, 0, 53, 42, 180, 0, 60, 182, 0, 220, 42, 180, 0, 53, 182, 1, 27, 172]
abbrev dktX1_restoreState_1 : List UInt8 := dkwX1_restoreState_1 ++ []
def dkwX1_restoreState_0 : List UInt8 := [42, 180, 0, 221, 198, 0, 7, 4, 167, 0, 4, 3, 184, 1, 235, 42, 42, 180, 0, 221, 182, 1, 191]
abbrev dktX1_restoreState_0 : List UInt8 := dkwX1_restoreState_0 ++ dktX1_restoreState_1
theorem dksX1_restoreState_0 : cX1_restoreState.data.toList.drop 0 = dktX1_restoreState_0 := by decide +kernel
theorem dksX1_restoreState_1 : cX1_restoreState.data.toList.drop 23 = dktX1_restoreState_1 := dk_seg dksX1_restoreState_0 23 rfl rfl
theorem dX1_restoreState_0 : decode cX1_restoreState 0 = .ok (.aload_n 0, 1) := dk_42 (dk_at dksX1_restoreState_0 0 rfl rfl)
theorem dX1_restoreState_1 : decode cX1_restoreState 1 = .ok (.getfield 221, 3) := dk_180 0 221 (dk_at dksX1_restoreState_0 1 rfl rfl)
theorem dX1_restoreState_4 : decode cX1_restoreState 4 = .ok (.ifnull 7, 3) := dk_198 0 7 (dk_at dksX1_restoreState_0 4 rfl rfl)
theorem dX1_restoreState_7 : decode cX1_restoreState 7 = .ok (.iconst 1, 1) := dk_4 (dk_at dksX1_restoreState_0 7 rfl rfl)
theorem dX1_restoreState_8 : decode cX1_restoreState 8 = .ok (.goto 4, 3) := dk_167 0 4 (dk_at dksX1_restoreState_0 8 rfl rfl)
theorem dX1_restoreState_11 : decode cX1_restoreState 11 = .ok (.iconst 0, 1) := dk_3 (dk_at dksX1_restoreState_0 11 rfl rfl)
theorem dX1_restoreState_12 : decode cX1_restoreState 12 = .ok (.invokestatic 491, 3) := dk_184 1 235 (dk_at dksX1_restoreState_0 12 rfl rfl)
theorem dX1_restoreState_15 : decode cX1_restoreState 15 = .ok (.aload_n 0, 1) := dk_42 (dk_at dksX1_restoreState_0 15 rfl rfl)
theorem dX1_restoreState_16 : decode cX1_restoreState 16 = .ok (.aload_n 0, 1) := dk_42 (dk_at dksX1_restoreState_0 16 rfl rfl)
theorem dX1_restoreState_17 : decode cX1_restoreState 17 = .ok (.getfield 221, 3) := dk_180 0 221 (dk_at dksX1_restoreState_0 17 rfl rfl)
theorem dX1_restoreState_20 : decode cX1_restoreState 20 = .ok (.invokevirtual 447, 3) := dk_182 1 191 (dk_at dksX1_restoreState_0 20 rfl rfl)
theorem dX1_restoreState_23 : decode cX1_restoreState 23 = .ok (.putfield 53, 3) := dk_181 0 53 (dk_at dksX1_restoreState_1 0 rfl rfl)
theorem dX1_restoreState_26 : decode cX1_restoreState 26 = .ok (.aload_n 0, 1) := dk_42 (dk_at dksX1_restoreState_1 3 rfl rfl)
theorem dX1_restoreState_27 : decode cX1_restoreState 27 = .ok (.getfield 60, 3) := dk_180 0 60 (dk_at dksX1_restoreState_1 4 rfl rfl)
theorem dX1_restoreState_30 : decode cX1_restoreState 30 = .ok (.invokevirtual 220, 3) := dk_182 0 220 (dk_at dksX1_restoreState_1 7 rfl rfl)
theorem dX1_restoreState_33 : decode cX1_restoreState 33 = .ok (.aload_n 0, 1) := dk_42 (dk_at dksX1_restoreState_1 10 rfl rfl)
theorem dX1_restoreState_34 : decode cX1_restoreState 34 = .ok (.getfield 53, 3) := dk_180 0 53 (dk_at dksX1_restoreState_1 11 rfl rfl)
theorem dX1_restoreState_37 : decode cX1_restoreState 37 = .ok (.invokevirtual 283, 3) := dk_182 1 27 (dk_at dksX1_restoreState_1 14 rfl rfl)
theorem dX1_restoreState_40 : decode cX1_restoreState 40 = .ok (.ireturn, 1) := dk_172 (dk_at dksX1_restoreState_1 17 rfl rfl)
theorem q121 : (Jvm.Cond.initialized "ContractMachine") ∈ lw_all := lw_g (lw_at lw_m1 1 rfl) rfl
theorem q183 : (Jvm.Cond.instantiable "ContractMachine" (15 : Nat)) ∈ lw_all := lw_g (lw_at lw_m1 63 rfl) rfl
theorem q185 : (Jvm.Cond.instanceMethod ({ cls := "ContractMachine", name := "<init>", desc := "()V" } : Jvm.MethodName)) ∈ lw_all := lw_g (lw_at lw_m1 65 rfl) rfl
theorem q186 : (Jvm.Cond.code ({ cls := "ContractMachine", name := "<init>", desc := "()V" } : Jvm.MethodName) prog_1_method_8_code (3 : Nat) (Option.none : Option Jvm.ClassFile.FieldType)) ∈ lw_all := lw_g (lw_at lw_m1 66 rfl) rfl
theorem q187 : (Jvm.Cond.methodLink "ContractMachine" (22 : Nat) ({ cls := "java/lang/Object", name := "<init>", desc := "()V" } : Jvm.MethodName)) ∈ lw_all := lw_g (lw_at lw_m1 67 rfl) rfl
theorem q190 : (Jvm.Cond.methodLink "ContractMachine" (25 : Nat) ({ cls := "ContractMachine$Operator", name := "values", desc := "()[LContractMachine$Operator;" } : Jvm.MethodName)) ∈ lw_all := lw_g (lw_at lw_m1 70 rfl) rfl
theorem q203 : (Jvm.Cond.classLink "ContractMachine" (43 : Nat) "ContractMachine$Definition") ∈ lw_all := lw_g (lw_at lw_m1 83 rfl) rfl
theorem q205 : (Jvm.Cond.methodLinkNest "ContractMachine" (45 : Nat) ({ cls := "ContractMachine$Definition", name := "<init>", desc := "()V" } : Jvm.MethodName) "ContractMachine") ∈ lw_tbl := lw_at lw_m1 85 rfl
theorem q560 : (Jvm.Cond.fieldLinkNest "ContractMachine" (170 : Nat) "ContractMachine$Definition" "states" "Ljava/util/List;" "ContractMachine") ∈ lw_tbl := lw_at lw_m2 200 rfl
theorem q565 : (Jvm.Cond.fieldLinkNest "ContractMachine" (173 : Nat) "ContractMachine$Definition" "events" "Ljava/util/List;" "ContractMachine") ∈ lw_tbl := lw_at lw_m2 205 rfl
theorem q569 : (Jvm.Cond.fieldLinkNest "ContractMachine" (265 : Nat) "ContractMachine$Definition" "variables" "Ljava/util/List;" "ContractMachine") ∈ lw_tbl := lw_at lw_m2 209 rfl
theorem q572 : (Jvm.Cond.fieldLinkNest "ContractMachine" (176 : Nat) "ContractMachine$Definition" "transitions" "Ljava/util/List;" "ContractMachine") ∈ lw_tbl := lw_at lw_m2 212 rfl
theorem q574 : (Jvm.Cond.fieldLinkNest "ContractMachine" (161 : Nat) "ContractMachine$Definition" "initial" "I" "ContractMachine") ∈ lw_tbl := lw_at lw_m2 214 rfl
theorem q587 : (Jvm.Cond.classLink "ContractMachine" (50 : Nat) "ContractMachine$Run") ∈ lw_all := lw_g (lw_at lw_m2 227 rfl) rfl
theorem q589 : (Jvm.Cond.methodLinkNest "ContractMachine" (52 : Nat) ({ cls := "ContractMachine$Run", name := "<init>", desc := "()V" } : Jvm.MethodName) "ContractMachine") ∈ lw_tbl := lw_at lw_m2 229 rfl
theorem q596 : (Jvm.Cond.fieldLinkNest "ContractMachine" (143 : Nat) "ContractMachine$Run" "invariants" "Ljava/util/List;" "ContractMachine") ∈ lw_tbl := lw_at lw_m2 236 rfl
theorem q600 : (Jvm.Cond.fieldLinkNest "ContractMachine" (362 : Nat) "ContractMachine$Run" "taken" "[I" "ContractMachine") ∈ lw_tbl := lw_at lw_m3 0 rfl
theorem q603 : (Jvm.Cond.fieldLinkNest "ContractMachine" (368 : Nat) "ContractMachine$Run" "visits" "[I" "ContractMachine") ∈ lw_tbl := lw_at lw_m3 3 rfl
theorem q606 : (Jvm.Cond.fieldLinkNest "ContractMachine" (382 : Nat) "ContractMachine$Run" "rejected" "[I" "ContractMachine") ∈ lw_tbl := lw_at lw_m3 6 rfl
theorem q608 : (Jvm.Cond.fieldLinkNest "ContractMachine" (388 : Nat) "ContractMachine$Run" "traceEvents" "[I" "ContractMachine") ∈ lw_tbl := lw_at lw_m3 8 rfl
theorem q610 : (Jvm.Cond.fieldLinkNest "ContractMachine" (391 : Nat) "ContractMachine$Run" "traceTransitions" "[I" "ContractMachine") ∈ lw_tbl := lw_at lw_m3 10 rfl
theorem q614 : (Jvm.Cond.fieldLinkNest "ContractMachine" (164 : Nat) "ContractMachine$Run" "configuration" "I" "ContractMachine") ∈ lw_tbl := lw_at lw_m3 14 rfl
theorem q618 : (Jvm.Cond.fieldLinkNest "ContractMachine" (371 : Nat) "ContractMachine$Run" "accepted" "I" "ContractMachine") ∈ lw_tbl := lw_at lw_m3 18 rfl
theorem q620 : (Jvm.Cond.fieldLinkNest "ContractMachine" (385 : Nat) "ContractMachine$Run" "traceLength" "I" "ContractMachine") ∈ lw_tbl := lw_at lw_m3 20 rfl
theorem q641 : (Jvm.Cond.classLink "ContractMachine" (57 : Nat) "java/util/ArrayDeque") ∈ lw_all := lw_g (lw_at lw_m3 41 rfl) rfl
theorem q643 : (Jvm.Cond.methodLink "ContractMachine" (59 : Nat) ({ cls := "java/util/ArrayDeque", name := "<init>", desc := "()V" } : Jvm.MethodName)) ∈ lw_all := lw_g (lw_at lw_m3 43 rfl) rfl
theorem q658 : (Jvm.Cond.classLink "ContractMachine" (74 : Nat) "java/lang/StringBuilder") ∈ lw_all := lw_g (lw_at lw_m3 58 rfl) rfl
theorem q659 : (Jvm.Cond.methodLink "ContractMachine" (76 : Nat) ({ cls := "java/lang/StringBuilder", name := "<init>", desc := "()V" } : Jvm.MethodName)) ∈ lw_all := lw_g (lw_at lw_m3 59 rfl) rfl
theorem q660 : (Jvm.Cond.classLink "ContractMachine" (81 : Nat) "java/lang/String") ∈ lw_all := lw_g (lw_at lw_m3 60 rfl) rfl
theorem q662 : (Jvm.Cond.stringRef "ContractMachine" (83 : Nat) "idle") ∈ lw_tbl := lw_at lw_m3 62 rfl
theorem q663 : (Jvm.Cond.stringRef "ContractMachine" (85 : Nat) "busy") ∈ lw_tbl := lw_at lw_m3 63 rfl
theorem q664 : (Jvm.Cond.stringRef "ContractMachine" (87 : Nat) "full") ∈ lw_tbl := lw_at lw_m3 64 rfl
theorem q665 : (Jvm.Cond.methodLink "ContractMachine" (89 : Nat) ({ cls := "ContractMachine", name := "defineStates", desc := "([Ljava/lang/String;)V" } : Jvm.MethodName)) ∈ lw_all := lw_g (lw_at lw_m3 65 rfl) rfl
theorem q666 : (Jvm.Cond.privateMethod ({ cls := "ContractMachine", name := "defineStates", desc := "([Ljava/lang/String;)V" } : Jvm.MethodName)) ∈ lw_tbl := lw_at lw_m3 66 rfl
theorem q667 : (Jvm.Cond.instanceMethod ({ cls := "ContractMachine", name := "defineStates", desc := "([Ljava/lang/String;)V" } : Jvm.MethodName)) ∈ lw_all := lw_g (lw_at lw_m3 67 rfl) rfl
theorem q668 : (Jvm.Cond.code ({ cls := "ContractMachine", name := "defineStates", desc := "([Ljava/lang/String;)V" } : Jvm.MethodName) prog_1_method_9_code (7 : Nat) (Option.none : Option Jvm.ClassFile.FieldType)) ∈ lw_all := lw_g (lw_at lw_m3 68 rfl) rfl
theorem q669 : (Jvm.Cond.interfaceEntry "ContractMachine" (155 : Nat)) ∈ lw_tbl := lw_at lw_m3 69 rfl
theorem q670 : (Jvm.Cond.methodLink "ContractMachine" (155 : Nat) ({ cls := "java/util/List", name := "add", desc := "(Ljava/lang/Object;)Z" } : Jvm.MethodName)) ∈ lw_all := lw_g (lw_at lw_m3 70 rfl) rfl
theorem q700 : (Jvm.Cond.selects "ContractMachine" ({ cls := "java/lang/Object", name := "getClass", desc := "()Ljava/lang/Class;" } : Jvm.MethodName) ({ cls := "java/lang/Object", name := "getClass", desc := "()Ljava/lang/Class;" } : Jvm.MethodName)) ∈ lw_all := lw_g (lw_at lw_m3 100 rfl) rfl
theorem q754 : (Jvm.Cond.stringRef "ContractMachine" (93 : Nat) "coin") ∈ lw_tbl := lw_at lw_m3 154 rfl
theorem q755 : (Jvm.Cond.stringRef "ContractMachine" (95 : Nat) "push") ∈ lw_tbl := lw_at lw_m3 155 rfl
theorem q756 : (Jvm.Cond.stringRef "ContractMachine" (97 : Nat) "take") ∈ lw_tbl := lw_at lw_m3 156 rfl
theorem q757 : (Jvm.Cond.methodLink "ContractMachine" (99 : Nat) ({ cls := "ContractMachine", name := "defineEvents", desc := "([Ljava/lang/String;)V" } : Jvm.MethodName)) ∈ lw_all := lw_g (lw_at lw_m3 157 rfl) rfl
theorem q758 : (Jvm.Cond.privateMethod ({ cls := "ContractMachine", name := "defineEvents", desc := "([Ljava/lang/String;)V" } : Jvm.MethodName)) ∈ lw_tbl := lw_at lw_m3 158 rfl
theorem q759 : (Jvm.Cond.instanceMethod ({ cls := "ContractMachine", name := "defineEvents", desc := "([Ljava/lang/String;)V" } : Jvm.MethodName)) ∈ lw_all := lw_g (lw_at lw_m3 159 rfl) rfl
theorem q760 : (Jvm.Cond.code ({ cls := "ContractMachine", name := "defineEvents", desc := "([Ljava/lang/String;)V" } : Jvm.MethodName) prog_1_method_10_code (7 : Nat) (Option.none : Option Jvm.ClassFile.FieldType)) ∈ lw_all := lw_g (lw_at lw_m3 160 rfl) rfl
theorem q761 : (Jvm.Cond.stringRef "ContractMachine" (102 : Nat) "coins") ∈ lw_tbl := lw_at lw_m3 161 rfl
theorem q762 : (Jvm.Cond.methodLink "ContractMachine" (104 : Nat) ({ cls := "ContractMachine$Definition", name := "addVariable", desc := "(Ljava/lang/String;I)V" } : Jvm.MethodName)) ∈ lw_all := lw_g (lw_at lw_m3 162 rfl) rfl
theorem q776 : (Jvm.Cond.static ({ cls := "ContractMachine", name := "weight", desc := "(I)I" } : Jvm.MethodName)) ∈ lw_all := lw_g (lw_at lw_m3 176 rfl) rfl
theorem q777 : (Jvm.Cond.code ({ cls := "ContractMachine", name := "weight", desc := "(I)I" } : Jvm.MethodName) prog_1_method_6_code (1 : Nat) (Option.some Jvm.ClassFile.FieldType.int)) ∈ lw_all := lw_g (lw_at lw_m3 177 rfl) rfl
theorem q780 : (Jvm.Cond.stringRef "ContractMachine" (108 : Nat) "cups") ∈ lw_tbl := lw_at lw_m3 180 rfl
theorem q781 : (Jvm.Cond.classLink "ContractMachine" (110 : Nat) "ContractMachine$Action") ∈ lw_all := lw_g (lw_at lw_m3 181 rfl) rfl
theorem q783 : (Jvm.Cond.fieldLink "ContractMachine" (112 : Nat) "ContractMachine$Effect" "ADD" "LContractMachine$Effect;") ∈ lw_all := lw_g (lw_at lw_m3 183 rfl) rfl
theorem q785 : (Jvm.Cond.methodLink "ContractMachine" (118 : Nat) ({ cls := "ContractMachine$Action", name := "<init>", desc := "(ILContractMachine$Effect;I)V" } : Jvm.MethodName)) ∈ lw_all := lw_g (lw_at lw_m3 185 rfl) rfl
theorem q799 : (Jvm.Cond.methodLink "ContractMachine" (121 : Nat) ({ cls := "ContractMachine", name := "define", desc := "(IIILContractMachine$Comparison;LContractMachine$Action;)V" } : Jvm.MethodName)) ∈ lw_all := lw_g (lw_at lw_m3 199 rfl) rfl
theorem q800 : (Jvm.Cond.privateMethod ({ cls := "ContractMachine", name := "define", desc := "(IIILContractMachine$Comparison;LContractMachine$Action;)V" } : Jvm.MethodName)) ∈ lw_tbl := lw_at lw_m3 200 rfl
theorem q801 : (Jvm.Cond.instanceMethod ({ cls := "ContractMachine", name := "define", desc := "(IIILContractMachine$Comparison;LContractMachine$Action;)V" } : Jvm.MethodName)) ∈ lw_all := lw_g (lw_at lw_m3 201 rfl) rfl
theorem q802 : (Jvm.Cond.code ({ cls := "ContractMachine", name := "define", desc := "(IIILContractMachine$Comparison;LContractMachine$Action;)V" } : Jvm.MethodName) prog_1_method_11_code (7 : Nat) (Option.none : Option Jvm.ClassFile.FieldType)) ∈ lw_all := lw_g (lw_at lw_m3 202 rfl) rfl
theorem q803 : (Jvm.Cond.classLink "ContractMachine" (179 : Nat) "ContractMachine$Transition") ∈ lw_all := lw_g (lw_at lw_m3 203 rfl) rfl
theorem q805 : (Jvm.Cond.methodLink "ContractMachine" (181 : Nat) ({ cls := "ContractMachine$Transition", name := "<init>", desc := "(IIILContractMachine$Comparison;LContractMachine$Action;)V" } : Jvm.MethodName)) ∈ lw_all := lw_g (lw_at lw_m3 205 rfl) rfl
theorem q811 : (Jvm.Cond.fieldLinkNest "ContractMachine" (300 : Nat) "ContractMachine$Transition" "source" "I" "ContractMachine") ∈ lw_tbl := lw_at lw_m3 211 rfl
theorem q815 : (Jvm.Cond.fieldLinkNest "ContractMachine" (303 : Nat) "ContractMachine$Transition" "event" "I" "ContractMachine") ∈ lw_tbl := lw_at lw_m3 215 rfl
theorem q817 : (Jvm.Cond.fieldLinkNest "ContractMachine" (306 : Nat) "ContractMachine$Transition" "target" "I" "ContractMachine") ∈ lw_tbl := lw_at lw_m3 217 rfl
theorem q819 : (Jvm.Cond.fieldLinkNest "ContractMachine" (309 : Nat) "ContractMachine$Transition" "guard" "LContractMachine$Comparison;" "ContractMachine") ∈ lw_tbl := lw_at lw_m3 219 rfl
theorem q832 : (Jvm.Cond.classLink "ContractMachine" (125 : Nat) "ContractMachine$Comparison") ∈ lw_all := lw_g (lw_at lw_m3 232 rfl) rfl
theorem q834 : (Jvm.Cond.fieldLink "ContractMachine" (127 : Nat) "ContractMachine$Operator" "ABOVE_IT" "LContractMachine$Operator;") ∈ lw_all := lw_g (lw_at lw_m3 234 rfl) rfl
theorem q836 : (Jvm.Cond.methodLink "ContractMachine" (131 : Nat) ({ cls := "ContractMachine$Comparison", name := "<init>", desc := "(ILContractMachine$Operator;I)V" } : Jvm.MethodName)) ∈ lw_all := lw_g (lw_at lw_m3 236 rfl) rfl
theorem q850 : (Jvm.Cond.fieldLink "ContractMachine" (134 : Nat) "ContractMachine$Operator" "ATLEAST_IT" "LContractMachine$Operator;") ∈ lw_all := lw_g (lw_at lw_m4 10 rfl) rfl
theorem q852 : (Jvm.Cond.fieldLink "ContractMachine" (137 : Nat) "ContractMachine$Effect" "SUB" "LContractMachine$Effect;") ∈ lw_all := lw_g (lw_at lw_m4 12 rfl) rfl
theorem q854 : (Jvm.Cond.fieldLink "ContractMachine" (140 : Nat) "ContractMachine$Effect" "SET" "LContractMachine$Effect;") ∈ lw_all := lw_g (lw_at lw_m4 14 rfl) rfl
theorem q856 : (Jvm.Cond.classLink "ContractMachine" (147 : Nat) "ContractMachine$Invariant") ∈ lw_all := lw_g (lw_at lw_m4 16 rfl) rfl
theorem q858 : (Jvm.Cond.fieldLink "ContractMachine" (149 : Nat) "ContractMachine$Operator" "ATMOST_IT" "LContractMachine$Operator;") ∈ lw_all := lw_g (lw_at lw_m4 18 rfl) rfl
theorem q860 : (Jvm.Cond.methodLink "ContractMachine" (152 : Nat) ({ cls := "ContractMachine$Invariant", name := "<init>", desc := "(ILContractMachine$Comparison;)V" } : Jvm.MethodName)) ∈ lw_all := lw_g (lw_at lw_m4 20 rfl) rfl
theorem q865 : (Jvm.Cond.fieldLinkNest "ContractMachine" (321 : Nat) "ContractMachine$Invariant" "state" "I" "ContractMachine") ∈ lw_tbl := lw_at lw_m4 25 rfl
theorem q867 : (Jvm.Cond.fieldLinkNest "ContractMachine" (323 : Nat) "ContractMachine$Invariant" "comparison" "LContractMachine$Comparison;" "ContractMachine") ∈ lw_tbl := lw_at lw_m4 27 rfl
theorem q873 : (Jvm.Cond.methodLink "ContractMachine" (167 : Nat) ({ cls := "ContractMachine$Run", name := "clear", desc := "()V" } : Jvm.MethodName)) ∈ lw_all := lw_g (lw_at lw_m4 33 rfl) rfl
theorem q881 : (Jvm.Cond.fieldLink "ContractMachine" (31 : Nat) "ContractMachine" "operators" "[LContractMachine$Operator;") ∈ lw_all := lw_g (lw_at lw_m4 41 rfl) rfl
theorem q884 : (Jvm.Cond.fieldLink "ContractMachine" (35 : Nat) "ContractMachine" "input" "[B") ∈ lw_all := lw_g (lw_at lw_m4 44 rfl) rfl
theorem q886 : (Jvm.Cond.fieldLink "ContractMachine" (183 : Nat) "ContractMachine" "inputLength" "I") ∈ lw_all := lw_g (lw_at lw_m4 46 rfl) rfl
theorem q887 : (Jvm.Cond.fieldLink "ContractMachine" (194 : Nat) "ContractMachine" "errorCode" "I") ∈ lw_all := lw_g (lw_at lw_m4 47 rfl) rfl
theorem q888 : (Jvm.Cond.fieldLink "ContractMachine" (39 : Nat) "ContractMachine" "errorOffset" "I") ∈ lw_all := lw_g (lw_at lw_m4 48 rfl) rfl
theorem q892 : (Jvm.Cond.fieldLink "ContractMachine" (46 : Nat) "ContractMachine" "definition" "LContractMachine$Definition;") ∈ lw_all := lw_g (lw_at lw_m4 52 rfl) rfl
theorem q896 : (Jvm.Cond.fieldLink "ContractMachine" (53 : Nat) "ContractMachine" "run" "LContractMachine$Run;") ∈ lw_all := lw_g (lw_at lw_m4 56 rfl) rfl
theorem q897 : (Jvm.Cond.fieldLink "ContractMachine" (221 : Nat) "ContractMachine" "saved" "LContractMachine$Run;") ∈ lw_all := lw_g (lw_at lw_m4 57 rfl) rfl
theorem q898 : (Jvm.Cond.fieldLink "ContractMachine" (60 : Nat) "ContractMachine" "history" "Ljava/util/ArrayDeque;") ∈ lw_all := lw_g (lw_at lw_m4 58 rfl) rfl
theorem q900 : (Jvm.Cond.fieldLink "ContractMachine" (64 : Nat) "ContractMachine" "depths" "[I") ∈ lw_all := lw_g (lw_at lw_m4 60 rfl) rfl
theorem q902 : (Jvm.Cond.fieldLink "ContractMachine" (68 : Nat) "ContractMachine" "firsts" "[I") ∈ lw_all := lw_g (lw_at lw_m4 62 rfl) rfl
theorem q904 : (Jvm.Cond.fieldLink "ContractMachine" (71 : Nat) "ContractMachine" "queue" "[I") ∈ lw_all := lw_g (lw_at lw_m4 64 rfl) rfl
theorem q906 : (Jvm.Cond.fieldLink "ContractMachine" (406 : Nat) "ContractMachine" "found" "I") ∈ lw_all := lw_g (lw_at lw_m4 66 rfl) rfl
theorem q908 : (Jvm.Cond.fieldLink "ContractMachine" (420 : Nat) "ContractMachine" "deadlocks" "I") ∈ lw_all := lw_g (lw_at lw_m4 68 rfl) rfl
theorem q909 : (Jvm.Cond.fieldLink "ContractMachine" (77 : Nat) "ContractMachine" "output" "Ljava/lang/StringBuilder;") ∈ lw_all := lw_g (lw_at lw_m4 69 rfl) rfl
theorem q910 : (Jvm.Cond.laysFinal "ContractMachine" "ContractMachine" "operators" "[LContractMachine$Operator;") ∈ lw_all := lw_g (lw_at lw_m4 70 rfl) rfl
theorem q911 : (Jvm.Cond.soleField "ContractMachine" "operators") ∈ lw_all := lw_g (lw_at lw_m4 71 rfl) rfl
theorem q912 : (Jvm.Cond.laysFinal "ContractMachine" "ContractMachine" "input" "[B") ∈ lw_all := lw_g (lw_at lw_m4 72 rfl) rfl
theorem q913 : (Jvm.Cond.soleField "ContractMachine" "input") ∈ lw_all := lw_g (lw_at lw_m4 73 rfl) rfl
theorem q914 : (Jvm.Cond.lays "ContractMachine" "ContractMachine" "inputLength" "I") ∈ lw_all := lw_g (lw_at lw_m4 74 rfl) rfl
theorem q915 : (Jvm.Cond.soleField "ContractMachine" "inputLength") ∈ lw_all := lw_g (lw_at lw_m4 75 rfl) rfl
theorem q916 : (Jvm.Cond.lays "ContractMachine" "ContractMachine" "errorCode" "I") ∈ lw_all := lw_g (lw_at lw_m4 76 rfl) rfl
theorem q917 : (Jvm.Cond.soleField "ContractMachine" "errorCode") ∈ lw_all := lw_g (lw_at lw_m4 77 rfl) rfl
theorem q918 : (Jvm.Cond.lays "ContractMachine" "ContractMachine" "errorOffset" "I") ∈ lw_all := lw_g (lw_at lw_m4 78 rfl) rfl
theorem q919 : (Jvm.Cond.soleField "ContractMachine" "errorOffset") ∈ lw_all := lw_g (lw_at lw_m4 79 rfl) rfl
theorem q920 : (Jvm.Cond.lays "ContractMachine" "ContractMachine" "definition" "LContractMachine$Definition;") ∈ lw_all := lw_g (lw_at lw_m4 80 rfl) rfl
theorem q921 : (Jvm.Cond.soleField "ContractMachine" "definition") ∈ lw_all := lw_g (lw_at lw_m4 81 rfl) rfl
theorem q922 : (Jvm.Cond.lays "ContractMachine" "ContractMachine" "run" "LContractMachine$Run;") ∈ lw_all := lw_g (lw_at lw_m4 82 rfl) rfl
theorem q923 : (Jvm.Cond.soleField "ContractMachine" "run") ∈ lw_all := lw_g (lw_at lw_m4 83 rfl) rfl
theorem q924 : (Jvm.Cond.lays "ContractMachine" "ContractMachine" "saved" "LContractMachine$Run;") ∈ lw_all := lw_g (lw_at lw_m4 84 rfl) rfl
theorem q925 : (Jvm.Cond.soleField "ContractMachine" "saved") ∈ lw_all := lw_g (lw_at lw_m4 85 rfl) rfl
theorem q926 : (Jvm.Cond.laysFinal "ContractMachine" "ContractMachine" "history" "Ljava/util/ArrayDeque;") ∈ lw_all := lw_g (lw_at lw_m4 86 rfl) rfl
theorem q927 : (Jvm.Cond.soleField "ContractMachine" "history") ∈ lw_all := lw_g (lw_at lw_m4 87 rfl) rfl
theorem q928 : (Jvm.Cond.laysFinal "ContractMachine" "ContractMachine" "depths" "[I") ∈ lw_all := lw_g (lw_at lw_m4 88 rfl) rfl
theorem q929 : (Jvm.Cond.soleField "ContractMachine" "depths") ∈ lw_all := lw_g (lw_at lw_m4 89 rfl) rfl
theorem q930 : (Jvm.Cond.laysFinal "ContractMachine" "ContractMachine" "firsts" "[I") ∈ lw_all := lw_g (lw_at lw_m4 90 rfl) rfl
theorem q931 : (Jvm.Cond.soleField "ContractMachine" "firsts") ∈ lw_all := lw_g (lw_at lw_m4 91 rfl) rfl
theorem q932 : (Jvm.Cond.laysFinal "ContractMachine" "ContractMachine" "queue" "[I") ∈ lw_all := lw_g (lw_at lw_m4 92 rfl) rfl
theorem q933 : (Jvm.Cond.soleField "ContractMachine" "queue") ∈ lw_all := lw_g (lw_at lw_m4 93 rfl) rfl
theorem q934 : (Jvm.Cond.lays "ContractMachine" "ContractMachine" "found" "I") ∈ lw_all := lw_g (lw_at lw_m4 94 rfl) rfl
theorem q935 : (Jvm.Cond.soleField "ContractMachine" "found") ∈ lw_all := lw_g (lw_at lw_m4 95 rfl) rfl
theorem q936 : (Jvm.Cond.lays "ContractMachine" "ContractMachine" "deadlocks" "I") ∈ lw_all := lw_g (lw_at lw_m4 96 rfl) rfl
theorem q937 : (Jvm.Cond.soleField "ContractMachine" "deadlocks") ∈ lw_all := lw_g (lw_at lw_m4 97 rfl) rfl
theorem q938 : (Jvm.Cond.laysFinal "ContractMachine" "ContractMachine" "output" "Ljava/lang/StringBuilder;") ∈ lw_all := lw_g (lw_at lw_m4 98 rfl) rfl
theorem q939 : (Jvm.Cond.soleField "ContractMachine" "output") ∈ lw_all := lw_g (lw_at lw_m4 99 rfl) rfl
theorem q940 : (Jvm.Cond.superclass "ContractMachine" "java/lang/Object") ∈ lw_all := lw_g (lw_at lw_m4 100 rfl) rfl
theorem q942 : (Jvm.Cond.instanceMethod ({ cls := "ContractMachine", name := "appendInput", desc := "(IIIII)I" } : Jvm.MethodName)) ∈ lw_all := lw_g (lw_at lw_m4 102 rfl) rfl
theorem q943 : (Jvm.Cond.selects "ContractMachine" ({ cls := "ContractMachine", name := "appendInput", desc := "(IIIII)I" } : Jvm.MethodName) ({ cls := "ContractMachine", name := "appendInput", desc := "(IIIII)I" } : Jvm.MethodName)) ∈ lw_all := lw_g (lw_at lw_m4 103 rfl) rfl
theorem q944 : (Jvm.Cond.code ({ cls := "ContractMachine", name := "appendInput", desc := "(IIIII)I" } : Jvm.MethodName) prog_1_method_13_code (6 : Nat) (Option.some Jvm.ClassFile.FieldType.int)) ∈ lw_all := lw_g (lw_at lw_m4 104 rfl) rfl
theorem q945 : (Jvm.Cond.methodLink "ContractMachine" (186 : Nat) ({ cls := "ContractMachine", name := "append", desc := "(I)V" } : Jvm.MethodName)) ∈ lw_all := lw_g (lw_at lw_m4 105 rfl) rfl
theorem q946 : (Jvm.Cond.privateMethod ({ cls := "ContractMachine", name := "append", desc := "(I)V" } : Jvm.MethodName)) ∈ lw_tbl := lw_at lw_m4 106 rfl
theorem q947 : (Jvm.Cond.instanceMethod ({ cls := "ContractMachine", name := "append", desc := "(I)V" } : Jvm.MethodName)) ∈ lw_all := lw_g (lw_at lw_m4 107 rfl) rfl
theorem q948 : (Jvm.Cond.code ({ cls := "ContractMachine", name := "append", desc := "(I)V" } : Jvm.MethodName) prog_1_method_12_code (3 : Nat) (Option.none : Option Jvm.ClassFile.FieldType)) ∈ lw_all := lw_g (lw_at lw_m4 108 rfl) rfl
theorem q950 : (Jvm.Cond.instanceMethod ({ cls := "ContractMachine", name := "truncateInput", desc := "(I)Z" } : Jvm.MethodName)) ∈ lw_all := lw_g (lw_at lw_m4 110 rfl) rfl
theorem q951 : (Jvm.Cond.selects "ContractMachine" ({ cls := "ContractMachine", name := "truncateInput", desc := "(I)Z" } : Jvm.MethodName) ({ cls := "ContractMachine", name := "truncateInput", desc := "(I)Z" } : Jvm.MethodName)) ∈ lw_all := lw_g (lw_at lw_m4 111 rfl) rfl
theorem q952 : (Jvm.Cond.code ({ cls := "ContractMachine", name := "truncateInput", desc := "(I)Z" } : Jvm.MethodName) prog_1_method_14_code (2 : Nat) (Option.some Jvm.ClassFile.FieldType.boolean)) ∈ lw_all := lw_g (lw_at lw_m4 112 rfl) rfl
theorem q953 : (Jvm.Cond.methodLink "ContractMachine" (190 : Nat) ({ cls := "ContractMachine", name := "isWithin", desc := "(JJJ)Z" } : Jvm.MethodName)) ∈ lw_all := lw_g (lw_at lw_m4 113 rfl) rfl
theorem q954 : (Jvm.Cond.static ({ cls := "ContractMachine", name := "isWithin", desc := "(JJJ)Z" } : Jvm.MethodName)) ∈ lw_all := lw_g (lw_at lw_m4 114 rfl) rfl
theorem q955 : (Jvm.Cond.code ({ cls := "ContractMachine", name := "isWithin", desc := "(JJJ)Z" } : Jvm.MethodName) prog_1_method_1_code (6 : Nat) (Option.some Jvm.ClassFile.FieldType.boolean)) ∈ lw_all := lw_g (lw_at lw_m4 115 rfl) rfl
theorem q957 : (Jvm.Cond.instanceMethod ({ cls := "ContractMachine", name := "loadMachine", desc := "()I" } : Jvm.MethodName)) ∈ lw_all := lw_g (lw_at lw_m4 117 rfl) rfl
theorem q958 : (Jvm.Cond.selects "ContractMachine" ({ cls := "ContractMachine", name := "loadMachine", desc := "()I" } : Jvm.MethodName) ({ cls := "ContractMachine", name := "loadMachine", desc := "()I" } : Jvm.MethodName)) ∈ lw_all := lw_g (lw_at lw_m4 118 rfl) rfl
theorem q959 : (Jvm.Cond.codeWith ({ cls := "ContractMachine", name := "loadMachine", desc := "()I" } : Jvm.MethodName) prog_1_method_17_code (4 : Nat) (Option.some Jvm.ClassFile.FieldType.int) [((4 : Nat), (54 : Nat), (61 : Nat), (198 : Nat)), ((4 : Nat), (54 : Nat), (75 : Nat), (0 : Nat)), ((61 : Nat), (68 : Nat), (75 : Nat), (0 : Nat))]) ∈ lw_all := lw_g (lw_at lw_m4 119 rfl) rfl
theorem q960 : (Jvm.Cond.classLink "ContractMachine" (198 : Nat) "ContractMachine$ParseException") ∈ lw_all := lw_g (lw_at lw_m4 120 rfl) rfl
theorem q961 : (Jvm.Cond.methodLink "ContractMachine" (205 : Nat) ({ cls := "ContractMachine", name := "clearError", desc := "()V" } : Jvm.MethodName)) ∈ lw_all := lw_g (lw_at lw_m4 121 rfl) rfl
theorem q962 : (Jvm.Cond.privateMethod ({ cls := "ContractMachine", name := "clearError", desc := "()V" } : Jvm.MethodName)) ∈ lw_tbl := lw_at lw_m4 122 rfl
theorem q963 : (Jvm.Cond.instanceMethod ({ cls := "ContractMachine", name := "clearError", desc := "()V" } : Jvm.MethodName)) ∈ lw_all := lw_g (lw_at lw_m4 123 rfl) rfl
theorem q964 : (Jvm.Cond.code ({ cls := "ContractMachine", name := "clearError", desc := "()V" } : Jvm.MethodName) prog_1_method_15_code (1 : Nat) (Option.none : Option Jvm.ClassFile.FieldType)) ∈ lw_all := lw_g (lw_at lw_m4 124 rfl) rfl
theorem q965 : (Jvm.Cond.classLink "ContractMachine" (208 : Nat) "ContractMachine$SetupParser") ∈ lw_all := lw_g (lw_at lw_m4 125 rfl) rfl
theorem q967 : (Jvm.Cond.methodLinkNest "ContractMachine" (210 : Nat) ({ cls := "ContractMachine$SetupParser", name := "<init>", desc := "(LContractMachine;)V" } : Jvm.MethodName) "ContractMachine") ∈ lw_tbl := lw_at lw_m4 127 rfl
theorem q1122 : (Jvm.Cond.fieldLinkNest "ContractMachine" (217 : Nat) "ContractMachine$SetupParser" "made" "LContractMachine$Definition;" "ContractMachine") ∈ lw_tbl := lw_at lw_m5 42 rfl
theorem q1150 : (Jvm.Cond.methodLink "ContractMachine" (213 : Nat) ({ cls := "ContractMachine$SetupParser", name := "parse", desc := "()LContractMachine$Run;" } : Jvm.MethodName)) ∈ lw_all := lw_g (lw_at lw_m5 70 rfl) rfl
theorem q1272 : (Jvm.Cond.fieldLinkNest "ContractMachine" (197 : Nat) "ContractMachine$ParseException" "code" "I" "ContractMachine") ∈ lw_tbl := lw_at lw_m5 192 rfl
theorem q1274 : (Jvm.Cond.fieldLinkNest "ContractMachine" (202 : Nat) "ContractMachine$ParseException" "offset" "I" "ContractMachine") ∈ lw_tbl := lw_at lw_m5 194 rfl
theorem q1448 : (Jvm.Cond.static ({ cls := "ContractMachine", name := "valueIn", desc := "(II)I" } : Jvm.MethodName)) ∈ lw_all := lw_g (lw_at lw_m6 128 rfl) rfl
theorem q1449 : (Jvm.Cond.code ({ cls := "ContractMachine", name := "valueIn", desc := "(II)I" } : Jvm.MethodName) prog_1_method_7_code (2 : Nat) (Option.some Jvm.ClassFile.FieldType.int)) ∈ lw_all := lw_g (lw_at lw_m6 129 rfl) rfl
theorem q1450 : (Jvm.Cond.methodLink "ContractMachine" (18 : Nat) ({ cls := "ContractMachine", name := "weight", desc := "(I)I" } : Jvm.MethodName)) ∈ lw_all := lw_g (lw_at lw_m6 130 rfl) rfl
theorem q1473 : (Jvm.Cond.methodLink "ContractMachine" (220 : Nat) ({ cls := "java/util/ArrayDeque", name := "clear", desc := "()V" } : Jvm.MethodName)) ∈ lw_all := lw_g (lw_at lw_m6 153 rfl) rfl
theorem q1480 : (Jvm.Cond.interfaceEntry "ContractMachine" (224 : Nat)) ∈ lw_tbl := lw_at lw_m6 160 rfl
theorem q1481 : (Jvm.Cond.methodLink "ContractMachine" (224 : Nat) ({ cls := "java/util/List", name := "size", desc := "()I" } : Jvm.MethodName)) ∈ lw_all := lw_g (lw_at lw_m6 161 rfl) rfl
theorem q1482 : (Jvm.Cond.methodLink "ContractMachine" (228 : Nat) ({ cls := "ContractMachine", name := "fail", desc := "(LContractMachine$ParseException;)I" } : Jvm.MethodName)) ∈ lw_all := lw_g (lw_at lw_m6 162 rfl) rfl
theorem q1483 : (Jvm.Cond.privateMethod ({ cls := "ContractMachine", name := "fail", desc := "(LContractMachine$ParseException;)I" } : Jvm.MethodName)) ∈ lw_tbl := lw_at lw_m6 163 rfl
theorem q1484 : (Jvm.Cond.instanceMethod ({ cls := "ContractMachine", name := "fail", desc := "(LContractMachine$ParseException;)I" } : Jvm.MethodName)) ∈ lw_all := lw_g (lw_at lw_m6 164 rfl) rfl
theorem q1485 : (Jvm.Cond.code ({ cls := "ContractMachine", name := "fail", desc := "(LContractMachine$ParseException;)I" } : Jvm.MethodName) prog_1_method_16_code (2 : Nat) (Option.some Jvm.ClassFile.FieldType.int)) ∈ lw_all := lw_g (lw_at lw_m6 165 rfl) rfl
theorem q1487 : (Jvm.Cond.instanceMethod ({ cls := "ContractMachine", name := "runScript", desc := "()I" } : Jvm.MethodName)) ∈ lw_all := lw_g (lw_at lw_m6 167 rfl) rfl
theorem q1488 : (Jvm.Cond.selects "ContractMachine" ({ cls := "ContractMachine", name := "runScript", desc := "()I" } : Jvm.MethodName) ({ cls := "ContractMachine", name := "runScript", desc := "()I" } : Jvm.MethodName)) ∈ lw_all := lw_g (lw_at lw_m6 168 rfl) rfl
theorem q1489 : (Jvm.Cond.codeWith ({ cls := "ContractMachine", name := "runScript", desc := "()I" } : Jvm.MethodName) prog_1_method_18_code (4 : Nat) (Option.some Jvm.ClassFile.FieldType.int) [((4 : Nat), (20 : Nat), (27 : Nat), (198 : Nat)), ((4 : Nat), (20 : Nat), (41 : Nat), (0 : Nat)), ((27 : Nat), (34 : Nat), (41 : Nat), (0 : Nat))]) ∈ lw_all := lw_g (lw_at lw_m6 169 rfl) rfl
theorem q1490 : (Jvm.Cond.classLink "ContractMachine" (232 : Nat) "ContractMachine$ScriptParser") ∈ lw_all := lw_g (lw_at lw_m6 170 rfl) rfl
theorem q1492 : (Jvm.Cond.methodLinkNest "ContractMachine" (234 : Nat) ({ cls := "ContractMachine$ScriptParser", name := "<init>", desc := "(LContractMachine;)V" } : Jvm.MethodName) "ContractMachine") ∈ lw_tbl := lw_at lw_m6 172 rfl
theorem q1499 : (Jvm.Cond.fieldLinkNest "ContractMachine" (247 : Nat) "ContractMachine$ScriptParser" "commands" "[LContractMachine$Command;" "ContractMachine") ∈ lw_tbl := lw_at lw_m6 179 rfl
theorem q1501 : (Jvm.Cond.fieldLinkNest "ContractMachine" (244 : Nat) "ContractMachine$ScriptParser" "count" "I" "ContractMachine") ∈ lw_tbl := lw_at lw_m6 181 rfl
theorem q1520 : (Jvm.Cond.methodLink "ContractMachine" (235 : Nat) ({ cls := "ContractMachine$ScriptParser", name := "parse", desc := "()LContractMachine$ScriptParser;" } : Jvm.MethodName)) ∈ lw_all := lw_g (lw_at lw_m6 200 rfl) rfl
theorem q1627 : (Jvm.Cond.methodLink "ContractMachine" (238 : Nat) ({ cls := "ContractMachine", name := "run", desc := "(LContractMachine$ScriptParser;)I" } : Jvm.MethodName)) ∈ lw_all := lw_g (lw_at lw_m7 67 rfl) rfl
theorem q1628 : (Jvm.Cond.privateMethod ({ cls := "ContractMachine", name := "run", desc := "(LContractMachine$ScriptParser;)I" } : Jvm.MethodName)) ∈ lw_tbl := lw_at lw_m7 68 rfl
theorem q1629 : (Jvm.Cond.instanceMethod ({ cls := "ContractMachine", name := "run", desc := "(LContractMachine$ScriptParser;)I" } : Jvm.MethodName)) ∈ lw_all := lw_g (lw_at lw_m7 69 rfl) rfl
theorem q1630 : (Jvm.Cond.code ({ cls := "ContractMachine", name := "run", desc := "(LContractMachine$ScriptParser;)I" } : Jvm.MethodName) prog_1_method_19_code (4 : Nat) (Option.some Jvm.ClassFile.FieldType.int)) ∈ lw_all := lw_g (lw_at lw_m7 70 rfl) rfl
theorem q1631 : (Jvm.Cond.methodLink "ContractMachine" (241 : Nat) ({ cls := "ContractMachine", name := "changed", desc := "()LContractMachine$Run;" } : Jvm.MethodName)) ∈ lw_all := lw_g (lw_at lw_m7 71 rfl) rfl
theorem q1632 : (Jvm.Cond.privateMethod ({ cls := "ContractMachine", name := "changed", desc := "()LContractMachine$Run;" } : Jvm.MethodName)) ∈ lw_tbl := lw_at lw_m7 72 rfl
theorem q1633 : (Jvm.Cond.instanceMethod ({ cls := "ContractMachine", name := "changed", desc := "()LContractMachine$Run;" } : Jvm.MethodName)) ∈ lw_all := lw_g (lw_at lw_m7 73 rfl) rfl
theorem q1634 : (Jvm.Cond.code ({ cls := "ContractMachine", name := "changed", desc := "()LContractMachine$Run;" } : Jvm.MethodName) prog_1_method_78_code (1 : Nat) (Option.some (Jvm.ClassFile.FieldType.object "ContractMachine$Run"))) ∈ lw_all := lw_g (lw_at lw_m7 74 rfl) rfl
theorem q1635 : (Jvm.Cond.methodLink "ContractMachine" (438 : Nat) ({ cls := "java/util/ArrayDeque", name := "size", desc := "()I" } : Jvm.MethodName)) ∈ lw_all := lw_g (lw_at lw_m7 75 rfl) rfl
theorem q1642 : (Jvm.Cond.methodLink "ContractMachine" (439 : Nat) ({ cls := "java/util/ArrayDeque", name := "removeFirst", desc := "()Ljava/lang/Object;" } : Jvm.MethodName)) ∈ lw_all := lw_g (lw_at lw_m7 82 rfl) rfl
theorem q1677 : (Jvm.Cond.methodLink "ContractMachine" (443 : Nat) ({ cls := "java/util/ArrayDeque", name := "addLast", desc := "(Ljava/lang/Object;)V" } : Jvm.MethodName)) ∈ lw_all := lw_g (lw_at lw_m7 117 rfl) rfl
theorem q1709 : (Jvm.Cond.methodLink "ContractMachine" (447 : Nat) ({ cls := "ContractMachine$Run", name := "twin", desc := "()LContractMachine$Run;" } : Jvm.MethodName)) ∈ lw_all := lw_g (lw_at lw_m7 149 rfl) rfl
theorem q1771 : (Jvm.Cond.methodLink "ContractMachine" (251 : Nat) ({ cls := "ContractMachine$Command", name := "execute", desc := "()Z" } : Jvm.MethodName)) ∈ lw_all := lw_g (lw_at lw_m7 211 rfl) rfl
theorem q1778 : (Jvm.Cond.privateMethod ({ cls := "ContractMachine", name := "outcome", desc := "(I)LContractMachine$Outcome;" } : Jvm.MethodName)) ∈ lw_tbl := lw_at lw_m7 218 rfl
theorem q1779 : (Jvm.Cond.instanceMethod ({ cls := "ContractMachine", name := "outcome", desc := "(I)LContractMachine$Outcome;" } : Jvm.MethodName)) ∈ lw_all := lw_g (lw_at lw_m7 219 rfl) rfl
theorem q1780 : (Jvm.Cond.code ({ cls := "ContractMachine", name := "outcome", desc := "(I)LContractMachine$Outcome;" } : Jvm.MethodName) prog_1_method_49_code (3 : Nat) (Option.some (Jvm.ClassFile.FieldType.object "ContractMachine$Outcome"))) ∈ lw_all := lw_g (lw_at lw_m7 220 rfl) rfl
theorem q1781 : (Jvm.Cond.methodLink "ContractMachine" (342 : Nat) ({ cls := "ContractMachine", name := "verdict", desc := "(II)I" } : Jvm.MethodName)) ∈ lw_all := lw_g (lw_at lw_m7 221 rfl) rfl
theorem q1782 : (Jvm.Cond.privateMethod ({ cls := "ContractMachine", name := "verdict", desc := "(II)I" } : Jvm.MethodName)) ∈ lw_tbl := lw_at lw_m7 222 rfl
theorem q1783 : (Jvm.Cond.instanceMethod ({ cls := "ContractMachine", name := "verdict", desc := "(II)I" } : Jvm.MethodName)) ∈ lw_all := lw_g (lw_at lw_m7 223 rfl) rfl
theorem q1784 : (Jvm.Cond.code ({ cls := "ContractMachine", name := "verdict", desc := "(II)I" } : Jvm.MethodName) prog_1_method_47_code (5 : Nat) (Option.some Jvm.ClassFile.FieldType.int)) ∈ lw_all := lw_g (lw_at lw_m7 224 rfl) rfl
theorem q1785 : (Jvm.Cond.methodLink "ContractMachine" (329 : Nat) ({ cls := "ContractMachine$Definition", name := "choose", desc := "(II)I" } : Jvm.MethodName)) ∈ lw_all := lw_g (lw_at lw_m7 225 rfl) rfl
theorem q1799 : (Jvm.Cond.methodLink "ContractMachine" (332 : Nat) ({ cls := "ContractMachine$Definition", name := "hasTransition", desc := "(II)Z" } : Jvm.MethodName)) ∈ lw_all := lw_g (lw_at lw_m7 239 rfl) rfl
theorem q1803 : (Jvm.Cond.interfaceEntry "ContractMachine" (268 : Nat)) ∈ lw_tbl := lw_at lw_m8 3 rfl
theorem q1804 : (Jvm.Cond.methodLink "ContractMachine" (268 : Nat) ({ cls := "java/util/List", name := "get", desc := "(I)Ljava/lang/Object;" } : Jvm.MethodName)) ∈ lw_all := lw_g (lw_at lw_m8 4 rfl) rfl
theorem q1805 : (Jvm.Cond.methodLink "ContractMachine" (336 : Nat) ({ cls := "ContractMachine$Transition", name := "next", desc := "(I)I" } : Jvm.MethodName)) ∈ lw_all := lw_g (lw_at lw_m8 5 rfl) rfl
theorem q1829 : (Jvm.Cond.methodLink "ContractMachine" (339 : Nat) ({ cls := "ContractMachine$Run", name := "broken", desc := "(I)I" } : Jvm.MethodName)) ∈ lw_all := lw_g (lw_at lw_m8 29 rfl) rfl
theorem q1830 : (Jvm.Cond.classLink "ContractMachine" (345 : Nat) "ContractMachine$Rejected") ∈ lw_all := lw_g (lw_at lw_m8 30 rfl) rfl
theorem q1832 : (Jvm.Cond.methodLink "ContractMachine" (347 : Nat) ({ cls := "ContractMachine$Rejected", name := "<init>", desc := "(I)V" } : Jvm.MethodName)) ∈ lw_all := lw_g (lw_at lw_m8 32 rfl) rfl
theorem q1840 : (Jvm.Cond.classLink "ContractMachine" (349 : Nat) "ContractMachine$Accepted") ∈ lw_all := lw_g (lw_at lw_m8 40 rfl) rfl
theorem q1842 : (Jvm.Cond.methodLink "ContractMachine" (351 : Nat) ({ cls := "ContractMachine", name := "next", desc := "(II)I" } : Jvm.MethodName)) ∈ lw_all := lw_g (lw_at lw_m8 42 rfl) rfl
theorem q1843 : (Jvm.Cond.privateMethod ({ cls := "ContractMachine", name := "next", desc := "(II)I" } : Jvm.MethodName)) ∈ lw_tbl := lw_at lw_m8 43 rfl
theorem q1844 : (Jvm.Cond.instanceMethod ({ cls := "ContractMachine", name := "next", desc := "(II)I" } : Jvm.MethodName)) ∈ lw_all := lw_g (lw_at lw_m8 44 rfl) rfl
theorem q1845 : (Jvm.Cond.code ({ cls := "ContractMachine", name := "next", desc := "(II)I" } : Jvm.MethodName) prog_1_method_48_code (5 : Nat) (Option.some Jvm.ClassFile.FieldType.int)) ∈ lw_all := lw_g (lw_at lw_m8 45 rfl) rfl
theorem q1846 : (Jvm.Cond.methodLink "ContractMachine" (353 : Nat) ({ cls := "ContractMachine$Accepted", name := "<init>", desc := "(III)V" } : Jvm.MethodName)) ∈ lw_all := lw_g (lw_at lw_m8 46 rfl) rfl
theorem q1886 : (Jvm.Cond.privateMethod ({ cls := "ContractMachine", name := "canSet", desc := "(II)Z" } : Jvm.MethodName)) ∈ lw_tbl := lw_at lw_m8 86 rfl
theorem q1887 : (Jvm.Cond.instanceMethod ({ cls := "ContractMachine", name := "canSet", desc := "(II)Z" } : Jvm.MethodName)) ∈ lw_all := lw_g (lw_at lw_m8 87 rfl) rfl
theorem q1888 : (Jvm.Cond.code ({ cls := "ContractMachine", name := "canSet", desc := "(II)Z" } : Jvm.MethodName) prog_1_method_81_code (3 : Nat) (Option.some Jvm.ClassFile.FieldType.boolean)) ∈ lw_all := lw_g (lw_at lw_m8 88 rfl) rfl
theorem q1889 : (Jvm.Cond.methodLink "ContractMachine" (462 : Nat) ({ cls := "ContractMachine", name := "configurationWith", desc := "(II)I" } : Jvm.MethodName)) ∈ lw_all := lw_g (lw_at lw_m8 89 rfl) rfl
theorem q1890 : (Jvm.Cond.privateMethod ({ cls := "ContractMachine", name := "configurationWith", desc := "(II)I" } : Jvm.MethodName)) ∈ lw_tbl := lw_at lw_m8 90 rfl
theorem q1891 : (Jvm.Cond.instanceMethod ({ cls := "ContractMachine", name := "configurationWith", desc := "(II)I" } : Jvm.MethodName)) ∈ lw_all := lw_g (lw_at lw_m8 91 rfl) rfl
theorem q1892 : (Jvm.Cond.code ({ cls := "ContractMachine", name := "configurationWith", desc := "(II)I" } : Jvm.MethodName) prog_1_method_80_code (3 : Nat) (Option.some Jvm.ClassFile.FieldType.int)) ∈ lw_all := lw_g (lw_at lw_m8 92 rfl) rfl
theorem q1893 : (Jvm.Cond.methodLink "ContractMachine" (289 : Nat) ({ cls := "ContractMachine$Run", name := "valuation", desc := "()I" } : Jvm.MethodName)) ∈ lw_all := lw_g (lw_at lw_m8 93 rfl) rfl
theorem q1897 : (Jvm.Cond.methodLink "ContractMachine" (292 : Nat) ({ cls := "ContractMachine", name := "valueIn", desc := "(II)I" } : Jvm.MethodName)) ∈ lw_all := lw_g (lw_at lw_m8 97 rfl) rfl
theorem q1899 : (Jvm.Cond.privateMethod ({ cls := "ContractMachine", name := "set", desc := "(II)I" } : Jvm.MethodName)) ∈ lw_tbl := lw_at lw_m8 99 rfl
theorem q1900 : (Jvm.Cond.instanceMethod ({ cls := "ContractMachine", name := "set", desc := "(II)I" } : Jvm.MethodName)) ∈ lw_all := lw_g (lw_at lw_m8 100 rfl) rfl
theorem q1901 : (Jvm.Cond.code ({ cls := "ContractMachine", name := "set", desc := "(II)I" } : Jvm.MethodName) prog_1_method_82_code (4 : Nat) (Option.some Jvm.ClassFile.FieldType.int)) ∈ lw_all := lw_g (lw_at lw_m8 101 rfl) rfl
theorem q1906 : (Jvm.Cond.privateMethod ({ cls := "ContractMachine", name := "restart", desc := "()I" } : Jvm.MethodName)) ∈ lw_tbl := lw_at lw_m8 106 rfl
theorem q1907 : (Jvm.Cond.instanceMethod ({ cls := "ContractMachine", name := "restart", desc := "()I" } : Jvm.MethodName)) ∈ lw_all := lw_g (lw_at lw_m8 107 rfl) rfl
theorem q1908 : (Jvm.Cond.code ({ cls := "ContractMachine", name := "restart", desc := "()I" } : Jvm.MethodName) prog_1_method_84_code (2 : Nat) (Option.some Jvm.ClassFile.FieldType.int)) ∈ lw_all := lw_g (lw_at lw_m8 108 rfl) rfl
theorem q1909 : (Jvm.Cond.methodLink "ContractMachine" (283 : Nat) ({ cls := "ContractMachine$Run", name := "state", desc := "()I" } : Jvm.MethodName)) ∈ lw_all := lw_g (lw_at lw_m8 109 rfl) rfl
theorem q1915 : (Jvm.Cond.instanceMethod ({ cls := "ContractMachine", name := "errorCode", desc := "()I" } : Jvm.MethodName)) ∈ lw_all := lw_g (lw_at lw_m8 115 rfl) rfl
theorem q1916 : (Jvm.Cond.selects "ContractMachine" ({ cls := "ContractMachine", name := "errorCode", desc := "()I" } : Jvm.MethodName) ({ cls := "ContractMachine", name := "errorCode", desc := "()I" } : Jvm.MethodName)) ∈ lw_all := lw_g (lw_at lw_m8 116 rfl) rfl
theorem q1917 : (Jvm.Cond.code ({ cls := "ContractMachine", name := "errorCode", desc := "()I" } : Jvm.MethodName) prog_1_method_20_code (1 : Nat) (Option.some Jvm.ClassFile.FieldType.int)) ∈ lw_all := lw_g (lw_at lw_m8 117 rfl) rfl
theorem q1919 : (Jvm.Cond.instanceMethod ({ cls := "ContractMachine", name := "errorOffset", desc := "()I" } : Jvm.MethodName)) ∈ lw_all := lw_g (lw_at lw_m8 119 rfl) rfl
theorem q1920 : (Jvm.Cond.selects "ContractMachine" ({ cls := "ContractMachine", name := "errorOffset", desc := "()I" } : Jvm.MethodName) ({ cls := "ContractMachine", name := "errorOffset", desc := "()I" } : Jvm.MethodName)) ∈ lw_all := lw_g (lw_at lw_m8 120 rfl) rfl
theorem q1921 : (Jvm.Cond.code ({ cls := "ContractMachine", name := "errorOffset", desc := "()I" } : Jvm.MethodName) prog_1_method_21_code (1 : Nat) (Option.some Jvm.ClassFile.FieldType.int)) ∈ lw_all := lw_g (lw_at lw_m8 121 rfl) rfl
theorem q1923 : (Jvm.Cond.instanceMethod ({ cls := "ContractMachine", name := "stateCount", desc := "()I" } : Jvm.MethodName)) ∈ lw_all := lw_g (lw_at lw_m8 123 rfl) rfl
theorem q1924 : (Jvm.Cond.selects "ContractMachine" ({ cls := "ContractMachine", name := "stateCount", desc := "()I" } : Jvm.MethodName) ({ cls := "ContractMachine", name := "stateCount", desc := "()I" } : Jvm.MethodName)) ∈ lw_all := lw_g (lw_at lw_m8 124 rfl) rfl
theorem q1925 : (Jvm.Cond.code ({ cls := "ContractMachine", name := "stateCount", desc := "()I" } : Jvm.MethodName) prog_1_method_29_code (1 : Nat) (Option.some Jvm.ClassFile.FieldType.int)) ∈ lw_all := lw_g (lw_at lw_m8 125 rfl) rfl
theorem q1927 : (Jvm.Cond.instanceMethod ({ cls := "ContractMachine", name := "eventCount", desc := "()I" } : Jvm.MethodName)) ∈ lw_all := lw_g (lw_at lw_m8 127 rfl) rfl
theorem q1928 : (Jvm.Cond.selects "ContractMachine" ({ cls := "ContractMachine", name := "eventCount", desc := "()I" } : Jvm.MethodName) ({ cls := "ContractMachine", name := "eventCount", desc := "()I" } : Jvm.MethodName)) ∈ lw_all := lw_g (lw_at lw_m8 128 rfl) rfl
theorem q1929 : (Jvm.Cond.code ({ cls := "ContractMachine", name := "eventCount", desc := "()I" } : Jvm.MethodName) prog_1_method_30_code (1 : Nat) (Option.some Jvm.ClassFile.FieldType.int)) ∈ lw_all := lw_g (lw_at lw_m8 129 rfl) rfl
theorem q1931 : (Jvm.Cond.instanceMethod ({ cls := "ContractMachine", name := "variableCount", desc := "()I" } : Jvm.MethodName)) ∈ lw_all := lw_g (lw_at lw_m8 131 rfl) rfl
theorem q1932 : (Jvm.Cond.selects "ContractMachine" ({ cls := "ContractMachine", name := "variableCount", desc := "()I" } : Jvm.MethodName) ({ cls := "ContractMachine", name := "variableCount", desc := "()I" } : Jvm.MethodName)) ∈ lw_all := lw_g (lw_at lw_m8 132 rfl) rfl
theorem q1933 : (Jvm.Cond.code ({ cls := "ContractMachine", name := "variableCount", desc := "()I" } : Jvm.MethodName) prog_1_method_31_code (1 : Nat) (Option.some Jvm.ClassFile.FieldType.int)) ∈ lw_all := lw_g (lw_at lw_m8 133 rfl) rfl
theorem q1935 : (Jvm.Cond.instanceMethod ({ cls := "ContractMachine", name := "transitionCount", desc := "()I" } : Jvm.MethodName)) ∈ lw_all := lw_g (lw_at lw_m8 135 rfl) rfl
theorem q1936 : (Jvm.Cond.selects "ContractMachine" ({ cls := "ContractMachine", name := "transitionCount", desc := "()I" } : Jvm.MethodName) ({ cls := "ContractMachine", name := "transitionCount", desc := "()I" } : Jvm.MethodName)) ∈ lw_all := lw_g (lw_at lw_m8 136 rfl) rfl
theorem q1937 : (Jvm.Cond.code ({ cls := "ContractMachine", name := "transitionCount", desc := "()I" } : Jvm.MethodName) prog_1_method_32_code (1 : Nat) (Option.some Jvm.ClassFile.FieldType.int)) ∈ lw_all := lw_g (lw_at lw_m8 137 rfl) rfl
theorem q1939 : (Jvm.Cond.instanceMethod ({ cls := "ContractMachine", name := "invariantCount", desc := "()I" } : Jvm.MethodName)) ∈ lw_all := lw_g (lw_at lw_m8 139 rfl) rfl
theorem q1940 : (Jvm.Cond.selects "ContractMachine" ({ cls := "ContractMachine", name := "invariantCount", desc := "()I" } : Jvm.MethodName) ({ cls := "ContractMachine", name := "invariantCount", desc := "()I" } : Jvm.MethodName)) ∈ lw_all := lw_g (lw_at lw_m8 140 rfl) rfl
theorem q1941 : (Jvm.Cond.code ({ cls := "ContractMachine", name := "invariantCount", desc := "()I" } : Jvm.MethodName) prog_1_method_33_code (1 : Nat) (Option.some Jvm.ClassFile.FieldType.int)) ∈ lw_all := lw_g (lw_at lw_m8 141 rfl) rfl
theorem q1943 : (Jvm.Cond.instanceMethod ({ cls := "ContractMachine", name := "currentState", desc := "()I" } : Jvm.MethodName)) ∈ lw_all := lw_g (lw_at lw_m8 143 rfl) rfl
theorem q1944 : (Jvm.Cond.selects "ContractMachine" ({ cls := "ContractMachine", name := "currentState", desc := "()I" } : Jvm.MethodName) ({ cls := "ContractMachine", name := "currentState", desc := "()I" } : Jvm.MethodName)) ∈ lw_all := lw_g (lw_at lw_m8 144 rfl) rfl
theorem q1945 : (Jvm.Cond.code ({ cls := "ContractMachine", name := "currentState", desc := "()I" } : Jvm.MethodName) prog_1_method_37_code (1 : Nat) (Option.some Jvm.ClassFile.FieldType.int)) ∈ lw_all := lw_g (lw_at lw_m8 145 rfl) rfl
theorem q1947 : (Jvm.Cond.instanceMethod ({ cls := "ContractMachine", name := "isDeadlocked", desc := "()Z" } : Jvm.MethodName)) ∈ lw_all := lw_g (lw_at lw_m8 147 rfl) rfl
theorem q1948 : (Jvm.Cond.selects "ContractMachine" ({ cls := "ContractMachine", name := "isDeadlocked", desc := "()Z" } : Jvm.MethodName) ({ cls := "ContractMachine", name := "isDeadlocked", desc := "()Z" } : Jvm.MethodName)) ∈ lw_all := lw_g (lw_at lw_m8 148 rfl) rfl
theorem q1949 : (Jvm.Cond.code ({ cls := "ContractMachine", name := "isDeadlocked", desc := "()Z" } : Jvm.MethodName) prog_1_method_54_code (1 : Nat) (Option.some Jvm.ClassFile.FieldType.boolean)) ∈ lw_all := lw_g (lw_at lw_m8 149 rfl) rfl
theorem q1950 : (Jvm.Cond.methodLink "ContractMachine" (359 : Nat) ({ cls := "ContractMachine", name := "isDeadlock", desc := "(I)Z" } : Jvm.MethodName)) ∈ lw_all := lw_g (lw_at lw_m8 150 rfl) rfl
theorem q1951 : (Jvm.Cond.privateMethod ({ cls := "ContractMachine", name := "isDeadlock", desc := "(I)Z" } : Jvm.MethodName)) ∈ lw_tbl := lw_at lw_m8 151 rfl
theorem q1952 : (Jvm.Cond.instanceMethod ({ cls := "ContractMachine", name := "isDeadlock", desc := "(I)Z" } : Jvm.MethodName)) ∈ lw_all := lw_g (lw_at lw_m8 152 rfl) rfl
theorem q1953 : (Jvm.Cond.code ({ cls := "ContractMachine", name := "isDeadlock", desc := "(I)Z" } : Jvm.MethodName) prog_1_method_53_code (3 : Nat) (Option.some Jvm.ClassFile.FieldType.boolean)) ∈ lw_all := lw_g (lw_at lw_m8 153 rfl) rfl
theorem q1955 : (Jvm.Cond.instanceMethod ({ cls := "ContractMachine", name := "acceptedCount", desc := "()I" } : Jvm.MethodName)) ∈ lw_all := lw_g (lw_at lw_m8 155 rfl) rfl
theorem q1956 : (Jvm.Cond.selects "ContractMachine" ({ cls := "ContractMachine", name := "acceptedCount", desc := "()I" } : Jvm.MethodName) ({ cls := "ContractMachine", name := "acceptedCount", desc := "()I" } : Jvm.MethodName)) ∈ lw_all := lw_g (lw_at lw_m8 156 rfl) rfl
theorem q1957 : (Jvm.Cond.code ({ cls := "ContractMachine", name := "acceptedCount", desc := "()I" } : Jvm.MethodName) prog_1_method_57_code (1 : Nat) (Option.some Jvm.ClassFile.FieldType.int)) ∈ lw_all := lw_g (lw_at lw_m8 157 rfl) rfl
theorem q1959 : (Jvm.Cond.instanceMethod ({ cls := "ContractMachine", name := "rejectedCount", desc := "()I" } : Jvm.MethodName)) ∈ lw_all := lw_g (lw_at lw_m8 159 rfl) rfl
theorem q1960 : (Jvm.Cond.selects "ContractMachine" ({ cls := "ContractMachine", name := "rejectedCount", desc := "()I" } : Jvm.MethodName) ({ cls := "ContractMachine", name := "rejectedCount", desc := "()I" } : Jvm.MethodName)) ∈ lw_all := lw_g (lw_at lw_m8 160 rfl) rfl
theorem q1961 : (Jvm.Cond.code ({ cls := "ContractMachine", name := "rejectedCount", desc := "()I" } : Jvm.MethodName) prog_1_method_58_code (1 : Nat) (Option.some Jvm.ClassFile.FieldType.int)) ∈ lw_all := lw_g (lw_at lw_m8 161 rfl) rfl
theorem q1962 : (Jvm.Cond.methodLink "ContractMachine" (374 : Nat) ({ cls := "ContractMachine$Run", name := "allRejected", desc := "()I" } : Jvm.MethodName)) ∈ lw_all := lw_g (lw_at lw_m8 162 rfl) rfl
theorem q1967 : (Jvm.Cond.instanceMethod ({ cls := "ContractMachine", name := "stateCoverage", desc := "()F" } : Jvm.MethodName)) ∈ lw_all := lw_g (lw_at lw_m8 167 rfl) rfl
theorem q1968 : (Jvm.Cond.selects "ContractMachine" ({ cls := "ContractMachine", name := "stateCoverage", desc := "()F" } : Jvm.MethodName) ({ cls := "ContractMachine", name := "stateCoverage", desc := "()F" } : Jvm.MethodName)) ∈ lw_all := lw_g (lw_at lw_m8 168 rfl) rfl
theorem q1969 : (Jvm.Cond.code ({ cls := "ContractMachine", name := "stateCoverage", desc := "()F" } : Jvm.MethodName) prog_1_method_60_code (6 : Nat) (Option.some Jvm.ClassFile.FieldType.float)) ∈ lw_all := lw_g (lw_at lw_m8 169 rfl) rfl
theorem q1971 : (Jvm.Cond.instanceMethod ({ cls := "ContractMachine", name := "transitionCoverage", desc := "()F" } : Jvm.MethodName)) ∈ lw_all := lw_g (lw_at lw_m8 171 rfl) rfl
theorem q1972 : (Jvm.Cond.selects "ContractMachine" ({ cls := "ContractMachine", name := "transitionCoverage", desc := "()F" } : Jvm.MethodName) ({ cls := "ContractMachine", name := "transitionCoverage", desc := "()F" } : Jvm.MethodName)) ∈ lw_all := lw_g (lw_at lw_m8 172 rfl) rfl
theorem q1973 : (Jvm.Cond.code ({ cls := "ContractMachine", name := "transitionCoverage", desc := "()F" } : Jvm.MethodName) prog_1_method_61_code (6 : Nat) (Option.some Jvm.ClassFile.FieldType.float)) ∈ lw_all := lw_g (lw_at lw_m8 173 rfl) rfl
theorem q1975 : (Jvm.Cond.instanceMethod ({ cls := "ContractMachine", name := "firstUncovered", desc := "()I" } : Jvm.MethodName)) ∈ lw_all := lw_g (lw_at lw_m8 175 rfl) rfl
theorem q1976 : (Jvm.Cond.selects "ContractMachine" ({ cls := "ContractMachine", name := "firstUncovered", desc := "()I" } : Jvm.MethodName) ({ cls := "ContractMachine", name := "firstUncovered", desc := "()I" } : Jvm.MethodName)) ∈ lw_all := lw_g (lw_at lw_m8 176 rfl) rfl
theorem q1977 : (Jvm.Cond.code ({ cls := "ContractMachine", name := "firstUncovered", desc := "()I" } : Jvm.MethodName) prog_1_method_62_code (2 : Nat) (Option.some Jvm.ClassFile.FieldType.int)) ∈ lw_all := lw_g (lw_at lw_m8 177 rfl) rfl
theorem q1979 : (Jvm.Cond.instanceMethod ({ cls := "ContractMachine", name := "mostVisitedState", desc := "()I" } : Jvm.MethodName)) ∈ lw_all := lw_g (lw_at lw_m8 179 rfl) rfl
theorem q1980 : (Jvm.Cond.selects "ContractMachine" ({ cls := "ContractMachine", name := "mostVisitedState", desc := "()I" } : Jvm.MethodName) ({ cls := "ContractMachine", name := "mostVisitedState", desc := "()I" } : Jvm.MethodName)) ∈ lw_all := lw_g (lw_at lw_m8 180 rfl) rfl
theorem q1981 : (Jvm.Cond.code ({ cls := "ContractMachine", name := "mostVisitedState", desc := "()I" } : Jvm.MethodName) prog_1_method_63_code (3 : Nat) (Option.some Jvm.ClassFile.FieldType.int)) ∈ lw_all := lw_g (lw_at lw_m8 181 rfl) rfl
theorem q1983 : (Jvm.Cond.instanceMethod ({ cls := "ContractMachine", name := "traceLength", desc := "()I" } : Jvm.MethodName)) ∈ lw_all := lw_g (lw_at lw_m8 183 rfl) rfl
theorem q1984 : (Jvm.Cond.selects "ContractMachine" ({ cls := "ContractMachine", name := "traceLength", desc := "()I" } : Jvm.MethodName) ({ cls := "ContractMachine", name := "traceLength", desc := "()I" } : Jvm.MethodName)) ∈ lw_all := lw_g (lw_at lw_m8 184 rfl) rfl
theorem q1985 : (Jvm.Cond.code ({ cls := "ContractMachine", name := "traceLength", desc := "()I" } : Jvm.MethodName) prog_1_method_64_code (1 : Nat) (Option.some Jvm.ClassFile.FieldType.int)) ∈ lw_all := lw_g (lw_at lw_m8 185 rfl) rfl
theorem q1987 : (Jvm.Cond.instanceMethod ({ cls := "ContractMachine", name := "traceEvent", desc := "(I)I" } : Jvm.MethodName)) ∈ lw_all := lw_g (lw_at lw_m8 187 rfl) rfl
theorem q1988 : (Jvm.Cond.selects "ContractMachine" ({ cls := "ContractMachine", name := "traceEvent", desc := "(I)I" } : Jvm.MethodName) ({ cls := "ContractMachine", name := "traceEvent", desc := "(I)I" } : Jvm.MethodName)) ∈ lw_all := lw_g (lw_at lw_m8 188 rfl) rfl
theorem q1989 : (Jvm.Cond.code ({ cls := "ContractMachine", name := "traceEvent", desc := "(I)I" } : Jvm.MethodName) prog_1_method_65_code (2 : Nat) (Option.some Jvm.ClassFile.FieldType.int)) ∈ lw_all := lw_g (lw_at lw_m8 189 rfl) rfl
theorem q1991 : (Jvm.Cond.instanceMethod ({ cls := "ContractMachine", name := "traceTransition", desc := "(I)I" } : Jvm.MethodName)) ∈ lw_all := lw_g (lw_at lw_m8 191 rfl) rfl
theorem q1992 : (Jvm.Cond.selects "ContractMachine" ({ cls := "ContractMachine", name := "traceTransition", desc := "(I)I" } : Jvm.MethodName) ({ cls := "ContractMachine", name := "traceTransition", desc := "(I)I" } : Jvm.MethodName)) ∈ lw_all := lw_g (lw_at lw_m8 192 rfl) rfl
theorem q1993 : (Jvm.Cond.code ({ cls := "ContractMachine", name := "traceTransition", desc := "(I)I" } : Jvm.MethodName) prog_1_method_66_code (2 : Nat) (Option.some Jvm.ClassFile.FieldType.int)) ∈ lw_all := lw_g (lw_at lw_m8 193 rfl) rfl
theorem q1995 : (Jvm.Cond.instanceMethod ({ cls := "ContractMachine", name := "reachableCount", desc := "()I" } : Jvm.MethodName)) ∈ lw_all := lw_g (lw_at lw_m8 195 rfl) rfl
theorem q1996 : (Jvm.Cond.selects "ContractMachine" ({ cls := "ContractMachine", name := "reachableCount", desc := "()I" } : Jvm.MethodName) ({ cls := "ContractMachine", name := "reachableCount", desc := "()I" } : Jvm.MethodName)) ∈ lw_all := lw_g (lw_at lw_m8 196 rfl) rfl
theorem q1997 : (Jvm.Cond.code ({ cls := "ContractMachine", name := "reachableCount", desc := "()I" } : Jvm.MethodName) prog_1_method_68_code (1 : Nat) (Option.some Jvm.ClassFile.FieldType.int)) ∈ lw_all := lw_g (lw_at lw_m8 197 rfl) rfl
theorem q1998 : (Jvm.Cond.classLink "ContractMachine" (394 : Nat) "ContractMachine$Search") ∈ lw_all := lw_g (lw_at lw_m8 198 rfl) rfl
theorem q2000 : (Jvm.Cond.methodLink "ContractMachine" (396 : Nat) ({ cls := "ContractMachine$Search", name := "<init>", desc := "(LContractMachine;)V" } : Jvm.MethodName)) ∈ lw_all := lw_g (lw_at lw_m8 200 rfl) rfl
theorem q2014 : (Jvm.Cond.classLink "ContractMachine" (409 : Nat) "ContractMachine$2") ∈ lw_all := lw_g (lw_at lw_m8 214 rfl) rfl
theorem q2016 : (Jvm.Cond.methodLink "ContractMachine" (411 : Nat) ({ cls := "ContractMachine$2", name := "<init>", desc := "(LContractMachine;)V" } : Jvm.MethodName)) ∈ lw_all := lw_g (lw_at lw_m8 216 rfl) rfl
theorem q2024 : (Jvm.Cond.methodLink "ContractMachine" (402 : Nat) ({ cls := "ContractMachine$Search", name := "inBreadth", desc := "(LContractMachine$Visitor;)I" } : Jvm.MethodName)) ∈ lw_all := lw_g (lw_at lw_m8 224 rfl) rfl
theorem q2102 : (Jvm.Cond.instanceMethod ({ cls := "ContractMachine", name := "deadlockCount", desc := "()I" } : Jvm.MethodName)) ∈ lw_all := lw_g (lw_at lw_m9 62 rfl) rfl
theorem q2103 : (Jvm.Cond.selects "ContractMachine" ({ cls := "ContractMachine", name := "deadlockCount", desc := "()I" } : Jvm.MethodName) ({ cls := "ContractMachine", name := "deadlockCount", desc := "()I" } : Jvm.MethodName)) ∈ lw_all := lw_g (lw_at lw_m9 63 rfl) rfl
theorem q2104 : (Jvm.Cond.code ({ cls := "ContractMachine", name := "deadlockCount", desc := "()I" } : Jvm.MethodName) prog_1_method_73_code (2 : Nat) (Option.some Jvm.ClassFile.FieldType.int)) ∈ lw_all := lw_g (lw_at lw_m9 64 rfl) rfl
theorem q2105 : (Jvm.Cond.classLink "ContractMachine" (423 : Nat) "ContractMachine$4") ∈ lw_all := lw_g (lw_at lw_m9 65 rfl) rfl
theorem q2107 : (Jvm.Cond.methodLink "ContractMachine" (425 : Nat) ({ cls := "ContractMachine$4", name := "<init>", desc := "(LContractMachine;)V" } : Jvm.MethodName)) ∈ lw_all := lw_g (lw_at lw_m9 67 rfl) rfl
theorem q2116 : (Jvm.Cond.instanceMethod ({ cls := "ContractMachine", name := "stepsToDeadlock", desc := "()I" } : Jvm.MethodName)) ∈ lw_all := lw_g (lw_at lw_m9 76 rfl) rfl
theorem q2117 : (Jvm.Cond.selects "ContractMachine" ({ cls := "ContractMachine", name := "stepsToDeadlock", desc := "()I" } : Jvm.MethodName) ({ cls := "ContractMachine", name := "stepsToDeadlock", desc := "()I" } : Jvm.MethodName)) ∈ lw_all := lw_g (lw_at lw_m9 77 rfl) rfl
theorem q2118 : (Jvm.Cond.code ({ cls := "ContractMachine", name := "stepsToDeadlock", desc := "()I" } : Jvm.MethodName) prog_1_method_74_code (2 : Nat) (Option.some Jvm.ClassFile.FieldType.int)) ∈ lw_all := lw_g (lw_at lw_m9 78 rfl) rfl
theorem q2119 : (Jvm.Cond.classLink "ContractMachine" (426 : Nat) "ContractMachine$5") ∈ lw_all := lw_g (lw_at lw_m9 79 rfl) rfl
theorem q2121 : (Jvm.Cond.methodLink "ContractMachine" (428 : Nat) ({ cls := "ContractMachine$5", name := "<init>", desc := "(LContractMachine;)V" } : Jvm.MethodName)) ∈ lw_all := lw_g (lw_at lw_m9 81 rfl) rfl
theorem q2136 : (Jvm.Cond.instanceMethod ({ cls := "ContractMachine", name := "isConsistent", desc := "()Z" } : Jvm.MethodName)) ∈ lw_all := lw_g (lw_at lw_m9 96 rfl) rfl
theorem q2137 : (Jvm.Cond.selects "ContractMachine" ({ cls := "ContractMachine", name := "isConsistent", desc := "()Z" } : Jvm.MethodName) ({ cls := "ContractMachine", name := "isConsistent", desc := "()Z" } : Jvm.MethodName)) ∈ lw_all := lw_g (lw_at lw_m9 97 rfl) rfl
theorem q2138 : (Jvm.Cond.code ({ cls := "ContractMachine", name := "isConsistent", desc := "()Z" } : Jvm.MethodName) prog_1_method_76_code (2 : Nat) (Option.some Jvm.ClassFile.FieldType.boolean)) ∈ lw_all := lw_g (lw_at lw_m9 98 rfl) rfl
theorem q2139 : (Jvm.Cond.methodLink "ContractMachine" (429 : Nat) ({ cls := "ContractMachine", name := "areAccountsConsistent", desc := "()Z" } : Jvm.MethodName)) ∈ lw_all := lw_g (lw_at lw_m9 99 rfl) rfl
theorem q2140 : (Jvm.Cond.privateMethod ({ cls := "ContractMachine", name := "areAccountsConsistent", desc := "()Z" } : Jvm.MethodName)) ∈ lw_tbl := lw_at lw_m9 100 rfl
theorem q2141 : (Jvm.Cond.instanceMethod ({ cls := "ContractMachine", name := "areAccountsConsistent", desc := "()Z" } : Jvm.MethodName)) ∈ lw_all := lw_g (lw_at lw_m9 101 rfl) rfl
theorem q2142 : (Jvm.Cond.code ({ cls := "ContractMachine", name := "areAccountsConsistent", desc := "()Z" } : Jvm.MethodName) prog_1_method_75_code (7 : Nat) (Option.some Jvm.ClassFile.FieldType.boolean)) ∈ lw_all := lw_g (lw_at lw_m9 102 rfl) rfl
theorem q2143 : (Jvm.Cond.methodLink "ContractMachine" (432 : Nat) ({ cls := "ContractMachine$Search", name := "inDepth", desc := "()I" } : Jvm.MethodName)) ∈ lw_all := lw_g (lw_at lw_m9 103 rfl) rfl
theorem q2147 : (Jvm.Cond.methodLink "ContractMachine" (435 : Nat) ({ cls := "ContractMachine", name := "reachableCount", desc := "()I" } : Jvm.MethodName)) ∈ lw_all := lw_g (lw_at lw_m9 107 rfl) rfl
theorem q2149 : (Jvm.Cond.instanceMethod ({ cls := "ContractMachine", name := "meanValue", desc := "()D" } : Jvm.MethodName)) ∈ lw_all := lw_g (lw_at lw_m9 109 rfl) rfl
theorem q2150 : (Jvm.Cond.selects "ContractMachine" ({ cls := "ContractMachine", name := "meanValue", desc := "()D" } : Jvm.MethodName) ({ cls := "ContractMachine", name := "meanValue", desc := "()D" } : Jvm.MethodName)) ∈ lw_all := lw_g (lw_at lw_m9 110 rfl) rfl
theorem q2151 : (Jvm.Cond.code ({ cls := "ContractMachine", name := "meanValue", desc := "()D" } : Jvm.MethodName) prog_1_method_77_code (3 : Nat) (Option.some Jvm.ClassFile.FieldType.double)) ∈ lw_all := lw_g (lw_at lw_m9 111 rfl) rfl
theorem q2153 : (Jvm.Cond.instanceMethod ({ cls := "ContractMachine", name := "reset", desc := "()I" } : Jvm.MethodName)) ∈ lw_all := lw_g (lw_at lw_m9 113 rfl) rfl
theorem q2154 : (Jvm.Cond.selects "ContractMachine" ({ cls := "ContractMachine", name := "reset", desc := "()I" } : Jvm.MethodName) ({ cls := "ContractMachine", name := "reset", desc := "()I" } : Jvm.MethodName)) ∈ lw_all := lw_g (lw_at lw_m9 114 rfl) rfl
theorem q2155 : (Jvm.Cond.code ({ cls := "ContractMachine", name := "reset", desc := "()I" } : Jvm.MethodName) prog_1_method_85_code (2 : Nat) (Option.some Jvm.ClassFile.FieldType.int)) ∈ lw_all := lw_g (lw_at lw_m9 115 rfl) rfl
theorem q2156 : (Jvm.Cond.methodLink "ContractMachine" (476 : Nat) ({ cls := "ContractMachine", name := "restart", desc := "()I" } : Jvm.MethodName)) ∈ lw_all := lw_g (lw_at lw_m9 116 rfl) rfl
theorem q2158 : (Jvm.Cond.instanceMethod ({ cls := "ContractMachine", name := "clearCoverage", desc := "()I" } : Jvm.MethodName)) ∈ lw_all := lw_g (lw_at lw_m9 118 rfl) rfl
theorem q2159 : (Jvm.Cond.selects "ContractMachine" ({ cls := "ContractMachine", name := "clearCoverage", desc := "()I" } : Jvm.MethodName) ({ cls := "ContractMachine", name := "clearCoverage", desc := "()I" } : Jvm.MethodName)) ∈ lw_all := lw_g (lw_at lw_m9 119 rfl) rfl
theorem q2160 : (Jvm.Cond.code ({ cls := "ContractMachine", name := "clearCoverage", desc := "()I" } : Jvm.MethodName) prog_1_method_86_code (3 : Nat) (Option.some Jvm.ClassFile.FieldType.int)) ∈ lw_all := lw_g (lw_at lw_m9 120 rfl) rfl
theorem q2162 : (Jvm.Cond.instanceMethod ({ cls := "ContractMachine", name := "writeConfiguration", desc := "()I" } : Jvm.MethodName)) ∈ lw_all := lw_g (lw_at lw_m9 122 rfl) rfl
theorem q2163 : (Jvm.Cond.selects "ContractMachine" ({ cls := "ContractMachine", name := "writeConfiguration", desc := "()I" } : Jvm.MethodName) ({ cls := "ContractMachine", name := "writeConfiguration", desc := "()I" } : Jvm.MethodName)) ∈ lw_all := lw_g (lw_at lw_m9 123 rfl) rfl
theorem q2164 : (Jvm.Cond.code ({ cls := "ContractMachine", name := "writeConfiguration", desc := "()I" } : Jvm.MethodName) prog_1_method_90_code (2 : Nat) (Option.some Jvm.ClassFile.FieldType.int)) ∈ lw_all := lw_g (lw_at lw_m9 124 rfl) rfl
theorem q2165 : (Jvm.Cond.methodLink "ContractMachine" (497 : Nat) ({ cls := "java/lang/StringBuilder", name := "setLength", desc := "(I)V" } : Jvm.MethodName)) ∈ lw_all := lw_g (lw_at lw_m9 125 rfl) rfl
theorem q2233 : (Jvm.Cond.methodLink "ContractMachine" (500 : Nat) ({ cls := "java/lang/StringBuilder", name := "append", desc := "(Ljava/lang/String;)Ljava/lang/StringBuilder;" } : Jvm.MethodName)) ∈ lw_all := lw_g (lw_at lw_m9 193 rfl) rfl
theorem q2234 : (Jvm.Cond.methodLink "ContractMachine" (503 : Nat) ({ cls := "java/lang/StringBuilder", name := "append", desc := "(C)Ljava/lang/StringBuilder;" } : Jvm.MethodName)) ∈ lw_all := lw_g (lw_at lw_m9 194 rfl) rfl
theorem q2235 : (Jvm.Cond.methodLink "ContractMachine" (506 : Nat) ({ cls := "java/lang/StringBuilder", name := "append", desc := "(I)Ljava/lang/StringBuilder;" } : Jvm.MethodName)) ∈ lw_all := lw_g (lw_at lw_m9 195 rfl) rfl
theorem q2236 : (Jvm.Cond.methodLink "ContractMachine" (509 : Nat) ({ cls := "java/lang/StringBuilder", name := "length", desc := "()I" } : Jvm.MethodName)) ∈ lw_all := lw_g (lw_at lw_m9 196 rfl) rfl
theorem q2238 : (Jvm.Cond.instanceMethod ({ cls := "ContractMachine", name := "outputByte", desc := "(I)I" } : Jvm.MethodName)) ∈ lw_all := lw_g (lw_at lw_m9 198 rfl) rfl
theorem q2239 : (Jvm.Cond.selects "ContractMachine" ({ cls := "ContractMachine", name := "outputByte", desc := "(I)I" } : Jvm.MethodName) ({ cls := "ContractMachine", name := "outputByte", desc := "(I)I" } : Jvm.MethodName)) ∈ lw_all := lw_g (lw_at lw_m9 199 rfl) rfl
theorem q2240 : (Jvm.Cond.code ({ cls := "ContractMachine", name := "outputByte", desc := "(I)I" } : Jvm.MethodName) prog_1_method_91_code (2 : Nat) (Option.some Jvm.ClassFile.FieldType.int)) ∈ lw_all := lw_g (lw_at lw_m9 200 rfl) rfl
theorem q2241 : (Jvm.Cond.methodLink "ContractMachine" (510 : Nat) ({ cls := "java/lang/StringBuilder", name := "charAt", desc := "(I)C" } : Jvm.MethodName)) ∈ lw_all := lw_g (lw_at lw_m9 201 rfl) rfl
theorem q2252 : (Jvm.Cond.instanceMethod ({ cls := "ContractMachine", name := "saveState", desc := "()I" } : Jvm.MethodName)) ∈ lw_all := lw_g (lw_at lw_m9 212 rfl) rfl
theorem q2253 : (Jvm.Cond.selects "ContractMachine" ({ cls := "ContractMachine", name := "saveState", desc := "()I" } : Jvm.MethodName) ({ cls := "ContractMachine", name := "saveState", desc := "()I" } : Jvm.MethodName)) ∈ lw_all := lw_g (lw_at lw_m9 213 rfl) rfl
theorem q2254 : (Jvm.Cond.code ({ cls := "ContractMachine", name := "saveState", desc := "()I" } : Jvm.MethodName) prog_1_method_92_code (1 : Nat) (Option.some Jvm.ClassFile.FieldType.int)) ∈ lw_all := lw_g (lw_at lw_m9 214 rfl) rfl
theorem q2262 : (Jvm.Cond.instanceMethod ({ cls := "ContractMachine", name := "stateNameByte", desc := "(II)I" } : Jvm.MethodName)) ∈ lw_all := lw_g (lw_at lw_m9 222 rfl) rfl
theorem q2263 : (Jvm.Cond.selects "ContractMachine" ({ cls := "ContractMachine", name := "stateNameByte", desc := "(II)I" } : Jvm.MethodName) ({ cls := "ContractMachine", name := "stateNameByte", desc := "(II)I" } : Jvm.MethodName)) ∈ lw_all := lw_g (lw_at lw_m9 223 rfl) rfl
theorem q2264 : (Jvm.Cond.code ({ cls := "ContractMachine", name := "stateNameByte", desc := "(II)I" } : Jvm.MethodName) prog_1_method_34_code (3 : Nat) (Option.some Jvm.ClassFile.FieldType.int)) ∈ lw_all := lw_g (lw_at lw_m9 224 rfl) rfl
theorem q2265 : (Jvm.Cond.methodLink "ContractMachine" (279 : Nat) ({ cls := "ContractMachine", name := "letter", desc := "(Ljava/util/List;II)I" } : Jvm.MethodName)) ∈ lw_all := lw_g (lw_at lw_m9 225 rfl) rfl
theorem q2266 : (Jvm.Cond.static ({ cls := "ContractMachine", name := "letter", desc := "(Ljava/util/List;II)I" } : Jvm.MethodName)) ∈ lw_all := lw_g (lw_at lw_m9 226 rfl) rfl
theorem q2267 : (Jvm.Cond.code ({ cls := "ContractMachine", name := "letter", desc := "(Ljava/util/List;II)I" } : Jvm.MethodName) prog_1_method_28_code (4 : Nat) (Option.some Jvm.ClassFile.FieldType.int)) ∈ lw_all := lw_g (lw_at lw_m9 227 rfl) rfl
theorem q2268 : (Jvm.Cond.methodLink "ContractMachine" (261 : Nat) ({ cls := "ContractMachine", name := "checkIndex", desc := "(II)V" } : Jvm.MethodName)) ∈ lw_all := lw_g (lw_at lw_m9 228 rfl) rfl
theorem q2269 : (Jvm.Cond.static ({ cls := "ContractMachine", name := "checkIndex", desc := "(II)V" } : Jvm.MethodName)) ∈ lw_all := lw_g (lw_at lw_m9 229 rfl) rfl
theorem q2270 : (Jvm.Cond.code ({ cls := "ContractMachine", name := "checkIndex", desc := "(II)V" } : Jvm.MethodName) prog_1_method_22_code (2 : Nat) (Option.none : Option Jvm.ClassFile.FieldType)) ∈ lw_all := lw_g (lw_at lw_m9 230 rfl) rfl
theorem q2271 : (Jvm.Cond.methodLink "ContractMachine" (257 : Nat) ({ cls := "ContractMachine", name := "requireIndex", desc := "(Z)V" } : Jvm.MethodName)) ∈ lw_all := lw_g (lw_at lw_m9 231 rfl) rfl
theorem q2272 : (Jvm.Cond.static ({ cls := "ContractMachine", name := "requireIndex", desc := "(Z)V" } : Jvm.MethodName)) ∈ lw_all := lw_g (lw_at lw_m9 232 rfl) rfl
theorem q2273 : (Jvm.Cond.code ({ cls := "ContractMachine", name := "requireIndex", desc := "(Z)V" } : Jvm.MethodName) prog_1_method_2_code (1 : Nat) (Option.none : Option Jvm.ClassFile.FieldType)) ∈ lw_all := lw_g (lw_at lw_m9 233 rfl) rfl
theorem q2274 : (Jvm.Cond.classLink "ContractMachine" (3 : Nat) "java/lang/IndexOutOfBoundsException") ∈ lw_all := lw_g (lw_at lw_m9 234 rfl) rfl
theorem q2283 : (Jvm.Cond.methodLink "ContractMachine" (5 : Nat) ({ cls := "java/lang/IndexOutOfBoundsException", name := "<init>", desc := "()V" } : Jvm.MethodName)) ∈ lw_all := lw_g (lw_at lw_m10 3 rfl) rfl
theorem q2289 : (Jvm.Cond.methodLink "ContractMachine" (272 : Nat) ({ cls := "java/lang/String", name := "length", desc := "()I" } : Jvm.MethodName)) ∈ lw_all := lw_g (lw_at lw_m10 9 rfl) rfl
theorem q2290 : (Jvm.Cond.methodLink "ContractMachine" (275 : Nat) ({ cls := "java/lang/String", name := "charAt", desc := "(I)C" } : Jvm.MethodName)) ∈ lw_all := lw_g (lw_at lw_m10 10 rfl) rfl
theorem q2295 : (Jvm.Cond.instanceMethod ({ cls := "ContractMachine", name := "eventNameByte", desc := "(II)I" } : Jvm.MethodName)) ∈ lw_all := lw_g (lw_at lw_m10 15 rfl) rfl
theorem q2296 : (Jvm.Cond.selects "ContractMachine" ({ cls := "ContractMachine", name := "eventNameByte", desc := "(II)I" } : Jvm.MethodName) ({ cls := "ContractMachine", name := "eventNameByte", desc := "(II)I" } : Jvm.MethodName)) ∈ lw_all := lw_g (lw_at lw_m10 16 rfl) rfl
theorem q2297 : (Jvm.Cond.code ({ cls := "ContractMachine", name := "eventNameByte", desc := "(II)I" } : Jvm.MethodName) prog_1_method_35_code (3 : Nat) (Option.some Jvm.ClassFile.FieldType.int)) ∈ lw_all := lw_g (lw_at lw_m10 17 rfl) rfl
theorem q2302 : (Jvm.Cond.instanceMethod ({ cls := "ContractMachine", name := "variableNameByte", desc := "(II)I" } : Jvm.MethodName)) ∈ lw_all := lw_g (lw_at lw_m10 22 rfl) rfl
theorem q2303 : (Jvm.Cond.selects "ContractMachine" ({ cls := "ContractMachine", name := "variableNameByte", desc := "(II)I" } : Jvm.MethodName) ({ cls := "ContractMachine", name := "variableNameByte", desc := "(II)I" } : Jvm.MethodName)) ∈ lw_all := lw_g (lw_at lw_m10 23 rfl) rfl
theorem q2304 : (Jvm.Cond.code ({ cls := "ContractMachine", name := "variableNameByte", desc := "(II)I" } : Jvm.MethodName) prog_1_method_36_code (3 : Nat) (Option.some Jvm.ClassFile.FieldType.int)) ∈ lw_all := lw_g (lw_at lw_m10 24 rfl) rfl
theorem q2309 : (Jvm.Cond.instanceMethod ({ cls := "ContractMachine", name := "valueOf", desc := "(I)I" } : Jvm.MethodName)) ∈ lw_all := lw_g (lw_at lw_m10 29 rfl) rfl
theorem q2310 : (Jvm.Cond.selects "ContractMachine" ({ cls := "ContractMachine", name := "valueOf", desc := "(I)I" } : Jvm.MethodName) ({ cls := "ContractMachine", name := "valueOf", desc := "(I)I" } : Jvm.MethodName)) ∈ lw_all := lw_g (lw_at lw_m10 30 rfl) rfl
theorem q2311 : (Jvm.Cond.code ({ cls := "ContractMachine", name := "valueOf", desc := "(I)I" } : Jvm.MethodName) prog_1_method_38_code (2 : Nat) (Option.some Jvm.ClassFile.FieldType.int)) ∈ lw_all := lw_g (lw_at lw_m10 31 rfl) rfl
theorem q2312 : (Jvm.Cond.methodLink "ContractMachine" (286 : Nat) ({ cls := "ContractMachine", name := "checkVariable", desc := "(I)V" } : Jvm.MethodName)) ∈ lw_all := lw_g (lw_at lw_m10 32 rfl) rfl
theorem q2313 : (Jvm.Cond.privateMethod ({ cls := "ContractMachine", name := "checkVariable", desc := "(I)V" } : Jvm.MethodName)) ∈ lw_tbl := lw_at lw_m10 33 rfl
theorem q2314 : (Jvm.Cond.instanceMethod ({ cls := "ContractMachine", name := "checkVariable", desc := "(I)V" } : Jvm.MethodName)) ∈ lw_all := lw_g (lw_at lw_m10 34 rfl) rfl
theorem q2315 : (Jvm.Cond.code ({ cls := "ContractMachine", name := "checkVariable", desc := "(I)V" } : Jvm.MethodName) prog_1_method_25_code (2 : Nat) (Option.none : Option Jvm.ClassFile.FieldType)) ∈ lw_all := lw_g (lw_at lw_m10 35 rfl) rfl
theorem q2320 : (Jvm.Cond.instanceMethod ({ cls := "ContractMachine", name := "initialValueOf", desc := "(I)I" } : Jvm.MethodName)) ∈ lw_all := lw_g (lw_at lw_m10 40 rfl) rfl
theorem q2321 : (Jvm.Cond.selects "ContractMachine" ({ cls := "ContractMachine", name := "initialValueOf", desc := "(I)I" } : Jvm.MethodName) ({ cls := "ContractMachine", name := "initialValueOf", desc := "(I)I" } : Jvm.MethodName)) ∈ lw_all := lw_g (lw_at lw_m10 41 rfl) rfl
theorem q2322 : (Jvm.Cond.code ({ cls := "ContractMachine", name := "initialValueOf", desc := "(I)I" } : Jvm.MethodName) prog_1_method_39_code (2 : Nat) (Option.some Jvm.ClassFile.FieldType.int)) ∈ lw_all := lw_g (lw_at lw_m10 42 rfl) rfl
theorem q2327 : (Jvm.Cond.instanceMethod ({ cls := "ContractMachine", name := "sourceOf", desc := "(I)I" } : Jvm.MethodName)) ∈ lw_all := lw_g (lw_at lw_m10 47 rfl) rfl
theorem q2328 : (Jvm.Cond.selects "ContractMachine" ({ cls := "ContractMachine", name := "sourceOf", desc := "(I)I" } : Jvm.MethodName) ({ cls := "ContractMachine", name := "sourceOf", desc := "(I)I" } : Jvm.MethodName)) ∈ lw_all := lw_g (lw_at lw_m10 48 rfl) rfl
theorem q2329 : (Jvm.Cond.code ({ cls := "ContractMachine", name := "sourceOf", desc := "(I)I" } : Jvm.MethodName) prog_1_method_40_code (2 : Nat) (Option.some Jvm.ClassFile.FieldType.int)) ∈ lw_all := lw_g (lw_at lw_m10 49 rfl) rfl
theorem q2330 : (Jvm.Cond.methodLink "ContractMachine" (296 : Nat) ({ cls := "ContractMachine", name := "transition", desc := "(I)LContractMachine$Transition;" } : Jvm.MethodName)) ∈ lw_all := lw_g (lw_at lw_m10 50 rfl) rfl
theorem q2331 : (Jvm.Cond.privateMethod ({ cls := "ContractMachine", name := "transition", desc := "(I)LContractMachine$Transition;" } : Jvm.MethodName)) ∈ lw_tbl := lw_at lw_m10 51 rfl
theorem q2332 : (Jvm.Cond.instanceMethod ({ cls := "ContractMachine", name := "transition", desc := "(I)LContractMachine$Transition;" } : Jvm.MethodName)) ∈ lw_all := lw_g (lw_at lw_m10 52 rfl) rfl
theorem q2333 : (Jvm.Cond.code ({ cls := "ContractMachine", name := "transition", desc := "(I)LContractMachine$Transition;" } : Jvm.MethodName) prog_1_method_26_code (2 : Nat) (Option.some (Jvm.ClassFile.FieldType.object "ContractMachine$Transition"))) ∈ lw_all := lw_g (lw_at lw_m10 53 rfl) rfl
theorem q2338 : (Jvm.Cond.instanceMethod ({ cls := "ContractMachine", name := "eventOf", desc := "(I)I" } : Jvm.MethodName)) ∈ lw_all := lw_g (lw_at lw_m10 58 rfl) rfl
theorem q2339 : (Jvm.Cond.selects "ContractMachine" ({ cls := "ContractMachine", name := "eventOf", desc := "(I)I" } : Jvm.MethodName) ({ cls := "ContractMachine", name := "eventOf", desc := "(I)I" } : Jvm.MethodName)) ∈ lw_all := lw_g (lw_at lw_m10 59 rfl) rfl
theorem q2340 : (Jvm.Cond.code ({ cls := "ContractMachine", name := "eventOf", desc := "(I)I" } : Jvm.MethodName) prog_1_method_41_code (2 : Nat) (Option.some Jvm.ClassFile.FieldType.int)) ∈ lw_all := lw_g (lw_at lw_m10 60 rfl) rfl
theorem q2345 : (Jvm.Cond.instanceMethod ({ cls := "ContractMachine", name := "targetOf", desc := "(I)I" } : Jvm.MethodName)) ∈ lw_all := lw_g (lw_at lw_m10 65 rfl) rfl
theorem q2346 : (Jvm.Cond.selects "ContractMachine" ({ cls := "ContractMachine", name := "targetOf", desc := "(I)I" } : Jvm.MethodName) ({ cls := "ContractMachine", name := "targetOf", desc := "(I)I" } : Jvm.MethodName)) ∈ lw_all := lw_g (lw_at lw_m10 66 rfl) rfl
theorem q2347 : (Jvm.Cond.code ({ cls := "ContractMachine", name := "targetOf", desc := "(I)I" } : Jvm.MethodName) prog_1_method_42_code (2 : Nat) (Option.some Jvm.ClassFile.FieldType.int)) ∈ lw_all := lw_g (lw_at lw_m10 67 rfl) rfl
theorem q2352 : (Jvm.Cond.instanceMethod ({ cls := "ContractMachine", name := "hasGuard", desc := "(I)Z" } : Jvm.MethodName)) ∈ lw_all := lw_g (lw_at lw_m10 72 rfl) rfl
theorem q2353 : (Jvm.Cond.selects "ContractMachine" ({ cls := "ContractMachine", name := "hasGuard", desc := "(I)Z" } : Jvm.MethodName) ({ cls := "ContractMachine", name := "hasGuard", desc := "(I)Z" } : Jvm.MethodName)) ∈ lw_all := lw_g (lw_at lw_m10 73 rfl) rfl
theorem q2354 : (Jvm.Cond.code ({ cls := "ContractMachine", name := "hasGuard", desc := "(I)Z" } : Jvm.MethodName) prog_1_method_43_code (2 : Nat) (Option.some Jvm.ClassFile.FieldType.boolean)) ∈ lw_all := lw_g (lw_at lw_m10 74 rfl) rfl
theorem q2359 : (Jvm.Cond.instanceMethod ({ cls := "ContractMachine", name := "guardHolds", desc := "(I)Z" } : Jvm.MethodName)) ∈ lw_all := lw_g (lw_at lw_m10 79 rfl) rfl
theorem q2360 : (Jvm.Cond.selects "ContractMachine" ({ cls := "ContractMachine", name := "guardHolds", desc := "(I)Z" } : Jvm.MethodName) ({ cls := "ContractMachine", name := "guardHolds", desc := "(I)Z" } : Jvm.MethodName)) ∈ lw_all := lw_g (lw_at lw_m10 80 rfl) rfl
theorem q2361 : (Jvm.Cond.code ({ cls := "ContractMachine", name := "guardHolds", desc := "(I)Z" } : Jvm.MethodName) prog_1_method_44_code (2 : Nat) (Option.some Jvm.ClassFile.FieldType.boolean)) ∈ lw_all := lw_g (lw_at lw_m10 81 rfl) rfl
theorem q2362 : (Jvm.Cond.methodLink "ContractMachine" (313 : Nat) ({ cls := "ContractMachine$Transition", name := "isOpen", desc := "(I)Z" } : Jvm.MethodName)) ∈ lw_all := lw_g (lw_at lw_m10 82 rfl) rfl
theorem q2367 : (Jvm.Cond.instanceMethod ({ cls := "ContractMachine", name := "stateOfInvariant", desc := "(I)I" } : Jvm.MethodName)) ∈ lw_all := lw_g (lw_at lw_m10 87 rfl) rfl
theorem q2368 : (Jvm.Cond.selects "ContractMachine" ({ cls := "ContractMachine", name := "stateOfInvariant", desc := "(I)I" } : Jvm.MethodName) ({ cls := "ContractMachine", name := "stateOfInvariant", desc := "(I)I" } : Jvm.MethodName)) ∈ lw_all := lw_g (lw_at lw_m10 88 rfl) rfl
theorem q2369 : (Jvm.Cond.code ({ cls := "ContractMachine", name := "stateOfInvariant", desc := "(I)I" } : Jvm.MethodName) prog_1_method_45_code (2 : Nat) (Option.some Jvm.ClassFile.FieldType.int)) ∈ lw_all := lw_g (lw_at lw_m10 89 rfl) rfl
theorem q2370 : (Jvm.Cond.methodLink "ContractMachine" (317 : Nat) ({ cls := "ContractMachine", name := "invariant", desc := "(I)LContractMachine$Invariant;" } : Jvm.MethodName)) ∈ lw_all := lw_g (lw_at lw_m10 90 rfl) rfl
theorem q2371 : (Jvm.Cond.privateMethod ({ cls := "ContractMachine", name := "invariant", desc := "(I)LContractMachine$Invariant;" } : Jvm.MethodName)) ∈ lw_tbl := lw_at lw_m10 91 rfl
theorem q2372 : (Jvm.Cond.instanceMethod ({ cls := "ContractMachine", name := "invariant", desc := "(I)LContractMachine$Invariant;" } : Jvm.MethodName)) ∈ lw_all := lw_g (lw_at lw_m10 92 rfl) rfl
theorem q2373 : (Jvm.Cond.code ({ cls := "ContractMachine", name := "invariant", desc := "(I)LContractMachine$Invariant;" } : Jvm.MethodName) prog_1_method_27_code (2 : Nat) (Option.some (Jvm.ClassFile.FieldType.object "ContractMachine$Invariant"))) ∈ lw_all := lw_g (lw_at lw_m10 93 rfl) rfl
theorem q2378 : (Jvm.Cond.instanceMethod ({ cls := "ContractMachine", name := "comparisonHolds", desc := "(I)Z" } : Jvm.MethodName)) ∈ lw_all := lw_g (lw_at lw_m10 98 rfl) rfl
theorem q2379 : (Jvm.Cond.selects "ContractMachine" ({ cls := "ContractMachine", name := "comparisonHolds", desc := "(I)Z" } : Jvm.MethodName) ({ cls := "ContractMachine", name := "comparisonHolds", desc := "(I)Z" } : Jvm.MethodName)) ∈ lw_all := lw_g (lw_at lw_m10 99 rfl) rfl
theorem q2380 : (Jvm.Cond.code ({ cls := "ContractMachine", name := "comparisonHolds", desc := "(I)Z" } : Jvm.MethodName) prog_1_method_46_code (2 : Nat) (Option.some Jvm.ClassFile.FieldType.boolean)) ∈ lw_all := lw_g (lw_at lw_m10 100 rfl) rfl
theorem q2381 : (Jvm.Cond.methodLink "ContractMachine" (326 : Nat) ({ cls := "ContractMachine$Comparison", name := "holds", desc := "(I)Z" } : Jvm.MethodName)) ∈ lw_all := lw_g (lw_at lw_m10 101 rfl) rfl
theorem q2386 : (Jvm.Cond.instanceMethod ({ cls := "ContractMachine", name := "verdictOf", desc := "(I)I" } : Jvm.MethodName)) ∈ lw_all := lw_g (lw_at lw_m10 106 rfl) rfl
theorem q2387 : (Jvm.Cond.selects "ContractMachine" ({ cls := "ContractMachine", name := "verdictOf", desc := "(I)I" } : Jvm.MethodName) ({ cls := "ContractMachine", name := "verdictOf", desc := "(I)I" } : Jvm.MethodName)) ∈ lw_all := lw_g (lw_at lw_m10 107 rfl) rfl
theorem q2388 : (Jvm.Cond.code ({ cls := "ContractMachine", name := "verdictOf", desc := "(I)I" } : Jvm.MethodName) prog_1_method_50_code (2 : Nat) (Option.some Jvm.ClassFile.FieldType.int)) ∈ lw_all := lw_g (lw_at lw_m10 108 rfl) rfl
theorem q2389 : (Jvm.Cond.methodLink "ContractMachine" (356 : Nat) ({ cls := "ContractMachine", name := "checkEvent", desc := "(I)V" } : Jvm.MethodName)) ∈ lw_all := lw_g (lw_at lw_m10 109 rfl) rfl
theorem q2390 : (Jvm.Cond.privateMethod ({ cls := "ContractMachine", name := "checkEvent", desc := "(I)V" } : Jvm.MethodName)) ∈ lw_tbl := lw_at lw_m10 110 rfl
theorem q2391 : (Jvm.Cond.instanceMethod ({ cls := "ContractMachine", name := "checkEvent", desc := "(I)V" } : Jvm.MethodName)) ∈ lw_all := lw_g (lw_at lw_m10 111 rfl) rfl
theorem q2392 : (Jvm.Cond.code ({ cls := "ContractMachine", name := "checkEvent", desc := "(I)V" } : Jvm.MethodName) prog_1_method_24_code (2 : Nat) (Option.none : Option Jvm.ClassFile.FieldType)) ∈ lw_all := lw_g (lw_at lw_m10 112 rfl) rfl
theorem q2397 : (Jvm.Cond.instanceMethod ({ cls := "ContractMachine", name := "chosenTransition", desc := "(I)I" } : Jvm.MethodName)) ∈ lw_all := lw_g (lw_at lw_m10 117 rfl) rfl
theorem q2398 : (Jvm.Cond.selects "ContractMachine" ({ cls := "ContractMachine", name := "chosenTransition", desc := "(I)I" } : Jvm.MethodName) ({ cls := "ContractMachine", name := "chosenTransition", desc := "(I)I" } : Jvm.MethodName)) ∈ lw_all := lw_g (lw_at lw_m10 118 rfl) rfl
theorem q2399 : (Jvm.Cond.code ({ cls := "ContractMachine", name := "chosenTransition", desc := "(I)I" } : Jvm.MethodName) prog_1_method_51_code (2 : Nat) (Option.some Jvm.ClassFile.FieldType.int)) ∈ lw_all := lw_g (lw_at lw_m10 119 rfl) rfl
theorem q2404 : (Jvm.Cond.instanceMethod ({ cls := "ContractMachine", name := "brokenInvariant", desc := "(I)I" } : Jvm.MethodName)) ∈ lw_all := lw_g (lw_at lw_m10 124 rfl) rfl
theorem q2405 : (Jvm.Cond.selects "ContractMachine" ({ cls := "ContractMachine", name := "brokenInvariant", desc := "(I)I" } : Jvm.MethodName) ({ cls := "ContractMachine", name := "brokenInvariant", desc := "(I)I" } : Jvm.MethodName)) ∈ lw_all := lw_g (lw_at lw_m10 125 rfl) rfl
theorem q2406 : (Jvm.Cond.code ({ cls := "ContractMachine", name := "brokenInvariant", desc := "(I)I" } : Jvm.MethodName) prog_1_method_52_code (3 : Nat) (Option.some Jvm.ClassFile.FieldType.int)) ∈ lw_all := lw_g (lw_at lw_m10 126 rfl) rfl
theorem q2411 : (Jvm.Cond.instanceMethod ({ cls := "ContractMachine", name := "timesTaken", desc := "(I)I" } : Jvm.MethodName)) ∈ lw_all := lw_g (lw_at lw_m10 131 rfl) rfl
theorem q2412 : (Jvm.Cond.selects "ContractMachine" ({ cls := "ContractMachine", name := "timesTaken", desc := "(I)I" } : Jvm.MethodName) ({ cls := "ContractMachine", name := "timesTaken", desc := "(I)I" } : Jvm.MethodName)) ∈ lw_all := lw_g (lw_at lw_m10 132 rfl) rfl
theorem q2413 : (Jvm.Cond.code ({ cls := "ContractMachine", name := "timesTaken", desc := "(I)I" } : Jvm.MethodName) prog_1_method_55_code (3 : Nat) (Option.some Jvm.ClassFile.FieldType.int)) ∈ lw_all := lw_g (lw_at lw_m10 133 rfl) rfl
theorem q2418 : (Jvm.Cond.instanceMethod ({ cls := "ContractMachine", name := "visitsOf", desc := "(I)I" } : Jvm.MethodName)) ∈ lw_all := lw_g (lw_at lw_m10 138 rfl) rfl
theorem q2419 : (Jvm.Cond.selects "ContractMachine" ({ cls := "ContractMachine", name := "visitsOf", desc := "(I)I" } : Jvm.MethodName) ({ cls := "ContractMachine", name := "visitsOf", desc := "(I)I" } : Jvm.MethodName)) ∈ lw_all := lw_g (lw_at lw_m10 139 rfl) rfl
theorem q2420 : (Jvm.Cond.code ({ cls := "ContractMachine", name := "visitsOf", desc := "(I)I" } : Jvm.MethodName) prog_1_method_56_code (2 : Nat) (Option.some Jvm.ClassFile.FieldType.int)) ∈ lw_all := lw_g (lw_at lw_m10 140 rfl) rfl
theorem q2421 : (Jvm.Cond.methodLink "ContractMachine" (365 : Nat) ({ cls := "ContractMachine", name := "checkState", desc := "(I)V" } : Jvm.MethodName)) ∈ lw_all := lw_g (lw_at lw_m10 141 rfl) rfl
theorem q2422 : (Jvm.Cond.privateMethod ({ cls := "ContractMachine", name := "checkState", desc := "(I)V" } : Jvm.MethodName)) ∈ lw_tbl := lw_at lw_m10 142 rfl
theorem q2423 : (Jvm.Cond.instanceMethod ({ cls := "ContractMachine", name := "checkState", desc := "(I)V" } : Jvm.MethodName)) ∈ lw_all := lw_g (lw_at lw_m10 143 rfl) rfl
theorem q2424 : (Jvm.Cond.code ({ cls := "ContractMachine", name := "checkState", desc := "(I)V" } : Jvm.MethodName) prog_1_method_23_code (2 : Nat) (Option.none : Option Jvm.ClassFile.FieldType)) ∈ lw_all := lw_g (lw_at lw_m10 144 rfl) rfl
theorem q2430 : (Jvm.Cond.instanceMethod ({ cls := "ContractMachine", name := "rejectedWith", desc := "(I)I" } : Jvm.MethodName)) ∈ lw_all := lw_g (lw_at lw_m10 150 rfl) rfl
theorem q2431 : (Jvm.Cond.selects "ContractMachine" ({ cls := "ContractMachine", name := "rejectedWith", desc := "(I)I" } : Jvm.MethodName) ({ cls := "ContractMachine", name := "rejectedWith", desc := "(I)I" } : Jvm.MethodName)) ∈ lw_all := lw_g (lw_at lw_m10 151 rfl) rfl
theorem q2432 : (Jvm.Cond.code ({ cls := "ContractMachine", name := "rejectedWith", desc := "(I)I" } : Jvm.MethodName) prog_1_method_59_code (2 : Nat) (Option.some Jvm.ClassFile.FieldType.int)) ∈ lw_all := lw_g (lw_at lw_m10 152 rfl) rfl
theorem q2433 : (Jvm.Cond.constantLong "ContractMachine" (377 : Nat) (4 : Int64)) ∈ lw_all := lw_g (lw_at lw_m10 153 rfl) rfl
theorem q2434 : (Jvm.Cond.methodLink "ContractMachine" (379 : Nat) ({ cls := "ContractMachine", name := "requireArgument", desc := "(Z)V" } : Jvm.MethodName)) ∈ lw_all := lw_g (lw_at lw_m10 154 rfl) rfl
theorem q2435 : (Jvm.Cond.static ({ cls := "ContractMachine", name := "requireArgument", desc := "(Z)V" } : Jvm.MethodName)) ∈ lw_all := lw_g (lw_at lw_m10 155 rfl) rfl
theorem q2436 : (Jvm.Cond.code ({ cls := "ContractMachine", name := "requireArgument", desc := "(Z)V" } : Jvm.MethodName) prog_1_method_3_code (1 : Nat) (Option.none : Option Jvm.ClassFile.FieldType)) ∈ lw_all := lw_g (lw_at lw_m10 156 rfl) rfl
theorem q2437 : (Jvm.Cond.classLink "ContractMachine" (9 : Nat) "java/lang/IllegalArgumentException") ∈ lw_all := lw_g (lw_at lw_m10 157 rfl) rfl
theorem q2438 : (Jvm.Cond.methodLink "ContractMachine" (11 : Nat) ({ cls := "java/lang/IllegalArgumentException", name := "<init>", desc := "()V" } : Jvm.MethodName)) ∈ lw_all := lw_g (lw_at lw_m10 158 rfl) rfl
theorem q2446 : (Jvm.Cond.instanceMethod ({ cls := "ContractMachine", name := "isReachable", desc := "(I)Z" } : Jvm.MethodName)) ∈ lw_all := lw_g (lw_at lw_m10 166 rfl) rfl
theorem q2447 : (Jvm.Cond.selects "ContractMachine" ({ cls := "ContractMachine", name := "isReachable", desc := "(I)Z" } : Jvm.MethodName) ({ cls := "ContractMachine", name := "isReachable", desc := "(I)Z" } : Jvm.MethodName)) ∈ lw_all := lw_g (lw_at lw_m10 167 rfl) rfl
theorem q2448 : (Jvm.Cond.code ({ cls := "ContractMachine", name := "isReachable", desc := "(I)Z" } : Jvm.MethodName) prog_1_method_69_code (2 : Nat) (Option.some Jvm.ClassFile.FieldType.boolean)) ∈ lw_all := lw_g (lw_at lw_m10 168 rfl) rfl
theorem q2449 : (Jvm.Cond.methodLink "ContractMachine" (412 : Nat) ({ cls := "ContractMachine", name := "findState", desc := "(I)I" } : Jvm.MethodName)) ∈ lw_all := lw_g (lw_at lw_m10 169 rfl) rfl
theorem q2450 : (Jvm.Cond.privateMethod ({ cls := "ContractMachine", name := "findState", desc := "(I)I" } : Jvm.MethodName)) ∈ lw_tbl := lw_at lw_m10 170 rfl
theorem q2451 : (Jvm.Cond.instanceMethod ({ cls := "ContractMachine", name := "findState", desc := "(I)I" } : Jvm.MethodName)) ∈ lw_all := lw_g (lw_at lw_m10 171 rfl) rfl
theorem q2452 : (Jvm.Cond.code ({ cls := "ContractMachine", name := "findState", desc := "(I)I" } : Jvm.MethodName) prog_1_method_67_code (3 : Nat) (Option.some Jvm.ClassFile.FieldType.int)) ∈ lw_all := lw_g (lw_at lw_m10 172 rfl) rfl
theorem q2453 : (Jvm.Cond.classLink "ContractMachine" (397 : Nat) "ContractMachine$1") ∈ lw_all := lw_g (lw_at lw_m10 173 rfl) rfl
theorem q2455 : (Jvm.Cond.methodLink "ContractMachine" (399 : Nat) ({ cls := "ContractMachine$1", name := "<init>", desc := "(LContractMachine;I)V" } : Jvm.MethodName)) ∈ lw_all := lw_g (lw_at lw_m10 175 rfl) rfl
theorem q2471 : (Jvm.Cond.instanceMethod ({ cls := "ContractMachine", name := "canBeTaken", desc := "(I)Z" } : Jvm.MethodName)) ∈ lw_all := lw_g (lw_at lw_m10 191 rfl) rfl
theorem q2472 : (Jvm.Cond.selects "ContractMachine" ({ cls := "ContractMachine", name := "canBeTaken", desc := "(I)Z" } : Jvm.MethodName) ({ cls := "ContractMachine", name := "canBeTaken", desc := "(I)Z" } : Jvm.MethodName)) ∈ lw_all := lw_g (lw_at lw_m10 192 rfl) rfl
theorem q2473 : (Jvm.Cond.code ({ cls := "ContractMachine", name := "canBeTaken", desc := "(I)Z" } : Jvm.MethodName) prog_1_method_70_code (4 : Nat) (Option.some Jvm.ClassFile.FieldType.boolean)) ∈ lw_all := lw_g (lw_at lw_m10 193 rfl) rfl
theorem q2474 : (Jvm.Cond.classLink "ContractMachine" (415 : Nat) "ContractMachine$3") ∈ lw_all := lw_g (lw_at lw_m10 194 rfl) rfl
theorem q2476 : (Jvm.Cond.methodLink "ContractMachine" (417 : Nat) ({ cls := "ContractMachine$3", name := "<init>", desc := "(LContractMachine;LContractMachine$Transition;I)V" } : Jvm.MethodName)) ∈ lw_all := lw_g (lw_at lw_m10 196 rfl) rfl
theorem q2495 : (Jvm.Cond.instanceMethod ({ cls := "ContractMachine", name := "stepsTo", desc := "(I)I" } : Jvm.MethodName)) ∈ lw_all := lw_g (lw_at lw_m10 215 rfl) rfl
theorem q2496 : (Jvm.Cond.selects "ContractMachine" ({ cls := "ContractMachine", name := "stepsTo", desc := "(I)I" } : Jvm.MethodName) ({ cls := "ContractMachine", name := "stepsTo", desc := "(I)I" } : Jvm.MethodName)) ∈ lw_all := lw_g (lw_at lw_m10 216 rfl) rfl
theorem q2497 : (Jvm.Cond.code ({ cls := "ContractMachine", name := "stepsTo", desc := "(I)I" } : Jvm.MethodName) prog_1_method_71_code (3 : Nat) (Option.some Jvm.ClassFile.FieldType.int)) ∈ lw_all := lw_g (lw_at lw_m10 217 rfl) rfl
theorem q2502 : (Jvm.Cond.instanceMethod ({ cls := "ContractMachine", name := "firstEventTo", desc := "(I)I" } : Jvm.MethodName)) ∈ lw_all := lw_g (lw_at lw_m10 222 rfl) rfl
theorem q2503 : (Jvm.Cond.selects "ContractMachine" ({ cls := "ContractMachine", name := "firstEventTo", desc := "(I)I" } : Jvm.MethodName) ({ cls := "ContractMachine", name := "firstEventTo", desc := "(I)I" } : Jvm.MethodName)) ∈ lw_all := lw_g (lw_at lw_m10 223 rfl) rfl
theorem q2504 : (Jvm.Cond.code ({ cls := "ContractMachine", name := "firstEventTo", desc := "(I)I" } : Jvm.MethodName) prog_1_method_72_code (3 : Nat) (Option.some Jvm.ClassFile.FieldType.int)) ∈ lw_all := lw_g (lw_at lw_m10 224 rfl) rfl
theorem q2509 : (Jvm.Cond.instanceMethod ({ cls := "ContractMachine", name := "fire", desc := "(I)I" } : Jvm.MethodName)) ∈ lw_all := lw_g (lw_at lw_m10 229 rfl) rfl
theorem q2510 : (Jvm.Cond.selects "ContractMachine" ({ cls := "ContractMachine", name := "fire", desc := "(I)I" } : Jvm.MethodName) ({ cls := "ContractMachine", name := "fire", desc := "(I)I" } : Jvm.MethodName)) ∈ lw_all := lw_g (lw_at lw_m10 230 rfl) rfl
theorem q2511 : (Jvm.Cond.code ({ cls := "ContractMachine", name := "fire", desc := "(I)I" } : Jvm.MethodName) prog_1_method_79_code (3 : Nat) (Option.some Jvm.ClassFile.FieldType.int)) ∈ lw_all := lw_g (lw_at lw_m10 231 rfl) rfl
theorem q2512 : (Jvm.Cond.methodLink "ContractMachine" (450 : Nat) ({ cls := "ContractMachine", name := "outcome", desc := "(I)LContractMachine$Outcome;" } : Jvm.MethodName)) ∈ lw_all := lw_g (lw_at lw_m10 232 rfl) rfl
theorem q2513 : (Jvm.Cond.interfaceEntry "ContractMachine" (454 : Nat)) ∈ lw_tbl := lw_at lw_m10 233 rfl
theorem q2514 : (Jvm.Cond.methodLink "ContractMachine" (454 : Nat) ({ cls := "ContractMachine$Outcome", name := "applyTo", desc := "(LContractMachine$Run;)V" } : Jvm.MethodName)) ∈ lw_all := lw_g (lw_at lw_m10 234 rfl) rfl
theorem q2515 : (Jvm.Cond.interfaceEntry "ContractMachine" (460 : Nat)) ∈ lw_tbl := lw_at lw_m10 235 rfl
theorem q2516 : (Jvm.Cond.methodLink "ContractMachine" (460 : Nat) ({ cls := "ContractMachine$Outcome", name := "verdict", desc := "()I" } : Jvm.MethodName)) ∈ lw_all := lw_g (lw_at lw_m10 236 rfl) rfl
theorem q2534 : (Jvm.Cond.instanceMethod ({ cls := "ContractMachine", name := "setValue", desc := "(II)I" } : Jvm.MethodName)) ∈ lw_all := lw_g (lw_at lw_m11 14 rfl) rfl
theorem q2535 : (Jvm.Cond.selects "ContractMachine" ({ cls := "ContractMachine", name := "setValue", desc := "(II)I" } : Jvm.MethodName) ({ cls := "ContractMachine", name := "setValue", desc := "(II)I" } : Jvm.MethodName)) ∈ lw_all := lw_g (lw_at lw_m11 15 rfl) rfl
theorem q2536 : (Jvm.Cond.code ({ cls := "ContractMachine", name := "setValue", desc := "(II)I" } : Jvm.MethodName) prog_1_method_83_code (4 : Nat) (Option.some Jvm.ClassFile.FieldType.int)) ∈ lw_all := lw_g (lw_at lw_m11 16 rfl) rfl
theorem q2537 : (Jvm.Cond.constantLong "ContractMachine" (465 : Nat) (9 : Int64)) ∈ lw_all := lw_g (lw_at lw_m11 17 rfl) rfl
theorem q2538 : (Jvm.Cond.methodLink "ContractMachine" (467 : Nat) ({ cls := "ContractMachine", name := "canSet", desc := "(II)Z" } : Jvm.MethodName)) ∈ lw_all := lw_g (lw_at lw_m11 18 rfl) rfl
theorem q2539 : (Jvm.Cond.methodLink "ContractMachine" (470 : Nat) ({ cls := "ContractMachine", name := "requireState", desc := "(Z)V" } : Jvm.MethodName)) ∈ lw_all := lw_g (lw_at lw_m11 19 rfl) rfl
theorem q2540 : (Jvm.Cond.static ({ cls := "ContractMachine", name := "requireState", desc := "(Z)V" } : Jvm.MethodName)) ∈ lw_all := lw_g (lw_at lw_m11 20 rfl) rfl
theorem q2541 : (Jvm.Cond.code ({ cls := "ContractMachine", name := "requireState", desc := "(Z)V" } : Jvm.MethodName) prog_1_method_4_code (1 : Nat) (Option.none : Option Jvm.ClassFile.FieldType)) ∈ lw_all := lw_g (lw_at lw_m11 21 rfl) rfl
theorem q2542 : (Jvm.Cond.classLink "ContractMachine" (12 : Nat) "java/lang/IllegalStateException") ∈ lw_all := lw_g (lw_at lw_m11 22 rfl) rfl
theorem q2543 : (Jvm.Cond.methodLink "ContractMachine" (14 : Nat) ({ cls := "java/lang/IllegalStateException", name := "<init>", desc := "()V" } : Jvm.MethodName)) ∈ lw_all := lw_g (lw_at lw_m11 23 rfl) rfl
theorem q2547 : (Jvm.Cond.methodLink "ContractMachine" (473 : Nat) ({ cls := "ContractMachine", name := "set", desc := "(II)I" } : Jvm.MethodName)) ∈ lw_all := lw_g (lw_at lw_m11 27 rfl) rfl
theorem q2552 : (Jvm.Cond.instanceMethod ({ cls := "ContractMachine", name := "addAlways", desc := "(III)I" } : Jvm.MethodName)) ∈ lw_all := lw_g (lw_at lw_m11 32 rfl) rfl
theorem q2553 : (Jvm.Cond.selects "ContractMachine" ({ cls := "ContractMachine", name := "addAlways", desc := "(III)I" } : Jvm.MethodName) ({ cls := "ContractMachine", name := "addAlways", desc := "(III)I" } : Jvm.MethodName)) ∈ lw_all := lw_g (lw_at lw_m11 33 rfl) rfl
theorem q2554 : (Jvm.Cond.code ({ cls := "ContractMachine", name := "addAlways", desc := "(III)I" } : Jvm.MethodName) prog_1_method_88_code (6 : Nat) (Option.some Jvm.ClassFile.FieldType.int)) ∈ lw_all := lw_g (lw_at lw_m11 34 rfl) rfl
theorem q2555 : (Jvm.Cond.constantLong "ContractMachine" (482 : Nat) (5 : Int64)) ∈ lw_all := lw_g (lw_at lw_m11 35 rfl) rfl
theorem q2556 : (Jvm.Cond.methodLink "ContractMachine" (484 : Nat) ({ cls := "ContractMachine", name := "canAdd", desc := "(LContractMachine$Invariant;)Z" } : Jvm.MethodName)) ∈ lw_all := lw_g (lw_at lw_m11 36 rfl) rfl
theorem q2557 : (Jvm.Cond.privateMethod ({ cls := "ContractMachine", name := "canAdd", desc := "(LContractMachine$Invariant;)Z" } : Jvm.MethodName)) ∈ lw_tbl := lw_at lw_m11 37 rfl
theorem q2558 : (Jvm.Cond.instanceMethod ({ cls := "ContractMachine", name := "canAdd", desc := "(LContractMachine$Invariant;)Z" } : Jvm.MethodName)) ∈ lw_all := lw_g (lw_at lw_m11 38 rfl) rfl
theorem q2559 : (Jvm.Cond.code ({ cls := "ContractMachine", name := "canAdd", desc := "(LContractMachine$Invariant;)Z" } : Jvm.MethodName) prog_1_method_87_code (2 : Nat) (Option.some Jvm.ClassFile.FieldType.boolean)) ∈ lw_all := lw_g (lw_at lw_m11 39 rfl) rfl
theorem q2560 : (Jvm.Cond.methodLink "ContractMachine" (479 : Nat) ({ cls := "ContractMachine$Invariant", name := "isBrokenBy", desc := "(I)Z" } : Jvm.MethodName)) ∈ lw_all := lw_g (lw_at lw_m11 40 rfl) rfl
theorem q2566 : (Jvm.Cond.instanceMethod ({ cls := "ContractMachine", name := "undo", desc := "()I" } : Jvm.MethodName)) ∈ lw_all := lw_g (lw_at lw_m11 46 rfl) rfl
theorem q2567 : (Jvm.Cond.selects "ContractMachine" ({ cls := "ContractMachine", name := "undo", desc := "()I" } : Jvm.MethodName) ({ cls := "ContractMachine", name := "undo", desc := "()I" } : Jvm.MethodName)) ∈ lw_all := lw_g (lw_at lw_m11 47 rfl) rfl
theorem q2568 : (Jvm.Cond.code ({ cls := "ContractMachine", name := "undo", desc := "()I" } : Jvm.MethodName) prog_1_method_89_code (1 : Nat) (Option.some Jvm.ClassFile.FieldType.int)) ∈ lw_all := lw_g (lw_at lw_m11 48 rfl) rfl
theorem q2569 : (Jvm.Cond.methodLink "ContractMachine" (488 : Nat) ({ cls := "java/util/ArrayDeque", name := "isEmpty", desc := "()Z" } : Jvm.MethodName)) ∈ lw_all := lw_g (lw_at lw_m11 49 rfl) rfl
theorem q2573 : (Jvm.Cond.methodLink "ContractMachine" (491 : Nat) ({ cls := "ContractMachine", name := "requireElement", desc := "(Z)V" } : Jvm.MethodName)) ∈ lw_all := lw_g (lw_at lw_m11 53 rfl) rfl
theorem q2574 : (Jvm.Cond.static ({ cls := "ContractMachine", name := "requireElement", desc := "(Z)V" } : Jvm.MethodName)) ∈ lw_all := lw_g (lw_at lw_m11 54 rfl) rfl
theorem q2575 : (Jvm.Cond.code ({ cls := "ContractMachine", name := "requireElement", desc := "(Z)V" } : Jvm.MethodName) prog_1_method_5_code (1 : Nat) (Option.none : Option Jvm.ClassFile.FieldType)) ∈ lw_all := lw_g (lw_at lw_m11 55 rfl) rfl
theorem q2576 : (Jvm.Cond.classLink "ContractMachine" (15 : Nat) "java/util/NoSuchElementException") ∈ lw_all := lw_g (lw_at lw_m11 56 rfl) rfl
theorem q2577 : (Jvm.Cond.methodLink "ContractMachine" (17 : Nat) ({ cls := "java/util/NoSuchElementException", name := "<init>", desc := "()V" } : Jvm.MethodName)) ∈ lw_all := lw_g (lw_at lw_m11 57 rfl) rfl
theorem q2578 : (Jvm.Cond.methodLink "ContractMachine" (494 : Nat) ({ cls := "java/util/ArrayDeque", name := "removeLast", desc := "()Ljava/lang/Object;" } : Jvm.MethodName)) ∈ lw_all := lw_g (lw_at lw_m11 58 rfl) rfl
theorem q2593 : (Jvm.Cond.instanceMethod ({ cls := "ContractMachine", name := "restoreState", desc := "()I" } : Jvm.MethodName)) ∈ lw_all := lw_g (lw_at lw_m11 73 rfl) rfl
theorem q2594 : (Jvm.Cond.selects "ContractMachine" ({ cls := "ContractMachine", name := "restoreState", desc := "()I" } : Jvm.MethodName) ({ cls := "ContractMachine", name := "restoreState", desc := "()I" } : Jvm.MethodName)) ∈ lw_all := lw_g (lw_at lw_m11 74 rfl) rfl
theorem q2595 : (Jvm.Cond.code ({ cls := "ContractMachine", name := "restoreState", desc := "()I" } : Jvm.MethodName) prog_1_method_93_code (1 : Nat) (Option.some Jvm.ClassFile.FieldType.int)) ∈ lw_all := lw_g (lw_at lw_m11 75 rfl) rfl
theorem q3288 : (Jvm.Cond.castable "ContractMachine" "java/lang/Object") ∈ lw_tbl := lw_at lw_m14 48 rfl
theorem in_X1 : ∀ w ∈ wsX10, w ∈ lw_all := lw_in wsX10 [910, 912, 914, 916, 918, 920, 922, 924, 926, 928, 930, 932, 934, 936, 938] (by decide +kernel) (by decide +kernel)
