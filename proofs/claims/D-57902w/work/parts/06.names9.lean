/-! ContractMachineModel -/
set_option maxRecDepth 100000
def RX9 : String := "ContractMachineModel"
def TX9 : u_T := fun k => match k with
  | 0 => ("ContractMachineModel", "w", "[I", true)
  | 1 => ("ContractMachineModel", "wKept", "[I", true)
  | 2 => ("ContractMachineModel", "saved", "[I", true)
  | 3 => ("ContractMachineModel", "past", "[I", true)
  | 4 => ("ContractMachineModel", "pastMany", "I", false)
  | 5 => ("ContractMachineModel", "isSaved", "Z", false)
  | 6 => ("ContractMachineModel", "thrown", "I", false)
  | 7 => ("ContractMachineModel", "chosen", "I", false)
  | 8 => ("ContractMachineModel", "next", "I", false)
  | 9 => ("ContractMachineModel", "steps", "[I", true)
  | 10 => ("ContractMachineModel", "line", "[I", true)
  | 11 => ("ContractMachineModel", "lined", "I", false)
  | 12 => ("ContractMachineModel", "input", "[I", true)
  | 13 => ("ContractMachineModel", "inputMany", "I", false)
  | 14 => ("ContractMachineModel", "lastError", "I", false)
  | 15 => ("ContractMachineModel", "lastOffset", "I", false)
  | 16 => ("ContractMachineModel", "error", "I", false)
  | 17 => ("ContractMachineModel", "offset", "I", false)
  | 18 => ("ContractMachineModel", "nextByte", "I", false)
  | 19 => ("ContractMachineModel", "begin", "I", false)
  | 20 => ("ContractMachineModel", "value", "I", false)
  | 21 => ("ContractMachineModel", "token", "I", false)
  | 22 => ("ContractMachineModel", "got", "I", false)
  | 23 => ("ContractMachineModel", "n", "[I", true)
  | 24 => ("ContractMachineModel", "order", "[I", true)
  | 25 => ("ContractMachineModel", "numbers", "[I", true)
  | 26 => ("ContractMachineModel", "orders", "I", false)
  | 27 => ("ContractMachineModel", "seen", "[Z", true)
  | 28 => ("ContractMachineModel", "stack", "[I", true)
  | 29 => ("ContractMachineModel", "output", "[I", true)
  | _ => ("ContractMachineModel", "outputMany", "I", false)
def tyX9 : Nat → FieldType := fun k => match k with
  | 0 => .array .int
  | 1 => .array .int
  | 2 => .array .int
  | 3 => .array .int
  | 4 => .int
  | 5 => .boolean
  | 6 => .int
  | 7 => .int
  | 8 => .int
  | 9 => .array .int
  | 10 => .array .int
  | 11 => .int
  | 12 => .array .int
  | 13 => .int
  | 14 => .int
  | 15 => .int
  | 16 => .int
  | 17 => .int
  | 18 => .int
  | 19 => .int
  | 20 => .int
  | 21 => .int
  | 22 => .int
  | 23 => .array .int
  | 24 => .array .int
  | 25 => .array .int
  | 26 => .int
  | 27 => .array .boolean
  | 28 => .array .int
  | 29 => .array .int
  | _ => .int
abbrev wsX90 : List Cond := u_ws RX9 TX9 31
set_option maxRecDepth 100000 in
theorem nmX9 : ∀ a, a < 31 → ∀ b, b < 31 → a ≠ b → (TX9 a).2.1 ≠ (TX9 b).2.1 := by decide +kernel
set_option maxRecDepth 100000 in
theorem tyX9_ok : ∀ k, k < 31 → parseFieldDescriptor (TX9 k).2.2.1 = some (tyX9 k) := by decide +kernel
abbrev cX9_init : ByteArray := prog_41_method_1_code
def yX9_init : MethodName := ⟨RX9, "<init>", "()V"⟩
def dkwX9_init_17 : List UInt8 := [182, 0, 71, 87, 42, 182, 0, 75, 177]
abbrev dktX9_init_17 : List UInt8 := dkwX9_init_17 ++ []
def dkwX9_init_16 : List UInt8 := [182, 0, 61, 42, 3, 4, 4, 182, 0, 65, 42, 2, 3, 4, 8, 182, 0, 71, 87, 42, 3, 4, 7, 4]
abbrev dktX9_init_16 : List UInt8 := dkwX9_init_16 ++ dktX9_init_17
def dkwX9_init_15 : List UInt8 := [4, 182, 0, 65, 42, 5, 4, 3, 182, 0, 61, 42, 3, 5, 3, 182, 0, 65, 42, 3, 5, 3]
abbrev dktX9_init_15 : List UInt8 := dkwX9_init_15 ++ dktX9_init_16
def dkwX9_init_14 : List UInt8 := [42, 3, 3, 4, 182, 0, 65, 42, 4, 4, 3, 182, 0, 61, 42, 3, 7, 5, 182, 0, 68, 42, 4, 4]
abbrev dktX9_init_14 : List UInt8 := dkwX9_init_14 ++ dktX9_init_15
def dkwX9_init_13 : List UInt8 := [182, 0, 61, 42, 3, 8, 5, 182, 0, 68, 42, 3, 3, 4, 182, 0, 65, 42, 4, 3, 4, 182, 0, 61]
abbrev dktX9_init_13 : List UInt8 := dkwX9_init_13 ++ dktX9_init_14
def dkwX9_init_12 : List UInt8 := [16, 10, 6, 79, 42, 3, 3, 4, 182, 0, 61, 42, 3, 3, 4, 182, 0, 65, 42, 4, 3, 5]
abbrev dktX9_init_12 : List UInt8 := dkwX9_init_12 ++ dktX9_init_13
def dkwX9_init_11 : List UInt8 := [180, 0, 7, 3, 6, 79, 42, 180, 0, 7, 4, 6, 79, 42, 180, 0, 7, 5, 5, 79, 42, 180, 0, 7]
abbrev dktX9_init_11 : List UInt8 := dkwX9_init_11 ++ dktX9_init_12
def dkwX9_init_10 : List UInt8 := [16, 115, 182, 0, 57, 42, 17, 1, 234, 16, 99, 16, 117, 16, 112, 16, 115, 3, 182, 0, 57, 42]
abbrev dktX9_init_10 : List UInt8 := dkwX9_init_10 ++ dktX9_init_11
def dkwX9_init_9 : List UInt8 := [16, 116, 16, 97, 16, 107, 16, 101, 3, 182, 0, 57, 42, 17, 1, 227, 16, 99, 16, 111, 16, 105, 16, 110]
abbrev dktX9_init_9 : List UInt8 := dkwX9_init_9 ++ dktX9_init_10
def dkwX9_init_8 : List UInt8 := [3, 182, 0, 57, 42, 17, 1, 178, 16, 112, 16, 117, 16, 115, 16, 104, 3, 182, 0, 57, 42, 17, 1, 185]
abbrev dktX9_init_8 : List UInt8 := dkwX9_init_8 ++ dktX9_init_9
def dkwX9_init_7 : List UInt8 := [16, 102, 16, 117, 16, 108, 16, 108, 3, 182, 0, 57, 42, 17, 1, 171, 16, 99, 16, 111, 16, 105, 16, 110]
abbrev dktX9_init_7 : List UInt8 := dkwX9_init_7 ++ dktX9_init_8
def dkwX9_init_6 : List UInt8 := [182, 0, 57, 42, 17, 1, 108, 16, 98, 16, 117, 16, 115, 16, 121, 3, 182, 0, 57, 42, 17, 1, 115]
abbrev dktX9_init_6 : List UInt8 := dkwX9_init_6 ++ dktX9_init_7
def dkwX9_init_5 : List UInt8 := [188, 10, 181, 0, 51, 42, 182, 0, 54, 42, 17, 1, 101, 16, 105, 16, 100, 16, 108, 16, 101, 3]
abbrev dktX9_init_5 : List UInt8 := dkwX9_init_5 ++ dktX9_init_6
def dkwX9_init_4 : List UInt8 := [181, 0, 41, 42, 17, 39, 16, 188, 4, 181, 0, 44, 42, 17, 39, 16, 188, 10, 181, 0, 48, 42, 16, 60]
abbrev dktX9_init_4 : List UInt8 := dkwX9_init_4 ++ dktX9_init_5
def dkwX9_init_3 : List UInt8 := [181, 0, 31, 42, 16, 9, 188, 10, 181, 0, 35, 42, 16, 31, 188, 10, 181, 0, 38, 42, 16, 62, 188, 10]
abbrev dktX9_init_3 : List UInt8 := dkwX9_init_3 ++ dktX9_init_4
def dkwX9_init_2 : List UInt8 := [181, 0, 22, 42, 17, 39, 16, 188, 10, 181, 0, 25, 42, 17, 2, 188, 188, 10, 181, 0, 28, 42, 2]
abbrev dktX9_init_2 : List UInt8 := dkwX9_init_2 ++ dktX9_init_3
def dkwX9_init_1 : List UInt8 := [17, 1, 248, 188, 10, 181, 0, 16, 42, 17, 15, 192, 188, 10, 181, 0, 19, 42, 17, 39, 16, 188, 10]
abbrev dktX9_init_1 : List UInt8 := dkwX9_init_1 ++ dktX9_init_2
def dkwX9_init_0 : List UInt8 := [42, 183, 0, 1, 42, 17, 1, 248, 188, 10, 181, 0, 7, 42, 17, 1, 248, 188, 10, 181, 0, 13, 42]
abbrev dktX9_init_0 : List UInt8 := dkwX9_init_0 ++ dktX9_init_1
theorem dksX9_init_0 : cX9_init.data.toList.drop 0 = dktX9_init_0 := by decide +kernel
theorem dksX9_init_1 : cX9_init.data.toList.drop 23 = dktX9_init_1 := dk_seg dksX9_init_0 23 rfl rfl
theorem dksX9_init_2 : cX9_init.data.toList.drop 46 = dktX9_init_2 := dk_seg dksX9_init_1 23 rfl rfl
theorem dksX9_init_3 : cX9_init.data.toList.drop 69 = dktX9_init_3 := dk_seg dksX9_init_2 23 rfl rfl
theorem dksX9_init_4 : cX9_init.data.toList.drop 93 = dktX9_init_4 := dk_seg dksX9_init_3 24 rfl rfl
theorem dksX9_init_5 : cX9_init.data.toList.drop 117 = dktX9_init_5 := dk_seg dksX9_init_4 24 rfl rfl
theorem dksX9_init_6 : cX9_init.data.toList.drop 139 = dktX9_init_6 := dk_seg dksX9_init_5 22 rfl rfl
theorem dksX9_init_7 : cX9_init.data.toList.drop 162 = dktX9_init_7 := dk_seg dksX9_init_6 23 rfl rfl
theorem dksX9_init_8 : cX9_init.data.toList.drop 186 = dktX9_init_8 := dk_seg dksX9_init_7 24 rfl rfl
theorem dksX9_init_9 : cX9_init.data.toList.drop 210 = dktX9_init_9 := dk_seg dksX9_init_8 24 rfl rfl
theorem dksX9_init_10 : cX9_init.data.toList.drop 234 = dktX9_init_10 := dk_seg dksX9_init_9 24 rfl rfl
theorem dksX9_init_11 : cX9_init.data.toList.drop 256 = dktX9_init_11 := dk_seg dksX9_init_10 22 rfl rfl
theorem dksX9_init_12 : cX9_init.data.toList.drop 280 = dktX9_init_12 := dk_seg dksX9_init_11 24 rfl rfl
theorem dksX9_init_13 : cX9_init.data.toList.drop 302 = dktX9_init_13 := dk_seg dksX9_init_12 22 rfl rfl
theorem dksX9_init_14 : cX9_init.data.toList.drop 326 = dktX9_init_14 := dk_seg dksX9_init_13 24 rfl rfl
theorem dksX9_init_15 : cX9_init.data.toList.drop 350 = dktX9_init_15 := dk_seg dksX9_init_14 24 rfl rfl
theorem dksX9_init_16 : cX9_init.data.toList.drop 372 = dktX9_init_16 := dk_seg dksX9_init_15 22 rfl rfl
theorem dksX9_init_17 : cX9_init.data.toList.drop 396 = dktX9_init_17 := dk_seg dksX9_init_16 24 rfl rfl
theorem dX9_init_0 : decode cX9_init 0 = .ok (.aload_n 0, 1) := dk_42 (dk_at dksX9_init_0 0 rfl rfl)
theorem dX9_init_1 : decode cX9_init 1 = .ok (.invokespecial 1, 3) := dk_183 0 1 (dk_at dksX9_init_0 1 rfl rfl)
theorem dX9_init_4 : decode cX9_init 4 = .ok (.aload_n 0, 1) := dk_42 (dk_at dksX9_init_0 4 rfl rfl)
theorem dX9_init_5 : decode cX9_init 5 = .ok (.sipush 504, 3) := dk_17 1 248 (dk_at dksX9_init_0 5 rfl rfl)
theorem dX9_init_8 : decode cX9_init 8 = .ok (.newarray .int, 2) := dk_188_10 (dk_at dksX9_init_0 8 rfl rfl)
theorem dX9_init_10 : decode cX9_init 10 = .ok (.putfield 7, 3) := dk_181 0 7 (dk_at dksX9_init_0 10 rfl rfl)
theorem dX9_init_13 : decode cX9_init 13 = .ok (.aload_n 0, 1) := dk_42 (dk_at dksX9_init_0 13 rfl rfl)
theorem dX9_init_14 : decode cX9_init 14 = .ok (.sipush 504, 3) := dk_17 1 248 (dk_at dksX9_init_0 14 rfl rfl)
theorem dX9_init_17 : decode cX9_init 17 = .ok (.newarray .int, 2) := dk_188_10 (dk_at dksX9_init_0 17 rfl rfl)
theorem dX9_init_19 : decode cX9_init 19 = .ok (.putfield 13, 3) := dk_181 0 13 (dk_at dksX9_init_0 19 rfl rfl)
theorem dX9_init_22 : decode cX9_init 22 = .ok (.aload_n 0, 1) := dk_42 (dk_at dksX9_init_0 22 rfl rfl)
theorem dX9_init_23 : decode cX9_init 23 = .ok (.sipush 504, 3) := dk_17 1 248 (dk_at dksX9_init_1 0 rfl rfl)
theorem dX9_init_26 : decode cX9_init 26 = .ok (.newarray .int, 2) := dk_188_10 (dk_at dksX9_init_1 3 rfl rfl)
theorem dX9_init_28 : decode cX9_init 28 = .ok (.putfield 16, 3) := dk_181 0 16 (dk_at dksX9_init_1 5 rfl rfl)
theorem dX9_init_31 : decode cX9_init 31 = .ok (.aload_n 0, 1) := dk_42 (dk_at dksX9_init_1 8 rfl rfl)
theorem dX9_init_32 : decode cX9_init 32 = .ok (.sipush 4032, 3) := dk_17 15 192 (dk_at dksX9_init_1 9 rfl rfl)
theorem dX9_init_35 : decode cX9_init 35 = .ok (.newarray .int, 2) := dk_188_10 (dk_at dksX9_init_1 12 rfl rfl)
theorem dX9_init_37 : decode cX9_init 37 = .ok (.putfield 19, 3) := dk_181 0 19 (dk_at dksX9_init_1 14 rfl rfl)
theorem dX9_init_40 : decode cX9_init 40 = .ok (.aload_n 0, 1) := dk_42 (dk_at dksX9_init_1 17 rfl rfl)
theorem dX9_init_41 : decode cX9_init 41 = .ok (.sipush 10000, 3) := dk_17 39 16 (dk_at dksX9_init_1 18 rfl rfl)
theorem dX9_init_44 : decode cX9_init 44 = .ok (.newarray .int, 2) := dk_188_10 (dk_at dksX9_init_1 21 rfl rfl)
theorem dX9_init_46 : decode cX9_init 46 = .ok (.putfield 22, 3) := dk_181 0 22 (dk_at dksX9_init_2 0 rfl rfl)
theorem dX9_init_49 : decode cX9_init 49 = .ok (.aload_n 0, 1) := dk_42 (dk_at dksX9_init_2 3 rfl rfl)
theorem dX9_init_50 : decode cX9_init 50 = .ok (.sipush 10000, 3) := dk_17 39 16 (dk_at dksX9_init_2 4 rfl rfl)
theorem dX9_init_53 : decode cX9_init 53 = .ok (.newarray .int, 2) := dk_188_10 (dk_at dksX9_init_2 7 rfl rfl)
theorem dX9_init_55 : decode cX9_init 55 = .ok (.putfield 25, 3) := dk_181 0 25 (dk_at dksX9_init_2 9 rfl rfl)
theorem dX9_init_58 : decode cX9_init 58 = .ok (.aload_n 0, 1) := dk_42 (dk_at dksX9_init_2 12 rfl rfl)
theorem dX9_init_59 : decode cX9_init 59 = .ok (.sipush 700, 3) := dk_17 2 188 (dk_at dksX9_init_2 13 rfl rfl)
theorem dX9_init_62 : decode cX9_init 62 = .ok (.newarray .int, 2) := dk_188_10 (dk_at dksX9_init_2 16 rfl rfl)
theorem dX9_init_64 : decode cX9_init 64 = .ok (.putfield 28, 3) := dk_181 0 28 (dk_at dksX9_init_2 18 rfl rfl)
theorem dX9_init_67 : decode cX9_init 67 = .ok (.aload_n 0, 1) := dk_42 (dk_at dksX9_init_2 21 rfl rfl)
theorem dX9_init_68 : decode cX9_init 68 = .ok (.iconst (-1), 1) := dk_2 (dk_at dksX9_init_2 22 rfl rfl)
theorem dX9_init_69 : decode cX9_init 69 = .ok (.putfield 31, 3) := dk_181 0 31 (dk_at dksX9_init_3 0 rfl rfl)
theorem dX9_init_72 : decode cX9_init 72 = .ok (.aload_n 0, 1) := dk_42 (dk_at dksX9_init_3 3 rfl rfl)
theorem dX9_init_73 : decode cX9_init 73 = .ok (.bipush 9, 2) := dk_16 9 (dk_at dksX9_init_3 4 rfl rfl)
theorem dX9_init_75 : decode cX9_init 75 = .ok (.newarray .int, 2) := dk_188_10 (dk_at dksX9_init_3 6 rfl rfl)
theorem dX9_init_77 : decode cX9_init 77 = .ok (.putfield 35, 3) := dk_181 0 35 (dk_at dksX9_init_3 8 rfl rfl)
theorem dX9_init_80 : decode cX9_init 80 = .ok (.aload_n 0, 1) := dk_42 (dk_at dksX9_init_3 11 rfl rfl)
theorem dX9_init_81 : decode cX9_init 81 = .ok (.bipush 31, 2) := dk_16 31 (dk_at dksX9_init_3 12 rfl rfl)
theorem dX9_init_83 : decode cX9_init 83 = .ok (.newarray .int, 2) := dk_188_10 (dk_at dksX9_init_3 14 rfl rfl)
theorem dX9_init_85 : decode cX9_init 85 = .ok (.putfield 38, 3) := dk_181 0 38 (dk_at dksX9_init_3 16 rfl rfl)
theorem dX9_init_88 : decode cX9_init 88 = .ok (.aload_n 0, 1) := dk_42 (dk_at dksX9_init_3 19 rfl rfl)
theorem dX9_init_89 : decode cX9_init 89 = .ok (.bipush 62, 2) := dk_16 62 (dk_at dksX9_init_3 20 rfl rfl)
theorem dX9_init_91 : decode cX9_init 91 = .ok (.newarray .int, 2) := dk_188_10 (dk_at dksX9_init_3 22 rfl rfl)
theorem dX9_init_93 : decode cX9_init 93 = .ok (.putfield 41, 3) := dk_181 0 41 (dk_at dksX9_init_4 0 rfl rfl)
theorem dX9_init_96 : decode cX9_init 96 = .ok (.aload_n 0, 1) := dk_42 (dk_at dksX9_init_4 3 rfl rfl)
theorem dX9_init_97 : decode cX9_init 97 = .ok (.sipush 10000, 3) := dk_17 39 16 (dk_at dksX9_init_4 4 rfl rfl)
theorem dX9_init_100 : decode cX9_init 100 = .ok (.newarray .boolean, 2) := dk_188_4 (dk_at dksX9_init_4 7 rfl rfl)
theorem dX9_init_102 : decode cX9_init 102 = .ok (.putfield 44, 3) := dk_181 0 44 (dk_at dksX9_init_4 9 rfl rfl)
theorem dX9_init_105 : decode cX9_init 105 = .ok (.aload_n 0, 1) := dk_42 (dk_at dksX9_init_4 12 rfl rfl)
theorem dX9_init_106 : decode cX9_init 106 = .ok (.sipush 10000, 3) := dk_17 39 16 (dk_at dksX9_init_4 13 rfl rfl)
theorem dX9_init_109 : decode cX9_init 109 = .ok (.newarray .int, 2) := dk_188_10 (dk_at dksX9_init_4 16 rfl rfl)
theorem dX9_init_111 : decode cX9_init 111 = .ok (.putfield 48, 3) := dk_181 0 48 (dk_at dksX9_init_4 18 rfl rfl)
theorem dX9_init_114 : decode cX9_init 114 = .ok (.aload_n 0, 1) := dk_42 (dk_at dksX9_init_4 21 rfl rfl)
theorem dX9_init_115 : decode cX9_init 115 = .ok (.bipush 60, 2) := dk_16 60 (dk_at dksX9_init_4 22 rfl rfl)
theorem dX9_init_117 : decode cX9_init 117 = .ok (.newarray .int, 2) := dk_188_10 (dk_at dksX9_init_5 0 rfl rfl)
theorem dX9_init_119 : decode cX9_init 119 = .ok (.putfield 51, 3) := dk_181 0 51 (dk_at dksX9_init_5 2 rfl rfl)
theorem dX9_init_122 : decode cX9_init 122 = .ok (.aload_n 0, 1) := dk_42 (dk_at dksX9_init_5 5 rfl rfl)
theorem dX9_init_123 : decode cX9_init 123 = .ok (.invokevirtual 54, 3) := dk_182 0 54 (dk_at dksX9_init_5 6 rfl rfl)
theorem dX9_init_126 : decode cX9_init 126 = .ok (.aload_n 0, 1) := dk_42 (dk_at dksX9_init_5 9 rfl rfl)
theorem dX9_init_127 : decode cX9_init 127 = .ok (.sipush 357, 3) := dk_17 1 101 (dk_at dksX9_init_5 10 rfl rfl)
theorem dX9_init_130 : decode cX9_init 130 = .ok (.bipush 105, 2) := dk_16 105 (dk_at dksX9_init_5 13 rfl rfl)
theorem dX9_init_132 : decode cX9_init 132 = .ok (.bipush 100, 2) := dk_16 100 (dk_at dksX9_init_5 15 rfl rfl)
theorem dX9_init_134 : decode cX9_init 134 = .ok (.bipush 108, 2) := dk_16 108 (dk_at dksX9_init_5 17 rfl rfl)
theorem dX9_init_136 : decode cX9_init 136 = .ok (.bipush 101, 2) := dk_16 101 (dk_at dksX9_init_5 19 rfl rfl)
theorem dX9_init_138 : decode cX9_init 138 = .ok (.iconst 0, 1) := dk_3 (dk_at dksX9_init_5 21 rfl rfl)
theorem dX9_init_139 : decode cX9_init 139 = .ok (.invokevirtual 57, 3) := dk_182 0 57 (dk_at dksX9_init_6 0 rfl rfl)
theorem dX9_init_142 : decode cX9_init 142 = .ok (.aload_n 0, 1) := dk_42 (dk_at dksX9_init_6 3 rfl rfl)
theorem dX9_init_143 : decode cX9_init 143 = .ok (.sipush 364, 3) := dk_17 1 108 (dk_at dksX9_init_6 4 rfl rfl)
theorem dX9_init_146 : decode cX9_init 146 = .ok (.bipush 98, 2) := dk_16 98 (dk_at dksX9_init_6 7 rfl rfl)
theorem dX9_init_148 : decode cX9_init 148 = .ok (.bipush 117, 2) := dk_16 117 (dk_at dksX9_init_6 9 rfl rfl)
theorem dX9_init_150 : decode cX9_init 150 = .ok (.bipush 115, 2) := dk_16 115 (dk_at dksX9_init_6 11 rfl rfl)
theorem dX9_init_152 : decode cX9_init 152 = .ok (.bipush 121, 2) := dk_16 121 (dk_at dksX9_init_6 13 rfl rfl)
theorem dX9_init_154 : decode cX9_init 154 = .ok (.iconst 0, 1) := dk_3 (dk_at dksX9_init_6 15 rfl rfl)
theorem dX9_init_155 : decode cX9_init 155 = .ok (.invokevirtual 57, 3) := dk_182 0 57 (dk_at dksX9_init_6 16 rfl rfl)
theorem dX9_init_158 : decode cX9_init 158 = .ok (.aload_n 0, 1) := dk_42 (dk_at dksX9_init_6 19 rfl rfl)
theorem dX9_init_159 : decode cX9_init 159 = .ok (.sipush 371, 3) := dk_17 1 115 (dk_at dksX9_init_6 20 rfl rfl)
theorem dX9_init_162 : decode cX9_init 162 = .ok (.bipush 102, 2) := dk_16 102 (dk_at dksX9_init_7 0 rfl rfl)
theorem dX9_init_164 : decode cX9_init 164 = .ok (.bipush 117, 2) := dk_16 117 (dk_at dksX9_init_7 2 rfl rfl)
theorem dX9_init_166 : decode cX9_init 166 = .ok (.bipush 108, 2) := dk_16 108 (dk_at dksX9_init_7 4 rfl rfl)
theorem dX9_init_168 : decode cX9_init 168 = .ok (.bipush 108, 2) := dk_16 108 (dk_at dksX9_init_7 6 rfl rfl)
theorem dX9_init_170 : decode cX9_init 170 = .ok (.iconst 0, 1) := dk_3 (dk_at dksX9_init_7 8 rfl rfl)
theorem dX9_init_171 : decode cX9_init 171 = .ok (.invokevirtual 57, 3) := dk_182 0 57 (dk_at dksX9_init_7 9 rfl rfl)
theorem dX9_init_174 : decode cX9_init 174 = .ok (.aload_n 0, 1) := dk_42 (dk_at dksX9_init_7 12 rfl rfl)
theorem dX9_init_175 : decode cX9_init 175 = .ok (.sipush 427, 3) := dk_17 1 171 (dk_at dksX9_init_7 13 rfl rfl)
theorem dX9_init_178 : decode cX9_init 178 = .ok (.bipush 99, 2) := dk_16 99 (dk_at dksX9_init_7 16 rfl rfl)
theorem dX9_init_180 : decode cX9_init 180 = .ok (.bipush 111, 2) := dk_16 111 (dk_at dksX9_init_7 18 rfl rfl)
theorem dX9_init_182 : decode cX9_init 182 = .ok (.bipush 105, 2) := dk_16 105 (dk_at dksX9_init_7 20 rfl rfl)
theorem dX9_init_184 : decode cX9_init 184 = .ok (.bipush 110, 2) := dk_16 110 (dk_at dksX9_init_7 22 rfl rfl)
theorem dX9_init_186 : decode cX9_init 186 = .ok (.iconst 0, 1) := dk_3 (dk_at dksX9_init_8 0 rfl rfl)
theorem dX9_init_187 : decode cX9_init 187 = .ok (.invokevirtual 57, 3) := dk_182 0 57 (dk_at dksX9_init_8 1 rfl rfl)
theorem dX9_init_190 : decode cX9_init 190 = .ok (.aload_n 0, 1) := dk_42 (dk_at dksX9_init_8 4 rfl rfl)
theorem dX9_init_191 : decode cX9_init 191 = .ok (.sipush 434, 3) := dk_17 1 178 (dk_at dksX9_init_8 5 rfl rfl)
theorem dX9_init_194 : decode cX9_init 194 = .ok (.bipush 112, 2) := dk_16 112 (dk_at dksX9_init_8 8 rfl rfl)
theorem dX9_init_196 : decode cX9_init 196 = .ok (.bipush 117, 2) := dk_16 117 (dk_at dksX9_init_8 10 rfl rfl)
theorem dX9_init_198 : decode cX9_init 198 = .ok (.bipush 115, 2) := dk_16 115 (dk_at dksX9_init_8 12 rfl rfl)
theorem dX9_init_200 : decode cX9_init 200 = .ok (.bipush 104, 2) := dk_16 104 (dk_at dksX9_init_8 14 rfl rfl)
theorem dX9_init_202 : decode cX9_init 202 = .ok (.iconst 0, 1) := dk_3 (dk_at dksX9_init_8 16 rfl rfl)
theorem dX9_init_203 : decode cX9_init 203 = .ok (.invokevirtual 57, 3) := dk_182 0 57 (dk_at dksX9_init_8 17 rfl rfl)
theorem dX9_init_206 : decode cX9_init 206 = .ok (.aload_n 0, 1) := dk_42 (dk_at dksX9_init_8 20 rfl rfl)
theorem dX9_init_207 : decode cX9_init 207 = .ok (.sipush 441, 3) := dk_17 1 185 (dk_at dksX9_init_8 21 rfl rfl)
theorem dX9_init_210 : decode cX9_init 210 = .ok (.bipush 116, 2) := dk_16 116 (dk_at dksX9_init_9 0 rfl rfl)
theorem dX9_init_212 : decode cX9_init 212 = .ok (.bipush 97, 2) := dk_16 97 (dk_at dksX9_init_9 2 rfl rfl)
theorem dX9_init_214 : decode cX9_init 214 = .ok (.bipush 107, 2) := dk_16 107 (dk_at dksX9_init_9 4 rfl rfl)
theorem dX9_init_216 : decode cX9_init 216 = .ok (.bipush 101, 2) := dk_16 101 (dk_at dksX9_init_9 6 rfl rfl)
theorem dX9_init_218 : decode cX9_init 218 = .ok (.iconst 0, 1) := dk_3 (dk_at dksX9_init_9 8 rfl rfl)
theorem dX9_init_219 : decode cX9_init 219 = .ok (.invokevirtual 57, 3) := dk_182 0 57 (dk_at dksX9_init_9 9 rfl rfl)
theorem dX9_init_222 : decode cX9_init 222 = .ok (.aload_n 0, 1) := dk_42 (dk_at dksX9_init_9 12 rfl rfl)
theorem dX9_init_223 : decode cX9_init 223 = .ok (.sipush 483, 3) := dk_17 1 227 (dk_at dksX9_init_9 13 rfl rfl)
theorem dX9_init_226 : decode cX9_init 226 = .ok (.bipush 99, 2) := dk_16 99 (dk_at dksX9_init_9 16 rfl rfl)
theorem dX9_init_228 : decode cX9_init 228 = .ok (.bipush 111, 2) := dk_16 111 (dk_at dksX9_init_9 18 rfl rfl)
theorem dX9_init_230 : decode cX9_init 230 = .ok (.bipush 105, 2) := dk_16 105 (dk_at dksX9_init_9 20 rfl rfl)
theorem dX9_init_232 : decode cX9_init 232 = .ok (.bipush 110, 2) := dk_16 110 (dk_at dksX9_init_9 22 rfl rfl)
theorem dX9_init_234 : decode cX9_init 234 = .ok (.bipush 115, 2) := dk_16 115 (dk_at dksX9_init_10 0 rfl rfl)
theorem dX9_init_236 : decode cX9_init 236 = .ok (.invokevirtual 57, 3) := dk_182 0 57 (dk_at dksX9_init_10 2 rfl rfl)
theorem dX9_init_239 : decode cX9_init 239 = .ok (.aload_n 0, 1) := dk_42 (dk_at dksX9_init_10 5 rfl rfl)
theorem dX9_init_240 : decode cX9_init 240 = .ok (.sipush 490, 3) := dk_17 1 234 (dk_at dksX9_init_10 6 rfl rfl)
theorem dX9_init_243 : decode cX9_init 243 = .ok (.bipush 99, 2) := dk_16 99 (dk_at dksX9_init_10 9 rfl rfl)
theorem dX9_init_245 : decode cX9_init 245 = .ok (.bipush 117, 2) := dk_16 117 (dk_at dksX9_init_10 11 rfl rfl)
theorem dX9_init_247 : decode cX9_init 247 = .ok (.bipush 112, 2) := dk_16 112 (dk_at dksX9_init_10 13 rfl rfl)
theorem dX9_init_249 : decode cX9_init 249 = .ok (.bipush 115, 2) := dk_16 115 (dk_at dksX9_init_10 15 rfl rfl)
theorem dX9_init_251 : decode cX9_init 251 = .ok (.iconst 0, 1) := dk_3 (dk_at dksX9_init_10 17 rfl rfl)
theorem dX9_init_252 : decode cX9_init 252 = .ok (.invokevirtual 57, 3) := dk_182 0 57 (dk_at dksX9_init_10 18 rfl rfl)
theorem dX9_init_255 : decode cX9_init 255 = .ok (.aload_n 0, 1) := dk_42 (dk_at dksX9_init_10 21 rfl rfl)
theorem dX9_init_256 : decode cX9_init 256 = .ok (.getfield 7, 3) := dk_180 0 7 (dk_at dksX9_init_11 0 rfl rfl)
theorem dX9_init_259 : decode cX9_init 259 = .ok (.iconst 0, 1) := dk_3 (dk_at dksX9_init_11 3 rfl rfl)
theorem dX9_init_260 : decode cX9_init 260 = .ok (.iconst 3, 1) := dk_6 (dk_at dksX9_init_11 4 rfl rfl)
theorem dX9_init_261 : decode cX9_init 261 = .ok (.iastore, 1) := dk_79 (dk_at dksX9_init_11 5 rfl rfl)
theorem dX9_init_262 : decode cX9_init 262 = .ok (.aload_n 0, 1) := dk_42 (dk_at dksX9_init_11 6 rfl rfl)
theorem dX9_init_263 : decode cX9_init 263 = .ok (.getfield 7, 3) := dk_180 0 7 (dk_at dksX9_init_11 7 rfl rfl)
theorem dX9_init_266 : decode cX9_init 266 = .ok (.iconst 1, 1) := dk_4 (dk_at dksX9_init_11 10 rfl rfl)
theorem dX9_init_267 : decode cX9_init 267 = .ok (.iconst 3, 1) := dk_6 (dk_at dksX9_init_11 11 rfl rfl)
theorem dX9_init_268 : decode cX9_init 268 = .ok (.iastore, 1) := dk_79 (dk_at dksX9_init_11 12 rfl rfl)
theorem dX9_init_269 : decode cX9_init 269 = .ok (.aload_n 0, 1) := dk_42 (dk_at dksX9_init_11 13 rfl rfl)
theorem dX9_init_270 : decode cX9_init 270 = .ok (.getfield 7, 3) := dk_180 0 7 (dk_at dksX9_init_11 14 rfl rfl)
theorem dX9_init_273 : decode cX9_init 273 = .ok (.iconst 2, 1) := dk_5 (dk_at dksX9_init_11 17 rfl rfl)
theorem dX9_init_274 : decode cX9_init 274 = .ok (.iconst 2, 1) := dk_5 (dk_at dksX9_init_11 18 rfl rfl)
theorem dX9_init_275 : decode cX9_init 275 = .ok (.iastore, 1) := dk_79 (dk_at dksX9_init_11 19 rfl rfl)
theorem dX9_init_276 : decode cX9_init 276 = .ok (.aload_n 0, 1) := dk_42 (dk_at dksX9_init_11 20 rfl rfl)
theorem dX9_init_277 : decode cX9_init 277 = .ok (.getfield 7, 3) := dk_180 0 7 (dk_at dksX9_init_11 21 rfl rfl)
theorem dX9_init_280 : decode cX9_init 280 = .ok (.bipush 10, 2) := dk_16 10 (dk_at dksX9_init_12 0 rfl rfl)
theorem dX9_init_282 : decode cX9_init 282 = .ok (.iconst 3, 1) := dk_6 (dk_at dksX9_init_12 2 rfl rfl)
theorem dX9_init_283 : decode cX9_init 283 = .ok (.iastore, 1) := dk_79 (dk_at dksX9_init_12 3 rfl rfl)
theorem dX9_init_284 : decode cX9_init 284 = .ok (.aload_n 0, 1) := dk_42 (dk_at dksX9_init_12 4 rfl rfl)
theorem dX9_init_285 : decode cX9_init 285 = .ok (.iconst 0, 1) := dk_3 (dk_at dksX9_init_12 5 rfl rfl)
theorem dX9_init_286 : decode cX9_init 286 = .ok (.iconst 0, 1) := dk_3 (dk_at dksX9_init_12 6 rfl rfl)
theorem dX9_init_287 : decode cX9_init 287 = .ok (.iconst 1, 1) := dk_4 (dk_at dksX9_init_12 7 rfl rfl)
theorem dX9_init_288 : decode cX9_init 288 = .ok (.invokevirtual 61, 3) := dk_182 0 61 (dk_at dksX9_init_12 8 rfl rfl)
theorem dX9_init_291 : decode cX9_init 291 = .ok (.aload_n 0, 1) := dk_42 (dk_at dksX9_init_12 11 rfl rfl)
theorem dX9_init_292 : decode cX9_init 292 = .ok (.iconst 0, 1) := dk_3 (dk_at dksX9_init_12 12 rfl rfl)
theorem dX9_init_293 : decode cX9_init 293 = .ok (.iconst 0, 1) := dk_3 (dk_at dksX9_init_12 13 rfl rfl)
theorem dX9_init_294 : decode cX9_init 294 = .ok (.iconst 1, 1) := dk_4 (dk_at dksX9_init_12 14 rfl rfl)
theorem dX9_init_295 : decode cX9_init 295 = .ok (.invokevirtual 65, 3) := dk_182 0 65 (dk_at dksX9_init_12 15 rfl rfl)
theorem dX9_init_298 : decode cX9_init 298 = .ok (.aload_n 0, 1) := dk_42 (dk_at dksX9_init_12 18 rfl rfl)
theorem dX9_init_299 : decode cX9_init 299 = .ok (.iconst 1, 1) := dk_4 (dk_at dksX9_init_12 19 rfl rfl)
theorem dX9_init_300 : decode cX9_init 300 = .ok (.iconst 0, 1) := dk_3 (dk_at dksX9_init_12 20 rfl rfl)
theorem dX9_init_301 : decode cX9_init 301 = .ok (.iconst 2, 1) := dk_5 (dk_at dksX9_init_12 21 rfl rfl)
theorem dX9_init_302 : decode cX9_init 302 = .ok (.invokevirtual 61, 3) := dk_182 0 61 (dk_at dksX9_init_13 0 rfl rfl)
theorem dX9_init_305 : decode cX9_init 305 = .ok (.aload_n 0, 1) := dk_42 (dk_at dksX9_init_13 3 rfl rfl)
theorem dX9_init_306 : decode cX9_init 306 = .ok (.iconst 0, 1) := dk_3 (dk_at dksX9_init_13 4 rfl rfl)
theorem dX9_init_307 : decode cX9_init 307 = .ok (.iconst 5, 1) := dk_8 (dk_at dksX9_init_13 5 rfl rfl)
theorem dX9_init_308 : decode cX9_init 308 = .ok (.iconst 2, 1) := dk_5 (dk_at dksX9_init_13 6 rfl rfl)
theorem dX9_init_309 : decode cX9_init 309 = .ok (.invokevirtual 68, 3) := dk_182 0 68 (dk_at dksX9_init_13 7 rfl rfl)
theorem dX9_init_312 : decode cX9_init 312 = .ok (.aload_n 0, 1) := dk_42 (dk_at dksX9_init_13 10 rfl rfl)
theorem dX9_init_313 : decode cX9_init 313 = .ok (.iconst 0, 1) := dk_3 (dk_at dksX9_init_13 11 rfl rfl)
theorem dX9_init_314 : decode cX9_init 314 = .ok (.iconst 0, 1) := dk_3 (dk_at dksX9_init_13 12 rfl rfl)
theorem dX9_init_315 : decode cX9_init 315 = .ok (.iconst 1, 1) := dk_4 (dk_at dksX9_init_13 13 rfl rfl)
theorem dX9_init_316 : decode cX9_init 316 = .ok (.invokevirtual 65, 3) := dk_182 0 65 (dk_at dksX9_init_13 14 rfl rfl)
theorem dX9_init_319 : decode cX9_init 319 = .ok (.aload_n 0, 1) := dk_42 (dk_at dksX9_init_13 17 rfl rfl)
theorem dX9_init_320 : decode cX9_init 320 = .ok (.iconst 1, 1) := dk_4 (dk_at dksX9_init_13 18 rfl rfl)
theorem dX9_init_321 : decode cX9_init 321 = .ok (.iconst 0, 1) := dk_3 (dk_at dksX9_init_13 19 rfl rfl)
theorem dX9_init_322 : decode cX9_init 322 = .ok (.iconst 1, 1) := dk_4 (dk_at dksX9_init_13 20 rfl rfl)
theorem dX9_init_323 : decode cX9_init 323 = .ok (.invokevirtual 61, 3) := dk_182 0 61 (dk_at dksX9_init_13 21 rfl rfl)
theorem dX9_init_326 : decode cX9_init 326 = .ok (.aload_n 0, 1) := dk_42 (dk_at dksX9_init_14 0 rfl rfl)
theorem dX9_init_327 : decode cX9_init 327 = .ok (.iconst 0, 1) := dk_3 (dk_at dksX9_init_14 1 rfl rfl)
theorem dX9_init_328 : decode cX9_init 328 = .ok (.iconst 0, 1) := dk_3 (dk_at dksX9_init_14 2 rfl rfl)
theorem dX9_init_329 : decode cX9_init 329 = .ok (.iconst 1, 1) := dk_4 (dk_at dksX9_init_14 3 rfl rfl)
theorem dX9_init_330 : decode cX9_init 330 = .ok (.invokevirtual 65, 3) := dk_182 0 65 (dk_at dksX9_init_14 4 rfl rfl)
theorem dX9_init_333 : decode cX9_init 333 = .ok (.aload_n 0, 1) := dk_42 (dk_at dksX9_init_14 7 rfl rfl)
theorem dX9_init_334 : decode cX9_init 334 = .ok (.iconst 1, 1) := dk_4 (dk_at dksX9_init_14 8 rfl rfl)
theorem dX9_init_335 : decode cX9_init 335 = .ok (.iconst 1, 1) := dk_4 (dk_at dksX9_init_14 9 rfl rfl)
theorem dX9_init_336 : decode cX9_init 336 = .ok (.iconst 0, 1) := dk_3 (dk_at dksX9_init_14 10 rfl rfl)
theorem dX9_init_337 : decode cX9_init 337 = .ok (.invokevirtual 61, 3) := dk_182 0 61 (dk_at dksX9_init_14 11 rfl rfl)
theorem dX9_init_340 : decode cX9_init 340 = .ok (.aload_n 0, 1) := dk_42 (dk_at dksX9_init_14 14 rfl rfl)
theorem dX9_init_341 : decode cX9_init 341 = .ok (.iconst 0, 1) := dk_3 (dk_at dksX9_init_14 15 rfl rfl)
theorem dX9_init_342 : decode cX9_init 342 = .ok (.iconst 4, 1) := dk_7 (dk_at dksX9_init_14 16 rfl rfl)
theorem dX9_init_343 : decode cX9_init 343 = .ok (.iconst 2, 1) := dk_5 (dk_at dksX9_init_14 17 rfl rfl)
theorem dX9_init_344 : decode cX9_init 344 = .ok (.invokevirtual 68, 3) := dk_182 0 68 (dk_at dksX9_init_14 18 rfl rfl)
theorem dX9_init_347 : decode cX9_init 347 = .ok (.aload_n 0, 1) := dk_42 (dk_at dksX9_init_14 21 rfl rfl)
theorem dX9_init_348 : decode cX9_init 348 = .ok (.iconst 1, 1) := dk_4 (dk_at dksX9_init_14 22 rfl rfl)
theorem dX9_init_349 : decode cX9_init 349 = .ok (.iconst 1, 1) := dk_4 (dk_at dksX9_init_14 23 rfl rfl)
theorem dX9_init_350 : decode cX9_init 350 = .ok (.iconst 1, 1) := dk_4 (dk_at dksX9_init_15 0 rfl rfl)
theorem dX9_init_351 : decode cX9_init 351 = .ok (.invokevirtual 65, 3) := dk_182 0 65 (dk_at dksX9_init_15 1 rfl rfl)
theorem dX9_init_354 : decode cX9_init 354 = .ok (.aload_n 0, 1) := dk_42 (dk_at dksX9_init_15 4 rfl rfl)
theorem dX9_init_355 : decode cX9_init 355 = .ok (.iconst 2, 1) := dk_5 (dk_at dksX9_init_15 5 rfl rfl)
theorem dX9_init_356 : decode cX9_init 356 = .ok (.iconst 1, 1) := dk_4 (dk_at dksX9_init_15 6 rfl rfl)
theorem dX9_init_357 : decode cX9_init 357 = .ok (.iconst 0, 1) := dk_3 (dk_at dksX9_init_15 7 rfl rfl)
theorem dX9_init_358 : decode cX9_init 358 = .ok (.invokevirtual 61, 3) := dk_182 0 61 (dk_at dksX9_init_15 8 rfl rfl)
theorem dX9_init_361 : decode cX9_init 361 = .ok (.aload_n 0, 1) := dk_42 (dk_at dksX9_init_15 11 rfl rfl)
theorem dX9_init_362 : decode cX9_init 362 = .ok (.iconst 0, 1) := dk_3 (dk_at dksX9_init_15 12 rfl rfl)
theorem dX9_init_363 : decode cX9_init 363 = .ok (.iconst 2, 1) := dk_5 (dk_at dksX9_init_15 13 rfl rfl)
theorem dX9_init_364 : decode cX9_init 364 = .ok (.iconst 0, 1) := dk_3 (dk_at dksX9_init_15 14 rfl rfl)
theorem dX9_init_365 : decode cX9_init 365 = .ok (.invokevirtual 65, 3) := dk_182 0 65 (dk_at dksX9_init_15 15 rfl rfl)
theorem dX9_init_368 : decode cX9_init 368 = .ok (.aload_n 0, 1) := dk_42 (dk_at dksX9_init_15 18 rfl rfl)
theorem dX9_init_369 : decode cX9_init 369 = .ok (.iconst 0, 1) := dk_3 (dk_at dksX9_init_15 19 rfl rfl)
theorem dX9_init_370 : decode cX9_init 370 = .ok (.iconst 2, 1) := dk_5 (dk_at dksX9_init_15 20 rfl rfl)
theorem dX9_init_371 : decode cX9_init 371 = .ok (.iconst 0, 1) := dk_3 (dk_at dksX9_init_15 21 rfl rfl)
theorem dX9_init_372 : decode cX9_init 372 = .ok (.invokevirtual 61, 3) := dk_182 0 61 (dk_at dksX9_init_16 0 rfl rfl)
theorem dX9_init_375 : decode cX9_init 375 = .ok (.aload_n 0, 1) := dk_42 (dk_at dksX9_init_16 3 rfl rfl)
theorem dX9_init_376 : decode cX9_init 376 = .ok (.iconst 0, 1) := dk_3 (dk_at dksX9_init_16 4 rfl rfl)
theorem dX9_init_377 : decode cX9_init 377 = .ok (.iconst 1, 1) := dk_4 (dk_at dksX9_init_16 5 rfl rfl)
theorem dX9_init_378 : decode cX9_init 378 = .ok (.iconst 1, 1) := dk_4 (dk_at dksX9_init_16 6 rfl rfl)
theorem dX9_init_379 : decode cX9_init 379 = .ok (.invokevirtual 65, 3) := dk_182 0 65 (dk_at dksX9_init_16 7 rfl rfl)
theorem dX9_init_382 : decode cX9_init 382 = .ok (.aload_n 0, 1) := dk_42 (dk_at dksX9_init_16 10 rfl rfl)
theorem dX9_init_383 : decode cX9_init 383 = .ok (.iconst (-1), 1) := dk_2 (dk_at dksX9_init_16 11 rfl rfl)
theorem dX9_init_384 : decode cX9_init 384 = .ok (.iconst 0, 1) := dk_3 (dk_at dksX9_init_16 12 rfl rfl)
theorem dX9_init_385 : decode cX9_init 385 = .ok (.iconst 1, 1) := dk_4 (dk_at dksX9_init_16 13 rfl rfl)
theorem dX9_init_386 : decode cX9_init 386 = .ok (.iconst 5, 1) := dk_8 (dk_at dksX9_init_16 14 rfl rfl)
theorem dX9_init_387 : decode cX9_init 387 = .ok (.invokevirtual 71, 3) := dk_182 0 71 (dk_at dksX9_init_16 15 rfl rfl)
theorem dX9_init_390 : decode cX9_init 390 = .ok (.pop, 1) := dk_87 (dk_at dksX9_init_16 18 rfl rfl)
theorem dX9_init_391 : decode cX9_init 391 = .ok (.aload_n 0, 1) := dk_42 (dk_at dksX9_init_16 19 rfl rfl)
theorem dX9_init_392 : decode cX9_init 392 = .ok (.iconst 0, 1) := dk_3 (dk_at dksX9_init_16 20 rfl rfl)
theorem dX9_init_393 : decode cX9_init 393 = .ok (.iconst 1, 1) := dk_4 (dk_at dksX9_init_16 21 rfl rfl)
theorem dX9_init_394 : decode cX9_init 394 = .ok (.iconst 4, 1) := dk_7 (dk_at dksX9_init_16 22 rfl rfl)
theorem dX9_init_395 : decode cX9_init 395 = .ok (.iconst 1, 1) := dk_4 (dk_at dksX9_init_16 23 rfl rfl)
theorem dX9_init_396 : decode cX9_init 396 = .ok (.invokevirtual 71, 3) := dk_182 0 71 (dk_at dksX9_init_17 0 rfl rfl)
theorem dX9_init_399 : decode cX9_init 399 = .ok (.pop, 1) := dk_87 (dk_at dksX9_init_17 3 rfl rfl)
theorem dX9_init_400 : decode cX9_init 400 = .ok (.aload_n 0, 1) := dk_42 (dk_at dksX9_init_17 4 rfl rfl)
theorem dX9_init_401 : decode cX9_init 401 = .ok (.invokevirtual 75, 3) := dk_182 0 75 (dk_at dksX9_init_17 5 rfl rfl)
theorem dX9_init_404 : decode cX9_init 404 = .ok (.return_, 1) := dk_177 (dk_at dksX9_init_17 8 rfl rfl)
abbrev cX9_begins : ByteArray := prog_41_method_7_code
def yX9_begins : MethodName := ⟨RX9, "begins", "()V"⟩
def dkwX9_begins_0 : List UInt8 := [3, 60, 27, 17, 1, 248, 162, 0, 16, 42, 180, 0, 7, 27, 3, 79, 132, 1, 1, 167, 255, 239, 177]
abbrev dktX9_begins_0 : List UInt8 := dkwX9_begins_0 ++ []
theorem dksX9_begins_0 : cX9_begins.data.toList.drop 0 = dktX9_begins_0 := by decide +kernel
theorem dX9_begins_0 : decode cX9_begins 0 = .ok (.iconst 0, 1) := dk_3 (dk_at dksX9_begins_0 0 rfl rfl)
theorem dX9_begins_1 : decode cX9_begins 1 = .ok (.istore_n 1, 1) := dk_60 (dk_at dksX9_begins_0 1 rfl rfl)
theorem dX9_begins_2 : decode cX9_begins 2 = .ok (.iload_n 1, 1) := dk_27 (dk_at dksX9_begins_0 2 rfl rfl)
theorem dX9_begins_3 : decode cX9_begins 3 = .ok (.sipush 504, 3) := dk_17 1 248 (dk_at dksX9_begins_0 3 rfl rfl)
theorem dX9_begins_6 : decode cX9_begins 6 = .ok (.if_icmp .ge 16, 3) := dk_162 0 16 (dk_at dksX9_begins_0 6 rfl rfl)
theorem dX9_begins_9 : decode cX9_begins 9 = .ok (.aload_n 0, 1) := dk_42 (dk_at dksX9_begins_0 9 rfl rfl)
theorem dX9_begins_10 : decode cX9_begins 10 = .ok (.getfield 7, 3) := dk_180 0 7 (dk_at dksX9_begins_0 10 rfl rfl)
theorem dX9_begins_13 : decode cX9_begins 13 = .ok (.iload_n 1, 1) := dk_27 (dk_at dksX9_begins_0 13 rfl rfl)
theorem dX9_begins_14 : decode cX9_begins 14 = .ok (.iconst 0, 1) := dk_3 (dk_at dksX9_begins_0 14 rfl rfl)
theorem dX9_begins_15 : decode cX9_begins 15 = .ok (.iastore, 1) := dk_79 (dk_at dksX9_begins_0 15 rfl rfl)
theorem dX9_begins_16 : decode cX9_begins 16 = .ok (.iinc 1 1, 3) := dk_132 1 1 (dk_at dksX9_begins_0 16 rfl rfl)
theorem dX9_begins_19 : decode cX9_begins 19 = .ok (.goto (-17), 3) := dk_167 255 239 (dk_at dksX9_begins_0 19 rfl rfl)
theorem dX9_begins_22 : decode cX9_begins 22 = .ok (.return_, 1) := dk_177 (dk_at dksX9_begins_0 22 rfl rfl)
abbrev cX9_names : ByteArray := prog_41_method_8_code
def yX9_names : MethodName := ⟨RX9, "names", "(IIIIII)V"⟩
def dkwX9_names_2 : List UInt8 := [27, 7, 96, 21, 5, 79, 42, 180, 0, 7, 27, 8, 96, 21, 6, 79, 177]
abbrev dktX9_names_2 : List UInt8 := dkwX9_names_2 ++ []
def dkwX9_names_1 : List UInt8 := [79, 42, 180, 0, 7, 27, 5, 96, 29, 79, 42, 180, 0, 7, 27, 6, 96, 21, 4, 79, 42, 180, 0, 7]
abbrev dktX9_names_1 : List UInt8 := dkwX9_names_1 ++ dktX9_names_2
def dkwX9_names_0 : List UInt8 := [42, 180, 0, 7, 27, 21, 6, 154, 0, 7, 7, 167, 0, 4, 8, 79, 42, 180, 0, 7, 27, 4, 96, 28]
abbrev dktX9_names_0 : List UInt8 := dkwX9_names_0 ++ dktX9_names_1
theorem dksX9_names_0 : cX9_names.data.toList.drop 0 = dktX9_names_0 := by decide +kernel
theorem dksX9_names_1 : cX9_names.data.toList.drop 24 = dktX9_names_1 := dk_seg dksX9_names_0 24 rfl rfl
theorem dksX9_names_2 : cX9_names.data.toList.drop 48 = dktX9_names_2 := dk_seg dksX9_names_1 24 rfl rfl
theorem dX9_names_0 : decode cX9_names 0 = .ok (.aload_n 0, 1) := dk_42 (dk_at dksX9_names_0 0 rfl rfl)
theorem dX9_names_1 : decode cX9_names 1 = .ok (.getfield 7, 3) := dk_180 0 7 (dk_at dksX9_names_0 1 rfl rfl)
theorem dX9_names_4 : decode cX9_names 4 = .ok (.iload_n 1, 1) := dk_27 (dk_at dksX9_names_0 4 rfl rfl)
theorem dX9_names_5 : decode cX9_names 5 = .ok (.iload 6, 2) := dk_21 6 (dk_at dksX9_names_0 5 rfl rfl)
theorem dX9_names_7 : decode cX9_names 7 = .ok (.ifCond .ne 7, 3) := dk_154 0 7 (dk_at dksX9_names_0 7 rfl rfl)
theorem dX9_names_10 : decode cX9_names 10 = .ok (.iconst 4, 1) := dk_7 (dk_at dksX9_names_0 10 rfl rfl)
theorem dX9_names_11 : decode cX9_names 11 = .ok (.goto 4, 3) := dk_167 0 4 (dk_at dksX9_names_0 11 rfl rfl)
theorem dX9_names_14 : decode cX9_names 14 = .ok (.iconst 5, 1) := dk_8 (dk_at dksX9_names_0 14 rfl rfl)
theorem dX9_names_15 : decode cX9_names 15 = .ok (.iastore, 1) := dk_79 (dk_at dksX9_names_0 15 rfl rfl)
theorem dX9_names_16 : decode cX9_names 16 = .ok (.aload_n 0, 1) := dk_42 (dk_at dksX9_names_0 16 rfl rfl)
theorem dX9_names_17 : decode cX9_names 17 = .ok (.getfield 7, 3) := dk_180 0 7 (dk_at dksX9_names_0 17 rfl rfl)
theorem dX9_names_20 : decode cX9_names 20 = .ok (.iload_n 1, 1) := dk_27 (dk_at dksX9_names_0 20 rfl rfl)
theorem dX9_names_21 : decode cX9_names 21 = .ok (.iconst 1, 1) := dk_4 (dk_at dksX9_names_0 21 rfl rfl)
theorem dX9_names_22 : decode cX9_names 22 = .ok (.iadd, 1) := dk_96 (dk_at dksX9_names_0 22 rfl rfl)
theorem dX9_names_23 : decode cX9_names 23 = .ok (.iload_n 2, 1) := dk_28 (dk_at dksX9_names_0 23 rfl rfl)
theorem dX9_names_24 : decode cX9_names 24 = .ok (.iastore, 1) := dk_79 (dk_at dksX9_names_1 0 rfl rfl)
theorem dX9_names_25 : decode cX9_names 25 = .ok (.aload_n 0, 1) := dk_42 (dk_at dksX9_names_1 1 rfl rfl)
theorem dX9_names_26 : decode cX9_names 26 = .ok (.getfield 7, 3) := dk_180 0 7 (dk_at dksX9_names_1 2 rfl rfl)
theorem dX9_names_29 : decode cX9_names 29 = .ok (.iload_n 1, 1) := dk_27 (dk_at dksX9_names_1 5 rfl rfl)
theorem dX9_names_30 : decode cX9_names 30 = .ok (.iconst 2, 1) := dk_5 (dk_at dksX9_names_1 6 rfl rfl)
theorem dX9_names_31 : decode cX9_names 31 = .ok (.iadd, 1) := dk_96 (dk_at dksX9_names_1 7 rfl rfl)
theorem dX9_names_32 : decode cX9_names 32 = .ok (.iload_n 3, 1) := dk_29 (dk_at dksX9_names_1 8 rfl rfl)
theorem dX9_names_33 : decode cX9_names 33 = .ok (.iastore, 1) := dk_79 (dk_at dksX9_names_1 9 rfl rfl)
theorem dX9_names_34 : decode cX9_names 34 = .ok (.aload_n 0, 1) := dk_42 (dk_at dksX9_names_1 10 rfl rfl)
theorem dX9_names_35 : decode cX9_names 35 = .ok (.getfield 7, 3) := dk_180 0 7 (dk_at dksX9_names_1 11 rfl rfl)
theorem dX9_names_38 : decode cX9_names 38 = .ok (.iload_n 1, 1) := dk_27 (dk_at dksX9_names_1 14 rfl rfl)
theorem dX9_names_39 : decode cX9_names 39 = .ok (.iconst 3, 1) := dk_6 (dk_at dksX9_names_1 15 rfl rfl)
theorem dX9_names_40 : decode cX9_names 40 = .ok (.iadd, 1) := dk_96 (dk_at dksX9_names_1 16 rfl rfl)
theorem dX9_names_41 : decode cX9_names 41 = .ok (.iload 4, 2) := dk_21 4 (dk_at dksX9_names_1 17 rfl rfl)
theorem dX9_names_43 : decode cX9_names 43 = .ok (.iastore, 1) := dk_79 (dk_at dksX9_names_1 19 rfl rfl)
theorem dX9_names_44 : decode cX9_names 44 = .ok (.aload_n 0, 1) := dk_42 (dk_at dksX9_names_1 20 rfl rfl)
theorem dX9_names_45 : decode cX9_names 45 = .ok (.getfield 7, 3) := dk_180 0 7 (dk_at dksX9_names_1 21 rfl rfl)
theorem dX9_names_48 : decode cX9_names 48 = .ok (.iload_n 1, 1) := dk_27 (dk_at dksX9_names_2 0 rfl rfl)
theorem dX9_names_49 : decode cX9_names 49 = .ok (.iconst 4, 1) := dk_7 (dk_at dksX9_names_2 1 rfl rfl)
theorem dX9_names_50 : decode cX9_names 50 = .ok (.iadd, 1) := dk_96 (dk_at dksX9_names_2 2 rfl rfl)
theorem dX9_names_51 : decode cX9_names 51 = .ok (.iload 5, 2) := dk_21 5 (dk_at dksX9_names_2 3 rfl rfl)
theorem dX9_names_53 : decode cX9_names 53 = .ok (.iastore, 1) := dk_79 (dk_at dksX9_names_2 5 rfl rfl)
theorem dX9_names_54 : decode cX9_names 54 = .ok (.aload_n 0, 1) := dk_42 (dk_at dksX9_names_2 6 rfl rfl)
theorem dX9_names_55 : decode cX9_names 55 = .ok (.getfield 7, 3) := dk_180 0 7 (dk_at dksX9_names_2 7 rfl rfl)
theorem dX9_names_58 : decode cX9_names 58 = .ok (.iload_n 1, 1) := dk_27 (dk_at dksX9_names_2 10 rfl rfl)
theorem dX9_names_59 : decode cX9_names 59 = .ok (.iconst 5, 1) := dk_8 (dk_at dksX9_names_2 11 rfl rfl)
theorem dX9_names_60 : decode cX9_names 60 = .ok (.iadd, 1) := dk_96 (dk_at dksX9_names_2 12 rfl rfl)
theorem dX9_names_61 : decode cX9_names 61 = .ok (.iload 6, 2) := dk_21 6 (dk_at dksX9_names_2 13 rfl rfl)
theorem dX9_names_63 : decode cX9_names 63 = .ok (.iastore, 1) := dk_79 (dk_at dksX9_names_2 15 rfl rfl)
theorem dX9_names_64 : decode cX9_names 64 = .ok (.return_, 1) := dk_177 (dk_at dksX9_names_2 16 rfl rfl)
abbrev cX9_leads : ByteArray := prog_41_method_11_code
def yX9_leads : MethodName := ⟨RX9, "leads", "(III)V"⟩
def dkwX9_leads_3 : List UInt8 := [4, 96, 79, 177]
abbrev dktX9_leads_3 : List UInt8 := dkwX9_leads_3 ++ []
def dkwX9_leads_2 : List UInt8 := [21, 4, 6, 96, 2, 79, 42, 180, 0, 7, 21, 4, 16, 6, 96, 2, 79, 42, 180, 0, 7, 6, 92, 46]
abbrev dktX9_leads_2 : List UInt8 := dkwX9_leads_2 ++ dktX9_leads_3
def dkwX9_leads_1 : List UInt8 := [42, 180, 0, 7, 21, 4, 4, 96, 28, 79, 42, 180, 0, 7, 21, 4, 5, 96, 29, 79, 42, 180, 0, 7]
abbrev dktX9_leads_1 : List UInt8 := dkwX9_leads_1 ++ dktX9_leads_2
def dkwX9_leads_0 : List UInt8 := [16, 93, 16, 9, 42, 180, 0, 7, 6, 46, 104, 96, 54, 4, 42, 180, 0, 7, 21, 4, 3, 96, 27, 79]
abbrev dktX9_leads_0 : List UInt8 := dkwX9_leads_0 ++ dktX9_leads_1
theorem dksX9_leads_0 : cX9_leads.data.toList.drop 0 = dktX9_leads_0 := by decide +kernel
theorem dksX9_leads_1 : cX9_leads.data.toList.drop 24 = dktX9_leads_1 := dk_seg dksX9_leads_0 24 rfl rfl
theorem dksX9_leads_2 : cX9_leads.data.toList.drop 48 = dktX9_leads_2 := dk_seg dksX9_leads_1 24 rfl rfl
theorem dksX9_leads_3 : cX9_leads.data.toList.drop 72 = dktX9_leads_3 := dk_seg dksX9_leads_2 24 rfl rfl
theorem dX9_leads_0 : decode cX9_leads 0 = .ok (.bipush 93, 2) := dk_16 93 (dk_at dksX9_leads_0 0 rfl rfl)
theorem dX9_leads_2 : decode cX9_leads 2 = .ok (.bipush 9, 2) := dk_16 9 (dk_at dksX9_leads_0 2 rfl rfl)
theorem dX9_leads_4 : decode cX9_leads 4 = .ok (.aload_n 0, 1) := dk_42 (dk_at dksX9_leads_0 4 rfl rfl)
theorem dX9_leads_5 : decode cX9_leads 5 = .ok (.getfield 7, 3) := dk_180 0 7 (dk_at dksX9_leads_0 5 rfl rfl)
theorem dX9_leads_8 : decode cX9_leads 8 = .ok (.iconst 3, 1) := dk_6 (dk_at dksX9_leads_0 8 rfl rfl)
theorem dX9_leads_9 : decode cX9_leads 9 = .ok (.iaload, 1) := dk_46 (dk_at dksX9_leads_0 9 rfl rfl)
theorem dX9_leads_10 : decode cX9_leads 10 = .ok (.imul, 1) := dk_104 (dk_at dksX9_leads_0 10 rfl rfl)
theorem dX9_leads_11 : decode cX9_leads 11 = .ok (.iadd, 1) := dk_96 (dk_at dksX9_leads_0 11 rfl rfl)
theorem dX9_leads_12 : decode cX9_leads 12 = .ok (.istore 4, 2) := dk_54 4 (dk_at dksX9_leads_0 12 rfl rfl)
theorem dX9_leads_14 : decode cX9_leads 14 = .ok (.aload_n 0, 1) := dk_42 (dk_at dksX9_leads_0 14 rfl rfl)
theorem dX9_leads_15 : decode cX9_leads 15 = .ok (.getfield 7, 3) := dk_180 0 7 (dk_at dksX9_leads_0 15 rfl rfl)
theorem dX9_leads_18 : decode cX9_leads 18 = .ok (.iload 4, 2) := dk_21 4 (dk_at dksX9_leads_0 18 rfl rfl)
theorem dX9_leads_20 : decode cX9_leads 20 = .ok (.iconst 0, 1) := dk_3 (dk_at dksX9_leads_0 20 rfl rfl)
theorem dX9_leads_21 : decode cX9_leads 21 = .ok (.iadd, 1) := dk_96 (dk_at dksX9_leads_0 21 rfl rfl)
theorem dX9_leads_22 : decode cX9_leads 22 = .ok (.iload_n 1, 1) := dk_27 (dk_at dksX9_leads_0 22 rfl rfl)
theorem dX9_leads_23 : decode cX9_leads 23 = .ok (.iastore, 1) := dk_79 (dk_at dksX9_leads_0 23 rfl rfl)
theorem dX9_leads_24 : decode cX9_leads 24 = .ok (.aload_n 0, 1) := dk_42 (dk_at dksX9_leads_1 0 rfl rfl)
theorem dX9_leads_25 : decode cX9_leads 25 = .ok (.getfield 7, 3) := dk_180 0 7 (dk_at dksX9_leads_1 1 rfl rfl)
theorem dX9_leads_28 : decode cX9_leads 28 = .ok (.iload 4, 2) := dk_21 4 (dk_at dksX9_leads_1 4 rfl rfl)
theorem dX9_leads_30 : decode cX9_leads 30 = .ok (.iconst 1, 1) := dk_4 (dk_at dksX9_leads_1 6 rfl rfl)
theorem dX9_leads_31 : decode cX9_leads 31 = .ok (.iadd, 1) := dk_96 (dk_at dksX9_leads_1 7 rfl rfl)
theorem dX9_leads_32 : decode cX9_leads 32 = .ok (.iload_n 2, 1) := dk_28 (dk_at dksX9_leads_1 8 rfl rfl)
theorem dX9_leads_33 : decode cX9_leads 33 = .ok (.iastore, 1) := dk_79 (dk_at dksX9_leads_1 9 rfl rfl)
theorem dX9_leads_34 : decode cX9_leads 34 = .ok (.aload_n 0, 1) := dk_42 (dk_at dksX9_leads_1 10 rfl rfl)
theorem dX9_leads_35 : decode cX9_leads 35 = .ok (.getfield 7, 3) := dk_180 0 7 (dk_at dksX9_leads_1 11 rfl rfl)
theorem dX9_leads_38 : decode cX9_leads 38 = .ok (.iload 4, 2) := dk_21 4 (dk_at dksX9_leads_1 14 rfl rfl)
theorem dX9_leads_40 : decode cX9_leads 40 = .ok (.iconst 2, 1) := dk_5 (dk_at dksX9_leads_1 16 rfl rfl)
theorem dX9_leads_41 : decode cX9_leads 41 = .ok (.iadd, 1) := dk_96 (dk_at dksX9_leads_1 17 rfl rfl)
theorem dX9_leads_42 : decode cX9_leads 42 = .ok (.iload_n 3, 1) := dk_29 (dk_at dksX9_leads_1 18 rfl rfl)
theorem dX9_leads_43 : decode cX9_leads 43 = .ok (.iastore, 1) := dk_79 (dk_at dksX9_leads_1 19 rfl rfl)
theorem dX9_leads_44 : decode cX9_leads 44 = .ok (.aload_n 0, 1) := dk_42 (dk_at dksX9_leads_1 20 rfl rfl)
theorem dX9_leads_45 : decode cX9_leads 45 = .ok (.getfield 7, 3) := dk_180 0 7 (dk_at dksX9_leads_1 21 rfl rfl)
theorem dX9_leads_48 : decode cX9_leads 48 = .ok (.iload 4, 2) := dk_21 4 (dk_at dksX9_leads_2 0 rfl rfl)
theorem dX9_leads_50 : decode cX9_leads 50 = .ok (.iconst 3, 1) := dk_6 (dk_at dksX9_leads_2 2 rfl rfl)
theorem dX9_leads_51 : decode cX9_leads 51 = .ok (.iadd, 1) := dk_96 (dk_at dksX9_leads_2 3 rfl rfl)
theorem dX9_leads_52 : decode cX9_leads 52 = .ok (.iconst (-1), 1) := dk_2 (dk_at dksX9_leads_2 4 rfl rfl)
theorem dX9_leads_53 : decode cX9_leads 53 = .ok (.iastore, 1) := dk_79 (dk_at dksX9_leads_2 5 rfl rfl)
theorem dX9_leads_54 : decode cX9_leads 54 = .ok (.aload_n 0, 1) := dk_42 (dk_at dksX9_leads_2 6 rfl rfl)
theorem dX9_leads_55 : decode cX9_leads 55 = .ok (.getfield 7, 3) := dk_180 0 7 (dk_at dksX9_leads_2 7 rfl rfl)
theorem dX9_leads_58 : decode cX9_leads 58 = .ok (.iload 4, 2) := dk_21 4 (dk_at dksX9_leads_2 10 rfl rfl)
theorem dX9_leads_60 : decode cX9_leads 60 = .ok (.bipush 6, 2) := dk_16 6 (dk_at dksX9_leads_2 12 rfl rfl)
theorem dX9_leads_62 : decode cX9_leads 62 = .ok (.iadd, 1) := dk_96 (dk_at dksX9_leads_2 14 rfl rfl)
theorem dX9_leads_63 : decode cX9_leads 63 = .ok (.iconst (-1), 1) := dk_2 (dk_at dksX9_leads_2 15 rfl rfl)
theorem dX9_leads_64 : decode cX9_leads 64 = .ok (.iastore, 1) := dk_79 (dk_at dksX9_leads_2 16 rfl rfl)
theorem dX9_leads_65 : decode cX9_leads 65 = .ok (.aload_n 0, 1) := dk_42 (dk_at dksX9_leads_2 17 rfl rfl)
theorem dX9_leads_66 : decode cX9_leads 66 = .ok (.getfield 7, 3) := dk_180 0 7 (dk_at dksX9_leads_2 18 rfl rfl)
theorem dX9_leads_69 : decode cX9_leads 69 = .ok (.iconst 3, 1) := dk_6 (dk_at dksX9_leads_2 21 rfl rfl)
theorem dX9_leads_70 : decode cX9_leads 70 = .ok (.dup2, 1) := dk_92 (dk_at dksX9_leads_2 22 rfl rfl)
theorem dX9_leads_71 : decode cX9_leads 71 = .ok (.iaload, 1) := dk_46 (dk_at dksX9_leads_2 23 rfl rfl)
theorem dX9_leads_72 : decode cX9_leads 72 = .ok (.iconst 1, 1) := dk_4 (dk_at dksX9_leads_3 0 rfl rfl)
theorem dX9_leads_73 : decode cX9_leads 73 = .ok (.iadd, 1) := dk_96 (dk_at dksX9_leads_3 1 rfl rfl)
theorem dX9_leads_74 : decode cX9_leads 74 = .ok (.iastore, 1) := dk_79 (dk_at dksX9_leads_3 2 rfl rfl)
theorem dX9_leads_75 : decode cX9_leads 75 = .ok (.return_, 1) := dk_177 (dk_at dksX9_leads_3 3 rfl rfl)
abbrev cX9_acts : ByteArray := prog_41_method_13_code
def yX9_acts : MethodName := ⟨RX9, "acts", "(III)V"⟩
def dkwX9_acts_2 : List UInt8 := [79, 177]
abbrev dktX9_acts_2 : List UInt8 := dkwX9_acts_2 ++ []
def dkwX9_acts_1 : List UInt8 := [96, 27, 79, 42, 180, 0, 7, 21, 4, 16, 7, 96, 28, 79, 42, 180, 0, 7, 21, 4, 16, 8, 96, 29]
abbrev dktX9_acts_1 : List UInt8 := dkwX9_acts_1 ++ dktX9_acts_2
def dkwX9_acts_0 : List UInt8 := [16, 93, 16, 9, 42, 180, 0, 7, 6, 46, 4, 100, 104, 96, 54, 4, 42, 180, 0, 7, 21, 4, 16, 6]
abbrev dktX9_acts_0 : List UInt8 := dkwX9_acts_0 ++ dktX9_acts_1
theorem dksX9_acts_0 : cX9_acts.data.toList.drop 0 = dktX9_acts_0 := by decide +kernel
theorem dksX9_acts_1 : cX9_acts.data.toList.drop 24 = dktX9_acts_1 := dk_seg dksX9_acts_0 24 rfl rfl
theorem dksX9_acts_2 : cX9_acts.data.toList.drop 48 = dktX9_acts_2 := dk_seg dksX9_acts_1 24 rfl rfl
theorem dX9_acts_0 : decode cX9_acts 0 = .ok (.bipush 93, 2) := dk_16 93 (dk_at dksX9_acts_0 0 rfl rfl)
theorem dX9_acts_2 : decode cX9_acts 2 = .ok (.bipush 9, 2) := dk_16 9 (dk_at dksX9_acts_0 2 rfl rfl)
theorem dX9_acts_4 : decode cX9_acts 4 = .ok (.aload_n 0, 1) := dk_42 (dk_at dksX9_acts_0 4 rfl rfl)
theorem dX9_acts_5 : decode cX9_acts 5 = .ok (.getfield 7, 3) := dk_180 0 7 (dk_at dksX9_acts_0 5 rfl rfl)
theorem dX9_acts_8 : decode cX9_acts 8 = .ok (.iconst 3, 1) := dk_6 (dk_at dksX9_acts_0 8 rfl rfl)
theorem dX9_acts_9 : decode cX9_acts 9 = .ok (.iaload, 1) := dk_46 (dk_at dksX9_acts_0 9 rfl rfl)
theorem dX9_acts_10 : decode cX9_acts 10 = .ok (.iconst 1, 1) := dk_4 (dk_at dksX9_acts_0 10 rfl rfl)
theorem dX9_acts_11 : decode cX9_acts 11 = .ok (.isub, 1) := dk_100 (dk_at dksX9_acts_0 11 rfl rfl)
theorem dX9_acts_12 : decode cX9_acts 12 = .ok (.imul, 1) := dk_104 (dk_at dksX9_acts_0 12 rfl rfl)
theorem dX9_acts_13 : decode cX9_acts 13 = .ok (.iadd, 1) := dk_96 (dk_at dksX9_acts_0 13 rfl rfl)
theorem dX9_acts_14 : decode cX9_acts 14 = .ok (.istore 4, 2) := dk_54 4 (dk_at dksX9_acts_0 14 rfl rfl)
theorem dX9_acts_16 : decode cX9_acts 16 = .ok (.aload_n 0, 1) := dk_42 (dk_at dksX9_acts_0 16 rfl rfl)
theorem dX9_acts_17 : decode cX9_acts 17 = .ok (.getfield 7, 3) := dk_180 0 7 (dk_at dksX9_acts_0 17 rfl rfl)
theorem dX9_acts_20 : decode cX9_acts 20 = .ok (.iload 4, 2) := dk_21 4 (dk_at dksX9_acts_0 20 rfl rfl)
theorem dX9_acts_22 : decode cX9_acts 22 = .ok (.bipush 6, 2) := dk_16 6 (dk_at dksX9_acts_0 22 rfl rfl)
theorem dX9_acts_24 : decode cX9_acts 24 = .ok (.iadd, 1) := dk_96 (dk_at dksX9_acts_1 0 rfl rfl)
theorem dX9_acts_25 : decode cX9_acts 25 = .ok (.iload_n 1, 1) := dk_27 (dk_at dksX9_acts_1 1 rfl rfl)
theorem dX9_acts_26 : decode cX9_acts 26 = .ok (.iastore, 1) := dk_79 (dk_at dksX9_acts_1 2 rfl rfl)
theorem dX9_acts_27 : decode cX9_acts 27 = .ok (.aload_n 0, 1) := dk_42 (dk_at dksX9_acts_1 3 rfl rfl)
theorem dX9_acts_28 : decode cX9_acts 28 = .ok (.getfield 7, 3) := dk_180 0 7 (dk_at dksX9_acts_1 4 rfl rfl)
theorem dX9_acts_31 : decode cX9_acts 31 = .ok (.iload 4, 2) := dk_21 4 (dk_at dksX9_acts_1 7 rfl rfl)
theorem dX9_acts_33 : decode cX9_acts 33 = .ok (.bipush 7, 2) := dk_16 7 (dk_at dksX9_acts_1 9 rfl rfl)
theorem dX9_acts_35 : decode cX9_acts 35 = .ok (.iadd, 1) := dk_96 (dk_at dksX9_acts_1 11 rfl rfl)
theorem dX9_acts_36 : decode cX9_acts 36 = .ok (.iload_n 2, 1) := dk_28 (dk_at dksX9_acts_1 12 rfl rfl)
theorem dX9_acts_37 : decode cX9_acts 37 = .ok (.iastore, 1) := dk_79 (dk_at dksX9_acts_1 13 rfl rfl)
theorem dX9_acts_38 : decode cX9_acts 38 = .ok (.aload_n 0, 1) := dk_42 (dk_at dksX9_acts_1 14 rfl rfl)
theorem dX9_acts_39 : decode cX9_acts 39 = .ok (.getfield 7, 3) := dk_180 0 7 (dk_at dksX9_acts_1 15 rfl rfl)
theorem dX9_acts_42 : decode cX9_acts 42 = .ok (.iload 4, 2) := dk_21 4 (dk_at dksX9_acts_1 18 rfl rfl)
theorem dX9_acts_44 : decode cX9_acts 44 = .ok (.bipush 8, 2) := dk_16 8 (dk_at dksX9_acts_1 20 rfl rfl)
theorem dX9_acts_46 : decode cX9_acts 46 = .ok (.iadd, 1) := dk_96 (dk_at dksX9_acts_1 22 rfl rfl)
theorem dX9_acts_47 : decode cX9_acts 47 = .ok (.iload_n 3, 1) := dk_29 (dk_at dksX9_acts_1 23 rfl rfl)
theorem dX9_acts_48 : decode cX9_acts 48 = .ok (.iastore, 1) := dk_79 (dk_at dksX9_acts_2 0 rfl rfl)
theorem dX9_acts_49 : decode cX9_acts 49 = .ok (.return_, 1) := dk_177 (dk_at dksX9_acts_2 1 rfl rfl)
abbrev cX9_guards : ByteArray := prog_41_method_12_code
def yX9_guards : MethodName := ⟨RX9, "guards", "(III)V"⟩
def dkwX9_guards_1 : List UInt8 := [27, 79, 42, 180, 0, 7, 21, 4, 7, 96, 28, 79, 42, 180, 0, 7, 21, 4, 8, 96, 29, 79, 177]
abbrev dktX9_guards_1 : List UInt8 := dkwX9_guards_1 ++ []
def dkwX9_guards_0 : List UInt8 := [16, 93, 16, 9, 42, 180, 0, 7, 6, 46, 4, 100, 104, 96, 54, 4, 42, 180, 0, 7, 21, 4, 6, 96]
abbrev dktX9_guards_0 : List UInt8 := dkwX9_guards_0 ++ dktX9_guards_1
theorem dksX9_guards_0 : cX9_guards.data.toList.drop 0 = dktX9_guards_0 := by decide +kernel
theorem dksX9_guards_1 : cX9_guards.data.toList.drop 24 = dktX9_guards_1 := dk_seg dksX9_guards_0 24 rfl rfl
theorem dX9_guards_0 : decode cX9_guards 0 = .ok (.bipush 93, 2) := dk_16 93 (dk_at dksX9_guards_0 0 rfl rfl)
theorem dX9_guards_2 : decode cX9_guards 2 = .ok (.bipush 9, 2) := dk_16 9 (dk_at dksX9_guards_0 2 rfl rfl)
theorem dX9_guards_4 : decode cX9_guards 4 = .ok (.aload_n 0, 1) := dk_42 (dk_at dksX9_guards_0 4 rfl rfl)
theorem dX9_guards_5 : decode cX9_guards 5 = .ok (.getfield 7, 3) := dk_180 0 7 (dk_at dksX9_guards_0 5 rfl rfl)
theorem dX9_guards_8 : decode cX9_guards 8 = .ok (.iconst 3, 1) := dk_6 (dk_at dksX9_guards_0 8 rfl rfl)
theorem dX9_guards_9 : decode cX9_guards 9 = .ok (.iaload, 1) := dk_46 (dk_at dksX9_guards_0 9 rfl rfl)
theorem dX9_guards_10 : decode cX9_guards 10 = .ok (.iconst 1, 1) := dk_4 (dk_at dksX9_guards_0 10 rfl rfl)
theorem dX9_guards_11 : decode cX9_guards 11 = .ok (.isub, 1) := dk_100 (dk_at dksX9_guards_0 11 rfl rfl)
theorem dX9_guards_12 : decode cX9_guards 12 = .ok (.imul, 1) := dk_104 (dk_at dksX9_guards_0 12 rfl rfl)
theorem dX9_guards_13 : decode cX9_guards 13 = .ok (.iadd, 1) := dk_96 (dk_at dksX9_guards_0 13 rfl rfl)
theorem dX9_guards_14 : decode cX9_guards 14 = .ok (.istore 4, 2) := dk_54 4 (dk_at dksX9_guards_0 14 rfl rfl)
theorem dX9_guards_16 : decode cX9_guards 16 = .ok (.aload_n 0, 1) := dk_42 (dk_at dksX9_guards_0 16 rfl rfl)
theorem dX9_guards_17 : decode cX9_guards 17 = .ok (.getfield 7, 3) := dk_180 0 7 (dk_at dksX9_guards_0 17 rfl rfl)
theorem dX9_guards_20 : decode cX9_guards 20 = .ok (.iload 4, 2) := dk_21 4 (dk_at dksX9_guards_0 20 rfl rfl)
theorem dX9_guards_22 : decode cX9_guards 22 = .ok (.iconst 3, 1) := dk_6 (dk_at dksX9_guards_0 22 rfl rfl)
theorem dX9_guards_23 : decode cX9_guards 23 = .ok (.iadd, 1) := dk_96 (dk_at dksX9_guards_0 23 rfl rfl)
theorem dX9_guards_24 : decode cX9_guards 24 = .ok (.iload_n 1, 1) := dk_27 (dk_at dksX9_guards_1 0 rfl rfl)
theorem dX9_guards_25 : decode cX9_guards 25 = .ok (.iastore, 1) := dk_79 (dk_at dksX9_guards_1 1 rfl rfl)
theorem dX9_guards_26 : decode cX9_guards 26 = .ok (.aload_n 0, 1) := dk_42 (dk_at dksX9_guards_1 2 rfl rfl)
theorem dX9_guards_27 : decode cX9_guards 27 = .ok (.getfield 7, 3) := dk_180 0 7 (dk_at dksX9_guards_1 3 rfl rfl)
theorem dX9_guards_30 : decode cX9_guards 30 = .ok (.iload 4, 2) := dk_21 4 (dk_at dksX9_guards_1 6 rfl rfl)
theorem dX9_guards_32 : decode cX9_guards 32 = .ok (.iconst 4, 1) := dk_7 (dk_at dksX9_guards_1 8 rfl rfl)
theorem dX9_guards_33 : decode cX9_guards 33 = .ok (.iadd, 1) := dk_96 (dk_at dksX9_guards_1 9 rfl rfl)
theorem dX9_guards_34 : decode cX9_guards 34 = .ok (.iload_n 2, 1) := dk_28 (dk_at dksX9_guards_1 10 rfl rfl)
theorem dX9_guards_35 : decode cX9_guards 35 = .ok (.iastore, 1) := dk_79 (dk_at dksX9_guards_1 11 rfl rfl)
theorem dX9_guards_36 : decode cX9_guards 36 = .ok (.aload_n 0, 1) := dk_42 (dk_at dksX9_guards_1 12 rfl rfl)
theorem dX9_guards_37 : decode cX9_guards 37 = .ok (.getfield 7, 3) := dk_180 0 7 (dk_at dksX9_guards_1 13 rfl rfl)
theorem dX9_guards_40 : decode cX9_guards 40 = .ok (.iload 4, 2) := dk_21 4 (dk_at dksX9_guards_1 16 rfl rfl)
theorem dX9_guards_42 : decode cX9_guards 42 = .ok (.iconst 5, 1) := dk_8 (dk_at dksX9_guards_1 18 rfl rfl)
theorem dX9_guards_43 : decode cX9_guards 43 = .ok (.iadd, 1) := dk_96 (dk_at dksX9_guards_1 19 rfl rfl)
theorem dX9_guards_44 : decode cX9_guards 44 = .ok (.iload_n 3, 1) := dk_29 (dk_at dksX9_guards_1 20 rfl rfl)
theorem dX9_guards_45 : decode cX9_guards 45 = .ok (.iastore, 1) := dk_79 (dk_at dksX9_guards_1 21 rfl rfl)
theorem dX9_guards_46 : decode cX9_guards 46 = .ok (.return_, 1) := dk_177 (dk_at dksX9_guards_1 22 rfl rfl)
abbrev cX9_keeps : ByteArray := prog_41_method_14_code
def yX9_keeps : MethodName := ⟨RX9, "keeps", "(IIII)I"⟩
def dkwX9_keeps_3 : List UInt8 := [100, 172]
abbrev dktX9_keeps_3 : List UInt8 := dkwX9_keeps_3 ++ []
def dkwX9_keeps_2 : List UInt8 := [21, 5, 6, 96, 21, 4, 79, 42, 180, 0, 7, 7, 92, 46, 4, 96, 79, 42, 180, 0, 7, 7, 46, 4]
abbrev dktX9_keeps_2 : List UInt8 := dkwX9_keeps_2 ++ dktX9_keeps_3
def dkwX9_keeps_1 : List UInt8 := [42, 180, 0, 7, 21, 5, 4, 96, 28, 79, 42, 180, 0, 7, 21, 5, 5, 96, 29, 79, 42, 180, 0, 7]
abbrev dktX9_keeps_1 : List UInt8 := dkwX9_keeps_1 ++ dktX9_keeps_2
def dkwX9_keeps_0 : List UInt8 := [17, 1, 53, 7, 42, 180, 0, 7, 7, 46, 104, 96, 54, 5, 42, 180, 0, 7, 21, 5, 3, 96, 27, 79]
abbrev dktX9_keeps_0 : List UInt8 := dkwX9_keeps_0 ++ dktX9_keeps_1
theorem dksX9_keeps_0 : cX9_keeps.data.toList.drop 0 = dktX9_keeps_0 := by decide +kernel
theorem dksX9_keeps_1 : cX9_keeps.data.toList.drop 24 = dktX9_keeps_1 := dk_seg dksX9_keeps_0 24 rfl rfl
theorem dksX9_keeps_2 : cX9_keeps.data.toList.drop 48 = dktX9_keeps_2 := dk_seg dksX9_keeps_1 24 rfl rfl
theorem dksX9_keeps_3 : cX9_keeps.data.toList.drop 72 = dktX9_keeps_3 := dk_seg dksX9_keeps_2 24 rfl rfl
theorem dX9_keeps_0 : decode cX9_keeps 0 = .ok (.sipush 309, 3) := dk_17 1 53 (dk_at dksX9_keeps_0 0 rfl rfl)
theorem dX9_keeps_3 : decode cX9_keeps 3 = .ok (.iconst 4, 1) := dk_7 (dk_at dksX9_keeps_0 3 rfl rfl)
theorem dX9_keeps_4 : decode cX9_keeps 4 = .ok (.aload_n 0, 1) := dk_42 (dk_at dksX9_keeps_0 4 rfl rfl)
theorem dX9_keeps_5 : decode cX9_keeps 5 = .ok (.getfield 7, 3) := dk_180 0 7 (dk_at dksX9_keeps_0 5 rfl rfl)
theorem dX9_keeps_8 : decode cX9_keeps 8 = .ok (.iconst 4, 1) := dk_7 (dk_at dksX9_keeps_0 8 rfl rfl)
theorem dX9_keeps_9 : decode cX9_keeps 9 = .ok (.iaload, 1) := dk_46 (dk_at dksX9_keeps_0 9 rfl rfl)
theorem dX9_keeps_10 : decode cX9_keeps 10 = .ok (.imul, 1) := dk_104 (dk_at dksX9_keeps_0 10 rfl rfl)
theorem dX9_keeps_11 : decode cX9_keeps 11 = .ok (.iadd, 1) := dk_96 (dk_at dksX9_keeps_0 11 rfl rfl)
theorem dX9_keeps_12 : decode cX9_keeps 12 = .ok (.istore 5, 2) := dk_54 5 (dk_at dksX9_keeps_0 12 rfl rfl)
theorem dX9_keeps_14 : decode cX9_keeps 14 = .ok (.aload_n 0, 1) := dk_42 (dk_at dksX9_keeps_0 14 rfl rfl)
theorem dX9_keeps_15 : decode cX9_keeps 15 = .ok (.getfield 7, 3) := dk_180 0 7 (dk_at dksX9_keeps_0 15 rfl rfl)
theorem dX9_keeps_18 : decode cX9_keeps 18 = .ok (.iload 5, 2) := dk_21 5 (dk_at dksX9_keeps_0 18 rfl rfl)
theorem dX9_keeps_20 : decode cX9_keeps 20 = .ok (.iconst 0, 1) := dk_3 (dk_at dksX9_keeps_0 20 rfl rfl)
theorem dX9_keeps_21 : decode cX9_keeps 21 = .ok (.iadd, 1) := dk_96 (dk_at dksX9_keeps_0 21 rfl rfl)
theorem dX9_keeps_22 : decode cX9_keeps 22 = .ok (.iload_n 1, 1) := dk_27 (dk_at dksX9_keeps_0 22 rfl rfl)
theorem dX9_keeps_23 : decode cX9_keeps 23 = .ok (.iastore, 1) := dk_79 (dk_at dksX9_keeps_0 23 rfl rfl)
theorem dX9_keeps_24 : decode cX9_keeps 24 = .ok (.aload_n 0, 1) := dk_42 (dk_at dksX9_keeps_1 0 rfl rfl)
theorem dX9_keeps_25 : decode cX9_keeps 25 = .ok (.getfield 7, 3) := dk_180 0 7 (dk_at dksX9_keeps_1 1 rfl rfl)
theorem dX9_keeps_28 : decode cX9_keeps 28 = .ok (.iload 5, 2) := dk_21 5 (dk_at dksX9_keeps_1 4 rfl rfl)
theorem dX9_keeps_30 : decode cX9_keeps 30 = .ok (.iconst 1, 1) := dk_4 (dk_at dksX9_keeps_1 6 rfl rfl)
theorem dX9_keeps_31 : decode cX9_keeps 31 = .ok (.iadd, 1) := dk_96 (dk_at dksX9_keeps_1 7 rfl rfl)
theorem dX9_keeps_32 : decode cX9_keeps 32 = .ok (.iload_n 2, 1) := dk_28 (dk_at dksX9_keeps_1 8 rfl rfl)
theorem dX9_keeps_33 : decode cX9_keeps 33 = .ok (.iastore, 1) := dk_79 (dk_at dksX9_keeps_1 9 rfl rfl)
theorem dX9_keeps_34 : decode cX9_keeps 34 = .ok (.aload_n 0, 1) := dk_42 (dk_at dksX9_keeps_1 10 rfl rfl)
theorem dX9_keeps_35 : decode cX9_keeps 35 = .ok (.getfield 7, 3) := dk_180 0 7 (dk_at dksX9_keeps_1 11 rfl rfl)
theorem dX9_keeps_38 : decode cX9_keeps 38 = .ok (.iload 5, 2) := dk_21 5 (dk_at dksX9_keeps_1 14 rfl rfl)
theorem dX9_keeps_40 : decode cX9_keeps 40 = .ok (.iconst 2, 1) := dk_5 (dk_at dksX9_keeps_1 16 rfl rfl)
theorem dX9_keeps_41 : decode cX9_keeps 41 = .ok (.iadd, 1) := dk_96 (dk_at dksX9_keeps_1 17 rfl rfl)
theorem dX9_keeps_42 : decode cX9_keeps 42 = .ok (.iload_n 3, 1) := dk_29 (dk_at dksX9_keeps_1 18 rfl rfl)
theorem dX9_keeps_43 : decode cX9_keeps 43 = .ok (.iastore, 1) := dk_79 (dk_at dksX9_keeps_1 19 rfl rfl)
theorem dX9_keeps_44 : decode cX9_keeps 44 = .ok (.aload_n 0, 1) := dk_42 (dk_at dksX9_keeps_1 20 rfl rfl)
theorem dX9_keeps_45 : decode cX9_keeps 45 = .ok (.getfield 7, 3) := dk_180 0 7 (dk_at dksX9_keeps_1 21 rfl rfl)
theorem dX9_keeps_48 : decode cX9_keeps 48 = .ok (.iload 5, 2) := dk_21 5 (dk_at dksX9_keeps_2 0 rfl rfl)
theorem dX9_keeps_50 : decode cX9_keeps 50 = .ok (.iconst 3, 1) := dk_6 (dk_at dksX9_keeps_2 2 rfl rfl)
theorem dX9_keeps_51 : decode cX9_keeps 51 = .ok (.iadd, 1) := dk_96 (dk_at dksX9_keeps_2 3 rfl rfl)
theorem dX9_keeps_52 : decode cX9_keeps 52 = .ok (.iload 4, 2) := dk_21 4 (dk_at dksX9_keeps_2 4 rfl rfl)
theorem dX9_keeps_54 : decode cX9_keeps 54 = .ok (.iastore, 1) := dk_79 (dk_at dksX9_keeps_2 6 rfl rfl)
theorem dX9_keeps_55 : decode cX9_keeps 55 = .ok (.aload_n 0, 1) := dk_42 (dk_at dksX9_keeps_2 7 rfl rfl)
theorem dX9_keeps_56 : decode cX9_keeps 56 = .ok (.getfield 7, 3) := dk_180 0 7 (dk_at dksX9_keeps_2 8 rfl rfl)
theorem dX9_keeps_59 : decode cX9_keeps 59 = .ok (.iconst 4, 1) := dk_7 (dk_at dksX9_keeps_2 11 rfl rfl)
theorem dX9_keeps_60 : decode cX9_keeps 60 = .ok (.dup2, 1) := dk_92 (dk_at dksX9_keeps_2 12 rfl rfl)
theorem dX9_keeps_61 : decode cX9_keeps 61 = .ok (.iaload, 1) := dk_46 (dk_at dksX9_keeps_2 13 rfl rfl)
theorem dX9_keeps_62 : decode cX9_keeps 62 = .ok (.iconst 1, 1) := dk_4 (dk_at dksX9_keeps_2 14 rfl rfl)
theorem dX9_keeps_63 : decode cX9_keeps 63 = .ok (.iadd, 1) := dk_96 (dk_at dksX9_keeps_2 15 rfl rfl)
theorem dX9_keeps_64 : decode cX9_keeps 64 = .ok (.iastore, 1) := dk_79 (dk_at dksX9_keeps_2 16 rfl rfl)
theorem dX9_keeps_65 : decode cX9_keeps 65 = .ok (.aload_n 0, 1) := dk_42 (dk_at dksX9_keeps_2 17 rfl rfl)
theorem dX9_keeps_66 : decode cX9_keeps 66 = .ok (.getfield 7, 3) := dk_180 0 7 (dk_at dksX9_keeps_2 18 rfl rfl)
theorem dX9_keeps_69 : decode cX9_keeps 69 = .ok (.iconst 4, 1) := dk_7 (dk_at dksX9_keeps_2 21 rfl rfl)
theorem dX9_keeps_70 : decode cX9_keeps 70 = .ok (.iaload, 1) := dk_46 (dk_at dksX9_keeps_2 22 rfl rfl)
theorem dX9_keeps_71 : decode cX9_keeps 71 = .ok (.iconst 1, 1) := dk_4 (dk_at dksX9_keeps_2 23 rfl rfl)
theorem dX9_keeps_72 : decode cX9_keeps 72 = .ok (.isub, 1) := dk_100 (dk_at dksX9_keeps_3 0 rfl rfl)
theorem dX9_keeps_73 : decode cX9_keeps 73 = .ok (.ireturn, 1) := dk_172 (dk_at dksX9_keeps_3 1 rfl rfl)
abbrev cX9_starts : ByteArray := prog_41_method_16_code
def yX9_starts : MethodName := ⟨RX9, "starts", "()V"⟩
def dkwX9_starts_0 : List UInt8 := [42, 182, 0, 81, 42, 180, 0, 7, 16, 59, 4, 79, 177]
abbrev dktX9_starts_0 : List UInt8 := dkwX9_starts_0 ++ []
theorem dksX9_starts_0 : cX9_starts.data.toList.drop 0 = dktX9_starts_0 := by decide +kernel
theorem dX9_starts_0 : decode cX9_starts 0 = .ok (.aload_n 0, 1) := dk_42 (dk_at dksX9_starts_0 0 rfl rfl)
theorem dX9_starts_1 : decode cX9_starts 1 = .ok (.invokevirtual 81, 3) := dk_182 0 81 (dk_at dksX9_starts_0 1 rfl rfl)
theorem dX9_starts_4 : decode cX9_starts 4 = .ok (.aload_n 0, 1) := dk_42 (dk_at dksX9_starts_0 4 rfl rfl)
theorem dX9_starts_5 : decode cX9_starts 5 = .ok (.getfield 7, 3) := dk_180 0 7 (dk_at dksX9_starts_0 5 rfl rfl)
theorem dX9_starts_8 : decode cX9_starts 8 = .ok (.bipush 59, 2) := dk_16 59 (dk_at dksX9_starts_0 8 rfl rfl)
theorem dX9_starts_10 : decode cX9_starts 10 = .ok (.iconst 1, 1) := dk_4 (dk_at dksX9_starts_0 10 rfl rfl)
theorem dX9_starts_11 : decode cX9_starts 11 = .ok (.iastore, 1) := dk_79 (dk_at dksX9_starts_0 11 rfl rfl)
theorem dX9_starts_12 : decode cX9_starts 12 = .ok (.return_, 1) := dk_177 (dk_at dksX9_starts_0 12 rfl rfl)
abbrev cX9_goesToStart : ByteArray := prog_41_method_15_code
def yX9_goesToStart : MethodName := ⟨RX9, "goesToStart", "()V"⟩
def dkwX9_goesToStart_1 : List UInt8 := [180, 0, 7, 16, 9, 27, 96, 46, 79, 132, 1, 1, 167, 255, 230, 42, 180, 0, 7, 16, 18, 3, 79, 177]
abbrev dktX9_goesToStart_1 : List UInt8 := dkwX9_goesToStart_1 ++ []
def dkwX9_goesToStart_0 : List UInt8 := [42, 180, 0, 7, 8, 3, 79, 3, 60, 27, 6, 162, 0, 27, 42, 180, 0, 7, 16, 6, 27, 96, 42]
abbrev dktX9_goesToStart_0 : List UInt8 := dkwX9_goesToStart_0 ++ dktX9_goesToStart_1
theorem dksX9_goesToStart_0 : cX9_goesToStart.data.toList.drop 0 = dktX9_goesToStart_0 := by decide +kernel
theorem dksX9_goesToStart_1 : cX9_goesToStart.data.toList.drop 23 = dktX9_goesToStart_1 := dk_seg dksX9_goesToStart_0 23 rfl rfl
theorem dX9_goesToStart_0 : decode cX9_goesToStart 0 = .ok (.aload_n 0, 1) := dk_42 (dk_at dksX9_goesToStart_0 0 rfl rfl)
theorem dX9_goesToStart_1 : decode cX9_goesToStart 1 = .ok (.getfield 7, 3) := dk_180 0 7 (dk_at dksX9_goesToStart_0 1 rfl rfl)
theorem dX9_goesToStart_4 : decode cX9_goesToStart 4 = .ok (.iconst 5, 1) := dk_8 (dk_at dksX9_goesToStart_0 4 rfl rfl)
theorem dX9_goesToStart_5 : decode cX9_goesToStart 5 = .ok (.iconst 0, 1) := dk_3 (dk_at dksX9_goesToStart_0 5 rfl rfl)
theorem dX9_goesToStart_6 : decode cX9_goesToStart 6 = .ok (.iastore, 1) := dk_79 (dk_at dksX9_goesToStart_0 6 rfl rfl)
theorem dX9_goesToStart_7 : decode cX9_goesToStart 7 = .ok (.iconst 0, 1) := dk_3 (dk_at dksX9_goesToStart_0 7 rfl rfl)
theorem dX9_goesToStart_8 : decode cX9_goesToStart 8 = .ok (.istore_n 1, 1) := dk_60 (dk_at dksX9_goesToStart_0 8 rfl rfl)
theorem dX9_goesToStart_9 : decode cX9_goesToStart 9 = .ok (.iload_n 1, 1) := dk_27 (dk_at dksX9_goesToStart_0 9 rfl rfl)
theorem dX9_goesToStart_10 : decode cX9_goesToStart 10 = .ok (.iconst 3, 1) := dk_6 (dk_at dksX9_goesToStart_0 10 rfl rfl)
theorem dX9_goesToStart_11 : decode cX9_goesToStart 11 = .ok (.if_icmp .ge 27, 3) := dk_162 0 27 (dk_at dksX9_goesToStart_0 11 rfl rfl)
theorem dX9_goesToStart_14 : decode cX9_goesToStart 14 = .ok (.aload_n 0, 1) := dk_42 (dk_at dksX9_goesToStart_0 14 rfl rfl)
theorem dX9_goesToStart_15 : decode cX9_goesToStart 15 = .ok (.getfield 7, 3) := dk_180 0 7 (dk_at dksX9_goesToStart_0 15 rfl rfl)
theorem dX9_goesToStart_18 : decode cX9_goesToStart 18 = .ok (.bipush 6, 2) := dk_16 6 (dk_at dksX9_goesToStart_0 18 rfl rfl)
theorem dX9_goesToStart_20 : decode cX9_goesToStart 20 = .ok (.iload_n 1, 1) := dk_27 (dk_at dksX9_goesToStart_0 20 rfl rfl)
theorem dX9_goesToStart_21 : decode cX9_goesToStart 21 = .ok (.iadd, 1) := dk_96 (dk_at dksX9_goesToStart_0 21 rfl rfl)
theorem dX9_goesToStart_22 : decode cX9_goesToStart 22 = .ok (.aload_n 0, 1) := dk_42 (dk_at dksX9_goesToStart_0 22 rfl rfl)
theorem dX9_goesToStart_23 : decode cX9_goesToStart 23 = .ok (.getfield 7, 3) := dk_180 0 7 (dk_at dksX9_goesToStart_1 0 rfl rfl)
theorem dX9_goesToStart_26 : decode cX9_goesToStart 26 = .ok (.bipush 9, 2) := dk_16 9 (dk_at dksX9_goesToStart_1 3 rfl rfl)
theorem dX9_goesToStart_28 : decode cX9_goesToStart 28 = .ok (.iload_n 1, 1) := dk_27 (dk_at dksX9_goesToStart_1 5 rfl rfl)
theorem dX9_goesToStart_29 : decode cX9_goesToStart 29 = .ok (.iadd, 1) := dk_96 (dk_at dksX9_goesToStart_1 6 rfl rfl)
theorem dX9_goesToStart_30 : decode cX9_goesToStart 30 = .ok (.iaload, 1) := dk_46 (dk_at dksX9_goesToStart_1 7 rfl rfl)
theorem dX9_goesToStart_31 : decode cX9_goesToStart 31 = .ok (.iastore, 1) := dk_79 (dk_at dksX9_goesToStart_1 8 rfl rfl)
theorem dX9_goesToStart_32 : decode cX9_goesToStart 32 = .ok (.iinc 1 1, 3) := dk_132 1 1 (dk_at dksX9_goesToStart_1 9 rfl rfl)
theorem dX9_goesToStart_35 : decode cX9_goesToStart 35 = .ok (.goto (-26), 3) := dk_167 255 230 (dk_at dksX9_goesToStart_1 12 rfl rfl)
theorem dX9_goesToStart_38 : decode cX9_goesToStart 38 = .ok (.aload_n 0, 1) := dk_42 (dk_at dksX9_goesToStart_1 15 rfl rfl)
theorem dX9_goesToStart_39 : decode cX9_goesToStart 39 = .ok (.getfield 7, 3) := dk_180 0 7 (dk_at dksX9_goesToStart_1 16 rfl rfl)
theorem dX9_goesToStart_42 : decode cX9_goesToStart 42 = .ok (.bipush 18, 2) := dk_16 18 (dk_at dksX9_goesToStart_1 19 rfl rfl)
theorem dX9_goesToStart_44 : decode cX9_goesToStart 44 = .ok (.iconst 0, 1) := dk_3 (dk_at dksX9_goesToStart_1 21 rfl rfl)
theorem dX9_goesToStart_45 : decode cX9_goesToStart 45 = .ok (.iastore, 1) := dk_79 (dk_at dksX9_goesToStart_1 22 rfl rfl)
theorem dX9_goesToStart_46 : decode cX9_goesToStart 46 = .ok (.return_, 1) := dk_177 (dk_at dksX9_goesToStart_1 23 rfl rfl)
abbrev cX9_thrown : ByteArray := prog_41_method_2_code
def yX9_thrown : MethodName := ⟨RX9, "thrown", "()I"⟩
theorem dX9_thrown_0 : decode cX9_thrown 0 = .ok (.aload_n 0, 1) := by decide +kernel
theorem dX9_thrown_1 : decode cX9_thrown 1 = .ok (.getfield 78, 3) := by decide +kernel
theorem dX9_thrown_4 : decode cX9_thrown 4 = .ok (.ireturn, 1) := by decide +kernel
abbrev cX9_appendInput : ByteArray := prog_41_method_43_code
def yX9_appendInput : MethodName := ⟨RX9, "appendInput", "(IIIII)I"⟩
def dkwX9_appendInput_2 : List UInt8 := [182, 0, 168, 42, 180, 0, 165, 172]
abbrev dktX9_appendInput_2 : List UInt8 := dkwX9_appendInput_2 ++ []
def dkwX9_appendInput_1 : List UInt8 := [182, 0, 168, 42, 28, 182, 0, 168, 42, 29, 182, 0, 168, 42, 21, 4, 182, 0, 168, 42, 21, 5]
abbrev dktX9_appendInput_1 : List UInt8 := dkwX9_appendInput_1 ++ dktX9_appendInput_2
def dkwX9_appendInput_0 : List UInt8 := [42, 3, 181, 0, 78, 42, 180, 0, 165, 16, 20, 96, 17, 2, 188, 164, 0, 5, 2, 172, 42, 27]
abbrev dktX9_appendInput_0 : List UInt8 := dkwX9_appendInput_0 ++ dktX9_appendInput_1
theorem dksX9_appendInput_0 : cX9_appendInput.data.toList.drop 0 = dktX9_appendInput_0 := by decide +kernel
theorem dksX9_appendInput_1 : cX9_appendInput.data.toList.drop 22 = dktX9_appendInput_1 := dk_seg dksX9_appendInput_0 22 rfl rfl
theorem dksX9_appendInput_2 : cX9_appendInput.data.toList.drop 44 = dktX9_appendInput_2 := dk_seg dksX9_appendInput_1 22 rfl rfl
theorem dX9_appendInput_0 : decode cX9_appendInput 0 = .ok (.aload_n 0, 1) := dk_42 (dk_at dksX9_appendInput_0 0 rfl rfl)
theorem dX9_appendInput_1 : decode cX9_appendInput 1 = .ok (.iconst 0, 1) := dk_3 (dk_at dksX9_appendInput_0 1 rfl rfl)
theorem dX9_appendInput_2 : decode cX9_appendInput 2 = .ok (.putfield 78, 3) := dk_181 0 78 (dk_at dksX9_appendInput_0 2 rfl rfl)
theorem dX9_appendInput_5 : decode cX9_appendInput 5 = .ok (.aload_n 0, 1) := dk_42 (dk_at dksX9_appendInput_0 5 rfl rfl)
theorem dX9_appendInput_6 : decode cX9_appendInput 6 = .ok (.getfield 165, 3) := dk_180 0 165 (dk_at dksX9_appendInput_0 6 rfl rfl)
theorem dX9_appendInput_9 : decode cX9_appendInput 9 = .ok (.bipush 20, 2) := dk_16 20 (dk_at dksX9_appendInput_0 9 rfl rfl)
theorem dX9_appendInput_11 : decode cX9_appendInput 11 = .ok (.iadd, 1) := dk_96 (dk_at dksX9_appendInput_0 11 rfl rfl)
theorem dX9_appendInput_12 : decode cX9_appendInput 12 = .ok (.sipush 700, 3) := dk_17 2 188 (dk_at dksX9_appendInput_0 12 rfl rfl)
theorem dX9_appendInput_15 : decode cX9_appendInput 15 = .ok (.if_icmp .le 5, 3) := dk_164 0 5 (dk_at dksX9_appendInput_0 15 rfl rfl)
theorem dX9_appendInput_18 : decode cX9_appendInput 18 = .ok (.iconst (-1), 1) := dk_2 (dk_at dksX9_appendInput_0 18 rfl rfl)
theorem dX9_appendInput_19 : decode cX9_appendInput 19 = .ok (.ireturn, 1) := dk_172 (dk_at dksX9_appendInput_0 19 rfl rfl)
theorem dX9_appendInput_20 : decode cX9_appendInput 20 = .ok (.aload_n 0, 1) := dk_42 (dk_at dksX9_appendInput_0 20 rfl rfl)
theorem dX9_appendInput_21 : decode cX9_appendInput 21 = .ok (.iload_n 1, 1) := dk_27 (dk_at dksX9_appendInput_0 21 rfl rfl)
theorem dX9_appendInput_22 : decode cX9_appendInput 22 = .ok (.invokevirtual 168, 3) := dk_182 0 168 (dk_at dksX9_appendInput_1 0 rfl rfl)
theorem dX9_appendInput_25 : decode cX9_appendInput 25 = .ok (.aload_n 0, 1) := dk_42 (dk_at dksX9_appendInput_1 3 rfl rfl)
theorem dX9_appendInput_26 : decode cX9_appendInput 26 = .ok (.iload_n 2, 1) := dk_28 (dk_at dksX9_appendInput_1 4 rfl rfl)
theorem dX9_appendInput_27 : decode cX9_appendInput 27 = .ok (.invokevirtual 168, 3) := dk_182 0 168 (dk_at dksX9_appendInput_1 5 rfl rfl)
theorem dX9_appendInput_30 : decode cX9_appendInput 30 = .ok (.aload_n 0, 1) := dk_42 (dk_at dksX9_appendInput_1 8 rfl rfl)
theorem dX9_appendInput_31 : decode cX9_appendInput 31 = .ok (.iload_n 3, 1) := dk_29 (dk_at dksX9_appendInput_1 9 rfl rfl)
theorem dX9_appendInput_32 : decode cX9_appendInput 32 = .ok (.invokevirtual 168, 3) := dk_182 0 168 (dk_at dksX9_appendInput_1 10 rfl rfl)
theorem dX9_appendInput_35 : decode cX9_appendInput 35 = .ok (.aload_n 0, 1) := dk_42 (dk_at dksX9_appendInput_1 13 rfl rfl)
theorem dX9_appendInput_36 : decode cX9_appendInput 36 = .ok (.iload 4, 2) := dk_21 4 (dk_at dksX9_appendInput_1 14 rfl rfl)
theorem dX9_appendInput_38 : decode cX9_appendInput 38 = .ok (.invokevirtual 168, 3) := dk_182 0 168 (dk_at dksX9_appendInput_1 16 rfl rfl)
theorem dX9_appendInput_41 : decode cX9_appendInput 41 = .ok (.aload_n 0, 1) := dk_42 (dk_at dksX9_appendInput_1 19 rfl rfl)
theorem dX9_appendInput_42 : decode cX9_appendInput 42 = .ok (.iload 5, 2) := dk_21 5 (dk_at dksX9_appendInput_1 20 rfl rfl)
theorem dX9_appendInput_44 : decode cX9_appendInput 44 = .ok (.invokevirtual 168, 3) := dk_182 0 168 (dk_at dksX9_appendInput_2 0 rfl rfl)
theorem dX9_appendInput_47 : decode cX9_appendInput 47 = .ok (.aload_n 0, 1) := dk_42 (dk_at dksX9_appendInput_2 3 rfl rfl)
theorem dX9_appendInput_48 : decode cX9_appendInput 48 = .ok (.getfield 165, 3) := dk_180 0 165 (dk_at dksX9_appendInput_2 4 rfl rfl)
theorem dX9_appendInput_51 : decode cX9_appendInput 51 = .ok (.ireturn, 1) := dk_172 (dk_at dksX9_appendInput_2 7 rfl rfl)
abbrev cX9_appendWord : ByteArray := prog_41_method_42_code
def yX9_appendWord : MethodName := ⟨RX9, "appendWord", "(I)V"⟩
def dkwX9_appendWord_1 : List UInt8 := [89, 180, 0, 165, 4, 96, 181, 0, 165, 132, 2, 248, 167, 255, 223, 177]
abbrev dktX9_appendWord_1 : List UInt8 := dkwX9_appendWord_1 ++ []
def dkwX9_appendWord_0 : List UInt8 := [16, 24, 61, 28, 155, 0, 35, 42, 180, 0, 28, 42, 180, 0, 165, 27, 28, 122, 17, 0, 255, 126, 79, 42]
abbrev dktX9_appendWord_0 : List UInt8 := dkwX9_appendWord_0 ++ dktX9_appendWord_1
theorem dksX9_appendWord_0 : cX9_appendWord.data.toList.drop 0 = dktX9_appendWord_0 := by decide +kernel
theorem dksX9_appendWord_1 : cX9_appendWord.data.toList.drop 24 = dktX9_appendWord_1 := dk_seg dksX9_appendWord_0 24 rfl rfl
theorem dX9_appendWord_0 : decode cX9_appendWord 0 = .ok (.bipush 24, 2) := dk_16 24 (dk_at dksX9_appendWord_0 0 rfl rfl)
theorem dX9_appendWord_2 : decode cX9_appendWord 2 = .ok (.istore_n 2, 1) := dk_61 (dk_at dksX9_appendWord_0 2 rfl rfl)
theorem dX9_appendWord_3 : decode cX9_appendWord 3 = .ok (.iload_n 2, 1) := dk_28 (dk_at dksX9_appendWord_0 3 rfl rfl)
theorem dX9_appendWord_4 : decode cX9_appendWord 4 = .ok (.ifCond .lt 35, 3) := dk_155 0 35 (dk_at dksX9_appendWord_0 4 rfl rfl)
theorem dX9_appendWord_7 : decode cX9_appendWord 7 = .ok (.aload_n 0, 1) := dk_42 (dk_at dksX9_appendWord_0 7 rfl rfl)
theorem dX9_appendWord_8 : decode cX9_appendWord 8 = .ok (.getfield 28, 3) := dk_180 0 28 (dk_at dksX9_appendWord_0 8 rfl rfl)
theorem dX9_appendWord_11 : decode cX9_appendWord 11 = .ok (.aload_n 0, 1) := dk_42 (dk_at dksX9_appendWord_0 11 rfl rfl)
theorem dX9_appendWord_12 : decode cX9_appendWord 12 = .ok (.getfield 165, 3) := dk_180 0 165 (dk_at dksX9_appendWord_0 12 rfl rfl)
theorem dX9_appendWord_15 : decode cX9_appendWord 15 = .ok (.iload_n 1, 1) := dk_27 (dk_at dksX9_appendWord_0 15 rfl rfl)
theorem dX9_appendWord_16 : decode cX9_appendWord 16 = .ok (.iload_n 2, 1) := dk_28 (dk_at dksX9_appendWord_0 16 rfl rfl)
theorem dX9_appendWord_17 : decode cX9_appendWord 17 = .ok (.ishr, 1) := dk_122 (dk_at dksX9_appendWord_0 17 rfl rfl)
theorem dX9_appendWord_18 : decode cX9_appendWord 18 = .ok (.sipush 255, 3) := dk_17 0 255 (dk_at dksX9_appendWord_0 18 rfl rfl)
theorem dX9_appendWord_21 : decode cX9_appendWord 21 = .ok (.iand, 1) := dk_126 (dk_at dksX9_appendWord_0 21 rfl rfl)
theorem dX9_appendWord_22 : decode cX9_appendWord 22 = .ok (.iastore, 1) := dk_79 (dk_at dksX9_appendWord_0 22 rfl rfl)
theorem dX9_appendWord_23 : decode cX9_appendWord 23 = .ok (.aload_n 0, 1) := dk_42 (dk_at dksX9_appendWord_0 23 rfl rfl)
theorem dX9_appendWord_24 : decode cX9_appendWord 24 = .ok (.dup, 1) := dk_89 (dk_at dksX9_appendWord_1 0 rfl rfl)
theorem dX9_appendWord_25 : decode cX9_appendWord 25 = .ok (.getfield 165, 3) := dk_180 0 165 (dk_at dksX9_appendWord_1 1 rfl rfl)
theorem dX9_appendWord_28 : decode cX9_appendWord 28 = .ok (.iconst 1, 1) := dk_4 (dk_at dksX9_appendWord_1 4 rfl rfl)
theorem dX9_appendWord_29 : decode cX9_appendWord 29 = .ok (.iadd, 1) := dk_96 (dk_at dksX9_appendWord_1 5 rfl rfl)
theorem dX9_appendWord_30 : decode cX9_appendWord 30 = .ok (.putfield 165, 3) := dk_181 0 165 (dk_at dksX9_appendWord_1 6 rfl rfl)
theorem dX9_appendWord_33 : decode cX9_appendWord 33 = .ok (.iinc 2 (-8), 3) := dk_132 2 248 (dk_at dksX9_appendWord_1 9 rfl rfl)
theorem dX9_appendWord_36 : decode cX9_appendWord 36 = .ok (.goto (-33), 3) := dk_167 255 223 (dk_at dksX9_appendWord_1 12 rfl rfl)
theorem dX9_appendWord_39 : decode cX9_appendWord 39 = .ok (.return_, 1) := dk_177 (dk_at dksX9_appendWord_1 15 rfl rfl)
abbrev cX9_truncateInput : ByteArray := prog_41_method_44_code
def yX9_truncateInput : MethodName := ⟨RX9, "truncateInput", "(I)Z"⟩
def dkwX9_truncateInput_1 : List UInt8 := [4, 172]
abbrev dktX9_truncateInput_1 : List UInt8 := dkwX9_truncateInput_1 ++ []
def dkwX9_truncateInput_0 : List UInt8 := [42, 3, 181, 0, 78, 27, 3, 42, 180, 0, 165, 184, 0, 127, 154, 0, 5, 3, 172, 42, 27, 181, 0, 165]
abbrev dktX9_truncateInput_0 : List UInt8 := dkwX9_truncateInput_0 ++ dktX9_truncateInput_1
theorem dksX9_truncateInput_0 : cX9_truncateInput.data.toList.drop 0 = dktX9_truncateInput_0 := by decide +kernel
theorem dksX9_truncateInput_1 : cX9_truncateInput.data.toList.drop 24 = dktX9_truncateInput_1 := dk_seg dksX9_truncateInput_0 24 rfl rfl
theorem dX9_truncateInput_0 : decode cX9_truncateInput 0 = .ok (.aload_n 0, 1) := dk_42 (dk_at dksX9_truncateInput_0 0 rfl rfl)
theorem dX9_truncateInput_1 : decode cX9_truncateInput 1 = .ok (.iconst 0, 1) := dk_3 (dk_at dksX9_truncateInput_0 1 rfl rfl)
theorem dX9_truncateInput_2 : decode cX9_truncateInput 2 = .ok (.putfield 78, 3) := dk_181 0 78 (dk_at dksX9_truncateInput_0 2 rfl rfl)
theorem dX9_truncateInput_5 : decode cX9_truncateInput 5 = .ok (.iload_n 1, 1) := dk_27 (dk_at dksX9_truncateInput_0 5 rfl rfl)
theorem dX9_truncateInput_6 : decode cX9_truncateInput 6 = .ok (.iconst 0, 1) := dk_3 (dk_at dksX9_truncateInput_0 6 rfl rfl)
theorem dX9_truncateInput_7 : decode cX9_truncateInput 7 = .ok (.aload_n 0, 1) := dk_42 (dk_at dksX9_truncateInput_0 7 rfl rfl)
theorem dX9_truncateInput_8 : decode cX9_truncateInput 8 = .ok (.getfield 165, 3) := dk_180 0 165 (dk_at dksX9_truncateInput_0 8 rfl rfl)
theorem dX9_truncateInput_11 : decode cX9_truncateInput 11 = .ok (.invokestatic 127, 3) := dk_184 0 127 (dk_at dksX9_truncateInput_0 11 rfl rfl)
theorem dX9_truncateInput_14 : decode cX9_truncateInput 14 = .ok (.ifCond .ne 5, 3) := dk_154 0 5 (dk_at dksX9_truncateInput_0 14 rfl rfl)
theorem dX9_truncateInput_17 : decode cX9_truncateInput 17 = .ok (.iconst 0, 1) := dk_3 (dk_at dksX9_truncateInput_0 17 rfl rfl)
theorem dX9_truncateInput_18 : decode cX9_truncateInput 18 = .ok (.ireturn, 1) := dk_172 (dk_at dksX9_truncateInput_0 18 rfl rfl)
theorem dX9_truncateInput_19 : decode cX9_truncateInput 19 = .ok (.aload_n 0, 1) := dk_42 (dk_at dksX9_truncateInput_0 19 rfl rfl)
theorem dX9_truncateInput_20 : decode cX9_truncateInput 20 = .ok (.iload_n 1, 1) := dk_27 (dk_at dksX9_truncateInput_0 20 rfl rfl)
theorem dX9_truncateInput_21 : decode cX9_truncateInput 21 = .ok (.putfield 165, 3) := dk_181 0 165 (dk_at dksX9_truncateInput_0 21 rfl rfl)
theorem dX9_truncateInput_24 : decode cX9_truncateInput 24 = .ok (.iconst 1, 1) := dk_4 (dk_at dksX9_truncateInput_1 0 rfl rfl)
theorem dX9_truncateInput_25 : decode cX9_truncateInput 25 = .ok (.ireturn, 1) := dk_172 (dk_at dksX9_truncateInput_1 1 rfl rfl)
abbrev cX9_inRange : ByteArray := prog_41_method_3_code
def yX9_inRange : MethodName := ⟨RX9, "inRange", "(III)Z"⟩
def dkwX9_inRange_0 : List UInt8 := [26, 27, 161, 0, 12, 26, 28, 163, 0, 7, 4, 167, 0, 4, 3, 172]
abbrev dktX9_inRange_0 : List UInt8 := dkwX9_inRange_0 ++ []
theorem dksX9_inRange_0 : cX9_inRange.data.toList.drop 0 = dktX9_inRange_0 := by decide +kernel
theorem dX9_inRange_0 : decode cX9_inRange 0 = .ok (.iload_n 0, 1) := dk_26 (dk_at dksX9_inRange_0 0 rfl rfl)
theorem dX9_inRange_1 : decode cX9_inRange 1 = .ok (.iload_n 1, 1) := dk_27 (dk_at dksX9_inRange_0 1 rfl rfl)
theorem dX9_inRange_2 : decode cX9_inRange 2 = .ok (.if_icmp .lt 12, 3) := dk_161 0 12 (dk_at dksX9_inRange_0 2 rfl rfl)
theorem dX9_inRange_5 : decode cX9_inRange 5 = .ok (.iload_n 0, 1) := dk_26 (dk_at dksX9_inRange_0 5 rfl rfl)
theorem dX9_inRange_6 : decode cX9_inRange 6 = .ok (.iload_n 2, 1) := dk_28 (dk_at dksX9_inRange_0 6 rfl rfl)
theorem dX9_inRange_7 : decode cX9_inRange 7 = .ok (.if_icmp .gt 7, 3) := dk_163 0 7 (dk_at dksX9_inRange_0 7 rfl rfl)
theorem dX9_inRange_10 : decode cX9_inRange 10 = .ok (.iconst 1, 1) := dk_4 (dk_at dksX9_inRange_0 10 rfl rfl)
theorem dX9_inRange_11 : decode cX9_inRange 11 = .ok (.goto 4, 3) := dk_167 0 4 (dk_at dksX9_inRange_0 11 rfl rfl)
theorem dX9_inRange_14 : decode cX9_inRange 14 = .ok (.iconst 0, 1) := dk_3 (dk_at dksX9_inRange_0 14 rfl rfl)
theorem dX9_inRange_15 : decode cX9_inRange 15 = .ok (.ireturn, 1) := dk_172 (dk_at dksX9_inRange_0 15 rfl rfl)
abbrev cX9_loadMachine : ByteArray := prog_41_method_70_code
def yX9_loadMachine : MethodName := ⟨RX9, "loadMachine", "()I"⟩
def dkwX9_loadMachine_3 : List UInt8 := [46, 172]
abbrev dktX9_loadMachine_3 : List UInt8 := dkwX9_loadMachine_3 ++ []
def dkwX9_loadMachine_2 : List UInt8 := [184, 0, 161, 2, 172, 42, 182, 0, 75, 42, 3, 181, 0, 158, 42, 3, 181, 1, 70, 42, 180, 0, 7, 3]
abbrev dktX9_loadMachine_2 : List UInt8 := dkwX9_loadMachine_2 ++ dktX9_loadMachine_3
def dkwX9_loadMachine_1 : List UInt8 := [182, 1, 64, 60, 42, 182, 1, 67, 27, 154, 0, 18, 42, 180, 0, 13, 3, 42, 180, 0, 7, 3]
abbrev dktX9_loadMachine_1 : List UInt8 := dkwX9_loadMachine_1 ++ dktX9_loadMachine_2
def dkwX9_loadMachine_0 : List UInt8 := [42, 3, 181, 0, 78, 42, 180, 0, 7, 3, 42, 180, 0, 13, 3, 184, 0, 161, 42, 182, 1, 61, 42]
abbrev dktX9_loadMachine_0 : List UInt8 := dkwX9_loadMachine_0 ++ dktX9_loadMachine_1
theorem dksX9_loadMachine_0 : cX9_loadMachine.data.toList.drop 0 = dktX9_loadMachine_0 := by decide +kernel
theorem dksX9_loadMachine_1 : cX9_loadMachine.data.toList.drop 23 = dktX9_loadMachine_1 := dk_seg dksX9_loadMachine_0 23 rfl rfl
theorem dksX9_loadMachine_2 : cX9_loadMachine.data.toList.drop 45 = dktX9_loadMachine_2 := dk_seg dksX9_loadMachine_1 22 rfl rfl
theorem dksX9_loadMachine_3 : cX9_loadMachine.data.toList.drop 69 = dktX9_loadMachine_3 := dk_seg dksX9_loadMachine_2 24 rfl rfl
theorem dX9_loadMachine_0 : decode cX9_loadMachine 0 = .ok (.aload_n 0, 1) := dk_42 (dk_at dksX9_loadMachine_0 0 rfl rfl)
theorem dX9_loadMachine_1 : decode cX9_loadMachine 1 = .ok (.iconst 0, 1) := dk_3 (dk_at dksX9_loadMachine_0 1 rfl rfl)
theorem dX9_loadMachine_2 : decode cX9_loadMachine 2 = .ok (.putfield 78, 3) := dk_181 0 78 (dk_at dksX9_loadMachine_0 2 rfl rfl)
theorem dX9_loadMachine_5 : decode cX9_loadMachine 5 = .ok (.aload_n 0, 1) := dk_42 (dk_at dksX9_loadMachine_0 5 rfl rfl)
theorem dX9_loadMachine_6 : decode cX9_loadMachine 6 = .ok (.getfield 7, 3) := dk_180 0 7 (dk_at dksX9_loadMachine_0 6 rfl rfl)
theorem dX9_loadMachine_9 : decode cX9_loadMachine 9 = .ok (.iconst 0, 1) := dk_3 (dk_at dksX9_loadMachine_0 9 rfl rfl)
theorem dX9_loadMachine_10 : decode cX9_loadMachine 10 = .ok (.aload_n 0, 1) := dk_42 (dk_at dksX9_loadMachine_0 10 rfl rfl)
theorem dX9_loadMachine_11 : decode cX9_loadMachine 11 = .ok (.getfield 13, 3) := dk_180 0 13 (dk_at dksX9_loadMachine_0 11 rfl rfl)
theorem dX9_loadMachine_14 : decode cX9_loadMachine 14 = .ok (.iconst 0, 1) := dk_3 (dk_at dksX9_loadMachine_0 14 rfl rfl)
theorem dX9_loadMachine_15 : decode cX9_loadMachine 15 = .ok (.invokestatic 161, 3) := dk_184 0 161 (dk_at dksX9_loadMachine_0 15 rfl rfl)
theorem dX9_loadMachine_18 : decode cX9_loadMachine 18 = .ok (.aload_n 0, 1) := dk_42 (dk_at dksX9_loadMachine_0 18 rfl rfl)
theorem dX9_loadMachine_19 : decode cX9_loadMachine 19 = .ok (.invokevirtual 317, 3) := dk_182 1 61 (dk_at dksX9_loadMachine_0 19 rfl rfl)
theorem dX9_loadMachine_22 : decode cX9_loadMachine 22 = .ok (.aload_n 0, 1) := dk_42 (dk_at dksX9_loadMachine_0 22 rfl rfl)
theorem dX9_loadMachine_23 : decode cX9_loadMachine 23 = .ok (.invokevirtual 320, 3) := dk_182 1 64 (dk_at dksX9_loadMachine_1 0 rfl rfl)
theorem dX9_loadMachine_26 : decode cX9_loadMachine 26 = .ok (.istore_n 1, 1) := dk_60 (dk_at dksX9_loadMachine_1 3 rfl rfl)
theorem dX9_loadMachine_27 : decode cX9_loadMachine 27 = .ok (.aload_n 0, 1) := dk_42 (dk_at dksX9_loadMachine_1 4 rfl rfl)
theorem dX9_loadMachine_28 : decode cX9_loadMachine 28 = .ok (.invokevirtual 323, 3) := dk_182 1 67 (dk_at dksX9_loadMachine_1 5 rfl rfl)
theorem dX9_loadMachine_31 : decode cX9_loadMachine 31 = .ok (.iload_n 1, 1) := dk_27 (dk_at dksX9_loadMachine_1 8 rfl rfl)
theorem dX9_loadMachine_32 : decode cX9_loadMachine 32 = .ok (.ifCond .ne 18, 3) := dk_154 0 18 (dk_at dksX9_loadMachine_1 9 rfl rfl)
theorem dX9_loadMachine_35 : decode cX9_loadMachine 35 = .ok (.aload_n 0, 1) := dk_42 (dk_at dksX9_loadMachine_1 12 rfl rfl)
theorem dX9_loadMachine_36 : decode cX9_loadMachine 36 = .ok (.getfield 13, 3) := dk_180 0 13 (dk_at dksX9_loadMachine_1 13 rfl rfl)
theorem dX9_loadMachine_39 : decode cX9_loadMachine 39 = .ok (.iconst 0, 1) := dk_3 (dk_at dksX9_loadMachine_1 16 rfl rfl)
theorem dX9_loadMachine_40 : decode cX9_loadMachine 40 = .ok (.aload_n 0, 1) := dk_42 (dk_at dksX9_loadMachine_1 17 rfl rfl)
theorem dX9_loadMachine_41 : decode cX9_loadMachine 41 = .ok (.getfield 7, 3) := dk_180 0 7 (dk_at dksX9_loadMachine_1 18 rfl rfl)
theorem dX9_loadMachine_44 : decode cX9_loadMachine 44 = .ok (.iconst 0, 1) := dk_3 (dk_at dksX9_loadMachine_1 21 rfl rfl)
theorem dX9_loadMachine_45 : decode cX9_loadMachine 45 = .ok (.invokestatic 161, 3) := dk_184 0 161 (dk_at dksX9_loadMachine_2 0 rfl rfl)
theorem dX9_loadMachine_48 : decode cX9_loadMachine 48 = .ok (.iconst (-1), 1) := dk_2 (dk_at dksX9_loadMachine_2 3 rfl rfl)
theorem dX9_loadMachine_49 : decode cX9_loadMachine 49 = .ok (.ireturn, 1) := dk_172 (dk_at dksX9_loadMachine_2 4 rfl rfl)
theorem dX9_loadMachine_50 : decode cX9_loadMachine 50 = .ok (.aload_n 0, 1) := dk_42 (dk_at dksX9_loadMachine_2 5 rfl rfl)
theorem dX9_loadMachine_51 : decode cX9_loadMachine 51 = .ok (.invokevirtual 75, 3) := dk_182 0 75 (dk_at dksX9_loadMachine_2 6 rfl rfl)
theorem dX9_loadMachine_54 : decode cX9_loadMachine 54 = .ok (.aload_n 0, 1) := dk_42 (dk_at dksX9_loadMachine_2 9 rfl rfl)
theorem dX9_loadMachine_55 : decode cX9_loadMachine 55 = .ok (.iconst 0, 1) := dk_3 (dk_at dksX9_loadMachine_2 10 rfl rfl)
theorem dX9_loadMachine_56 : decode cX9_loadMachine 56 = .ok (.putfield 158, 3) := dk_181 0 158 (dk_at dksX9_loadMachine_2 11 rfl rfl)
theorem dX9_loadMachine_59 : decode cX9_loadMachine 59 = .ok (.aload_n 0, 1) := dk_42 (dk_at dksX9_loadMachine_2 14 rfl rfl)
theorem dX9_loadMachine_60 : decode cX9_loadMachine 60 = .ok (.iconst 0, 1) := dk_3 (dk_at dksX9_loadMachine_2 15 rfl rfl)
theorem dX9_loadMachine_61 : decode cX9_loadMachine 61 = .ok (.putfield 326, 3) := dk_181 1 70 (dk_at dksX9_loadMachine_2 16 rfl rfl)
theorem dX9_loadMachine_64 : decode cX9_loadMachine 64 = .ok (.aload_n 0, 1) := dk_42 (dk_at dksX9_loadMachine_2 19 rfl rfl)
theorem dX9_loadMachine_65 : decode cX9_loadMachine 65 = .ok (.getfield 7, 3) := dk_180 0 7 (dk_at dksX9_loadMachine_2 20 rfl rfl)
theorem dX9_loadMachine_68 : decode cX9_loadMachine 68 = .ok (.iconst 0, 1) := dk_3 (dk_at dksX9_loadMachine_2 23 rfl rfl)
theorem dX9_loadMachine_69 : decode cX9_loadMachine 69 = .ok (.iaload, 1) := dk_46 (dk_at dksX9_loadMachine_3 0 rfl rfl)
theorem dX9_loadMachine_70 : decode cX9_loadMachine 70 = .ok (.ireturn, 1) := dk_172 (dk_at dksX9_loadMachine_3 1 rfl rfl)
abbrev cX9_copies : ByteArray := prog_41_method_6_code
def yX9_copies : MethodName := ⟨RX9, "copies", "([II[II)V"⟩
def dkwX9_copies_1 : List UInt8 := [132, 4, 1, 167, 255, 233, 177]
abbrev dktX9_copies_1 : List UInt8 := dkwX9_copies_1 ++ []
def dkwX9_copies_0 : List UInt8 := [3, 54, 4, 21, 4, 17, 1, 248, 162, 0, 21, 44, 29, 21, 4, 96, 42, 27, 21, 4, 96, 46, 79]
abbrev dktX9_copies_0 : List UInt8 := dkwX9_copies_0 ++ dktX9_copies_1
theorem dksX9_copies_0 : cX9_copies.data.toList.drop 0 = dktX9_copies_0 := by decide +kernel
theorem dksX9_copies_1 : cX9_copies.data.toList.drop 23 = dktX9_copies_1 := dk_seg dksX9_copies_0 23 rfl rfl
theorem dX9_copies_0 : decode cX9_copies 0 = .ok (.iconst 0, 1) := dk_3 (dk_at dksX9_copies_0 0 rfl rfl)
theorem dX9_copies_1 : decode cX9_copies 1 = .ok (.istore 4, 2) := dk_54 4 (dk_at dksX9_copies_0 1 rfl rfl)
theorem dX9_copies_3 : decode cX9_copies 3 = .ok (.iload 4, 2) := dk_21 4 (dk_at dksX9_copies_0 3 rfl rfl)
theorem dX9_copies_5 : decode cX9_copies 5 = .ok (.sipush 504, 3) := dk_17 1 248 (dk_at dksX9_copies_0 5 rfl rfl)
theorem dX9_copies_8 : decode cX9_copies 8 = .ok (.if_icmp .ge 21, 3) := dk_162 0 21 (dk_at dksX9_copies_0 8 rfl rfl)
theorem dX9_copies_11 : decode cX9_copies 11 = .ok (.aload_n 2, 1) := dk_44 (dk_at dksX9_copies_0 11 rfl rfl)
theorem dX9_copies_12 : decode cX9_copies 12 = .ok (.iload_n 3, 1) := dk_29 (dk_at dksX9_copies_0 12 rfl rfl)
theorem dX9_copies_13 : decode cX9_copies 13 = .ok (.iload 4, 2) := dk_21 4 (dk_at dksX9_copies_0 13 rfl rfl)
theorem dX9_copies_15 : decode cX9_copies 15 = .ok (.iadd, 1) := dk_96 (dk_at dksX9_copies_0 15 rfl rfl)
theorem dX9_copies_16 : decode cX9_copies 16 = .ok (.aload_n 0, 1) := dk_42 (dk_at dksX9_copies_0 16 rfl rfl)
theorem dX9_copies_17 : decode cX9_copies 17 = .ok (.iload_n 1, 1) := dk_27 (dk_at dksX9_copies_0 17 rfl rfl)
theorem dX9_copies_18 : decode cX9_copies 18 = .ok (.iload 4, 2) := dk_21 4 (dk_at dksX9_copies_0 18 rfl rfl)
theorem dX9_copies_20 : decode cX9_copies 20 = .ok (.iadd, 1) := dk_96 (dk_at dksX9_copies_0 20 rfl rfl)
theorem dX9_copies_21 : decode cX9_copies 21 = .ok (.iaload, 1) := dk_46 (dk_at dksX9_copies_0 21 rfl rfl)
theorem dX9_copies_22 : decode cX9_copies 22 = .ok (.iastore, 1) := dk_79 (dk_at dksX9_copies_0 22 rfl rfl)
theorem dX9_copies_23 : decode cX9_copies 23 = .ok (.iinc 4 1, 3) := dk_132 4 1 (dk_at dksX9_copies_1 0 rfl rfl)
theorem dX9_copies_26 : decode cX9_copies 26 = .ok (.goto (-23), 3) := dk_167 255 233 (dk_at dksX9_copies_1 3 rfl rfl)
theorem dX9_copies_29 : decode cX9_copies 29 = .ok (.return_, 1) := dk_177 (dk_at dksX9_copies_1 6 rfl rfl)
abbrev cX9_startsText : ByteArray := prog_41_method_68_code
def yX9_startsText : MethodName := ⟨RX9, "startsText", "()V"⟩
def dkwX9_startsText_1 : List UInt8 := [177]
abbrev dktX9_startsText_1 : List UInt8 := dkwX9_startsText_1 ++ []
def dkwX9_startsText_0 : List UInt8 := [42, 3, 181, 0, 190, 42, 2, 181, 0, 193, 42, 3, 181, 1, 55, 42, 3, 181, 0, 174, 42, 182, 0, 214]
abbrev dktX9_startsText_0 : List UInt8 := dkwX9_startsText_0 ++ dktX9_startsText_1
theorem dksX9_startsText_0 : cX9_startsText.data.toList.drop 0 = dktX9_startsText_0 := by decide +kernel
theorem dksX9_startsText_1 : cX9_startsText.data.toList.drop 24 = dktX9_startsText_1 := dk_seg dksX9_startsText_0 24 rfl rfl
theorem dX9_startsText_0 : decode cX9_startsText 0 = .ok (.aload_n 0, 1) := dk_42 (dk_at dksX9_startsText_0 0 rfl rfl)
theorem dX9_startsText_1 : decode cX9_startsText 1 = .ok (.iconst 0, 1) := dk_3 (dk_at dksX9_startsText_0 1 rfl rfl)
theorem dX9_startsText_2 : decode cX9_startsText 2 = .ok (.putfield 190, 3) := dk_181 0 190 (dk_at dksX9_startsText_0 2 rfl rfl)
theorem dX9_startsText_5 : decode cX9_startsText 5 = .ok (.aload_n 0, 1) := dk_42 (dk_at dksX9_startsText_0 5 rfl rfl)
theorem dX9_startsText_6 : decode cX9_startsText 6 = .ok (.iconst (-1), 1) := dk_2 (dk_at dksX9_startsText_0 6 rfl rfl)
theorem dX9_startsText_7 : decode cX9_startsText 7 = .ok (.putfield 193, 3) := dk_181 0 193 (dk_at dksX9_startsText_0 7 rfl rfl)
theorem dX9_startsText_10 : decode cX9_startsText 10 = .ok (.aload_n 0, 1) := dk_42 (dk_at dksX9_startsText_0 10 rfl rfl)
theorem dX9_startsText_11 : decode cX9_startsText 11 = .ok (.iconst 0, 1) := dk_3 (dk_at dksX9_startsText_0 11 rfl rfl)
theorem dX9_startsText_12 : decode cX9_startsText 12 = .ok (.putfield 311, 3) := dk_181 1 55 (dk_at dksX9_startsText_0 12 rfl rfl)
theorem dX9_startsText_15 : decode cX9_startsText 15 = .ok (.aload_n 0, 1) := dk_42 (dk_at dksX9_startsText_0 15 rfl rfl)
theorem dX9_startsText_16 : decode cX9_startsText 16 = .ok (.iconst 0, 1) := dk_3 (dk_at dksX9_startsText_0 16 rfl rfl)
theorem dX9_startsText_17 : decode cX9_startsText 17 = .ok (.putfield 174, 3) := dk_181 0 174 (dk_at dksX9_startsText_0 17 rfl rfl)
theorem dX9_startsText_20 : decode cX9_startsText 20 = .ok (.aload_n 0, 1) := dk_42 (dk_at dksX9_startsText_0 20 rfl rfl)
theorem dX9_startsText_21 : decode cX9_startsText 21 = .ok (.invokevirtual 214, 3) := dk_182 0 214 (dk_at dksX9_startsText_0 21 rfl rfl)
theorem dX9_startsText_24 : decode cX9_startsText 24 = .ok (.return_, 1) := dk_177 (dk_at dksX9_startsText_1 0 rfl rfl)
abbrev cX9_advanceToken : ByteArray := prog_41_method_47_code
def yX9_advanceToken : MethodName := ⟨RX9, "advanceToken", "()V"⟩
def dkwX9_advanceToken_11 : List UInt8 := [167, 0, 4, 7, 181, 0, 183, 42, 89, 180, 0, 174, 4, 96, 181, 0, 174, 177]
abbrev dktX9_advanceToken_11 : List UInt8 := dkwX9_advanceToken_11 ++ []
def dkwX9_advanceToken_10 : List UInt8 := [164, 0, 7, 7, 167, 0, 4, 5, 181, 0, 183, 167, 0, 28, 42, 27, 16, 59, 160, 0, 7, 6]
abbrev dktX9_advanceToken_10 : List UInt8 := dkwX9_advanceToken_10 ++ dktX9_advanceToken_11
def dkwX9_advanceToken_9 : List UInt8 := [180, 0, 174, 4, 96, 181, 0, 174, 167, 255, 185, 42, 42, 180, 0, 174, 42, 180, 0, 177, 100, 6]
abbrev dktX9_advanceToken_9 : List UInt8 := dkwX9_advanceToken_9 ++ dktX9_advanceToken_10
def dkwX9_advanceToken_8 : List UInt8 := [42, 42, 180, 0, 174, 182, 0, 171, 96, 16, 48, 100, 167, 0, 7, 42, 180, 0, 180, 181, 0, 180, 42, 89]
abbrev dktX9_advanceToken_8 : List UInt8 := dkwX9_advanceToken_8 ++ dktX9_advanceToken_9
def dkwX9_advanceToken_7 : List UInt8 := [153, 0, 59, 42, 42, 180, 0, 174, 42, 180, 0, 177, 100, 6, 162, 0, 25, 16, 10, 42, 180, 0, 180, 104]
abbrev dktX9_advanceToken_7 : List UInt8 := dkwX9_advanceToken_7 ++ dktX9_advanceToken_8
def dkwX9_advanceToken_6 : List UInt8 := [16, 57, 184, 0, 127, 153, 0, 102, 42, 42, 180, 0, 174, 182, 0, 171, 16, 48, 16, 57, 184, 0, 127]
abbrev dktX9_advanceToken_6 : List UInt8 := dkwX9_advanceToken_6 ++ dktX9_advanceToken_7
def dkwX9_advanceToken_5 : List UInt8 := [180, 0, 177, 100, 16, 8, 164, 0, 7, 7, 167, 0, 4, 4, 181, 0, 183, 167, 0, 138, 27, 16, 48]
abbrev dktX9_advanceToken_5 : List UInt8 := dkwX9_advanceToken_5 ++ dktX9_advanceToken_6
def dkwX9_advanceToken_4 : List UInt8 := [153, 0, 16, 42, 89, 180, 0, 174, 4, 96, 181, 0, 174, 167, 255, 235, 42, 42, 180, 0, 174, 42]
abbrev dktX9_advanceToken_4 : List UInt8 := dkwX9_advanceToken_4 ++ dktX9_advanceToken_5
def dkwX9_advanceToken_3 : List UInt8 := [167, 0, 199, 42, 42, 180, 0, 174, 182, 0, 186, 153, 0, 53, 42, 42, 180, 0, 174, 182, 0, 186]
abbrev dktX9_advanceToken_3 : List UInt8 := dkwX9_advanceToken_3 ++ dktX9_advanceToken_4
def dkwX9_advanceToken_2 : List UInt8 := [42, 42, 180, 0, 174, 182, 0, 171, 60, 42, 3, 181, 0, 180, 27, 2, 160, 0, 11, 42, 3, 181, 0, 183]
abbrev dktX9_advanceToken_2 : List UInt8 := dkwX9_advanceToken_2 ++ dktX9_advanceToken_3
def dkwX9_advanceToken_1 : List UInt8 := [160, 0, 16, 42, 89, 180, 0, 174, 4, 96, 181, 0, 174, 167, 255, 220, 42, 42, 180, 0, 174, 181, 0, 177]
abbrev dktX9_advanceToken_1 : List UInt8 := dkwX9_advanceToken_1 ++ dktX9_advanceToken_2
def dkwX9_advanceToken_0 : List UInt8 := [42, 42, 180, 0, 174, 182, 0, 171, 16, 32, 159, 0, 16, 42, 42, 180, 0, 174, 182, 0, 171, 16, 10]
abbrev dktX9_advanceToken_0 : List UInt8 := dkwX9_advanceToken_0 ++ dktX9_advanceToken_1
theorem dksX9_advanceToken_0 : cX9_advanceToken.data.toList.drop 0 = dktX9_advanceToken_0 := by decide +kernel
theorem dksX9_advanceToken_1 : cX9_advanceToken.data.toList.drop 23 = dktX9_advanceToken_1 := dk_seg dksX9_advanceToken_0 23 rfl rfl
theorem dksX9_advanceToken_2 : cX9_advanceToken.data.toList.drop 47 = dktX9_advanceToken_2 := dk_seg dksX9_advanceToken_1 24 rfl rfl
theorem dksX9_advanceToken_3 : cX9_advanceToken.data.toList.drop 71 = dktX9_advanceToken_3 := dk_seg dksX9_advanceToken_2 24 rfl rfl
theorem dksX9_advanceToken_4 : cX9_advanceToken.data.toList.drop 93 = dktX9_advanceToken_4 := dk_seg dksX9_advanceToken_3 22 rfl rfl
theorem dksX9_advanceToken_5 : cX9_advanceToken.data.toList.drop 115 = dktX9_advanceToken_5 := dk_seg dksX9_advanceToken_4 22 rfl rfl
theorem dksX9_advanceToken_6 : cX9_advanceToken.data.toList.drop 138 = dktX9_advanceToken_6 := dk_seg dksX9_advanceToken_5 23 rfl rfl
theorem dksX9_advanceToken_7 : cX9_advanceToken.data.toList.drop 161 = dktX9_advanceToken_7 := dk_seg dksX9_advanceToken_6 23 rfl rfl
theorem dksX9_advanceToken_8 : cX9_advanceToken.data.toList.drop 185 = dktX9_advanceToken_8 := dk_seg dksX9_advanceToken_7 24 rfl rfl
theorem dksX9_advanceToken_9 : cX9_advanceToken.data.toList.drop 209 = dktX9_advanceToken_9 := dk_seg dksX9_advanceToken_8 24 rfl rfl
theorem dksX9_advanceToken_10 : cX9_advanceToken.data.toList.drop 231 = dktX9_advanceToken_10 := dk_seg dksX9_advanceToken_9 22 rfl rfl
theorem dksX9_advanceToken_11 : cX9_advanceToken.data.toList.drop 253 = dktX9_advanceToken_11 := dk_seg dksX9_advanceToken_10 22 rfl rfl
theorem dX9_advanceToken_0 : decode cX9_advanceToken 0 = .ok (.aload_n 0, 1) := dk_42 (dk_at dksX9_advanceToken_0 0 rfl rfl)
theorem dX9_advanceToken_1 : decode cX9_advanceToken 1 = .ok (.aload_n 0, 1) := dk_42 (dk_at dksX9_advanceToken_0 1 rfl rfl)
theorem dX9_advanceToken_2 : decode cX9_advanceToken 2 = .ok (.getfield 174, 3) := dk_180 0 174 (dk_at dksX9_advanceToken_0 2 rfl rfl)
theorem dX9_advanceToken_5 : decode cX9_advanceToken 5 = .ok (.invokevirtual 171, 3) := dk_182 0 171 (dk_at dksX9_advanceToken_0 5 rfl rfl)
theorem dX9_advanceToken_8 : decode cX9_advanceToken 8 = .ok (.bipush 32, 2) := dk_16 32 (dk_at dksX9_advanceToken_0 8 rfl rfl)
theorem dX9_advanceToken_10 : decode cX9_advanceToken 10 = .ok (.if_icmp .eq 16, 3) := dk_159 0 16 (dk_at dksX9_advanceToken_0 10 rfl rfl)
theorem dX9_advanceToken_13 : decode cX9_advanceToken 13 = .ok (.aload_n 0, 1) := dk_42 (dk_at dksX9_advanceToken_0 13 rfl rfl)
theorem dX9_advanceToken_14 : decode cX9_advanceToken 14 = .ok (.aload_n 0, 1) := dk_42 (dk_at dksX9_advanceToken_0 14 rfl rfl)
theorem dX9_advanceToken_15 : decode cX9_advanceToken 15 = .ok (.getfield 174, 3) := dk_180 0 174 (dk_at dksX9_advanceToken_0 15 rfl rfl)
theorem dX9_advanceToken_18 : decode cX9_advanceToken 18 = .ok (.invokevirtual 171, 3) := dk_182 0 171 (dk_at dksX9_advanceToken_0 18 rfl rfl)
theorem dX9_advanceToken_21 : decode cX9_advanceToken 21 = .ok (.bipush 10, 2) := dk_16 10 (dk_at dksX9_advanceToken_0 21 rfl rfl)
theorem dX9_advanceToken_23 : decode cX9_advanceToken 23 = .ok (.if_icmp .ne 16, 3) := dk_160 0 16 (dk_at dksX9_advanceToken_1 0 rfl rfl)
theorem dX9_advanceToken_26 : decode cX9_advanceToken 26 = .ok (.aload_n 0, 1) := dk_42 (dk_at dksX9_advanceToken_1 3 rfl rfl)
theorem dX9_advanceToken_27 : decode cX9_advanceToken 27 = .ok (.dup, 1) := dk_89 (dk_at dksX9_advanceToken_1 4 rfl rfl)
theorem dX9_advanceToken_28 : decode cX9_advanceToken 28 = .ok (.getfield 174, 3) := dk_180 0 174 (dk_at dksX9_advanceToken_1 5 rfl rfl)
theorem dX9_advanceToken_31 : decode cX9_advanceToken 31 = .ok (.iconst 1, 1) := dk_4 (dk_at dksX9_advanceToken_1 8 rfl rfl)
theorem dX9_advanceToken_32 : decode cX9_advanceToken 32 = .ok (.iadd, 1) := dk_96 (dk_at dksX9_advanceToken_1 9 rfl rfl)
theorem dX9_advanceToken_33 : decode cX9_advanceToken 33 = .ok (.putfield 174, 3) := dk_181 0 174 (dk_at dksX9_advanceToken_1 10 rfl rfl)
theorem dX9_advanceToken_36 : decode cX9_advanceToken 36 = .ok (.goto (-36), 3) := dk_167 255 220 (dk_at dksX9_advanceToken_1 13 rfl rfl)
theorem dX9_advanceToken_39 : decode cX9_advanceToken 39 = .ok (.aload_n 0, 1) := dk_42 (dk_at dksX9_advanceToken_1 16 rfl rfl)
theorem dX9_advanceToken_40 : decode cX9_advanceToken 40 = .ok (.aload_n 0, 1) := dk_42 (dk_at dksX9_advanceToken_1 17 rfl rfl)
theorem dX9_advanceToken_41 : decode cX9_advanceToken 41 = .ok (.getfield 174, 3) := dk_180 0 174 (dk_at dksX9_advanceToken_1 18 rfl rfl)
theorem dX9_advanceToken_44 : decode cX9_advanceToken 44 = .ok (.putfield 177, 3) := dk_181 0 177 (dk_at dksX9_advanceToken_1 21 rfl rfl)
theorem dX9_advanceToken_47 : decode cX9_advanceToken 47 = .ok (.aload_n 0, 1) := dk_42 (dk_at dksX9_advanceToken_2 0 rfl rfl)
theorem dX9_advanceToken_48 : decode cX9_advanceToken 48 = .ok (.aload_n 0, 1) := dk_42 (dk_at dksX9_advanceToken_2 1 rfl rfl)
theorem dX9_advanceToken_49 : decode cX9_advanceToken 49 = .ok (.getfield 174, 3) := dk_180 0 174 (dk_at dksX9_advanceToken_2 2 rfl rfl)
theorem dX9_advanceToken_52 : decode cX9_advanceToken 52 = .ok (.invokevirtual 171, 3) := dk_182 0 171 (dk_at dksX9_advanceToken_2 5 rfl rfl)
theorem dX9_advanceToken_55 : decode cX9_advanceToken 55 = .ok (.istore_n 1, 1) := dk_60 (dk_at dksX9_advanceToken_2 8 rfl rfl)
theorem dX9_advanceToken_56 : decode cX9_advanceToken 56 = .ok (.aload_n 0, 1) := dk_42 (dk_at dksX9_advanceToken_2 9 rfl rfl)
theorem dX9_advanceToken_57 : decode cX9_advanceToken 57 = .ok (.iconst 0, 1) := dk_3 (dk_at dksX9_advanceToken_2 10 rfl rfl)
theorem dX9_advanceToken_58 : decode cX9_advanceToken 58 = .ok (.putfield 180, 3) := dk_181 0 180 (dk_at dksX9_advanceToken_2 11 rfl rfl)
theorem dX9_advanceToken_61 : decode cX9_advanceToken 61 = .ok (.iload_n 1, 1) := dk_27 (dk_at dksX9_advanceToken_2 14 rfl rfl)
theorem dX9_advanceToken_62 : decode cX9_advanceToken 62 = .ok (.iconst (-1), 1) := dk_2 (dk_at dksX9_advanceToken_2 15 rfl rfl)
theorem dX9_advanceToken_63 : decode cX9_advanceToken 63 = .ok (.if_icmp .ne 11, 3) := dk_160 0 11 (dk_at dksX9_advanceToken_2 16 rfl rfl)
theorem dX9_advanceToken_66 : decode cX9_advanceToken 66 = .ok (.aload_n 0, 1) := dk_42 (dk_at dksX9_advanceToken_2 19 rfl rfl)
theorem dX9_advanceToken_67 : decode cX9_advanceToken 67 = .ok (.iconst 0, 1) := dk_3 (dk_at dksX9_advanceToken_2 20 rfl rfl)
theorem dX9_advanceToken_68 : decode cX9_advanceToken 68 = .ok (.putfield 183, 3) := dk_181 0 183 (dk_at dksX9_advanceToken_2 21 rfl rfl)
theorem dX9_advanceToken_71 : decode cX9_advanceToken 71 = .ok (.goto 199, 3) := dk_167 0 199 (dk_at dksX9_advanceToken_3 0 rfl rfl)
theorem dX9_advanceToken_74 : decode cX9_advanceToken 74 = .ok (.aload_n 0, 1) := dk_42 (dk_at dksX9_advanceToken_3 3 rfl rfl)
theorem dX9_advanceToken_75 : decode cX9_advanceToken 75 = .ok (.aload_n 0, 1) := dk_42 (dk_at dksX9_advanceToken_3 4 rfl rfl)
theorem dX9_advanceToken_76 : decode cX9_advanceToken 76 = .ok (.getfield 174, 3) := dk_180 0 174 (dk_at dksX9_advanceToken_3 5 rfl rfl)
theorem dX9_advanceToken_79 : decode cX9_advanceToken 79 = .ok (.invokevirtual 186, 3) := dk_182 0 186 (dk_at dksX9_advanceToken_3 8 rfl rfl)
theorem dX9_advanceToken_82 : decode cX9_advanceToken 82 = .ok (.ifCond .eq 53, 3) := dk_153 0 53 (dk_at dksX9_advanceToken_3 11 rfl rfl)
theorem dX9_advanceToken_85 : decode cX9_advanceToken 85 = .ok (.aload_n 0, 1) := dk_42 (dk_at dksX9_advanceToken_3 14 rfl rfl)
theorem dX9_advanceToken_86 : decode cX9_advanceToken 86 = .ok (.aload_n 0, 1) := dk_42 (dk_at dksX9_advanceToken_3 15 rfl rfl)
theorem dX9_advanceToken_87 : decode cX9_advanceToken 87 = .ok (.getfield 174, 3) := dk_180 0 174 (dk_at dksX9_advanceToken_3 16 rfl rfl)
theorem dX9_advanceToken_90 : decode cX9_advanceToken 90 = .ok (.invokevirtual 186, 3) := dk_182 0 186 (dk_at dksX9_advanceToken_3 19 rfl rfl)
theorem dX9_advanceToken_93 : decode cX9_advanceToken 93 = .ok (.ifCond .eq 16, 3) := dk_153 0 16 (dk_at dksX9_advanceToken_4 0 rfl rfl)
theorem dX9_advanceToken_96 : decode cX9_advanceToken 96 = .ok (.aload_n 0, 1) := dk_42 (dk_at dksX9_advanceToken_4 3 rfl rfl)
theorem dX9_advanceToken_97 : decode cX9_advanceToken 97 = .ok (.dup, 1) := dk_89 (dk_at dksX9_advanceToken_4 4 rfl rfl)
theorem dX9_advanceToken_98 : decode cX9_advanceToken 98 = .ok (.getfield 174, 3) := dk_180 0 174 (dk_at dksX9_advanceToken_4 5 rfl rfl)
theorem dX9_advanceToken_101 : decode cX9_advanceToken 101 = .ok (.iconst 1, 1) := dk_4 (dk_at dksX9_advanceToken_4 8 rfl rfl)
theorem dX9_advanceToken_102 : decode cX9_advanceToken 102 = .ok (.iadd, 1) := dk_96 (dk_at dksX9_advanceToken_4 9 rfl rfl)
theorem dX9_advanceToken_103 : decode cX9_advanceToken 103 = .ok (.putfield 174, 3) := dk_181 0 174 (dk_at dksX9_advanceToken_4 10 rfl rfl)
theorem dX9_advanceToken_106 : decode cX9_advanceToken 106 = .ok (.goto (-21), 3) := dk_167 255 235 (dk_at dksX9_advanceToken_4 13 rfl rfl)
theorem dX9_advanceToken_109 : decode cX9_advanceToken 109 = .ok (.aload_n 0, 1) := dk_42 (dk_at dksX9_advanceToken_4 16 rfl rfl)
theorem dX9_advanceToken_110 : decode cX9_advanceToken 110 = .ok (.aload_n 0, 1) := dk_42 (dk_at dksX9_advanceToken_4 17 rfl rfl)
theorem dX9_advanceToken_111 : decode cX9_advanceToken 111 = .ok (.getfield 174, 3) := dk_180 0 174 (dk_at dksX9_advanceToken_4 18 rfl rfl)
theorem dX9_advanceToken_114 : decode cX9_advanceToken 114 = .ok (.aload_n 0, 1) := dk_42 (dk_at dksX9_advanceToken_4 21 rfl rfl)
theorem dX9_advanceToken_115 : decode cX9_advanceToken 115 = .ok (.getfield 177, 3) := dk_180 0 177 (dk_at dksX9_advanceToken_5 0 rfl rfl)
theorem dX9_advanceToken_118 : decode cX9_advanceToken 118 = .ok (.isub, 1) := dk_100 (dk_at dksX9_advanceToken_5 3 rfl rfl)
theorem dX9_advanceToken_119 : decode cX9_advanceToken 119 = .ok (.bipush 8, 2) := dk_16 8 (dk_at dksX9_advanceToken_5 4 rfl rfl)
theorem dX9_advanceToken_121 : decode cX9_advanceToken 121 = .ok (.if_icmp .le 7, 3) := dk_164 0 7 (dk_at dksX9_advanceToken_5 6 rfl rfl)
theorem dX9_advanceToken_124 : decode cX9_advanceToken 124 = .ok (.iconst 4, 1) := dk_7 (dk_at dksX9_advanceToken_5 9 rfl rfl)
theorem dX9_advanceToken_125 : decode cX9_advanceToken 125 = .ok (.goto 4, 3) := dk_167 0 4 (dk_at dksX9_advanceToken_5 10 rfl rfl)
theorem dX9_advanceToken_128 : decode cX9_advanceToken 128 = .ok (.iconst 1, 1) := dk_4 (dk_at dksX9_advanceToken_5 13 rfl rfl)
theorem dX9_advanceToken_129 : decode cX9_advanceToken 129 = .ok (.putfield 183, 3) := dk_181 0 183 (dk_at dksX9_advanceToken_5 14 rfl rfl)
theorem dX9_advanceToken_132 : decode cX9_advanceToken 132 = .ok (.goto 138, 3) := dk_167 0 138 (dk_at dksX9_advanceToken_5 17 rfl rfl)
theorem dX9_advanceToken_135 : decode cX9_advanceToken 135 = .ok (.iload_n 1, 1) := dk_27 (dk_at dksX9_advanceToken_5 20 rfl rfl)
theorem dX9_advanceToken_136 : decode cX9_advanceToken 136 = .ok (.bipush 48, 2) := dk_16 48 (dk_at dksX9_advanceToken_5 21 rfl rfl)
theorem dX9_advanceToken_138 : decode cX9_advanceToken 138 = .ok (.bipush 57, 2) := dk_16 57 (dk_at dksX9_advanceToken_6 0 rfl rfl)
theorem dX9_advanceToken_140 : decode cX9_advanceToken 140 = .ok (.invokestatic 127, 3) := dk_184 0 127 (dk_at dksX9_advanceToken_6 2 rfl rfl)
theorem dX9_advanceToken_143 : decode cX9_advanceToken 143 = .ok (.ifCond .eq 102, 3) := dk_153 0 102 (dk_at dksX9_advanceToken_6 5 rfl rfl)
theorem dX9_advanceToken_146 : decode cX9_advanceToken 146 = .ok (.aload_n 0, 1) := dk_42 (dk_at dksX9_advanceToken_6 8 rfl rfl)
theorem dX9_advanceToken_147 : decode cX9_advanceToken 147 = .ok (.aload_n 0, 1) := dk_42 (dk_at dksX9_advanceToken_6 9 rfl rfl)
theorem dX9_advanceToken_148 : decode cX9_advanceToken 148 = .ok (.getfield 174, 3) := dk_180 0 174 (dk_at dksX9_advanceToken_6 10 rfl rfl)
theorem dX9_advanceToken_151 : decode cX9_advanceToken 151 = .ok (.invokevirtual 171, 3) := dk_182 0 171 (dk_at dksX9_advanceToken_6 13 rfl rfl)
theorem dX9_advanceToken_154 : decode cX9_advanceToken 154 = .ok (.bipush 48, 2) := dk_16 48 (dk_at dksX9_advanceToken_6 16 rfl rfl)
theorem dX9_advanceToken_156 : decode cX9_advanceToken 156 = .ok (.bipush 57, 2) := dk_16 57 (dk_at dksX9_advanceToken_6 18 rfl rfl)
theorem dX9_advanceToken_158 : decode cX9_advanceToken 158 = .ok (.invokestatic 127, 3) := dk_184 0 127 (dk_at dksX9_advanceToken_6 20 rfl rfl)
theorem dX9_advanceToken_161 : decode cX9_advanceToken 161 = .ok (.ifCond .eq 59, 3) := dk_153 0 59 (dk_at dksX9_advanceToken_7 0 rfl rfl)
theorem dX9_advanceToken_164 : decode cX9_advanceToken 164 = .ok (.aload_n 0, 1) := dk_42 (dk_at dksX9_advanceToken_7 3 rfl rfl)
theorem dX9_advanceToken_165 : decode cX9_advanceToken 165 = .ok (.aload_n 0, 1) := dk_42 (dk_at dksX9_advanceToken_7 4 rfl rfl)
theorem dX9_advanceToken_166 : decode cX9_advanceToken 166 = .ok (.getfield 174, 3) := dk_180 0 174 (dk_at dksX9_advanceToken_7 5 rfl rfl)
theorem dX9_advanceToken_169 : decode cX9_advanceToken 169 = .ok (.aload_n 0, 1) := dk_42 (dk_at dksX9_advanceToken_7 8 rfl rfl)
theorem dX9_advanceToken_170 : decode cX9_advanceToken 170 = .ok (.getfield 177, 3) := dk_180 0 177 (dk_at dksX9_advanceToken_7 9 rfl rfl)
theorem dX9_advanceToken_173 : decode cX9_advanceToken 173 = .ok (.isub, 1) := dk_100 (dk_at dksX9_advanceToken_7 12 rfl rfl)
theorem dX9_advanceToken_174 : decode cX9_advanceToken 174 = .ok (.iconst 3, 1) := dk_6 (dk_at dksX9_advanceToken_7 13 rfl rfl)
theorem dX9_advanceToken_175 : decode cX9_advanceToken 175 = .ok (.if_icmp .ge 25, 3) := dk_162 0 25 (dk_at dksX9_advanceToken_7 14 rfl rfl)
theorem dX9_advanceToken_178 : decode cX9_advanceToken 178 = .ok (.bipush 10, 2) := dk_16 10 (dk_at dksX9_advanceToken_7 17 rfl rfl)
theorem dX9_advanceToken_180 : decode cX9_advanceToken 180 = .ok (.aload_n 0, 1) := dk_42 (dk_at dksX9_advanceToken_7 19 rfl rfl)
theorem dX9_advanceToken_181 : decode cX9_advanceToken 181 = .ok (.getfield 180, 3) := dk_180 0 180 (dk_at dksX9_advanceToken_7 20 rfl rfl)
theorem dX9_advanceToken_184 : decode cX9_advanceToken 184 = .ok (.imul, 1) := dk_104 (dk_at dksX9_advanceToken_7 23 rfl rfl)
theorem dX9_advanceToken_185 : decode cX9_advanceToken 185 = .ok (.aload_n 0, 1) := dk_42 (dk_at dksX9_advanceToken_8 0 rfl rfl)
theorem dX9_advanceToken_186 : decode cX9_advanceToken 186 = .ok (.aload_n 0, 1) := dk_42 (dk_at dksX9_advanceToken_8 1 rfl rfl)
theorem dX9_advanceToken_187 : decode cX9_advanceToken 187 = .ok (.getfield 174, 3) := dk_180 0 174 (dk_at dksX9_advanceToken_8 2 rfl rfl)
theorem dX9_advanceToken_190 : decode cX9_advanceToken 190 = .ok (.invokevirtual 171, 3) := dk_182 0 171 (dk_at dksX9_advanceToken_8 5 rfl rfl)
theorem dX9_advanceToken_193 : decode cX9_advanceToken 193 = .ok (.iadd, 1) := dk_96 (dk_at dksX9_advanceToken_8 8 rfl rfl)
theorem dX9_advanceToken_194 : decode cX9_advanceToken 194 = .ok (.bipush 48, 2) := dk_16 48 (dk_at dksX9_advanceToken_8 9 rfl rfl)
theorem dX9_advanceToken_196 : decode cX9_advanceToken 196 = .ok (.isub, 1) := dk_100 (dk_at dksX9_advanceToken_8 11 rfl rfl)
theorem dX9_advanceToken_197 : decode cX9_advanceToken 197 = .ok (.goto 7, 3) := dk_167 0 7 (dk_at dksX9_advanceToken_8 12 rfl rfl)
theorem dX9_advanceToken_200 : decode cX9_advanceToken 200 = .ok (.aload_n 0, 1) := dk_42 (dk_at dksX9_advanceToken_8 15 rfl rfl)
theorem dX9_advanceToken_201 : decode cX9_advanceToken 201 = .ok (.getfield 180, 3) := dk_180 0 180 (dk_at dksX9_advanceToken_8 16 rfl rfl)
theorem dX9_advanceToken_204 : decode cX9_advanceToken 204 = .ok (.putfield 180, 3) := dk_181 0 180 (dk_at dksX9_advanceToken_8 19 rfl rfl)
theorem dX9_advanceToken_207 : decode cX9_advanceToken 207 = .ok (.aload_n 0, 1) := dk_42 (dk_at dksX9_advanceToken_8 22 rfl rfl)
theorem dX9_advanceToken_208 : decode cX9_advanceToken 208 = .ok (.dup, 1) := dk_89 (dk_at dksX9_advanceToken_8 23 rfl rfl)
theorem dX9_advanceToken_209 : decode cX9_advanceToken 209 = .ok (.getfield 174, 3) := dk_180 0 174 (dk_at dksX9_advanceToken_9 0 rfl rfl)
theorem dX9_advanceToken_212 : decode cX9_advanceToken 212 = .ok (.iconst 1, 1) := dk_4 (dk_at dksX9_advanceToken_9 3 rfl rfl)
theorem dX9_advanceToken_213 : decode cX9_advanceToken 213 = .ok (.iadd, 1) := dk_96 (dk_at dksX9_advanceToken_9 4 rfl rfl)
theorem dX9_advanceToken_214 : decode cX9_advanceToken 214 = .ok (.putfield 174, 3) := dk_181 0 174 (dk_at dksX9_advanceToken_9 5 rfl rfl)
theorem dX9_advanceToken_217 : decode cX9_advanceToken 217 = .ok (.goto (-71), 3) := dk_167 255 185 (dk_at dksX9_advanceToken_9 8 rfl rfl)
theorem dX9_advanceToken_220 : decode cX9_advanceToken 220 = .ok (.aload_n 0, 1) := dk_42 (dk_at dksX9_advanceToken_9 11 rfl rfl)
theorem dX9_advanceToken_221 : decode cX9_advanceToken 221 = .ok (.aload_n 0, 1) := dk_42 (dk_at dksX9_advanceToken_9 12 rfl rfl)
theorem dX9_advanceToken_222 : decode cX9_advanceToken 222 = .ok (.getfield 174, 3) := dk_180 0 174 (dk_at dksX9_advanceToken_9 13 rfl rfl)
theorem dX9_advanceToken_225 : decode cX9_advanceToken 225 = .ok (.aload_n 0, 1) := dk_42 (dk_at dksX9_advanceToken_9 16 rfl rfl)
theorem dX9_advanceToken_226 : decode cX9_advanceToken 226 = .ok (.getfield 177, 3) := dk_180 0 177 (dk_at dksX9_advanceToken_9 17 rfl rfl)
theorem dX9_advanceToken_229 : decode cX9_advanceToken 229 = .ok (.isub, 1) := dk_100 (dk_at dksX9_advanceToken_9 20 rfl rfl)
theorem dX9_advanceToken_230 : decode cX9_advanceToken 230 = .ok (.iconst 3, 1) := dk_6 (dk_at dksX9_advanceToken_9 21 rfl rfl)
theorem dX9_advanceToken_231 : decode cX9_advanceToken 231 = .ok (.if_icmp .le 7, 3) := dk_164 0 7 (dk_at dksX9_advanceToken_10 0 rfl rfl)
theorem dX9_advanceToken_234 : decode cX9_advanceToken 234 = .ok (.iconst 4, 1) := dk_7 (dk_at dksX9_advanceToken_10 3 rfl rfl)
theorem dX9_advanceToken_235 : decode cX9_advanceToken 235 = .ok (.goto 4, 3) := dk_167 0 4 (dk_at dksX9_advanceToken_10 4 rfl rfl)
theorem dX9_advanceToken_238 : decode cX9_advanceToken 238 = .ok (.iconst 2, 1) := dk_5 (dk_at dksX9_advanceToken_10 7 rfl rfl)
theorem dX9_advanceToken_239 : decode cX9_advanceToken 239 = .ok (.putfield 183, 3) := dk_181 0 183 (dk_at dksX9_advanceToken_10 8 rfl rfl)
theorem dX9_advanceToken_242 : decode cX9_advanceToken 242 = .ok (.goto 28, 3) := dk_167 0 28 (dk_at dksX9_advanceToken_10 11 rfl rfl)
theorem dX9_advanceToken_245 : decode cX9_advanceToken 245 = .ok (.aload_n 0, 1) := dk_42 (dk_at dksX9_advanceToken_10 14 rfl rfl)
theorem dX9_advanceToken_246 : decode cX9_advanceToken 246 = .ok (.iload_n 1, 1) := dk_27 (dk_at dksX9_advanceToken_10 15 rfl rfl)
theorem dX9_advanceToken_247 : decode cX9_advanceToken 247 = .ok (.bipush 59, 2) := dk_16 59 (dk_at dksX9_advanceToken_10 16 rfl rfl)
theorem dX9_advanceToken_249 : decode cX9_advanceToken 249 = .ok (.if_icmp .ne 7, 3) := dk_160 0 7 (dk_at dksX9_advanceToken_10 18 rfl rfl)
theorem dX9_advanceToken_252 : decode cX9_advanceToken 252 = .ok (.iconst 3, 1) := dk_6 (dk_at dksX9_advanceToken_10 21 rfl rfl)
theorem dX9_advanceToken_253 : decode cX9_advanceToken 253 = .ok (.goto 4, 3) := dk_167 0 4 (dk_at dksX9_advanceToken_11 0 rfl rfl)
theorem dX9_advanceToken_256 : decode cX9_advanceToken 256 = .ok (.iconst 4, 1) := dk_7 (dk_at dksX9_advanceToken_11 3 rfl rfl)
theorem dX9_advanceToken_257 : decode cX9_advanceToken 257 = .ok (.putfield 183, 3) := dk_181 0 183 (dk_at dksX9_advanceToken_11 4 rfl rfl)
theorem dX9_advanceToken_260 : decode cX9_advanceToken 260 = .ok (.aload_n 0, 1) := dk_42 (dk_at dksX9_advanceToken_11 7 rfl rfl)
theorem dX9_advanceToken_261 : decode cX9_advanceToken 261 = .ok (.dup, 1) := dk_89 (dk_at dksX9_advanceToken_11 8 rfl rfl)
theorem dX9_advanceToken_262 : decode cX9_advanceToken 262 = .ok (.getfield 174, 3) := dk_180 0 174 (dk_at dksX9_advanceToken_11 9 rfl rfl)
theorem dX9_advanceToken_265 : decode cX9_advanceToken 265 = .ok (.iconst 1, 1) := dk_4 (dk_at dksX9_advanceToken_11 12 rfl rfl)
theorem dX9_advanceToken_266 : decode cX9_advanceToken 266 = .ok (.iadd, 1) := dk_96 (dk_at dksX9_advanceToken_11 13 rfl rfl)
theorem dX9_advanceToken_267 : decode cX9_advanceToken 267 = .ok (.putfield 174, 3) := dk_181 0 174 (dk_at dksX9_advanceToken_11 14 rfl rfl)
theorem dX9_advanceToken_270 : decode cX9_advanceToken 270 = .ok (.return_, 1) := dk_177 (dk_at dksX9_advanceToken_11 17 rfl rfl)
abbrev cX9_byteAt : ByteArray := prog_41_method_45_code
def yX9_byteAt : MethodName := ⟨RX9, "byteAt", "(I)I"⟩
def dkwX9_byteAt_0 : List UInt8 := [27, 42, 180, 0, 165, 162, 0, 12, 42, 180, 0, 28, 27, 46, 167, 0, 4, 2, 172]
abbrev dktX9_byteAt_0 : List UInt8 := dkwX9_byteAt_0 ++ []
theorem dksX9_byteAt_0 : cX9_byteAt.data.toList.drop 0 = dktX9_byteAt_0 := by decide +kernel
theorem dX9_byteAt_0 : decode cX9_byteAt 0 = .ok (.iload_n 1, 1) := dk_27 (dk_at dksX9_byteAt_0 0 rfl rfl)
theorem dX9_byteAt_1 : decode cX9_byteAt 1 = .ok (.aload_n 0, 1) := dk_42 (dk_at dksX9_byteAt_0 1 rfl rfl)
theorem dX9_byteAt_2 : decode cX9_byteAt 2 = .ok (.getfield 165, 3) := dk_180 0 165 (dk_at dksX9_byteAt_0 2 rfl rfl)
theorem dX9_byteAt_5 : decode cX9_byteAt 5 = .ok (.if_icmp .ge 12, 3) := dk_162 0 12 (dk_at dksX9_byteAt_0 5 rfl rfl)
theorem dX9_byteAt_8 : decode cX9_byteAt 8 = .ok (.aload_n 0, 1) := dk_42 (dk_at dksX9_byteAt_0 8 rfl rfl)
theorem dX9_byteAt_9 : decode cX9_byteAt 9 = .ok (.getfield 28, 3) := dk_180 0 28 (dk_at dksX9_byteAt_0 9 rfl rfl)
theorem dX9_byteAt_12 : decode cX9_byteAt 12 = .ok (.iload_n 1, 1) := dk_27 (dk_at dksX9_byteAt_0 12 rfl rfl)
theorem dX9_byteAt_13 : decode cX9_byteAt 13 = .ok (.iaload, 1) := dk_46 (dk_at dksX9_byteAt_0 13 rfl rfl)
theorem dX9_byteAt_14 : decode cX9_byteAt 14 = .ok (.goto 4, 3) := dk_167 0 4 (dk_at dksX9_byteAt_0 14 rfl rfl)
theorem dX9_byteAt_17 : decode cX9_byteAt 17 = .ok (.iconst (-1), 1) := dk_2 (dk_at dksX9_byteAt_0 17 rfl rfl)
theorem dX9_byteAt_18 : decode cX9_byteAt 18 = .ok (.ireturn, 1) := dk_172 (dk_at dksX9_byteAt_0 18 rfl rfl)
abbrev cX9_isLetter : ByteArray := prog_41_method_46_code
def yX9_isLetter : MethodName := ⟨RX9, "isLetter", "(I)Z"⟩
def dkwX9_isLetter_0 : List UInt8 := [42, 27, 182, 0, 171, 16, 97, 16, 122, 184, 0, 127, 172]
abbrev dktX9_isLetter_0 : List UInt8 := dkwX9_isLetter_0 ++ []
theorem dksX9_isLetter_0 : cX9_isLetter.data.toList.drop 0 = dktX9_isLetter_0 := by decide +kernel
theorem dX9_isLetter_0 : decode cX9_isLetter 0 = .ok (.aload_n 0, 1) := dk_42 (dk_at dksX9_isLetter_0 0 rfl rfl)
theorem dX9_isLetter_1 : decode cX9_isLetter 1 = .ok (.iload_n 1, 1) := dk_27 (dk_at dksX9_isLetter_0 1 rfl rfl)
theorem dX9_isLetter_2 : decode cX9_isLetter 2 = .ok (.invokevirtual 171, 3) := dk_182 0 171 (dk_at dksX9_isLetter_0 2 rfl rfl)
theorem dX9_isLetter_5 : decode cX9_isLetter 5 = .ok (.bipush 97, 2) := dk_16 97 (dk_at dksX9_isLetter_0 5 rfl rfl)
theorem dX9_isLetter_7 : decode cX9_isLetter 7 = .ok (.bipush 122, 2) := dk_16 122 (dk_at dksX9_isLetter_0 7 rfl rfl)
theorem dX9_isLetter_9 : decode cX9_isLetter 9 = .ok (.invokestatic 127, 3) := dk_184 0 127 (dk_at dksX9_isLetter_0 9 rfl rfl)
theorem dX9_isLetter_12 : decode cX9_isLetter 12 = .ok (.ireturn, 1) := dk_172 (dk_at dksX9_isLetter_0 12 rfl rfl)
abbrev cX9_readText : ByteArray := prog_41_method_67_code
def yX9_readText : MethodName := ⟨RX9, "readText", "()Z"⟩
def dkwX9_readText_3 : List UInt8 := [153, 0, 7, 4, 167, 0, 4, 3, 172]
abbrev dktX9_readText_3 : List UInt8 := dkwX9_readText_3 ++ []
def dkwX9_readText_2 : List UInt8 := [16, 6, 182, 0, 205, 172, 42, 42, 182, 1, 52, 182, 0, 134, 2, 159, 0, 12, 42, 16, 7, 182, 0, 205]
abbrev dktX9_readText_2 : List UInt8 := dkwX9_readText_2 ++ dktX9_readText_3
def dkwX9_readText_1 : List UInt8 := [3, 46, 153, 0, 21, 42, 180, 0, 7, 4, 46, 153, 0, 12, 42, 180, 0, 7, 5, 46, 154, 0, 10, 42]
abbrev dktX9_readText_1 : List UInt8 := dkwX9_readText_1 ++ dktX9_readText_2
def dkwX9_readText_0 : List UInt8 := [42, 182, 0, 54, 42, 180, 0, 183, 153, 0, 12, 42, 182, 1, 49, 154, 255, 245, 3, 172, 42, 180, 0, 7]
abbrev dktX9_readText_0 : List UInt8 := dkwX9_readText_0 ++ dktX9_readText_1
theorem dksX9_readText_0 : cX9_readText.data.toList.drop 0 = dktX9_readText_0 := by decide +kernel
theorem dksX9_readText_1 : cX9_readText.data.toList.drop 24 = dktX9_readText_1 := dk_seg dksX9_readText_0 24 rfl rfl
theorem dksX9_readText_2 : cX9_readText.data.toList.drop 48 = dktX9_readText_2 := dk_seg dksX9_readText_1 24 rfl rfl
theorem dksX9_readText_3 : cX9_readText.data.toList.drop 72 = dktX9_readText_3 := dk_seg dksX9_readText_2 24 rfl rfl
theorem dX9_readText_0 : decode cX9_readText 0 = .ok (.aload_n 0, 1) := dk_42 (dk_at dksX9_readText_0 0 rfl rfl)
theorem dX9_readText_1 : decode cX9_readText 1 = .ok (.invokevirtual 54, 3) := dk_182 0 54 (dk_at dksX9_readText_0 1 rfl rfl)
theorem dX9_readText_4 : decode cX9_readText 4 = .ok (.aload_n 0, 1) := dk_42 (dk_at dksX9_readText_0 4 rfl rfl)
theorem dX9_readText_5 : decode cX9_readText 5 = .ok (.getfield 183, 3) := dk_180 0 183 (dk_at dksX9_readText_0 5 rfl rfl)
theorem dX9_readText_8 : decode cX9_readText 8 = .ok (.ifCond .eq 12, 3) := dk_153 0 12 (dk_at dksX9_readText_0 8 rfl rfl)
theorem dX9_readText_11 : decode cX9_readText 11 = .ok (.aload_n 0, 1) := dk_42 (dk_at dksX9_readText_0 11 rfl rfl)
theorem dX9_readText_12 : decode cX9_readText 12 = .ok (.invokevirtual 305, 3) := dk_182 1 49 (dk_at dksX9_readText_0 12 rfl rfl)
theorem dX9_readText_15 : decode cX9_readText 15 = .ok (.ifCond .ne (-11), 3) := dk_154 255 245 (dk_at dksX9_readText_0 15 rfl rfl)
theorem dX9_readText_18 : decode cX9_readText 18 = .ok (.iconst 0, 1) := dk_3 (dk_at dksX9_readText_0 18 rfl rfl)
theorem dX9_readText_19 : decode cX9_readText 19 = .ok (.ireturn, 1) := dk_172 (dk_at dksX9_readText_0 19 rfl rfl)
theorem dX9_readText_20 : decode cX9_readText 20 = .ok (.aload_n 0, 1) := dk_42 (dk_at dksX9_readText_0 20 rfl rfl)
theorem dX9_readText_21 : decode cX9_readText 21 = .ok (.getfield 7, 3) := dk_180 0 7 (dk_at dksX9_readText_0 21 rfl rfl)
theorem dX9_readText_24 : decode cX9_readText 24 = .ok (.iconst 0, 1) := dk_3 (dk_at dksX9_readText_1 0 rfl rfl)
theorem dX9_readText_25 : decode cX9_readText 25 = .ok (.iaload, 1) := dk_46 (dk_at dksX9_readText_1 1 rfl rfl)
theorem dX9_readText_26 : decode cX9_readText 26 = .ok (.ifCond .eq 21, 3) := dk_153 0 21 (dk_at dksX9_readText_1 2 rfl rfl)
theorem dX9_readText_29 : decode cX9_readText 29 = .ok (.aload_n 0, 1) := dk_42 (dk_at dksX9_readText_1 5 rfl rfl)
theorem dX9_readText_30 : decode cX9_readText 30 = .ok (.getfield 7, 3) := dk_180 0 7 (dk_at dksX9_readText_1 6 rfl rfl)
theorem dX9_readText_33 : decode cX9_readText 33 = .ok (.iconst 1, 1) := dk_4 (dk_at dksX9_readText_1 9 rfl rfl)
theorem dX9_readText_34 : decode cX9_readText 34 = .ok (.iaload, 1) := dk_46 (dk_at dksX9_readText_1 10 rfl rfl)
theorem dX9_readText_35 : decode cX9_readText 35 = .ok (.ifCond .eq 12, 3) := dk_153 0 12 (dk_at dksX9_readText_1 11 rfl rfl)
theorem dX9_readText_38 : decode cX9_readText 38 = .ok (.aload_n 0, 1) := dk_42 (dk_at dksX9_readText_1 14 rfl rfl)
theorem dX9_readText_39 : decode cX9_readText 39 = .ok (.getfield 7, 3) := dk_180 0 7 (dk_at dksX9_readText_1 15 rfl rfl)
theorem dX9_readText_42 : decode cX9_readText 42 = .ok (.iconst 2, 1) := dk_5 (dk_at dksX9_readText_1 18 rfl rfl)
theorem dX9_readText_43 : decode cX9_readText 43 = .ok (.iaload, 1) := dk_46 (dk_at dksX9_readText_1 19 rfl rfl)
theorem dX9_readText_44 : decode cX9_readText 44 = .ok (.ifCond .ne 10, 3) := dk_154 0 10 (dk_at dksX9_readText_1 20 rfl rfl)
theorem dX9_readText_47 : decode cX9_readText 47 = .ok (.aload_n 0, 1) := dk_42 (dk_at dksX9_readText_1 23 rfl rfl)
theorem dX9_readText_48 : decode cX9_readText 48 = .ok (.bipush 6, 2) := dk_16 6 (dk_at dksX9_readText_2 0 rfl rfl)
theorem dX9_readText_50 : decode cX9_readText 50 = .ok (.invokevirtual 205, 3) := dk_182 0 205 (dk_at dksX9_readText_2 2 rfl rfl)
theorem dX9_readText_53 : decode cX9_readText 53 = .ok (.ireturn, 1) := dk_172 (dk_at dksX9_readText_2 5 rfl rfl)
theorem dX9_readText_54 : decode cX9_readText 54 = .ok (.aload_n 0, 1) := dk_42 (dk_at dksX9_readText_2 6 rfl rfl)
theorem dX9_readText_55 : decode cX9_readText 55 = .ok (.aload_n 0, 1) := dk_42 (dk_at dksX9_readText_2 7 rfl rfl)
theorem dX9_readText_56 : decode cX9_readText 56 = .ok (.invokevirtual 308, 3) := dk_182 1 52 (dk_at dksX9_readText_2 8 rfl rfl)
theorem dX9_readText_59 : decode cX9_readText 59 = .ok (.invokevirtual 134, 3) := dk_182 0 134 (dk_at dksX9_readText_2 11 rfl rfl)
theorem dX9_readText_62 : decode cX9_readText 62 = .ok (.iconst (-1), 1) := dk_2 (dk_at dksX9_readText_2 14 rfl rfl)
theorem dX9_readText_63 : decode cX9_readText 63 = .ok (.if_icmp .eq 12, 3) := dk_159 0 12 (dk_at dksX9_readText_2 15 rfl rfl)
theorem dX9_readText_66 : decode cX9_readText 66 = .ok (.aload_n 0, 1) := dk_42 (dk_at dksX9_readText_2 18 rfl rfl)
theorem dX9_readText_67 : decode cX9_readText 67 = .ok (.bipush 7, 2) := dk_16 7 (dk_at dksX9_readText_2 19 rfl rfl)
theorem dX9_readText_69 : decode cX9_readText 69 = .ok (.invokevirtual 205, 3) := dk_182 0 205 (dk_at dksX9_readText_2 21 rfl rfl)
theorem dX9_readText_72 : decode cX9_readText 72 = .ok (.ifCond .eq 7, 3) := dk_153 0 7 (dk_at dksX9_readText_3 0 rfl rfl)
theorem dX9_readText_75 : decode cX9_readText 75 = .ok (.iconst 1, 1) := dk_4 (dk_at dksX9_readText_3 3 rfl rfl)
theorem dX9_readText_76 : decode cX9_readText 76 = .ok (.goto 4, 3) := dk_167 0 4 (dk_at dksX9_readText_3 4 rfl rfl)
theorem dX9_readText_79 : decode cX9_readText 79 = .ok (.iconst 0, 1) := dk_3 (dk_at dksX9_readText_3 7 rfl rfl)
theorem dX9_readText_80 : decode cX9_readText 80 = .ok (.ireturn, 1) := dk_172 (dk_at dksX9_readText_3 8 rfl rfl)
abbrev cX9_readSetupStatement : ByteArray := prog_41_method_66_code
def yX9_readSetupStatement : MethodName := ⟨RX9, "readSetupStatement", "()Z"⟩
def dkwX9_readSetupStatement_4 : List UInt8 := [42, 19, 1, 47, 182, 0, 232, 153, 0, 11, 42, 4, 182, 1, 44, 167, 0, 8, 42, 4, 182, 0, 205, 172]
abbrev dktX9_readSetupStatement_4 : List UInt8 := dkwX9_readSetupStatement_4 ++ []
def dkwX9_readSetupStatement_3 : List UInt8 := [153, 0, 8, 42, 182, 1, 39, 172, 42, 19, 1, 42, 182, 0, 232, 153, 0, 9, 42, 3, 182, 1, 44, 172]
abbrev dktX9_readSetupStatement_3 : List UInt8 := dkwX9_readSetupStatement_3 ++ dktX9_readSetupStatement_4
def dkwX9_readSetupStatement_2 : List UInt8 := [182, 0, 232, 153, 0, 13, 42, 17, 1, 227, 5, 6, 182, 1, 30, 172, 42, 19, 1, 37, 182, 0, 232]
abbrev dktX9_readSetupStatement_2 : List UInt8 := dkwX9_readSetupStatement_2 ++ dktX9_readSetupStatement_3
def dkwX9_readSetupStatement_1 : List UInt8 := [19, 1, 33, 182, 0, 232, 153, 0, 14, 42, 17, 1, 171, 4, 16, 8, 182, 1, 30, 172, 42, 19, 1, 35]
abbrev dktX9_readSetupStatement_1 : List UInt8 := dkwX9_readSetupStatement_1 ++ dktX9_readSetupStatement_2
def dkwX9_readSetupStatement_0 : List UInt8 := [42, 19, 1, 28, 182, 0, 232, 153, 0, 14, 42, 17, 1, 101, 3, 16, 10, 182, 1, 30, 172, 42]
abbrev dktX9_readSetupStatement_0 : List UInt8 := dkwX9_readSetupStatement_0 ++ dktX9_readSetupStatement_1
theorem dksX9_readSetupStatement_0 : cX9_readSetupStatement.data.toList.drop 0 = dktX9_readSetupStatement_0 := by decide +kernel
theorem dksX9_readSetupStatement_1 : cX9_readSetupStatement.data.toList.drop 22 = dktX9_readSetupStatement_1 := dk_seg dksX9_readSetupStatement_0 22 rfl rfl
theorem dksX9_readSetupStatement_2 : cX9_readSetupStatement.data.toList.drop 46 = dktX9_readSetupStatement_2 := dk_seg dksX9_readSetupStatement_1 24 rfl rfl
theorem dksX9_readSetupStatement_3 : cX9_readSetupStatement.data.toList.drop 69 = dktX9_readSetupStatement_3 := dk_seg dksX9_readSetupStatement_2 23 rfl rfl
theorem dksX9_readSetupStatement_4 : cX9_readSetupStatement.data.toList.drop 93 = dktX9_readSetupStatement_4 := dk_seg dksX9_readSetupStatement_3 24 rfl rfl
theorem dX9_readSetupStatement_0 : decode cX9_readSetupStatement 0 = .ok (.aload_n 0, 1) := dk_42 (dk_at dksX9_readSetupStatement_0 0 rfl rfl)
theorem dX9_readSetupStatement_1 : decode cX9_readSetupStatement 1 = .ok (.ldc_w 284, 3) := dk_19 1 28 (dk_at dksX9_readSetupStatement_0 1 rfl rfl)
theorem dX9_readSetupStatement_4 : decode cX9_readSetupStatement 4 = .ok (.invokevirtual 232, 3) := dk_182 0 232 (dk_at dksX9_readSetupStatement_0 4 rfl rfl)
theorem dX9_readSetupStatement_7 : decode cX9_readSetupStatement 7 = .ok (.ifCond .eq 14, 3) := dk_153 0 14 (dk_at dksX9_readSetupStatement_0 7 rfl rfl)
theorem dX9_readSetupStatement_10 : decode cX9_readSetupStatement 10 = .ok (.aload_n 0, 1) := dk_42 (dk_at dksX9_readSetupStatement_0 10 rfl rfl)
theorem dX9_readSetupStatement_11 : decode cX9_readSetupStatement 11 = .ok (.sipush 357, 3) := dk_17 1 101 (dk_at dksX9_readSetupStatement_0 11 rfl rfl)
theorem dX9_readSetupStatement_14 : decode cX9_readSetupStatement 14 = .ok (.iconst 0, 1) := dk_3 (dk_at dksX9_readSetupStatement_0 14 rfl rfl)
theorem dX9_readSetupStatement_15 : decode cX9_readSetupStatement 15 = .ok (.bipush 10, 2) := dk_16 10 (dk_at dksX9_readSetupStatement_0 15 rfl rfl)
theorem dX9_readSetupStatement_17 : decode cX9_readSetupStatement 17 = .ok (.invokevirtual 286, 3) := dk_182 1 30 (dk_at dksX9_readSetupStatement_0 17 rfl rfl)
theorem dX9_readSetupStatement_20 : decode cX9_readSetupStatement 20 = .ok (.ireturn, 1) := dk_172 (dk_at dksX9_readSetupStatement_0 20 rfl rfl)
theorem dX9_readSetupStatement_21 : decode cX9_readSetupStatement 21 = .ok (.aload_n 0, 1) := dk_42 (dk_at dksX9_readSetupStatement_0 21 rfl rfl)
theorem dX9_readSetupStatement_22 : decode cX9_readSetupStatement 22 = .ok (.ldc_w 289, 3) := dk_19 1 33 (dk_at dksX9_readSetupStatement_1 0 rfl rfl)
theorem dX9_readSetupStatement_25 : decode cX9_readSetupStatement 25 = .ok (.invokevirtual 232, 3) := dk_182 0 232 (dk_at dksX9_readSetupStatement_1 3 rfl rfl)
theorem dX9_readSetupStatement_28 : decode cX9_readSetupStatement 28 = .ok (.ifCond .eq 14, 3) := dk_153 0 14 (dk_at dksX9_readSetupStatement_1 6 rfl rfl)
theorem dX9_readSetupStatement_31 : decode cX9_readSetupStatement 31 = .ok (.aload_n 0, 1) := dk_42 (dk_at dksX9_readSetupStatement_1 9 rfl rfl)
theorem dX9_readSetupStatement_32 : decode cX9_readSetupStatement 32 = .ok (.sipush 427, 3) := dk_17 1 171 (dk_at dksX9_readSetupStatement_1 10 rfl rfl)
theorem dX9_readSetupStatement_35 : decode cX9_readSetupStatement 35 = .ok (.iconst 1, 1) := dk_4 (dk_at dksX9_readSetupStatement_1 13 rfl rfl)
theorem dX9_readSetupStatement_36 : decode cX9_readSetupStatement 36 = .ok (.bipush 8, 2) := dk_16 8 (dk_at dksX9_readSetupStatement_1 14 rfl rfl)
theorem dX9_readSetupStatement_38 : decode cX9_readSetupStatement 38 = .ok (.invokevirtual 286, 3) := dk_182 1 30 (dk_at dksX9_readSetupStatement_1 16 rfl rfl)
theorem dX9_readSetupStatement_41 : decode cX9_readSetupStatement 41 = .ok (.ireturn, 1) := dk_172 (dk_at dksX9_readSetupStatement_1 19 rfl rfl)
theorem dX9_readSetupStatement_42 : decode cX9_readSetupStatement 42 = .ok (.aload_n 0, 1) := dk_42 (dk_at dksX9_readSetupStatement_1 20 rfl rfl)
theorem dX9_readSetupStatement_43 : decode cX9_readSetupStatement 43 = .ok (.ldc_w 291, 3) := dk_19 1 35 (dk_at dksX9_readSetupStatement_1 21 rfl rfl)
theorem dX9_readSetupStatement_46 : decode cX9_readSetupStatement 46 = .ok (.invokevirtual 232, 3) := dk_182 0 232 (dk_at dksX9_readSetupStatement_2 0 rfl rfl)
theorem dX9_readSetupStatement_49 : decode cX9_readSetupStatement 49 = .ok (.ifCond .eq 13, 3) := dk_153 0 13 (dk_at dksX9_readSetupStatement_2 3 rfl rfl)
theorem dX9_readSetupStatement_52 : decode cX9_readSetupStatement 52 = .ok (.aload_n 0, 1) := dk_42 (dk_at dksX9_readSetupStatement_2 6 rfl rfl)
theorem dX9_readSetupStatement_53 : decode cX9_readSetupStatement 53 = .ok (.sipush 483, 3) := dk_17 1 227 (dk_at dksX9_readSetupStatement_2 7 rfl rfl)
theorem dX9_readSetupStatement_56 : decode cX9_readSetupStatement 56 = .ok (.iconst 2, 1) := dk_5 (dk_at dksX9_readSetupStatement_2 10 rfl rfl)
theorem dX9_readSetupStatement_57 : decode cX9_readSetupStatement 57 = .ok (.iconst 3, 1) := dk_6 (dk_at dksX9_readSetupStatement_2 11 rfl rfl)
theorem dX9_readSetupStatement_58 : decode cX9_readSetupStatement 58 = .ok (.invokevirtual 286, 3) := dk_182 1 30 (dk_at dksX9_readSetupStatement_2 12 rfl rfl)
theorem dX9_readSetupStatement_61 : decode cX9_readSetupStatement 61 = .ok (.ireturn, 1) := dk_172 (dk_at dksX9_readSetupStatement_2 15 rfl rfl)
theorem dX9_readSetupStatement_62 : decode cX9_readSetupStatement 62 = .ok (.aload_n 0, 1) := dk_42 (dk_at dksX9_readSetupStatement_2 16 rfl rfl)
theorem dX9_readSetupStatement_63 : decode cX9_readSetupStatement 63 = .ok (.ldc_w 293, 3) := dk_19 1 37 (dk_at dksX9_readSetupStatement_2 17 rfl rfl)
theorem dX9_readSetupStatement_66 : decode cX9_readSetupStatement 66 = .ok (.invokevirtual 232, 3) := dk_182 0 232 (dk_at dksX9_readSetupStatement_2 20 rfl rfl)
theorem dX9_readSetupStatement_69 : decode cX9_readSetupStatement 69 = .ok (.ifCond .eq 8, 3) := dk_153 0 8 (dk_at dksX9_readSetupStatement_3 0 rfl rfl)
theorem dX9_readSetupStatement_72 : decode cX9_readSetupStatement 72 = .ok (.aload_n 0, 1) := dk_42 (dk_at dksX9_readSetupStatement_3 3 rfl rfl)
theorem dX9_readSetupStatement_73 : decode cX9_readSetupStatement 73 = .ok (.invokevirtual 295, 3) := dk_182 1 39 (dk_at dksX9_readSetupStatement_3 4 rfl rfl)
theorem dX9_readSetupStatement_76 : decode cX9_readSetupStatement 76 = .ok (.ireturn, 1) := dk_172 (dk_at dksX9_readSetupStatement_3 7 rfl rfl)
theorem dX9_readSetupStatement_77 : decode cX9_readSetupStatement 77 = .ok (.aload_n 0, 1) := dk_42 (dk_at dksX9_readSetupStatement_3 8 rfl rfl)
theorem dX9_readSetupStatement_78 : decode cX9_readSetupStatement 78 = .ok (.ldc_w 298, 3) := dk_19 1 42 (dk_at dksX9_readSetupStatement_3 9 rfl rfl)
theorem dX9_readSetupStatement_81 : decode cX9_readSetupStatement 81 = .ok (.invokevirtual 232, 3) := dk_182 0 232 (dk_at dksX9_readSetupStatement_3 12 rfl rfl)
theorem dX9_readSetupStatement_84 : decode cX9_readSetupStatement 84 = .ok (.ifCond .eq 9, 3) := dk_153 0 9 (dk_at dksX9_readSetupStatement_3 15 rfl rfl)
theorem dX9_readSetupStatement_87 : decode cX9_readSetupStatement 87 = .ok (.aload_n 0, 1) := dk_42 (dk_at dksX9_readSetupStatement_3 18 rfl rfl)
theorem dX9_readSetupStatement_88 : decode cX9_readSetupStatement 88 = .ok (.iconst 0, 1) := dk_3 (dk_at dksX9_readSetupStatement_3 19 rfl rfl)
theorem dX9_readSetupStatement_89 : decode cX9_readSetupStatement 89 = .ok (.invokevirtual 300, 3) := dk_182 1 44 (dk_at dksX9_readSetupStatement_3 20 rfl rfl)
theorem dX9_readSetupStatement_92 : decode cX9_readSetupStatement 92 = .ok (.ireturn, 1) := dk_172 (dk_at dksX9_readSetupStatement_3 23 rfl rfl)
theorem dX9_readSetupStatement_93 : decode cX9_readSetupStatement 93 = .ok (.aload_n 0, 1) := dk_42 (dk_at dksX9_readSetupStatement_4 0 rfl rfl)
theorem dX9_readSetupStatement_94 : decode cX9_readSetupStatement 94 = .ok (.ldc_w 303, 3) := dk_19 1 47 (dk_at dksX9_readSetupStatement_4 1 rfl rfl)
theorem dX9_readSetupStatement_97 : decode cX9_readSetupStatement 97 = .ok (.invokevirtual 232, 3) := dk_182 0 232 (dk_at dksX9_readSetupStatement_4 4 rfl rfl)
theorem dX9_readSetupStatement_100 : decode cX9_readSetupStatement 100 = .ok (.ifCond .eq 11, 3) := dk_153 0 11 (dk_at dksX9_readSetupStatement_4 7 rfl rfl)
theorem dX9_readSetupStatement_103 : decode cX9_readSetupStatement 103 = .ok (.aload_n 0, 1) := dk_42 (dk_at dksX9_readSetupStatement_4 10 rfl rfl)
theorem dX9_readSetupStatement_104 : decode cX9_readSetupStatement 104 = .ok (.iconst 1, 1) := dk_4 (dk_at dksX9_readSetupStatement_4 11 rfl rfl)
theorem dX9_readSetupStatement_105 : decode cX9_readSetupStatement 105 = .ok (.invokevirtual 300, 3) := dk_182 1 44 (dk_at dksX9_readSetupStatement_4 12 rfl rfl)
theorem dX9_readSetupStatement_108 : decode cX9_readSetupStatement 108 = .ok (.goto 8, 3) := dk_167 0 8 (dk_at dksX9_readSetupStatement_4 15 rfl rfl)
theorem dX9_readSetupStatement_111 : decode cX9_readSetupStatement 111 = .ok (.aload_n 0, 1) := dk_42 (dk_at dksX9_readSetupStatement_4 18 rfl rfl)
theorem dX9_readSetupStatement_112 : decode cX9_readSetupStatement 112 = .ok (.iconst 1, 1) := dk_4 (dk_at dksX9_readSetupStatement_4 19 rfl rfl)
theorem dX9_readSetupStatement_113 : decode cX9_readSetupStatement 113 = .ok (.invokevirtual 205, 3) := dk_182 0 205 (dk_at dksX9_readSetupStatement_4 20 rfl rfl)
theorem dX9_readSetupStatement_116 : decode cX9_readSetupStatement 116 = .ok (.ireturn, 1) := dk_172 (dk_at dksX9_readSetupStatement_4 23 rfl rfl)
abbrev cX9_isWord : ByteArray := prog_41_method_49_code
def yX9_isWord : MethodName := ⟨RX9, "isWord", "(Ljava/lang/String;)Z"⟩
def dkwX9_isWord_2 : List UInt8 := [28, 182, 0, 201, 159, 0, 5, 3, 172, 132, 2, 1, 167, 255, 224, 4, 172]
abbrev dktX9_isWord_2 : List UInt8 := dkwX9_isWord_2 ++ []
def dkwX9_isWord_1 : List UInt8 := [3, 172, 3, 61, 28, 43, 182, 0, 196, 162, 0, 30, 42, 180, 0, 28, 42, 180, 0, 177, 28, 96, 46, 43]
abbrev dktX9_isWord_1 : List UInt8 := dkwX9_isWord_1 ++ dktX9_isWord_2
def dkwX9_isWord_0 : List UInt8 := [42, 180, 0, 183, 4, 160, 0, 19, 42, 180, 0, 174, 42, 180, 0, 177, 100, 43, 182, 0, 196, 159, 0, 5]
abbrev dktX9_isWord_0 : List UInt8 := dkwX9_isWord_0 ++ dktX9_isWord_1
theorem dksX9_isWord_0 : cX9_isWord.data.toList.drop 0 = dktX9_isWord_0 := by decide +kernel
theorem dksX9_isWord_1 : cX9_isWord.data.toList.drop 24 = dktX9_isWord_1 := dk_seg dksX9_isWord_0 24 rfl rfl
theorem dksX9_isWord_2 : cX9_isWord.data.toList.drop 48 = dktX9_isWord_2 := dk_seg dksX9_isWord_1 24 rfl rfl
theorem dX9_isWord_0 : decode cX9_isWord 0 = .ok (.aload_n 0, 1) := dk_42 (dk_at dksX9_isWord_0 0 rfl rfl)
theorem dX9_isWord_1 : decode cX9_isWord 1 = .ok (.getfield 183, 3) := dk_180 0 183 (dk_at dksX9_isWord_0 1 rfl rfl)
theorem dX9_isWord_4 : decode cX9_isWord 4 = .ok (.iconst 1, 1) := dk_4 (dk_at dksX9_isWord_0 4 rfl rfl)
theorem dX9_isWord_5 : decode cX9_isWord 5 = .ok (.if_icmp .ne 19, 3) := dk_160 0 19 (dk_at dksX9_isWord_0 5 rfl rfl)
theorem dX9_isWord_8 : decode cX9_isWord 8 = .ok (.aload_n 0, 1) := dk_42 (dk_at dksX9_isWord_0 8 rfl rfl)
theorem dX9_isWord_9 : decode cX9_isWord 9 = .ok (.getfield 174, 3) := dk_180 0 174 (dk_at dksX9_isWord_0 9 rfl rfl)
theorem dX9_isWord_12 : decode cX9_isWord 12 = .ok (.aload_n 0, 1) := dk_42 (dk_at dksX9_isWord_0 12 rfl rfl)
theorem dX9_isWord_13 : decode cX9_isWord 13 = .ok (.getfield 177, 3) := dk_180 0 177 (dk_at dksX9_isWord_0 13 rfl rfl)
theorem dX9_isWord_16 : decode cX9_isWord 16 = .ok (.isub, 1) := dk_100 (dk_at dksX9_isWord_0 16 rfl rfl)
theorem dX9_isWord_17 : decode cX9_isWord 17 = .ok (.aload_n 1, 1) := dk_43 (dk_at dksX9_isWord_0 17 rfl rfl)
theorem dX9_isWord_18 : decode cX9_isWord 18 = .ok (.invokevirtual 196, 3) := dk_182 0 196 (dk_at dksX9_isWord_0 18 rfl rfl)
theorem dX9_isWord_21 : decode cX9_isWord 21 = .ok (.if_icmp .eq 5, 3) := dk_159 0 5 (dk_at dksX9_isWord_0 21 rfl rfl)
theorem dX9_isWord_24 : decode cX9_isWord 24 = .ok (.iconst 0, 1) := dk_3 (dk_at dksX9_isWord_1 0 rfl rfl)
theorem dX9_isWord_25 : decode cX9_isWord 25 = .ok (.ireturn, 1) := dk_172 (dk_at dksX9_isWord_1 1 rfl rfl)
theorem dX9_isWord_26 : decode cX9_isWord 26 = .ok (.iconst 0, 1) := dk_3 (dk_at dksX9_isWord_1 2 rfl rfl)
theorem dX9_isWord_27 : decode cX9_isWord 27 = .ok (.istore_n 2, 1) := dk_61 (dk_at dksX9_isWord_1 3 rfl rfl)
theorem dX9_isWord_28 : decode cX9_isWord 28 = .ok (.iload_n 2, 1) := dk_28 (dk_at dksX9_isWord_1 4 rfl rfl)
theorem dX9_isWord_29 : decode cX9_isWord 29 = .ok (.aload_n 1, 1) := dk_43 (dk_at dksX9_isWord_1 5 rfl rfl)
theorem dX9_isWord_30 : decode cX9_isWord 30 = .ok (.invokevirtual 196, 3) := dk_182 0 196 (dk_at dksX9_isWord_1 6 rfl rfl)
theorem dX9_isWord_33 : decode cX9_isWord 33 = .ok (.if_icmp .ge 30, 3) := dk_162 0 30 (dk_at dksX9_isWord_1 9 rfl rfl)
theorem dX9_isWord_36 : decode cX9_isWord 36 = .ok (.aload_n 0, 1) := dk_42 (dk_at dksX9_isWord_1 12 rfl rfl)
theorem dX9_isWord_37 : decode cX9_isWord 37 = .ok (.getfield 28, 3) := dk_180 0 28 (dk_at dksX9_isWord_1 13 rfl rfl)
theorem dX9_isWord_40 : decode cX9_isWord 40 = .ok (.aload_n 0, 1) := dk_42 (dk_at dksX9_isWord_1 16 rfl rfl)
theorem dX9_isWord_41 : decode cX9_isWord 41 = .ok (.getfield 177, 3) := dk_180 0 177 (dk_at dksX9_isWord_1 17 rfl rfl)
theorem dX9_isWord_44 : decode cX9_isWord 44 = .ok (.iload_n 2, 1) := dk_28 (dk_at dksX9_isWord_1 20 rfl rfl)
theorem dX9_isWord_45 : decode cX9_isWord 45 = .ok (.iadd, 1) := dk_96 (dk_at dksX9_isWord_1 21 rfl rfl)
theorem dX9_isWord_46 : decode cX9_isWord 46 = .ok (.iaload, 1) := dk_46 (dk_at dksX9_isWord_1 22 rfl rfl)
theorem dX9_isWord_47 : decode cX9_isWord 47 = .ok (.aload_n 1, 1) := dk_43 (dk_at dksX9_isWord_1 23 rfl rfl)
theorem dX9_isWord_48 : decode cX9_isWord 48 = .ok (.iload_n 2, 1) := dk_28 (dk_at dksX9_isWord_2 0 rfl rfl)
theorem dX9_isWord_49 : decode cX9_isWord 49 = .ok (.invokevirtual 201, 3) := dk_182 0 201 (dk_at dksX9_isWord_2 1 rfl rfl)
theorem dX9_isWord_52 : decode cX9_isWord 52 = .ok (.if_icmp .eq 5, 3) := dk_159 0 5 (dk_at dksX9_isWord_2 4 rfl rfl)
theorem dX9_isWord_55 : decode cX9_isWord 55 = .ok (.iconst 0, 1) := dk_3 (dk_at dksX9_isWord_2 7 rfl rfl)
theorem dX9_isWord_56 : decode cX9_isWord 56 = .ok (.ireturn, 1) := dk_172 (dk_at dksX9_isWord_2 8 rfl rfl)
theorem dX9_isWord_57 : decode cX9_isWord 57 = .ok (.iinc 2 1, 3) := dk_132 2 1 (dk_at dksX9_isWord_2 9 rfl rfl)
theorem dX9_isWord_60 : decode cX9_isWord 60 = .ok (.goto (-32), 3) := dk_167 255 224 (dk_at dksX9_isWord_2 12 rfl rfl)
theorem dX9_isWord_63 : decode cX9_isWord 63 = .ok (.iconst 1, 1) := dk_4 (dk_at dksX9_isWord_2 15 rfl rfl)
theorem dX9_isWord_64 : decode cX9_isWord 64 = .ok (.ireturn, 1) := dk_172 (dk_at dksX9_isWord_2 16 rfl rfl)
abbrev cX9_readNamed : ByteArray := prog_41_method_63_code
def yX9_readNamed : MethodName := ⟨RX9, "readNamed", "(III)Z"⟩
def dkwX9_readNamed_3 : List UInt8 := [92, 46, 4, 96, 79, 42, 182, 1, 15, 172]
abbrev dktX9_readNamed_3 : List UInt8 := dkwX9_readNamed_3 ++ []
def dkwX9_readNamed_2 : List UInt8 := [180, 0, 7, 16, 9, 42, 180, 0, 7, 5, 46, 96, 42, 180, 0, 35, 3, 46, 79, 42, 180, 0, 7, 28]
abbrev dktX9_readNamed_2 : List UInt8 := dkwX9_readNamed_2 ++ dktX9_readNamed_3
def dkwX9_readNamed_1 : List UInt8 := [182, 1, 12, 154, 0, 5, 3, 172, 28, 5, 160, 0, 33, 42, 3, 182, 1, 9, 154, 0, 5, 3, 172, 42]
abbrev dktX9_readNamed_1 : List UInt8 := dkwX9_readNamed_1 ++ dktX9_readNamed_2
def dkwX9_readNamed_0 : List UInt8 := [42, 180, 0, 7, 28, 46, 29, 160, 0, 9, 42, 8, 182, 0, 205, 172, 42, 182, 0, 214, 42, 27, 28]
abbrev dktX9_readNamed_0 : List UInt8 := dkwX9_readNamed_0 ++ dktX9_readNamed_1
theorem dksX9_readNamed_0 : cX9_readNamed.data.toList.drop 0 = dktX9_readNamed_0 := by decide +kernel
theorem dksX9_readNamed_1 : cX9_readNamed.data.toList.drop 23 = dktX9_readNamed_1 := dk_seg dksX9_readNamed_0 23 rfl rfl
theorem dksX9_readNamed_2 : cX9_readNamed.data.toList.drop 47 = dktX9_readNamed_2 := dk_seg dksX9_readNamed_1 24 rfl rfl
theorem dksX9_readNamed_3 : cX9_readNamed.data.toList.drop 71 = dktX9_readNamed_3 := dk_seg dksX9_readNamed_2 24 rfl rfl
theorem dX9_readNamed_0 : decode cX9_readNamed 0 = .ok (.aload_n 0, 1) := dk_42 (dk_at dksX9_readNamed_0 0 rfl rfl)
theorem dX9_readNamed_1 : decode cX9_readNamed 1 = .ok (.getfield 7, 3) := dk_180 0 7 (dk_at dksX9_readNamed_0 1 rfl rfl)
theorem dX9_readNamed_4 : decode cX9_readNamed 4 = .ok (.iload_n 2, 1) := dk_28 (dk_at dksX9_readNamed_0 4 rfl rfl)
theorem dX9_readNamed_5 : decode cX9_readNamed 5 = .ok (.iaload, 1) := dk_46 (dk_at dksX9_readNamed_0 5 rfl rfl)
theorem dX9_readNamed_6 : decode cX9_readNamed 6 = .ok (.iload_n 3, 1) := dk_29 (dk_at dksX9_readNamed_0 6 rfl rfl)
theorem dX9_readNamed_7 : decode cX9_readNamed 7 = .ok (.if_icmp .ne 9, 3) := dk_160 0 9 (dk_at dksX9_readNamed_0 7 rfl rfl)
theorem dX9_readNamed_10 : decode cX9_readNamed 10 = .ok (.aload_n 0, 1) := dk_42 (dk_at dksX9_readNamed_0 10 rfl rfl)
theorem dX9_readNamed_11 : decode cX9_readNamed 11 = .ok (.iconst 5, 1) := dk_8 (dk_at dksX9_readNamed_0 11 rfl rfl)
theorem dX9_readNamed_12 : decode cX9_readNamed 12 = .ok (.invokevirtual 205, 3) := dk_182 0 205 (dk_at dksX9_readNamed_0 12 rfl rfl)
theorem dX9_readNamed_15 : decode cX9_readNamed 15 = .ok (.ireturn, 1) := dk_172 (dk_at dksX9_readNamed_0 15 rfl rfl)
theorem dX9_readNamed_16 : decode cX9_readNamed 16 = .ok (.aload_n 0, 1) := dk_42 (dk_at dksX9_readNamed_0 16 rfl rfl)
theorem dX9_readNamed_17 : decode cX9_readNamed 17 = .ok (.invokevirtual 214, 3) := dk_182 0 214 (dk_at dksX9_readNamed_0 17 rfl rfl)
theorem dX9_readNamed_20 : decode cX9_readNamed 20 = .ok (.aload_n 0, 1) := dk_42 (dk_at dksX9_readNamed_0 20 rfl rfl)
theorem dX9_readNamed_21 : decode cX9_readNamed 21 = .ok (.iload_n 1, 1) := dk_27 (dk_at dksX9_readNamed_0 21 rfl rfl)
theorem dX9_readNamed_22 : decode cX9_readNamed 22 = .ok (.iload_n 2, 1) := dk_28 (dk_at dksX9_readNamed_0 22 rfl rfl)
theorem dX9_readNamed_23 : decode cX9_readNamed 23 = .ok (.invokevirtual 268, 3) := dk_182 1 12 (dk_at dksX9_readNamed_1 0 rfl rfl)
theorem dX9_readNamed_26 : decode cX9_readNamed 26 = .ok (.ifCond .ne 5, 3) := dk_154 0 5 (dk_at dksX9_readNamed_1 3 rfl rfl)
theorem dX9_readNamed_29 : decode cX9_readNamed 29 = .ok (.iconst 0, 1) := dk_3 (dk_at dksX9_readNamed_1 6 rfl rfl)
theorem dX9_readNamed_30 : decode cX9_readNamed 30 = .ok (.ireturn, 1) := dk_172 (dk_at dksX9_readNamed_1 7 rfl rfl)
theorem dX9_readNamed_31 : decode cX9_readNamed 31 = .ok (.iload_n 2, 1) := dk_28 (dk_at dksX9_readNamed_1 8 rfl rfl)
theorem dX9_readNamed_32 : decode cX9_readNamed 32 = .ok (.iconst 2, 1) := dk_5 (dk_at dksX9_readNamed_1 9 rfl rfl)
theorem dX9_readNamed_33 : decode cX9_readNamed 33 = .ok (.if_icmp .ne 33, 3) := dk_160 0 33 (dk_at dksX9_readNamed_1 10 rfl rfl)
theorem dX9_readNamed_36 : decode cX9_readNamed 36 = .ok (.aload_n 0, 1) := dk_42 (dk_at dksX9_readNamed_1 13 rfl rfl)
theorem dX9_readNamed_37 : decode cX9_readNamed 37 = .ok (.iconst 0, 1) := dk_3 (dk_at dksX9_readNamed_1 14 rfl rfl)
theorem dX9_readNamed_38 : decode cX9_readNamed 38 = .ok (.invokevirtual 265, 3) := dk_182 1 9 (dk_at dksX9_readNamed_1 15 rfl rfl)
theorem dX9_readNamed_41 : decode cX9_readNamed 41 = .ok (.ifCond .ne 5, 3) := dk_154 0 5 (dk_at dksX9_readNamed_1 18 rfl rfl)
theorem dX9_readNamed_44 : decode cX9_readNamed 44 = .ok (.iconst 0, 1) := dk_3 (dk_at dksX9_readNamed_1 21 rfl rfl)
theorem dX9_readNamed_45 : decode cX9_readNamed 45 = .ok (.ireturn, 1) := dk_172 (dk_at dksX9_readNamed_1 22 rfl rfl)
theorem dX9_readNamed_46 : decode cX9_readNamed 46 = .ok (.aload_n 0, 1) := dk_42 (dk_at dksX9_readNamed_1 23 rfl rfl)
theorem dX9_readNamed_47 : decode cX9_readNamed 47 = .ok (.getfield 7, 3) := dk_180 0 7 (dk_at dksX9_readNamed_2 0 rfl rfl)
theorem dX9_readNamed_50 : decode cX9_readNamed 50 = .ok (.bipush 9, 2) := dk_16 9 (dk_at dksX9_readNamed_2 3 rfl rfl)
theorem dX9_readNamed_52 : decode cX9_readNamed 52 = .ok (.aload_n 0, 1) := dk_42 (dk_at dksX9_readNamed_2 5 rfl rfl)
theorem dX9_readNamed_53 : decode cX9_readNamed 53 = .ok (.getfield 7, 3) := dk_180 0 7 (dk_at dksX9_readNamed_2 6 rfl rfl)
theorem dX9_readNamed_56 : decode cX9_readNamed 56 = .ok (.iconst 2, 1) := dk_5 (dk_at dksX9_readNamed_2 9 rfl rfl)
theorem dX9_readNamed_57 : decode cX9_readNamed 57 = .ok (.iaload, 1) := dk_46 (dk_at dksX9_readNamed_2 10 rfl rfl)
theorem dX9_readNamed_58 : decode cX9_readNamed 58 = .ok (.iadd, 1) := dk_96 (dk_at dksX9_readNamed_2 11 rfl rfl)
theorem dX9_readNamed_59 : decode cX9_readNamed 59 = .ok (.aload_n 0, 1) := dk_42 (dk_at dksX9_readNamed_2 12 rfl rfl)
theorem dX9_readNamed_60 : decode cX9_readNamed 60 = .ok (.getfield 35, 3) := dk_180 0 35 (dk_at dksX9_readNamed_2 13 rfl rfl)
theorem dX9_readNamed_63 : decode cX9_readNamed 63 = .ok (.iconst 0, 1) := dk_3 (dk_at dksX9_readNamed_2 16 rfl rfl)
theorem dX9_readNamed_64 : decode cX9_readNamed 64 = .ok (.iaload, 1) := dk_46 (dk_at dksX9_readNamed_2 17 rfl rfl)
theorem dX9_readNamed_65 : decode cX9_readNamed 65 = .ok (.iastore, 1) := dk_79 (dk_at dksX9_readNamed_2 18 rfl rfl)
theorem dX9_readNamed_66 : decode cX9_readNamed 66 = .ok (.aload_n 0, 1) := dk_42 (dk_at dksX9_readNamed_2 19 rfl rfl)
theorem dX9_readNamed_67 : decode cX9_readNamed 67 = .ok (.getfield 7, 3) := dk_180 0 7 (dk_at dksX9_readNamed_2 20 rfl rfl)
theorem dX9_readNamed_70 : decode cX9_readNamed 70 = .ok (.iload_n 2, 1) := dk_28 (dk_at dksX9_readNamed_2 23 rfl rfl)
theorem dX9_readNamed_71 : decode cX9_readNamed 71 = .ok (.dup2, 1) := dk_92 (dk_at dksX9_readNamed_3 0 rfl rfl)
theorem dX9_readNamed_72 : decode cX9_readNamed 72 = .ok (.iaload, 1) := dk_46 (dk_at dksX9_readNamed_3 1 rfl rfl)
theorem dX9_readNamed_73 : decode cX9_readNamed 73 = .ok (.iconst 1, 1) := dk_4 (dk_at dksX9_readNamed_3 2 rfl rfl)
theorem dX9_readNamed_74 : decode cX9_readNamed 74 = .ok (.iadd, 1) := dk_96 (dk_at dksX9_readNamed_3 3 rfl rfl)
theorem dX9_readNamed_75 : decode cX9_readNamed 75 = .ok (.iastore, 1) := dk_79 (dk_at dksX9_readNamed_3 4 rfl rfl)
theorem dX9_readNamed_76 : decode cX9_readNamed 76 = .ok (.aload_n 0, 1) := dk_42 (dk_at dksX9_readNamed_3 5 rfl rfl)
theorem dX9_readNamed_77 : decode cX9_readNamed 77 = .ok (.invokevirtual 271, 3) := dk_182 1 15 (dk_at dksX9_readNamed_3 6 rfl rfl)
theorem dX9_readNamed_80 : decode cX9_readNamed 80 = .ok (.ireturn, 1) := dk_172 (dk_at dksX9_readNamed_3 9 rfl rfl)
abbrev cX9_failsAt : ByteArray := prog_41_method_48_code
def yX9_failsAt : MethodName := ⟨RX9, "failsAt", "(I)Z"⟩
def dkwX9_failsAt_0 : List UInt8 := [42, 180, 0, 190, 154, 0, 16, 42, 27, 181, 0, 190, 42, 42, 180, 0, 177, 181, 0, 193, 3, 172]
abbrev dktX9_failsAt_0 : List UInt8 := dkwX9_failsAt_0 ++ []
theorem dksX9_failsAt_0 : cX9_failsAt.data.toList.drop 0 = dktX9_failsAt_0 := by decide +kernel
theorem dX9_failsAt_0 : decode cX9_failsAt 0 = .ok (.aload_n 0, 1) := dk_42 (dk_at dksX9_failsAt_0 0 rfl rfl)
theorem dX9_failsAt_1 : decode cX9_failsAt 1 = .ok (.getfield 190, 3) := dk_180 0 190 (dk_at dksX9_failsAt_0 1 rfl rfl)
theorem dX9_failsAt_4 : decode cX9_failsAt 4 = .ok (.ifCond .ne 16, 3) := dk_154 0 16 (dk_at dksX9_failsAt_0 4 rfl rfl)
theorem dX9_failsAt_7 : decode cX9_failsAt 7 = .ok (.aload_n 0, 1) := dk_42 (dk_at dksX9_failsAt_0 7 rfl rfl)
theorem dX9_failsAt_8 : decode cX9_failsAt 8 = .ok (.iload_n 1, 1) := dk_27 (dk_at dksX9_failsAt_0 8 rfl rfl)
theorem dX9_failsAt_9 : decode cX9_failsAt 9 = .ok (.putfield 190, 3) := dk_181 0 190 (dk_at dksX9_failsAt_0 9 rfl rfl)
theorem dX9_failsAt_12 : decode cX9_failsAt 12 = .ok (.aload_n 0, 1) := dk_42 (dk_at dksX9_failsAt_0 12 rfl rfl)
theorem dX9_failsAt_13 : decode cX9_failsAt 13 = .ok (.aload_n 0, 1) := dk_42 (dk_at dksX9_failsAt_0 13 rfl rfl)
theorem dX9_failsAt_14 : decode cX9_failsAt 14 = .ok (.getfield 177, 3) := dk_180 0 177 (dk_at dksX9_failsAt_0 14 rfl rfl)
theorem dX9_failsAt_17 : decode cX9_failsAt 17 = .ok (.putfield 193, 3) := dk_181 0 193 (dk_at dksX9_failsAt_0 17 rfl rfl)
theorem dX9_failsAt_20 : decode cX9_failsAt 20 = .ok (.iconst 0, 1) := dk_3 (dk_at dksX9_failsAt_0 20 rfl rfl)
theorem dX9_failsAt_21 : decode cX9_failsAt 21 = .ok (.ireturn, 1) := dk_172 (dk_at dksX9_failsAt_0 21 rfl rfl)
abbrev cX9_takesNewName : ByteArray := prog_41_method_62_code
def yX9_takesNewName : MethodName := ⟨RX9, "takesNewName", "(II)Z"⟩
def dkwX9_takesNewName_4 : List UInt8 := [21, 4, 96, 46, 167, 0, 4, 3, 79, 132, 4, 1, 167, 255, 205, 42, 182, 0, 214, 4, 172]
abbrev dktX9_takesNewName_4 : List UInt8 := dkwX9_takesNewName_4 ++ []
def dkwX9_takesNewName_3 : List UInt8 := [96, 21, 4, 42, 180, 0, 174, 42, 180, 0, 177, 100, 162, 0, 18, 42, 180, 0, 28, 42, 180, 0, 177]
abbrev dktX9_takesNewName_3 : List UInt8 := dkwX9_takesNewName_3 ++ dktX9_takesNewName_4
def dkwX9_takesNewName_2 : List UInt8 := [180, 0, 177, 100, 79, 3, 54, 4, 21, 4, 16, 6, 162, 0, 50, 42, 180, 0, 7, 29, 4, 96, 21, 4]
abbrev dktX9_takesNewName_2 : List UInt8 := dkwX9_takesNewName_2 ++ dktX9_takesNewName_3
def dkwX9_takesNewName_1 : List UInt8 := [172, 27, 16, 7, 42, 180, 0, 7, 28, 46, 104, 96, 62, 42, 180, 0, 7, 29, 42, 180, 0, 174, 42]
abbrev dktX9_takesNewName_1 : List UInt8 := dkwX9_takesNewName_1 ++ dktX9_takesNewName_2
def dkwX9_takesNewName_0 : List UInt8 := [42, 182, 0, 223, 154, 0, 5, 3, 172, 42, 27, 28, 182, 0, 227, 2, 159, 0, 9, 42, 6, 182, 0, 205]
abbrev dktX9_takesNewName_0 : List UInt8 := dkwX9_takesNewName_0 ++ dktX9_takesNewName_1
theorem dksX9_takesNewName_0 : cX9_takesNewName.data.toList.drop 0 = dktX9_takesNewName_0 := by decide +kernel
theorem dksX9_takesNewName_1 : cX9_takesNewName.data.toList.drop 24 = dktX9_takesNewName_1 := dk_seg dksX9_takesNewName_0 24 rfl rfl
theorem dksX9_takesNewName_2 : cX9_takesNewName.data.toList.drop 47 = dktX9_takesNewName_2 := dk_seg dksX9_takesNewName_1 23 rfl rfl
theorem dksX9_takesNewName_3 : cX9_takesNewName.data.toList.drop 71 = dktX9_takesNewName_3 := dk_seg dksX9_takesNewName_2 24 rfl rfl
theorem dksX9_takesNewName_4 : cX9_takesNewName.data.toList.drop 94 = dktX9_takesNewName_4 := dk_seg dksX9_takesNewName_3 23 rfl rfl
theorem dX9_takesNewName_0 : decode cX9_takesNewName 0 = .ok (.aload_n 0, 1) := dk_42 (dk_at dksX9_takesNewName_0 0 rfl rfl)
theorem dX9_takesNewName_1 : decode cX9_takesNewName 1 = .ok (.invokevirtual 223, 3) := dk_182 0 223 (dk_at dksX9_takesNewName_0 1 rfl rfl)
theorem dX9_takesNewName_4 : decode cX9_takesNewName 4 = .ok (.ifCond .ne 5, 3) := dk_154 0 5 (dk_at dksX9_takesNewName_0 4 rfl rfl)
theorem dX9_takesNewName_7 : decode cX9_takesNewName 7 = .ok (.iconst 0, 1) := dk_3 (dk_at dksX9_takesNewName_0 7 rfl rfl)
theorem dX9_takesNewName_8 : decode cX9_takesNewName 8 = .ok (.ireturn, 1) := dk_172 (dk_at dksX9_takesNewName_0 8 rfl rfl)
theorem dX9_takesNewName_9 : decode cX9_takesNewName 9 = .ok (.aload_n 0, 1) := dk_42 (dk_at dksX9_takesNewName_0 9 rfl rfl)
theorem dX9_takesNewName_10 : decode cX9_takesNewName 10 = .ok (.iload_n 1, 1) := dk_27 (dk_at dksX9_takesNewName_0 10 rfl rfl)
theorem dX9_takesNewName_11 : decode cX9_takesNewName 11 = .ok (.iload_n 2, 1) := dk_28 (dk_at dksX9_takesNewName_0 11 rfl rfl)
theorem dX9_takesNewName_12 : decode cX9_takesNewName 12 = .ok (.invokevirtual 227, 3) := dk_182 0 227 (dk_at dksX9_takesNewName_0 12 rfl rfl)
theorem dX9_takesNewName_15 : decode cX9_takesNewName 15 = .ok (.iconst (-1), 1) := dk_2 (dk_at dksX9_takesNewName_0 15 rfl rfl)
theorem dX9_takesNewName_16 : decode cX9_takesNewName 16 = .ok (.if_icmp .eq 9, 3) := dk_159 0 9 (dk_at dksX9_takesNewName_0 16 rfl rfl)
theorem dX9_takesNewName_19 : decode cX9_takesNewName 19 = .ok (.aload_n 0, 1) := dk_42 (dk_at dksX9_takesNewName_0 19 rfl rfl)
theorem dX9_takesNewName_20 : decode cX9_takesNewName 20 = .ok (.iconst 3, 1) := dk_6 (dk_at dksX9_takesNewName_0 20 rfl rfl)
theorem dX9_takesNewName_21 : decode cX9_takesNewName 21 = .ok (.invokevirtual 205, 3) := dk_182 0 205 (dk_at dksX9_takesNewName_0 21 rfl rfl)
theorem dX9_takesNewName_24 : decode cX9_takesNewName 24 = .ok (.ireturn, 1) := dk_172 (dk_at dksX9_takesNewName_1 0 rfl rfl)
theorem dX9_takesNewName_25 : decode cX9_takesNewName 25 = .ok (.iload_n 1, 1) := dk_27 (dk_at dksX9_takesNewName_1 1 rfl rfl)
theorem dX9_takesNewName_26 : decode cX9_takesNewName 26 = .ok (.bipush 7, 2) := dk_16 7 (dk_at dksX9_takesNewName_1 2 rfl rfl)
theorem dX9_takesNewName_28 : decode cX9_takesNewName 28 = .ok (.aload_n 0, 1) := dk_42 (dk_at dksX9_takesNewName_1 4 rfl rfl)
theorem dX9_takesNewName_29 : decode cX9_takesNewName 29 = .ok (.getfield 7, 3) := dk_180 0 7 (dk_at dksX9_takesNewName_1 5 rfl rfl)
theorem dX9_takesNewName_32 : decode cX9_takesNewName 32 = .ok (.iload_n 2, 1) := dk_28 (dk_at dksX9_takesNewName_1 8 rfl rfl)
theorem dX9_takesNewName_33 : decode cX9_takesNewName 33 = .ok (.iaload, 1) := dk_46 (dk_at dksX9_takesNewName_1 9 rfl rfl)
theorem dX9_takesNewName_34 : decode cX9_takesNewName 34 = .ok (.imul, 1) := dk_104 (dk_at dksX9_takesNewName_1 10 rfl rfl)
theorem dX9_takesNewName_35 : decode cX9_takesNewName 35 = .ok (.iadd, 1) := dk_96 (dk_at dksX9_takesNewName_1 11 rfl rfl)
theorem dX9_takesNewName_36 : decode cX9_takesNewName 36 = .ok (.istore_n 3, 1) := dk_62 (dk_at dksX9_takesNewName_1 12 rfl rfl)
theorem dX9_takesNewName_37 : decode cX9_takesNewName 37 = .ok (.aload_n 0, 1) := dk_42 (dk_at dksX9_takesNewName_1 13 rfl rfl)
theorem dX9_takesNewName_38 : decode cX9_takesNewName 38 = .ok (.getfield 7, 3) := dk_180 0 7 (dk_at dksX9_takesNewName_1 14 rfl rfl)
theorem dX9_takesNewName_41 : decode cX9_takesNewName 41 = .ok (.iload_n 3, 1) := dk_29 (dk_at dksX9_takesNewName_1 17 rfl rfl)
theorem dX9_takesNewName_42 : decode cX9_takesNewName 42 = .ok (.aload_n 0, 1) := dk_42 (dk_at dksX9_takesNewName_1 18 rfl rfl)
theorem dX9_takesNewName_43 : decode cX9_takesNewName 43 = .ok (.getfield 174, 3) := dk_180 0 174 (dk_at dksX9_takesNewName_1 19 rfl rfl)
theorem dX9_takesNewName_46 : decode cX9_takesNewName 46 = .ok (.aload_n 0, 1) := dk_42 (dk_at dksX9_takesNewName_1 22 rfl rfl)
theorem dX9_takesNewName_47 : decode cX9_takesNewName 47 = .ok (.getfield 177, 3) := dk_180 0 177 (dk_at dksX9_takesNewName_2 0 rfl rfl)
theorem dX9_takesNewName_50 : decode cX9_takesNewName 50 = .ok (.isub, 1) := dk_100 (dk_at dksX9_takesNewName_2 3 rfl rfl)
theorem dX9_takesNewName_51 : decode cX9_takesNewName 51 = .ok (.iastore, 1) := dk_79 (dk_at dksX9_takesNewName_2 4 rfl rfl)
theorem dX9_takesNewName_52 : decode cX9_takesNewName 52 = .ok (.iconst 0, 1) := dk_3 (dk_at dksX9_takesNewName_2 5 rfl rfl)
theorem dX9_takesNewName_53 : decode cX9_takesNewName 53 = .ok (.istore 4, 2) := dk_54 4 (dk_at dksX9_takesNewName_2 6 rfl rfl)
theorem dX9_takesNewName_55 : decode cX9_takesNewName 55 = .ok (.iload 4, 2) := dk_21 4 (dk_at dksX9_takesNewName_2 8 rfl rfl)
theorem dX9_takesNewName_57 : decode cX9_takesNewName 57 = .ok (.bipush 6, 2) := dk_16 6 (dk_at dksX9_takesNewName_2 10 rfl rfl)
theorem dX9_takesNewName_59 : decode cX9_takesNewName 59 = .ok (.if_icmp .ge 50, 3) := dk_162 0 50 (dk_at dksX9_takesNewName_2 12 rfl rfl)
theorem dX9_takesNewName_62 : decode cX9_takesNewName 62 = .ok (.aload_n 0, 1) := dk_42 (dk_at dksX9_takesNewName_2 15 rfl rfl)
theorem dX9_takesNewName_63 : decode cX9_takesNewName 63 = .ok (.getfield 7, 3) := dk_180 0 7 (dk_at dksX9_takesNewName_2 16 rfl rfl)
theorem dX9_takesNewName_66 : decode cX9_takesNewName 66 = .ok (.iload_n 3, 1) := dk_29 (dk_at dksX9_takesNewName_2 19 rfl rfl)
theorem dX9_takesNewName_67 : decode cX9_takesNewName 67 = .ok (.iconst 1, 1) := dk_4 (dk_at dksX9_takesNewName_2 20 rfl rfl)
theorem dX9_takesNewName_68 : decode cX9_takesNewName 68 = .ok (.iadd, 1) := dk_96 (dk_at dksX9_takesNewName_2 21 rfl rfl)
theorem dX9_takesNewName_69 : decode cX9_takesNewName 69 = .ok (.iload 4, 2) := dk_21 4 (dk_at dksX9_takesNewName_2 22 rfl rfl)
theorem dX9_takesNewName_71 : decode cX9_takesNewName 71 = .ok (.iadd, 1) := dk_96 (dk_at dksX9_takesNewName_3 0 rfl rfl)
theorem dX9_takesNewName_72 : decode cX9_takesNewName 72 = .ok (.iload 4, 2) := dk_21 4 (dk_at dksX9_takesNewName_3 1 rfl rfl)
theorem dX9_takesNewName_74 : decode cX9_takesNewName 74 = .ok (.aload_n 0, 1) := dk_42 (dk_at dksX9_takesNewName_3 3 rfl rfl)
theorem dX9_takesNewName_75 : decode cX9_takesNewName 75 = .ok (.getfield 174, 3) := dk_180 0 174 (dk_at dksX9_takesNewName_3 4 rfl rfl)
theorem dX9_takesNewName_78 : decode cX9_takesNewName 78 = .ok (.aload_n 0, 1) := dk_42 (dk_at dksX9_takesNewName_3 7 rfl rfl)
theorem dX9_takesNewName_79 : decode cX9_takesNewName 79 = .ok (.getfield 177, 3) := dk_180 0 177 (dk_at dksX9_takesNewName_3 8 rfl rfl)
theorem dX9_takesNewName_82 : decode cX9_takesNewName 82 = .ok (.isub, 1) := dk_100 (dk_at dksX9_takesNewName_3 11 rfl rfl)
theorem dX9_takesNewName_83 : decode cX9_takesNewName 83 = .ok (.if_icmp .ge 18, 3) := dk_162 0 18 (dk_at dksX9_takesNewName_3 12 rfl rfl)
theorem dX9_takesNewName_86 : decode cX9_takesNewName 86 = .ok (.aload_n 0, 1) := dk_42 (dk_at dksX9_takesNewName_3 15 rfl rfl)
theorem dX9_takesNewName_87 : decode cX9_takesNewName 87 = .ok (.getfield 28, 3) := dk_180 0 28 (dk_at dksX9_takesNewName_3 16 rfl rfl)
theorem dX9_takesNewName_90 : decode cX9_takesNewName 90 = .ok (.aload_n 0, 1) := dk_42 (dk_at dksX9_takesNewName_3 19 rfl rfl)
theorem dX9_takesNewName_91 : decode cX9_takesNewName 91 = .ok (.getfield 177, 3) := dk_180 0 177 (dk_at dksX9_takesNewName_3 20 rfl rfl)
theorem dX9_takesNewName_94 : decode cX9_takesNewName 94 = .ok (.iload 4, 2) := dk_21 4 (dk_at dksX9_takesNewName_4 0 rfl rfl)
theorem dX9_takesNewName_96 : decode cX9_takesNewName 96 = .ok (.iadd, 1) := dk_96 (dk_at dksX9_takesNewName_4 2 rfl rfl)
theorem dX9_takesNewName_97 : decode cX9_takesNewName 97 = .ok (.iaload, 1) := dk_46 (dk_at dksX9_takesNewName_4 3 rfl rfl)
theorem dX9_takesNewName_98 : decode cX9_takesNewName 98 = .ok (.goto 4, 3) := dk_167 0 4 (dk_at dksX9_takesNewName_4 4 rfl rfl)
theorem dX9_takesNewName_101 : decode cX9_takesNewName 101 = .ok (.iconst 0, 1) := dk_3 (dk_at dksX9_takesNewName_4 7 rfl rfl)
theorem dX9_takesNewName_102 : decode cX9_takesNewName 102 = .ok (.iastore, 1) := dk_79 (dk_at dksX9_takesNewName_4 8 rfl rfl)
theorem dX9_takesNewName_103 : decode cX9_takesNewName 103 = .ok (.iinc 4 1, 3) := dk_132 4 1 (dk_at dksX9_takesNewName_4 9 rfl rfl)
theorem dX9_takesNewName_106 : decode cX9_takesNewName 106 = .ok (.goto (-51), 3) := dk_167 255 205 (dk_at dksX9_takesNewName_4 12 rfl rfl)
theorem dX9_takesNewName_109 : decode cX9_takesNewName 109 = .ok (.aload_n 0, 1) := dk_42 (dk_at dksX9_takesNewName_4 15 rfl rfl)
theorem dX9_takesNewName_110 : decode cX9_takesNewName 110 = .ok (.invokevirtual 214, 3) := dk_182 0 214 (dk_at dksX9_takesNewName_4 16 rfl rfl)
theorem dX9_takesNewName_113 : decode cX9_takesNewName 113 = .ok (.iconst 1, 1) := dk_4 (dk_at dksX9_takesNewName_4 19 rfl rfl)
theorem dX9_takesNewName_114 : decode cX9_takesNewName 114 = .ok (.ireturn, 1) := dk_172 (dk_at dksX9_takesNewName_4 20 rfl rfl)
abbrev cX9_seesName : ByteArray := prog_41_method_53_code
def yX9_seesName : MethodName := ⟨RX9, "seesName", "()Z"⟩
def dkwX9_seesName_1 : List UInt8 := [182, 0, 205, 153, 0, 7, 4, 167, 0, 4, 3, 172]
abbrev dktX9_seesName_1 : List UInt8 := dkwX9_seesName_1 ++ []
def dkwX9_seesName_0 : List UInt8 := [42, 180, 0, 183, 4, 160, 0, 17, 42, 180, 0, 174, 42, 180, 0, 177, 100, 16, 6, 164, 0, 11, 42, 4]
abbrev dktX9_seesName_0 : List UInt8 := dkwX9_seesName_0 ++ dktX9_seesName_1
theorem dksX9_seesName_0 : cX9_seesName.data.toList.drop 0 = dktX9_seesName_0 := by decide +kernel
theorem dksX9_seesName_1 : cX9_seesName.data.toList.drop 24 = dktX9_seesName_1 := dk_seg dksX9_seesName_0 24 rfl rfl
theorem dX9_seesName_0 : decode cX9_seesName 0 = .ok (.aload_n 0, 1) := dk_42 (dk_at dksX9_seesName_0 0 rfl rfl)
theorem dX9_seesName_1 : decode cX9_seesName 1 = .ok (.getfield 183, 3) := dk_180 0 183 (dk_at dksX9_seesName_0 1 rfl rfl)
theorem dX9_seesName_4 : decode cX9_seesName 4 = .ok (.iconst 1, 1) := dk_4 (dk_at dksX9_seesName_0 4 rfl rfl)
theorem dX9_seesName_5 : decode cX9_seesName 5 = .ok (.if_icmp .ne 17, 3) := dk_160 0 17 (dk_at dksX9_seesName_0 5 rfl rfl)
theorem dX9_seesName_8 : decode cX9_seesName 8 = .ok (.aload_n 0, 1) := dk_42 (dk_at dksX9_seesName_0 8 rfl rfl)
theorem dX9_seesName_9 : decode cX9_seesName 9 = .ok (.getfield 174, 3) := dk_180 0 174 (dk_at dksX9_seesName_0 9 rfl rfl)
theorem dX9_seesName_12 : decode cX9_seesName 12 = .ok (.aload_n 0, 1) := dk_42 (dk_at dksX9_seesName_0 12 rfl rfl)
theorem dX9_seesName_13 : decode cX9_seesName 13 = .ok (.getfield 177, 3) := dk_180 0 177 (dk_at dksX9_seesName_0 13 rfl rfl)
theorem dX9_seesName_16 : decode cX9_seesName 16 = .ok (.isub, 1) := dk_100 (dk_at dksX9_seesName_0 16 rfl rfl)
theorem dX9_seesName_17 : decode cX9_seesName 17 = .ok (.bipush 6, 2) := dk_16 6 (dk_at dksX9_seesName_0 17 rfl rfl)
theorem dX9_seesName_19 : decode cX9_seesName 19 = .ok (.if_icmp .le 11, 3) := dk_164 0 11 (dk_at dksX9_seesName_0 19 rfl rfl)
theorem dX9_seesName_22 : decode cX9_seesName 22 = .ok (.aload_n 0, 1) := dk_42 (dk_at dksX9_seesName_0 22 rfl rfl)
theorem dX9_seesName_23 : decode cX9_seesName 23 = .ok (.iconst 1, 1) := dk_4 (dk_at dksX9_seesName_0 23 rfl rfl)
theorem dX9_seesName_24 : decode cX9_seesName 24 = .ok (.invokevirtual 205, 3) := dk_182 0 205 (dk_at dksX9_seesName_1 0 rfl rfl)
theorem dX9_seesName_27 : decode cX9_seesName 27 = .ok (.ifCond .eq 7, 3) := dk_153 0 7 (dk_at dksX9_seesName_1 3 rfl rfl)
theorem dX9_seesName_30 : decode cX9_seesName 30 = .ok (.iconst 1, 1) := dk_4 (dk_at dksX9_seesName_1 6 rfl rfl)
theorem dX9_seesName_31 : decode cX9_seesName 31 = .ok (.goto 4, 3) := dk_167 0 4 (dk_at dksX9_seesName_1 7 rfl rfl)
theorem dX9_seesName_34 : decode cX9_seesName 34 = .ok (.iconst 0, 1) := dk_3 (dk_at dksX9_seesName_1 10 rfl rfl)
theorem dX9_seesName_35 : decode cX9_seesName 35 = .ok (.ireturn, 1) := dk_172 (dk_at dksX9_seesName_1 11 rfl rfl)
abbrev cX9_nameHere : ByteArray := prog_41_method_55_code
def yX9_nameHere : MethodName := ⟨RX9, "nameHere", "(II)I"⟩
def dkwX9_nameHere_1 : List UInt8 := [153, 0, 5, 29, 172, 132, 3, 1, 167, 255, 228, 2, 172]
abbrev dktX9_nameHere_1 : List UInt8 := dkwX9_nameHere_1 ++ []
def dkwX9_nameHere_0 : List UInt8 := [3, 62, 29, 42, 180, 0, 7, 28, 46, 162, 0, 24, 42, 27, 16, 7, 29, 104, 96, 182, 0, 217]
abbrev dktX9_nameHere_0 : List UInt8 := dkwX9_nameHere_0 ++ dktX9_nameHere_1
theorem dksX9_nameHere_0 : cX9_nameHere.data.toList.drop 0 = dktX9_nameHere_0 := by decide +kernel
theorem dksX9_nameHere_1 : cX9_nameHere.data.toList.drop 22 = dktX9_nameHere_1 := dk_seg dksX9_nameHere_0 22 rfl rfl
theorem dX9_nameHere_0 : decode cX9_nameHere 0 = .ok (.iconst 0, 1) := dk_3 (dk_at dksX9_nameHere_0 0 rfl rfl)
theorem dX9_nameHere_1 : decode cX9_nameHere 1 = .ok (.istore_n 3, 1) := dk_62 (dk_at dksX9_nameHere_0 1 rfl rfl)
theorem dX9_nameHere_2 : decode cX9_nameHere 2 = .ok (.iload_n 3, 1) := dk_29 (dk_at dksX9_nameHere_0 2 rfl rfl)
theorem dX9_nameHere_3 : decode cX9_nameHere 3 = .ok (.aload_n 0, 1) := dk_42 (dk_at dksX9_nameHere_0 3 rfl rfl)
theorem dX9_nameHere_4 : decode cX9_nameHere 4 = .ok (.getfield 7, 3) := dk_180 0 7 (dk_at dksX9_nameHere_0 4 rfl rfl)
theorem dX9_nameHere_7 : decode cX9_nameHere 7 = .ok (.iload_n 2, 1) := dk_28 (dk_at dksX9_nameHere_0 7 rfl rfl)
theorem dX9_nameHere_8 : decode cX9_nameHere 8 = .ok (.iaload, 1) := dk_46 (dk_at dksX9_nameHere_0 8 rfl rfl)
theorem dX9_nameHere_9 : decode cX9_nameHere 9 = .ok (.if_icmp .ge 24, 3) := dk_162 0 24 (dk_at dksX9_nameHere_0 9 rfl rfl)
theorem dX9_nameHere_12 : decode cX9_nameHere 12 = .ok (.aload_n 0, 1) := dk_42 (dk_at dksX9_nameHere_0 12 rfl rfl)
theorem dX9_nameHere_13 : decode cX9_nameHere 13 = .ok (.iload_n 1, 1) := dk_27 (dk_at dksX9_nameHere_0 13 rfl rfl)
theorem dX9_nameHere_14 : decode cX9_nameHere 14 = .ok (.bipush 7, 2) := dk_16 7 (dk_at dksX9_nameHere_0 14 rfl rfl)
theorem dX9_nameHere_16 : decode cX9_nameHere 16 = .ok (.iload_n 3, 1) := dk_29 (dk_at dksX9_nameHere_0 16 rfl rfl)
theorem dX9_nameHere_17 : decode cX9_nameHere 17 = .ok (.imul, 1) := dk_104 (dk_at dksX9_nameHere_0 17 rfl rfl)
theorem dX9_nameHere_18 : decode cX9_nameHere 18 = .ok (.iadd, 1) := dk_96 (dk_at dksX9_nameHere_0 18 rfl rfl)
theorem dX9_nameHere_19 : decode cX9_nameHere 19 = .ok (.invokevirtual 217, 3) := dk_182 0 217 (dk_at dksX9_nameHere_0 19 rfl rfl)
theorem dX9_nameHere_22 : decode cX9_nameHere 22 = .ok (.ifCond .eq 5, 3) := dk_153 0 5 (dk_at dksX9_nameHere_1 0 rfl rfl)
theorem dX9_nameHere_25 : decode cX9_nameHere 25 = .ok (.iload_n 3, 1) := dk_29 (dk_at dksX9_nameHere_1 3 rfl rfl)
theorem dX9_nameHere_26 : decode cX9_nameHere 26 = .ok (.ireturn, 1) := dk_172 (dk_at dksX9_nameHere_1 4 rfl rfl)
theorem dX9_nameHere_27 : decode cX9_nameHere 27 = .ok (.iinc 3 1, 3) := dk_132 3 1 (dk_at dksX9_nameHere_1 5 rfl rfl)
theorem dX9_nameHere_30 : decode cX9_nameHere 30 = .ok (.goto (-28), 3) := dk_167 255 228 (dk_at dksX9_nameHere_1 8 rfl rfl)
theorem dX9_nameHere_33 : decode cX9_nameHere 33 = .ok (.iconst (-1), 1) := dk_2 (dk_at dksX9_nameHere_1 11 rfl rfl)
theorem dX9_nameHere_34 : decode cX9_nameHere 34 = .ok (.ireturn, 1) := dk_172 (dk_at dksX9_nameHere_1 12 rfl rfl)
abbrev cX9_isNameAt : ByteArray := prog_41_method_54_code
def yX9_isNameAt : MethodName := ⟨RX9, "isNameAt", "(I)Z"⟩
def dkwX9_isNameAt_2 : List UInt8 := [180, 0, 28, 42, 180, 0, 177, 28, 96, 46, 159, 0, 5, 3, 172, 132, 2, 1, 167, 255, 214, 4, 172]
abbrev dktX9_isNameAt_2 : List UInt8 := dkwX9_isNameAt_2 ++ []
def dkwX9_isNameAt_1 : List UInt8 := [180, 0, 174, 42, 180, 0, 177, 100, 162, 0, 35, 42, 180, 0, 7, 27, 4, 96, 28, 96, 46, 42]
abbrev dktX9_isNameAt_1 : List UInt8 := dkwX9_isNameAt_1 ++ dktX9_isNameAt_2
def dkwX9_isNameAt_0 : List UInt8 := [42, 180, 0, 7, 27, 46, 42, 180, 0, 174, 42, 180, 0, 177, 100, 159, 0, 5, 3, 172, 3, 61, 28, 42]
abbrev dktX9_isNameAt_0 : List UInt8 := dkwX9_isNameAt_0 ++ dktX9_isNameAt_1
theorem dksX9_isNameAt_0 : cX9_isNameAt.data.toList.drop 0 = dktX9_isNameAt_0 := by decide +kernel
theorem dksX9_isNameAt_1 : cX9_isNameAt.data.toList.drop 24 = dktX9_isNameAt_1 := dk_seg dksX9_isNameAt_0 24 rfl rfl
theorem dksX9_isNameAt_2 : cX9_isNameAt.data.toList.drop 46 = dktX9_isNameAt_2 := dk_seg dksX9_isNameAt_1 22 rfl rfl
theorem dX9_isNameAt_0 : decode cX9_isNameAt 0 = .ok (.aload_n 0, 1) := dk_42 (dk_at dksX9_isNameAt_0 0 rfl rfl)
theorem dX9_isNameAt_1 : decode cX9_isNameAt 1 = .ok (.getfield 7, 3) := dk_180 0 7 (dk_at dksX9_isNameAt_0 1 rfl rfl)
theorem dX9_isNameAt_4 : decode cX9_isNameAt 4 = .ok (.iload_n 1, 1) := dk_27 (dk_at dksX9_isNameAt_0 4 rfl rfl)
theorem dX9_isNameAt_5 : decode cX9_isNameAt 5 = .ok (.iaload, 1) := dk_46 (dk_at dksX9_isNameAt_0 5 rfl rfl)
theorem dX9_isNameAt_6 : decode cX9_isNameAt 6 = .ok (.aload_n 0, 1) := dk_42 (dk_at dksX9_isNameAt_0 6 rfl rfl)
theorem dX9_isNameAt_7 : decode cX9_isNameAt 7 = .ok (.getfield 174, 3) := dk_180 0 174 (dk_at dksX9_isNameAt_0 7 rfl rfl)
theorem dX9_isNameAt_10 : decode cX9_isNameAt 10 = .ok (.aload_n 0, 1) := dk_42 (dk_at dksX9_isNameAt_0 10 rfl rfl)
theorem dX9_isNameAt_11 : decode cX9_isNameAt 11 = .ok (.getfield 177, 3) := dk_180 0 177 (dk_at dksX9_isNameAt_0 11 rfl rfl)
theorem dX9_isNameAt_14 : decode cX9_isNameAt 14 = .ok (.isub, 1) := dk_100 (dk_at dksX9_isNameAt_0 14 rfl rfl)
theorem dX9_isNameAt_15 : decode cX9_isNameAt 15 = .ok (.if_icmp .eq 5, 3) := dk_159 0 5 (dk_at dksX9_isNameAt_0 15 rfl rfl)
theorem dX9_isNameAt_18 : decode cX9_isNameAt 18 = .ok (.iconst 0, 1) := dk_3 (dk_at dksX9_isNameAt_0 18 rfl rfl)
theorem dX9_isNameAt_19 : decode cX9_isNameAt 19 = .ok (.ireturn, 1) := dk_172 (dk_at dksX9_isNameAt_0 19 rfl rfl)
theorem dX9_isNameAt_20 : decode cX9_isNameAt 20 = .ok (.iconst 0, 1) := dk_3 (dk_at dksX9_isNameAt_0 20 rfl rfl)
theorem dX9_isNameAt_21 : decode cX9_isNameAt 21 = .ok (.istore_n 2, 1) := dk_61 (dk_at dksX9_isNameAt_0 21 rfl rfl)
theorem dX9_isNameAt_22 : decode cX9_isNameAt 22 = .ok (.iload_n 2, 1) := dk_28 (dk_at dksX9_isNameAt_0 22 rfl rfl)
theorem dX9_isNameAt_23 : decode cX9_isNameAt 23 = .ok (.aload_n 0, 1) := dk_42 (dk_at dksX9_isNameAt_0 23 rfl rfl)
theorem dX9_isNameAt_24 : decode cX9_isNameAt 24 = .ok (.getfield 174, 3) := dk_180 0 174 (dk_at dksX9_isNameAt_1 0 rfl rfl)
theorem dX9_isNameAt_27 : decode cX9_isNameAt 27 = .ok (.aload_n 0, 1) := dk_42 (dk_at dksX9_isNameAt_1 3 rfl rfl)
theorem dX9_isNameAt_28 : decode cX9_isNameAt 28 = .ok (.getfield 177, 3) := dk_180 0 177 (dk_at dksX9_isNameAt_1 4 rfl rfl)
theorem dX9_isNameAt_31 : decode cX9_isNameAt 31 = .ok (.isub, 1) := dk_100 (dk_at dksX9_isNameAt_1 7 rfl rfl)
theorem dX9_isNameAt_32 : decode cX9_isNameAt 32 = .ok (.if_icmp .ge 35, 3) := dk_162 0 35 (dk_at dksX9_isNameAt_1 8 rfl rfl)
theorem dX9_isNameAt_35 : decode cX9_isNameAt 35 = .ok (.aload_n 0, 1) := dk_42 (dk_at dksX9_isNameAt_1 11 rfl rfl)
theorem dX9_isNameAt_36 : decode cX9_isNameAt 36 = .ok (.getfield 7, 3) := dk_180 0 7 (dk_at dksX9_isNameAt_1 12 rfl rfl)
theorem dX9_isNameAt_39 : decode cX9_isNameAt 39 = .ok (.iload_n 1, 1) := dk_27 (dk_at dksX9_isNameAt_1 15 rfl rfl)
theorem dX9_isNameAt_40 : decode cX9_isNameAt 40 = .ok (.iconst 1, 1) := dk_4 (dk_at dksX9_isNameAt_1 16 rfl rfl)
theorem dX9_isNameAt_41 : decode cX9_isNameAt 41 = .ok (.iadd, 1) := dk_96 (dk_at dksX9_isNameAt_1 17 rfl rfl)
theorem dX9_isNameAt_42 : decode cX9_isNameAt 42 = .ok (.iload_n 2, 1) := dk_28 (dk_at dksX9_isNameAt_1 18 rfl rfl)
theorem dX9_isNameAt_43 : decode cX9_isNameAt 43 = .ok (.iadd, 1) := dk_96 (dk_at dksX9_isNameAt_1 19 rfl rfl)
theorem dX9_isNameAt_44 : decode cX9_isNameAt 44 = .ok (.iaload, 1) := dk_46 (dk_at dksX9_isNameAt_1 20 rfl rfl)
theorem dX9_isNameAt_45 : decode cX9_isNameAt 45 = .ok (.aload_n 0, 1) := dk_42 (dk_at dksX9_isNameAt_1 21 rfl rfl)
theorem dX9_isNameAt_46 : decode cX9_isNameAt 46 = .ok (.getfield 28, 3) := dk_180 0 28 (dk_at dksX9_isNameAt_2 0 rfl rfl)
theorem dX9_isNameAt_49 : decode cX9_isNameAt 49 = .ok (.aload_n 0, 1) := dk_42 (dk_at dksX9_isNameAt_2 3 rfl rfl)
theorem dX9_isNameAt_50 : decode cX9_isNameAt 50 = .ok (.getfield 177, 3) := dk_180 0 177 (dk_at dksX9_isNameAt_2 4 rfl rfl)
theorem dX9_isNameAt_53 : decode cX9_isNameAt 53 = .ok (.iload_n 2, 1) := dk_28 (dk_at dksX9_isNameAt_2 7 rfl rfl)
theorem dX9_isNameAt_54 : decode cX9_isNameAt 54 = .ok (.iadd, 1) := dk_96 (dk_at dksX9_isNameAt_2 8 rfl rfl)
theorem dX9_isNameAt_55 : decode cX9_isNameAt 55 = .ok (.iaload, 1) := dk_46 (dk_at dksX9_isNameAt_2 9 rfl rfl)
theorem dX9_isNameAt_56 : decode cX9_isNameAt 56 = .ok (.if_icmp .eq 5, 3) := dk_159 0 5 (dk_at dksX9_isNameAt_2 10 rfl rfl)
theorem dX9_isNameAt_59 : decode cX9_isNameAt 59 = .ok (.iconst 0, 1) := dk_3 (dk_at dksX9_isNameAt_2 13 rfl rfl)
theorem dX9_isNameAt_60 : decode cX9_isNameAt 60 = .ok (.ireturn, 1) := dk_172 (dk_at dksX9_isNameAt_2 14 rfl rfl)
theorem dX9_isNameAt_61 : decode cX9_isNameAt 61 = .ok (.iinc 2 1, 3) := dk_132 2 1 (dk_at dksX9_isNameAt_2 15 rfl rfl)
theorem dX9_isNameAt_64 : decode cX9_isNameAt 64 = .ok (.goto (-42), 3) := dk_167 255 214 (dk_at dksX9_isNameAt_2 18 rfl rfl)
theorem dX9_isNameAt_67 : decode cX9_isNameAt 67 = .ok (.iconst 1, 1) := dk_4 (dk_at dksX9_isNameAt_2 21 rfl rfl)
theorem dX9_isNameAt_68 : decode cX9_isNameAt 68 = .ok (.ireturn, 1) := dk_172 (dk_at dksX9_isNameAt_2 22 rfl rfl)
abbrev cX9_takes : ByteArray := prog_41_method_56_code
def yX9_takes : MethodName := ⟨RX9, "takes", "(I)Z"⟩
def dkwX9_takes_0 : List UInt8 := [42, 3, 16, 9, 182, 0, 220, 154, 0, 5, 3, 172, 42, 180, 0, 35, 27, 42, 180, 0, 208, 79, 4, 172]
abbrev dktX9_takes_0 : List UInt8 := dkwX9_takes_0 ++ []
theorem dksX9_takes_0 : cX9_takes.data.toList.drop 0 = dktX9_takes_0 := by decide +kernel
theorem dX9_takes_0 : decode cX9_takes 0 = .ok (.aload_n 0, 1) := dk_42 (dk_at dksX9_takes_0 0 rfl rfl)
theorem dX9_takes_1 : decode cX9_takes 1 = .ok (.iconst 0, 1) := dk_3 (dk_at dksX9_takes_0 1 rfl rfl)
theorem dX9_takes_2 : decode cX9_takes 2 = .ok (.bipush 9, 2) := dk_16 9 (dk_at dksX9_takes_0 2 rfl rfl)
theorem dX9_takes_4 : decode cX9_takes 4 = .ok (.invokevirtual 220, 3) := dk_182 0 220 (dk_at dksX9_takes_0 4 rfl rfl)
theorem dX9_takes_7 : decode cX9_takes 7 = .ok (.ifCond .ne 5, 3) := dk_154 0 5 (dk_at dksX9_takes_0 7 rfl rfl)
theorem dX9_takes_10 : decode cX9_takes 10 = .ok (.iconst 0, 1) := dk_3 (dk_at dksX9_takes_0 10 rfl rfl)
theorem dX9_takes_11 : decode cX9_takes 11 = .ok (.ireturn, 1) := dk_172 (dk_at dksX9_takes_0 11 rfl rfl)
theorem dX9_takes_12 : decode cX9_takes 12 = .ok (.aload_n 0, 1) := dk_42 (dk_at dksX9_takes_0 12 rfl rfl)
theorem dX9_takes_13 : decode cX9_takes 13 = .ok (.getfield 35, 3) := dk_180 0 35 (dk_at dksX9_takes_0 13 rfl rfl)
theorem dX9_takes_16 : decode cX9_takes 16 = .ok (.iload_n 1, 1) := dk_27 (dk_at dksX9_takes_0 16 rfl rfl)
theorem dX9_takes_17 : decode cX9_takes 17 = .ok (.aload_n 0, 1) := dk_42 (dk_at dksX9_takes_0 17 rfl rfl)
theorem dX9_takes_18 : decode cX9_takes 18 = .ok (.getfield 208, 3) := dk_180 0 208 (dk_at dksX9_takes_0 18 rfl rfl)
theorem dX9_takes_21 : decode cX9_takes 21 = .ok (.iastore, 1) := dk_79 (dk_at dksX9_takes_0 21 rfl rfl)
theorem dX9_takes_22 : decode cX9_takes 22 = .ok (.iconst 1, 1) := dk_4 (dk_at dksX9_takes_0 22 rfl rfl)
theorem dX9_takes_23 : decode cX9_takes 23 = .ok (.ireturn, 1) := dk_172 (dk_at dksX9_takes_0 23 rfl rfl)
abbrev cX9_takesNumber : ByteArray := prog_41_method_51_code
def yX9_takesNumber : MethodName := ⟨RX9, "takesNumber", "(II)Z"⟩
def dkwX9_takesNumber_0 : List UInt8 := [42, 27, 28, 182, 0, 211, 154, 0, 5, 3, 172, 42, 182, 0, 214, 4, 172]
abbrev dktX9_takesNumber_0 : List UInt8 := dkwX9_takesNumber_0 ++ []
theorem dksX9_takesNumber_0 : cX9_takesNumber.data.toList.drop 0 = dktX9_takesNumber_0 := by decide +kernel
theorem dX9_takesNumber_0 : decode cX9_takesNumber 0 = .ok (.aload_n 0, 1) := dk_42 (dk_at dksX9_takesNumber_0 0 rfl rfl)
theorem dX9_takesNumber_1 : decode cX9_takesNumber 1 = .ok (.iload_n 1, 1) := dk_27 (dk_at dksX9_takesNumber_0 1 rfl rfl)
theorem dX9_takesNumber_2 : decode cX9_takesNumber 2 = .ok (.iload_n 2, 1) := dk_28 (dk_at dksX9_takesNumber_0 2 rfl rfl)
theorem dX9_takesNumber_3 : decode cX9_takesNumber 3 = .ok (.invokevirtual 211, 3) := dk_182 0 211 (dk_at dksX9_takesNumber_0 3 rfl rfl)
theorem dX9_takesNumber_6 : decode cX9_takesNumber 6 = .ok (.ifCond .ne 5, 3) := dk_154 0 5 (dk_at dksX9_takesNumber_0 6 rfl rfl)
theorem dX9_takesNumber_9 : decode cX9_takesNumber 9 = .ok (.iconst 0, 1) := dk_3 (dk_at dksX9_takesNumber_0 9 rfl rfl)
theorem dX9_takesNumber_10 : decode cX9_takesNumber 10 = .ok (.ireturn, 1) := dk_172 (dk_at dksX9_takesNumber_0 10 rfl rfl)
theorem dX9_takesNumber_11 : decode cX9_takesNumber 11 = .ok (.aload_n 0, 1) := dk_42 (dk_at dksX9_takesNumber_0 11 rfl rfl)
theorem dX9_takesNumber_12 : decode cX9_takesNumber 12 = .ok (.invokevirtual 214, 3) := dk_182 0 214 (dk_at dksX9_takesNumber_0 12 rfl rfl)
theorem dX9_takesNumber_15 : decode cX9_takesNumber 15 = .ok (.iconst 1, 1) := dk_4 (dk_at dksX9_takesNumber_0 15 rfl rfl)
theorem dX9_takesNumber_16 : decode cX9_takesNumber 16 = .ok (.ireturn, 1) := dk_172 (dk_at dksX9_takesNumber_0 16 rfl rfl)
abbrev cX9_seesNumber : ByteArray := prog_41_method_50_code
def yX9_seesNumber : MethodName := ⟨RX9, "seesNumber", "(II)Z"⟩
def dkwX9_seesNumber_1 : List UInt8 := [154, 0, 9, 42, 5, 182, 0, 205, 172, 42, 42, 180, 0, 180, 181, 0, 208, 4, 172]
abbrev dktX9_seesNumber_1 : List UInt8 := dkwX9_seesNumber_1 ++ []
def dkwX9_seesNumber_0 : List UInt8 := [42, 180, 0, 183, 5, 159, 0, 9, 42, 4, 182, 0, 205, 172, 42, 180, 0, 180, 27, 28, 184, 0, 127]
abbrev dktX9_seesNumber_0 : List UInt8 := dkwX9_seesNumber_0 ++ dktX9_seesNumber_1
theorem dksX9_seesNumber_0 : cX9_seesNumber.data.toList.drop 0 = dktX9_seesNumber_0 := by decide +kernel
theorem dksX9_seesNumber_1 : cX9_seesNumber.data.toList.drop 23 = dktX9_seesNumber_1 := dk_seg dksX9_seesNumber_0 23 rfl rfl
theorem dX9_seesNumber_0 : decode cX9_seesNumber 0 = .ok (.aload_n 0, 1) := dk_42 (dk_at dksX9_seesNumber_0 0 rfl rfl)
theorem dX9_seesNumber_1 : decode cX9_seesNumber 1 = .ok (.getfield 183, 3) := dk_180 0 183 (dk_at dksX9_seesNumber_0 1 rfl rfl)
theorem dX9_seesNumber_4 : decode cX9_seesNumber 4 = .ok (.iconst 2, 1) := dk_5 (dk_at dksX9_seesNumber_0 4 rfl rfl)
theorem dX9_seesNumber_5 : decode cX9_seesNumber 5 = .ok (.if_icmp .eq 9, 3) := dk_159 0 9 (dk_at dksX9_seesNumber_0 5 rfl rfl)
theorem dX9_seesNumber_8 : decode cX9_seesNumber 8 = .ok (.aload_n 0, 1) := dk_42 (dk_at dksX9_seesNumber_0 8 rfl rfl)
theorem dX9_seesNumber_9 : decode cX9_seesNumber 9 = .ok (.iconst 1, 1) := dk_4 (dk_at dksX9_seesNumber_0 9 rfl rfl)
theorem dX9_seesNumber_10 : decode cX9_seesNumber 10 = .ok (.invokevirtual 205, 3) := dk_182 0 205 (dk_at dksX9_seesNumber_0 10 rfl rfl)
theorem dX9_seesNumber_13 : decode cX9_seesNumber 13 = .ok (.ireturn, 1) := dk_172 (dk_at dksX9_seesNumber_0 13 rfl rfl)
theorem dX9_seesNumber_14 : decode cX9_seesNumber 14 = .ok (.aload_n 0, 1) := dk_42 (dk_at dksX9_seesNumber_0 14 rfl rfl)
theorem dX9_seesNumber_15 : decode cX9_seesNumber 15 = .ok (.getfield 180, 3) := dk_180 0 180 (dk_at dksX9_seesNumber_0 15 rfl rfl)
theorem dX9_seesNumber_18 : decode cX9_seesNumber 18 = .ok (.iload_n 1, 1) := dk_27 (dk_at dksX9_seesNumber_0 18 rfl rfl)
theorem dX9_seesNumber_19 : decode cX9_seesNumber 19 = .ok (.iload_n 2, 1) := dk_28 (dk_at dksX9_seesNumber_0 19 rfl rfl)
theorem dX9_seesNumber_20 : decode cX9_seesNumber 20 = .ok (.invokestatic 127, 3) := dk_184 0 127 (dk_at dksX9_seesNumber_0 20 rfl rfl)
theorem dX9_seesNumber_23 : decode cX9_seesNumber 23 = .ok (.ifCond .ne 9, 3) := dk_154 0 9 (dk_at dksX9_seesNumber_1 0 rfl rfl)
theorem dX9_seesNumber_26 : decode cX9_seesNumber 26 = .ok (.aload_n 0, 1) := dk_42 (dk_at dksX9_seesNumber_1 3 rfl rfl)
theorem dX9_seesNumber_27 : decode cX9_seesNumber 27 = .ok (.iconst 2, 1) := dk_5 (dk_at dksX9_seesNumber_1 4 rfl rfl)
theorem dX9_seesNumber_28 : decode cX9_seesNumber 28 = .ok (.invokevirtual 205, 3) := dk_182 0 205 (dk_at dksX9_seesNumber_1 5 rfl rfl)
theorem dX9_seesNumber_31 : decode cX9_seesNumber 31 = .ok (.ireturn, 1) := dk_172 (dk_at dksX9_seesNumber_1 8 rfl rfl)
theorem dX9_seesNumber_32 : decode cX9_seesNumber 32 = .ok (.aload_n 0, 1) := dk_42 (dk_at dksX9_seesNumber_1 9 rfl rfl)
theorem dX9_seesNumber_33 : decode cX9_seesNumber 33 = .ok (.aload_n 0, 1) := dk_42 (dk_at dksX9_seesNumber_1 10 rfl rfl)
theorem dX9_seesNumber_34 : decode cX9_seesNumber 34 = .ok (.getfield 180, 3) := dk_180 0 180 (dk_at dksX9_seesNumber_1 11 rfl rfl)
theorem dX9_seesNumber_37 : decode cX9_seesNumber 37 = .ok (.putfield 208, 3) := dk_181 0 208 (dk_at dksX9_seesNumber_1 14 rfl rfl)
theorem dX9_seesNumber_40 : decode cX9_seesNumber 40 = .ok (.iconst 1, 1) := dk_4 (dk_at dksX9_seesNumber_1 17 rfl rfl)
theorem dX9_seesNumber_41 : decode cX9_seesNumber 41 = .ok (.ireturn, 1) := dk_172 (dk_at dksX9_seesNumber_1 18 rfl rfl)
abbrev cX9_takesSemicolon : ByteArray := prog_41_method_52_code
def yX9_takesSemicolon : MethodName := ⟨RX9, "takesSemicolon", "()Z"⟩
def dkwX9_takesSemicolon_0 : List UInt8 := [42, 180, 0, 183, 6, 159, 0, 9, 42, 4, 182, 0, 205, 172, 42, 182, 0, 214, 4, 172]
abbrev dktX9_takesSemicolon_0 : List UInt8 := dkwX9_takesSemicolon_0 ++ []
theorem dksX9_takesSemicolon_0 : cX9_takesSemicolon.data.toList.drop 0 = dktX9_takesSemicolon_0 := by decide +kernel
theorem dX9_takesSemicolon_0 : decode cX9_takesSemicolon 0 = .ok (.aload_n 0, 1) := dk_42 (dk_at dksX9_takesSemicolon_0 0 rfl rfl)
theorem dX9_takesSemicolon_1 : decode cX9_takesSemicolon 1 = .ok (.getfield 183, 3) := dk_180 0 183 (dk_at dksX9_takesSemicolon_0 1 rfl rfl)
theorem dX9_takesSemicolon_4 : decode cX9_takesSemicolon 4 = .ok (.iconst 3, 1) := dk_6 (dk_at dksX9_takesSemicolon_0 4 rfl rfl)
theorem dX9_takesSemicolon_5 : decode cX9_takesSemicolon 5 = .ok (.if_icmp .eq 9, 3) := dk_159 0 9 (dk_at dksX9_takesSemicolon_0 5 rfl rfl)
theorem dX9_takesSemicolon_8 : decode cX9_takesSemicolon 8 = .ok (.aload_n 0, 1) := dk_42 (dk_at dksX9_takesSemicolon_0 8 rfl rfl)
theorem dX9_takesSemicolon_9 : decode cX9_takesSemicolon 9 = .ok (.iconst 1, 1) := dk_4 (dk_at dksX9_takesSemicolon_0 9 rfl rfl)
theorem dX9_takesSemicolon_10 : decode cX9_takesSemicolon 10 = .ok (.invokevirtual 205, 3) := dk_182 0 205 (dk_at dksX9_takesSemicolon_0 10 rfl rfl)
theorem dX9_takesSemicolon_13 : decode cX9_takesSemicolon 13 = .ok (.ireturn, 1) := dk_172 (dk_at dksX9_takesSemicolon_0 13 rfl rfl)
theorem dX9_takesSemicolon_14 : decode cX9_takesSemicolon 14 = .ok (.aload_n 0, 1) := dk_42 (dk_at dksX9_takesSemicolon_0 14 rfl rfl)
theorem dX9_takesSemicolon_15 : decode cX9_takesSemicolon 15 = .ok (.invokevirtual 214, 3) := dk_182 0 214 (dk_at dksX9_takesSemicolon_0 15 rfl rfl)
theorem dX9_takesSemicolon_18 : decode cX9_takesSemicolon 18 = .ok (.iconst 1, 1) := dk_4 (dk_at dksX9_takesSemicolon_0 18 rfl rfl)
theorem dX9_takesSemicolon_19 : decode cX9_takesSemicolon 19 = .ok (.ireturn, 1) := dk_172 (dk_at dksX9_takesSemicolon_0 19 rfl rfl)
abbrev cX9_readTransition : ByteArray := prog_41_method_64_code
def yX9_readTransition : MethodName := ⟨RX9, "readTransition", "()Z"⟩
def dkwX9_readTransition_8 : List UInt8 := [16, 8, 46, 182, 0, 65, 42, 182, 1, 15, 172]
abbrev dktX9_readTransition_8 : List UInt8 := dkwX9_readTransition_8 ++ []
def dkwX9_readTransition_7 : List UInt8 := [154, 0, 5, 3, 172, 42, 42, 180, 0, 35, 16, 6, 46, 42, 180, 0, 35, 16, 7, 46, 42, 180, 0, 35]
abbrev dktX9_readTransition_7 : List UInt8 := dkwX9_readTransition_7 ++ dktX9_readTransition_8
def dkwX9_readTransition_6 : List UInt8 := [182, 0, 68, 42, 19, 1, 26, 182, 0, 232, 153, 0, 44, 42, 182, 0, 214, 42, 16, 6, 3, 182, 1, 22]
abbrev dktX9_readTransition_6 : List UInt8 := dkwX9_readTransition_6 ++ dktX9_readTransition_7
def dkwX9_readTransition_5 : List UInt8 := [154, 0, 5, 3, 172, 42, 42, 180, 0, 35, 6, 46, 42, 180, 0, 35, 7, 46, 42, 180, 0, 35, 8, 46]
abbrev dktX9_readTransition_5 : List UInt8 := dkwX9_readTransition_5 ++ dktX9_readTransition_6
def dkwX9_readTransition_4 : List UInt8 := [182, 0, 61, 42, 19, 1, 20, 182, 0, 232, 153, 0, 40, 42, 182, 0, 214, 42, 6, 4, 182, 1, 22]
abbrev dktX9_readTransition_4 : List UInt8 := dkwX9_readTransition_4 ++ dktX9_readTransition_5
def dkwX9_readTransition_3 : List UInt8 := [154, 0, 5, 3, 172, 42, 42, 180, 0, 35, 3, 46, 42, 180, 0, 35, 4, 46, 42, 180, 0, 35, 5, 46]
abbrev dktX9_readTransition_3 : List UInt8 := dkwX9_readTransition_3 ++ dktX9_readTransition_4
def dkwX9_readTransition_2 : List UInt8 := [19, 1, 18, 182, 0, 232, 182, 1, 5, 154, 0, 5, 3, 172, 42, 5, 17, 1, 101, 3, 182, 0, 252]
abbrev dktX9_readTransition_2 : List UInt8 := dkwX9_readTransition_2 ++ dktX9_readTransition_3
def dkwX9_readTransition_1 : List UInt8 := [17, 1, 101, 3, 182, 0, 252, 153, 0, 29, 42, 4, 17, 1, 171, 4, 182, 0, 252, 153, 0, 17, 42, 42]
abbrev dktX9_readTransition_1 : List UInt8 := dkwX9_readTransition_1 ++ dktX9_readTransition_2
def dkwX9_readTransition_0 : List UInt8 := [42, 180, 0, 7, 6, 46, 16, 24, 160, 0, 9, 42, 8, 182, 0, 205, 172, 42, 182, 0, 214, 42, 3]
abbrev dktX9_readTransition_0 : List UInt8 := dkwX9_readTransition_0 ++ dktX9_readTransition_1
theorem dksX9_readTransition_0 : cX9_readTransition.data.toList.drop 0 = dktX9_readTransition_0 := by decide +kernel
theorem dksX9_readTransition_1 : cX9_readTransition.data.toList.drop 23 = dktX9_readTransition_1 := dk_seg dksX9_readTransition_0 23 rfl rfl
theorem dksX9_readTransition_2 : cX9_readTransition.data.toList.drop 47 = dktX9_readTransition_2 := dk_seg dksX9_readTransition_1 24 rfl rfl
theorem dksX9_readTransition_3 : cX9_readTransition.data.toList.drop 70 = dktX9_readTransition_3 := dk_seg dksX9_readTransition_2 23 rfl rfl
theorem dksX9_readTransition_4 : cX9_readTransition.data.toList.drop 94 = dktX9_readTransition_4 := dk_seg dksX9_readTransition_3 24 rfl rfl
theorem dksX9_readTransition_5 : cX9_readTransition.data.toList.drop 117 = dktX9_readTransition_5 := dk_seg dksX9_readTransition_4 23 rfl rfl
theorem dksX9_readTransition_6 : cX9_readTransition.data.toList.drop 141 = dktX9_readTransition_6 := dk_seg dksX9_readTransition_5 24 rfl rfl
theorem dksX9_readTransition_7 : cX9_readTransition.data.toList.drop 165 = dktX9_readTransition_7 := dk_seg dksX9_readTransition_6 24 rfl rfl
theorem dksX9_readTransition_8 : cX9_readTransition.data.toList.drop 189 = dktX9_readTransition_8 := dk_seg dksX9_readTransition_7 24 rfl rfl
theorem dX9_readTransition_0 : decode cX9_readTransition 0 = .ok (.aload_n 0, 1) := dk_42 (dk_at dksX9_readTransition_0 0 rfl rfl)
theorem dX9_readTransition_1 : decode cX9_readTransition 1 = .ok (.getfield 7, 3) := dk_180 0 7 (dk_at dksX9_readTransition_0 1 rfl rfl)
theorem dX9_readTransition_4 : decode cX9_readTransition 4 = .ok (.iconst 3, 1) := dk_6 (dk_at dksX9_readTransition_0 4 rfl rfl)
theorem dX9_readTransition_5 : decode cX9_readTransition 5 = .ok (.iaload, 1) := dk_46 (dk_at dksX9_readTransition_0 5 rfl rfl)
theorem dX9_readTransition_6 : decode cX9_readTransition 6 = .ok (.bipush 24, 2) := dk_16 24 (dk_at dksX9_readTransition_0 6 rfl rfl)
theorem dX9_readTransition_8 : decode cX9_readTransition 8 = .ok (.if_icmp .ne 9, 3) := dk_160 0 9 (dk_at dksX9_readTransition_0 8 rfl rfl)
theorem dX9_readTransition_11 : decode cX9_readTransition 11 = .ok (.aload_n 0, 1) := dk_42 (dk_at dksX9_readTransition_0 11 rfl rfl)
theorem dX9_readTransition_12 : decode cX9_readTransition 12 = .ok (.iconst 5, 1) := dk_8 (dk_at dksX9_readTransition_0 12 rfl rfl)
theorem dX9_readTransition_13 : decode cX9_readTransition 13 = .ok (.invokevirtual 205, 3) := dk_182 0 205 (dk_at dksX9_readTransition_0 13 rfl rfl)
theorem dX9_readTransition_16 : decode cX9_readTransition 16 = .ok (.ireturn, 1) := dk_172 (dk_at dksX9_readTransition_0 16 rfl rfl)
theorem dX9_readTransition_17 : decode cX9_readTransition 17 = .ok (.aload_n 0, 1) := dk_42 (dk_at dksX9_readTransition_0 17 rfl rfl)
theorem dX9_readTransition_18 : decode cX9_readTransition 18 = .ok (.invokevirtual 214, 3) := dk_182 0 214 (dk_at dksX9_readTransition_0 18 rfl rfl)
theorem dX9_readTransition_21 : decode cX9_readTransition 21 = .ok (.aload_n 0, 1) := dk_42 (dk_at dksX9_readTransition_0 21 rfl rfl)
theorem dX9_readTransition_22 : decode cX9_readTransition 22 = .ok (.iconst 0, 1) := dk_3 (dk_at dksX9_readTransition_0 22 rfl rfl)
theorem dX9_readTransition_23 : decode cX9_readTransition 23 = .ok (.sipush 357, 3) := dk_17 1 101 (dk_at dksX9_readTransition_1 0 rfl rfl)
theorem dX9_readTransition_26 : decode cX9_readTransition 26 = .ok (.iconst 0, 1) := dk_3 (dk_at dksX9_readTransition_1 3 rfl rfl)
theorem dX9_readTransition_27 : decode cX9_readTransition 27 = .ok (.invokevirtual 252, 3) := dk_182 0 252 (dk_at dksX9_readTransition_1 4 rfl rfl)
theorem dX9_readTransition_30 : decode cX9_readTransition 30 = .ok (.ifCond .eq 29, 3) := dk_153 0 29 (dk_at dksX9_readTransition_1 7 rfl rfl)
theorem dX9_readTransition_33 : decode cX9_readTransition 33 = .ok (.aload_n 0, 1) := dk_42 (dk_at dksX9_readTransition_1 10 rfl rfl)
theorem dX9_readTransition_34 : decode cX9_readTransition 34 = .ok (.iconst 1, 1) := dk_4 (dk_at dksX9_readTransition_1 11 rfl rfl)
theorem dX9_readTransition_35 : decode cX9_readTransition 35 = .ok (.sipush 427, 3) := dk_17 1 171 (dk_at dksX9_readTransition_1 12 rfl rfl)
theorem dX9_readTransition_38 : decode cX9_readTransition 38 = .ok (.iconst 1, 1) := dk_4 (dk_at dksX9_readTransition_1 15 rfl rfl)
theorem dX9_readTransition_39 : decode cX9_readTransition 39 = .ok (.invokevirtual 252, 3) := dk_182 0 252 (dk_at dksX9_readTransition_1 16 rfl rfl)
theorem dX9_readTransition_42 : decode cX9_readTransition 42 = .ok (.ifCond .eq 17, 3) := dk_153 0 17 (dk_at dksX9_readTransition_1 19 rfl rfl)
theorem dX9_readTransition_45 : decode cX9_readTransition 45 = .ok (.aload_n 0, 1) := dk_42 (dk_at dksX9_readTransition_1 22 rfl rfl)
theorem dX9_readTransition_46 : decode cX9_readTransition 46 = .ok (.aload_n 0, 1) := dk_42 (dk_at dksX9_readTransition_1 23 rfl rfl)
theorem dX9_readTransition_47 : decode cX9_readTransition 47 = .ok (.ldc_w 274, 3) := dk_19 1 18 (dk_at dksX9_readTransition_2 0 rfl rfl)
theorem dX9_readTransition_50 : decode cX9_readTransition 50 = .ok (.invokevirtual 232, 3) := dk_182 0 232 (dk_at dksX9_readTransition_2 3 rfl rfl)
theorem dX9_readTransition_53 : decode cX9_readTransition 53 = .ok (.invokevirtual 261, 3) := dk_182 1 5 (dk_at dksX9_readTransition_2 6 rfl rfl)
theorem dX9_readTransition_56 : decode cX9_readTransition 56 = .ok (.ifCond .ne 5, 3) := dk_154 0 5 (dk_at dksX9_readTransition_2 9 rfl rfl)
theorem dX9_readTransition_59 : decode cX9_readTransition 59 = .ok (.iconst 0, 1) := dk_3 (dk_at dksX9_readTransition_2 12 rfl rfl)
theorem dX9_readTransition_60 : decode cX9_readTransition 60 = .ok (.ireturn, 1) := dk_172 (dk_at dksX9_readTransition_2 13 rfl rfl)
theorem dX9_readTransition_61 : decode cX9_readTransition 61 = .ok (.aload_n 0, 1) := dk_42 (dk_at dksX9_readTransition_2 14 rfl rfl)
theorem dX9_readTransition_62 : decode cX9_readTransition 62 = .ok (.iconst 2, 1) := dk_5 (dk_at dksX9_readTransition_2 15 rfl rfl)
theorem dX9_readTransition_63 : decode cX9_readTransition 63 = .ok (.sipush 357, 3) := dk_17 1 101 (dk_at dksX9_readTransition_2 16 rfl rfl)
theorem dX9_readTransition_66 : decode cX9_readTransition 66 = .ok (.iconst 0, 1) := dk_3 (dk_at dksX9_readTransition_2 19 rfl rfl)
theorem dX9_readTransition_67 : decode cX9_readTransition 67 = .ok (.invokevirtual 252, 3) := dk_182 0 252 (dk_at dksX9_readTransition_2 20 rfl rfl)
theorem dX9_readTransition_70 : decode cX9_readTransition 70 = .ok (.ifCond .ne 5, 3) := dk_154 0 5 (dk_at dksX9_readTransition_3 0 rfl rfl)
theorem dX9_readTransition_73 : decode cX9_readTransition 73 = .ok (.iconst 0, 1) := dk_3 (dk_at dksX9_readTransition_3 3 rfl rfl)
theorem dX9_readTransition_74 : decode cX9_readTransition 74 = .ok (.ireturn, 1) := dk_172 (dk_at dksX9_readTransition_3 4 rfl rfl)
theorem dX9_readTransition_75 : decode cX9_readTransition 75 = .ok (.aload_n 0, 1) := dk_42 (dk_at dksX9_readTransition_3 5 rfl rfl)
theorem dX9_readTransition_76 : decode cX9_readTransition 76 = .ok (.aload_n 0, 1) := dk_42 (dk_at dksX9_readTransition_3 6 rfl rfl)
theorem dX9_readTransition_77 : decode cX9_readTransition 77 = .ok (.getfield 35, 3) := dk_180 0 35 (dk_at dksX9_readTransition_3 7 rfl rfl)
theorem dX9_readTransition_80 : decode cX9_readTransition 80 = .ok (.iconst 0, 1) := dk_3 (dk_at dksX9_readTransition_3 10 rfl rfl)
theorem dX9_readTransition_81 : decode cX9_readTransition 81 = .ok (.iaload, 1) := dk_46 (dk_at dksX9_readTransition_3 11 rfl rfl)
theorem dX9_readTransition_82 : decode cX9_readTransition 82 = .ok (.aload_n 0, 1) := dk_42 (dk_at dksX9_readTransition_3 12 rfl rfl)
theorem dX9_readTransition_83 : decode cX9_readTransition 83 = .ok (.getfield 35, 3) := dk_180 0 35 (dk_at dksX9_readTransition_3 13 rfl rfl)
theorem dX9_readTransition_86 : decode cX9_readTransition 86 = .ok (.iconst 1, 1) := dk_4 (dk_at dksX9_readTransition_3 16 rfl rfl)
theorem dX9_readTransition_87 : decode cX9_readTransition 87 = .ok (.iaload, 1) := dk_46 (dk_at dksX9_readTransition_3 17 rfl rfl)
theorem dX9_readTransition_88 : decode cX9_readTransition 88 = .ok (.aload_n 0, 1) := dk_42 (dk_at dksX9_readTransition_3 18 rfl rfl)
theorem dX9_readTransition_89 : decode cX9_readTransition 89 = .ok (.getfield 35, 3) := dk_180 0 35 (dk_at dksX9_readTransition_3 19 rfl rfl)
theorem dX9_readTransition_92 : decode cX9_readTransition 92 = .ok (.iconst 2, 1) := dk_5 (dk_at dksX9_readTransition_3 22 rfl rfl)
theorem dX9_readTransition_93 : decode cX9_readTransition 93 = .ok (.iaload, 1) := dk_46 (dk_at dksX9_readTransition_3 23 rfl rfl)
theorem dX9_readTransition_94 : decode cX9_readTransition 94 = .ok (.invokevirtual 61, 3) := dk_182 0 61 (dk_at dksX9_readTransition_4 0 rfl rfl)
theorem dX9_readTransition_97 : decode cX9_readTransition 97 = .ok (.aload_n 0, 1) := dk_42 (dk_at dksX9_readTransition_4 3 rfl rfl)
theorem dX9_readTransition_98 : decode cX9_readTransition 98 = .ok (.ldc_w 276, 3) := dk_19 1 20 (dk_at dksX9_readTransition_4 4 rfl rfl)
theorem dX9_readTransition_101 : decode cX9_readTransition 101 = .ok (.invokevirtual 232, 3) := dk_182 0 232 (dk_at dksX9_readTransition_4 7 rfl rfl)
theorem dX9_readTransition_104 : decode cX9_readTransition 104 = .ok (.ifCond .eq 40, 3) := dk_153 0 40 (dk_at dksX9_readTransition_4 10 rfl rfl)
theorem dX9_readTransition_107 : decode cX9_readTransition 107 = .ok (.aload_n 0, 1) := dk_42 (dk_at dksX9_readTransition_4 13 rfl rfl)
theorem dX9_readTransition_108 : decode cX9_readTransition 108 = .ok (.invokevirtual 214, 3) := dk_182 0 214 (dk_at dksX9_readTransition_4 14 rfl rfl)
theorem dX9_readTransition_111 : decode cX9_readTransition 111 = .ok (.aload_n 0, 1) := dk_42 (dk_at dksX9_readTransition_4 17 rfl rfl)
theorem dX9_readTransition_112 : decode cX9_readTransition 112 = .ok (.iconst 3, 1) := dk_6 (dk_at dksX9_readTransition_4 18 rfl rfl)
theorem dX9_readTransition_113 : decode cX9_readTransition 113 = .ok (.iconst 1, 1) := dk_4 (dk_at dksX9_readTransition_4 19 rfl rfl)
theorem dX9_readTransition_114 : decode cX9_readTransition 114 = .ok (.invokevirtual 278, 3) := dk_182 1 22 (dk_at dksX9_readTransition_4 20 rfl rfl)
theorem dX9_readTransition_117 : decode cX9_readTransition 117 = .ok (.ifCond .ne 5, 3) := dk_154 0 5 (dk_at dksX9_readTransition_5 0 rfl rfl)
theorem dX9_readTransition_120 : decode cX9_readTransition 120 = .ok (.iconst 0, 1) := dk_3 (dk_at dksX9_readTransition_5 3 rfl rfl)
theorem dX9_readTransition_121 : decode cX9_readTransition 121 = .ok (.ireturn, 1) := dk_172 (dk_at dksX9_readTransition_5 4 rfl rfl)
theorem dX9_readTransition_122 : decode cX9_readTransition 122 = .ok (.aload_n 0, 1) := dk_42 (dk_at dksX9_readTransition_5 5 rfl rfl)
theorem dX9_readTransition_123 : decode cX9_readTransition 123 = .ok (.aload_n 0, 1) := dk_42 (dk_at dksX9_readTransition_5 6 rfl rfl)
theorem dX9_readTransition_124 : decode cX9_readTransition 124 = .ok (.getfield 35, 3) := dk_180 0 35 (dk_at dksX9_readTransition_5 7 rfl rfl)
theorem dX9_readTransition_127 : decode cX9_readTransition 127 = .ok (.iconst 3, 1) := dk_6 (dk_at dksX9_readTransition_5 10 rfl rfl)
theorem dX9_readTransition_128 : decode cX9_readTransition 128 = .ok (.iaload, 1) := dk_46 (dk_at dksX9_readTransition_5 11 rfl rfl)
theorem dX9_readTransition_129 : decode cX9_readTransition 129 = .ok (.aload_n 0, 1) := dk_42 (dk_at dksX9_readTransition_5 12 rfl rfl)
theorem dX9_readTransition_130 : decode cX9_readTransition 130 = .ok (.getfield 35, 3) := dk_180 0 35 (dk_at dksX9_readTransition_5 13 rfl rfl)
theorem dX9_readTransition_133 : decode cX9_readTransition 133 = .ok (.iconst 4, 1) := dk_7 (dk_at dksX9_readTransition_5 16 rfl rfl)
theorem dX9_readTransition_134 : decode cX9_readTransition 134 = .ok (.iaload, 1) := dk_46 (dk_at dksX9_readTransition_5 17 rfl rfl)
theorem dX9_readTransition_135 : decode cX9_readTransition 135 = .ok (.aload_n 0, 1) := dk_42 (dk_at dksX9_readTransition_5 18 rfl rfl)
theorem dX9_readTransition_136 : decode cX9_readTransition 136 = .ok (.getfield 35, 3) := dk_180 0 35 (dk_at dksX9_readTransition_5 19 rfl rfl)
theorem dX9_readTransition_139 : decode cX9_readTransition 139 = .ok (.iconst 5, 1) := dk_8 (dk_at dksX9_readTransition_5 22 rfl rfl)
theorem dX9_readTransition_140 : decode cX9_readTransition 140 = .ok (.iaload, 1) := dk_46 (dk_at dksX9_readTransition_5 23 rfl rfl)
theorem dX9_readTransition_141 : decode cX9_readTransition 141 = .ok (.invokevirtual 68, 3) := dk_182 0 68 (dk_at dksX9_readTransition_6 0 rfl rfl)
theorem dX9_readTransition_144 : decode cX9_readTransition 144 = .ok (.aload_n 0, 1) := dk_42 (dk_at dksX9_readTransition_6 3 rfl rfl)
theorem dX9_readTransition_145 : decode cX9_readTransition 145 = .ok (.ldc_w 282, 3) := dk_19 1 26 (dk_at dksX9_readTransition_6 4 rfl rfl)
theorem dX9_readTransition_148 : decode cX9_readTransition 148 = .ok (.invokevirtual 232, 3) := dk_182 0 232 (dk_at dksX9_readTransition_6 7 rfl rfl)
theorem dX9_readTransition_151 : decode cX9_readTransition 151 = .ok (.ifCond .eq 44, 3) := dk_153 0 44 (dk_at dksX9_readTransition_6 10 rfl rfl)
theorem dX9_readTransition_154 : decode cX9_readTransition 154 = .ok (.aload_n 0, 1) := dk_42 (dk_at dksX9_readTransition_6 13 rfl rfl)
theorem dX9_readTransition_155 : decode cX9_readTransition 155 = .ok (.invokevirtual 214, 3) := dk_182 0 214 (dk_at dksX9_readTransition_6 14 rfl rfl)
theorem dX9_readTransition_158 : decode cX9_readTransition 158 = .ok (.aload_n 0, 1) := dk_42 (dk_at dksX9_readTransition_6 17 rfl rfl)
theorem dX9_readTransition_159 : decode cX9_readTransition 159 = .ok (.bipush 6, 2) := dk_16 6 (dk_at dksX9_readTransition_6 18 rfl rfl)
theorem dX9_readTransition_161 : decode cX9_readTransition 161 = .ok (.iconst 0, 1) := dk_3 (dk_at dksX9_readTransition_6 20 rfl rfl)
theorem dX9_readTransition_162 : decode cX9_readTransition 162 = .ok (.invokevirtual 278, 3) := dk_182 1 22 (dk_at dksX9_readTransition_6 21 rfl rfl)
theorem dX9_readTransition_165 : decode cX9_readTransition 165 = .ok (.ifCond .ne 5, 3) := dk_154 0 5 (dk_at dksX9_readTransition_7 0 rfl rfl)
theorem dX9_readTransition_168 : decode cX9_readTransition 168 = .ok (.iconst 0, 1) := dk_3 (dk_at dksX9_readTransition_7 3 rfl rfl)
theorem dX9_readTransition_169 : decode cX9_readTransition 169 = .ok (.ireturn, 1) := dk_172 (dk_at dksX9_readTransition_7 4 rfl rfl)
theorem dX9_readTransition_170 : decode cX9_readTransition 170 = .ok (.aload_n 0, 1) := dk_42 (dk_at dksX9_readTransition_7 5 rfl rfl)
theorem dX9_readTransition_171 : decode cX9_readTransition 171 = .ok (.aload_n 0, 1) := dk_42 (dk_at dksX9_readTransition_7 6 rfl rfl)
theorem dX9_readTransition_172 : decode cX9_readTransition 172 = .ok (.getfield 35, 3) := dk_180 0 35 (dk_at dksX9_readTransition_7 7 rfl rfl)
theorem dX9_readTransition_175 : decode cX9_readTransition 175 = .ok (.bipush 6, 2) := dk_16 6 (dk_at dksX9_readTransition_7 10 rfl rfl)
theorem dX9_readTransition_177 : decode cX9_readTransition 177 = .ok (.iaload, 1) := dk_46 (dk_at dksX9_readTransition_7 12 rfl rfl)
theorem dX9_readTransition_178 : decode cX9_readTransition 178 = .ok (.aload_n 0, 1) := dk_42 (dk_at dksX9_readTransition_7 13 rfl rfl)
theorem dX9_readTransition_179 : decode cX9_readTransition 179 = .ok (.getfield 35, 3) := dk_180 0 35 (dk_at dksX9_readTransition_7 14 rfl rfl)
theorem dX9_readTransition_182 : decode cX9_readTransition 182 = .ok (.bipush 7, 2) := dk_16 7 (dk_at dksX9_readTransition_7 17 rfl rfl)
theorem dX9_readTransition_184 : decode cX9_readTransition 184 = .ok (.iaload, 1) := dk_46 (dk_at dksX9_readTransition_7 19 rfl rfl)
theorem dX9_readTransition_185 : decode cX9_readTransition 185 = .ok (.aload_n 0, 1) := dk_42 (dk_at dksX9_readTransition_7 20 rfl rfl)
theorem dX9_readTransition_186 : decode cX9_readTransition 186 = .ok (.getfield 35, 3) := dk_180 0 35 (dk_at dksX9_readTransition_7 21 rfl rfl)
theorem dX9_readTransition_189 : decode cX9_readTransition 189 = .ok (.bipush 8, 2) := dk_16 8 (dk_at dksX9_readTransition_8 0 rfl rfl)
theorem dX9_readTransition_191 : decode cX9_readTransition 191 = .ok (.iaload, 1) := dk_46 (dk_at dksX9_readTransition_8 2 rfl rfl)
theorem dX9_readTransition_192 : decode cX9_readTransition 192 = .ok (.invokevirtual 65, 3) := dk_182 0 65 (dk_at dksX9_readTransition_8 3 rfl rfl)
theorem dX9_readTransition_195 : decode cX9_readTransition 195 = .ok (.aload_n 0, 1) := dk_42 (dk_at dksX9_readTransition_8 6 rfl rfl)
theorem dX9_readTransition_196 : decode cX9_readTransition 196 = .ok (.invokevirtual 271, 3) := dk_182 1 15 (dk_at dksX9_readTransition_8 7 rfl rfl)
theorem dX9_readTransition_199 : decode cX9_readTransition 199 = .ok (.ireturn, 1) := dk_172 (dk_at dksX9_readTransition_8 10 rfl rfl)
abbrev cX9_takesKnown : ByteArray := prog_41_method_57_code
def yX9_takesKnown : MethodName := ⟨RX9, "takesKnown", "(III)Z"⟩
def dkwX9_takesKnown_1 : List UInt8 := [180, 0, 35, 27, 46, 2, 160, 0, 9, 42, 7, 182, 0, 205, 172, 42, 182, 0, 214, 4, 172]
abbrev dktX9_takesKnown_1 : List UInt8 := dkwX9_takesKnown_1 ++ []
def dkwX9_takesKnown_0 : List UInt8 := [42, 182, 0, 223, 154, 0, 5, 3, 172, 42, 180, 0, 35, 27, 42, 28, 29, 182, 0, 227, 79, 42]
abbrev dktX9_takesKnown_0 : List UInt8 := dkwX9_takesKnown_0 ++ dktX9_takesKnown_1
theorem dksX9_takesKnown_0 : cX9_takesKnown.data.toList.drop 0 = dktX9_takesKnown_0 := by decide +kernel
theorem dksX9_takesKnown_1 : cX9_takesKnown.data.toList.drop 22 = dktX9_takesKnown_1 := dk_seg dksX9_takesKnown_0 22 rfl rfl
theorem dX9_takesKnown_0 : decode cX9_takesKnown 0 = .ok (.aload_n 0, 1) := dk_42 (dk_at dksX9_takesKnown_0 0 rfl rfl)
theorem dX9_takesKnown_1 : decode cX9_takesKnown 1 = .ok (.invokevirtual 223, 3) := dk_182 0 223 (dk_at dksX9_takesKnown_0 1 rfl rfl)
theorem dX9_takesKnown_4 : decode cX9_takesKnown 4 = .ok (.ifCond .ne 5, 3) := dk_154 0 5 (dk_at dksX9_takesKnown_0 4 rfl rfl)
theorem dX9_takesKnown_7 : decode cX9_takesKnown 7 = .ok (.iconst 0, 1) := dk_3 (dk_at dksX9_takesKnown_0 7 rfl rfl)
theorem dX9_takesKnown_8 : decode cX9_takesKnown 8 = .ok (.ireturn, 1) := dk_172 (dk_at dksX9_takesKnown_0 8 rfl rfl)
theorem dX9_takesKnown_9 : decode cX9_takesKnown 9 = .ok (.aload_n 0, 1) := dk_42 (dk_at dksX9_takesKnown_0 9 rfl rfl)
theorem dX9_takesKnown_10 : decode cX9_takesKnown 10 = .ok (.getfield 35, 3) := dk_180 0 35 (dk_at dksX9_takesKnown_0 10 rfl rfl)
theorem dX9_takesKnown_13 : decode cX9_takesKnown 13 = .ok (.iload_n 1, 1) := dk_27 (dk_at dksX9_takesKnown_0 13 rfl rfl)
theorem dX9_takesKnown_14 : decode cX9_takesKnown 14 = .ok (.aload_n 0, 1) := dk_42 (dk_at dksX9_takesKnown_0 14 rfl rfl)
theorem dX9_takesKnown_15 : decode cX9_takesKnown 15 = .ok (.iload_n 2, 1) := dk_28 (dk_at dksX9_takesKnown_0 15 rfl rfl)
theorem dX9_takesKnown_16 : decode cX9_takesKnown 16 = .ok (.iload_n 3, 1) := dk_29 (dk_at dksX9_takesKnown_0 16 rfl rfl)
theorem dX9_takesKnown_17 : decode cX9_takesKnown 17 = .ok (.invokevirtual 227, 3) := dk_182 0 227 (dk_at dksX9_takesKnown_0 17 rfl rfl)
theorem dX9_takesKnown_20 : decode cX9_takesKnown 20 = .ok (.iastore, 1) := dk_79 (dk_at dksX9_takesKnown_0 20 rfl rfl)
theorem dX9_takesKnown_21 : decode cX9_takesKnown 21 = .ok (.aload_n 0, 1) := dk_42 (dk_at dksX9_takesKnown_0 21 rfl rfl)
theorem dX9_takesKnown_22 : decode cX9_takesKnown 22 = .ok (.getfield 35, 3) := dk_180 0 35 (dk_at dksX9_takesKnown_1 0 rfl rfl)
theorem dX9_takesKnown_25 : decode cX9_takesKnown 25 = .ok (.iload_n 1, 1) := dk_27 (dk_at dksX9_takesKnown_1 3 rfl rfl)
theorem dX9_takesKnown_26 : decode cX9_takesKnown 26 = .ok (.iaload, 1) := dk_46 (dk_at dksX9_takesKnown_1 4 rfl rfl)
theorem dX9_takesKnown_27 : decode cX9_takesKnown 27 = .ok (.iconst (-1), 1) := dk_2 (dk_at dksX9_takesKnown_1 5 rfl rfl)
theorem dX9_takesKnown_28 : decode cX9_takesKnown 28 = .ok (.if_icmp .ne 9, 3) := dk_160 0 9 (dk_at dksX9_takesKnown_1 6 rfl rfl)
theorem dX9_takesKnown_31 : decode cX9_takesKnown 31 = .ok (.aload_n 0, 1) := dk_42 (dk_at dksX9_takesKnown_1 9 rfl rfl)
theorem dX9_takesKnown_32 : decode cX9_takesKnown 32 = .ok (.iconst 4, 1) := dk_7 (dk_at dksX9_takesKnown_1 10 rfl rfl)
theorem dX9_takesKnown_33 : decode cX9_takesKnown 33 = .ok (.invokevirtual 205, 3) := dk_182 0 205 (dk_at dksX9_takesKnown_1 11 rfl rfl)
theorem dX9_takesKnown_36 : decode cX9_takesKnown 36 = .ok (.ireturn, 1) := dk_172 (dk_at dksX9_takesKnown_1 14 rfl rfl)
theorem dX9_takesKnown_37 : decode cX9_takesKnown 37 = .ok (.aload_n 0, 1) := dk_42 (dk_at dksX9_takesKnown_1 15 rfl rfl)
theorem dX9_takesKnown_38 : decode cX9_takesKnown 38 = .ok (.invokevirtual 214, 3) := dk_182 0 214 (dk_at dksX9_takesKnown_1 16 rfl rfl)
theorem dX9_takesKnown_41 : decode cX9_takesKnown 41 = .ok (.iconst 1, 1) := dk_4 (dk_at dksX9_takesKnown_1 19 rfl rfl)
theorem dX9_takesKnown_42 : decode cX9_takesKnown 42 = .ok (.ireturn, 1) := dk_172 (dk_at dksX9_takesKnown_1 20 rfl rfl)
abbrev cX9_takesWord : ByteArray := prog_41_method_58_code
def yX9_takesWord : MethodName := ⟨RX9, "takesWord", "(Z)Z"⟩
def dkwX9_takesWord_0 : List UInt8 := [27, 154, 0, 9, 42, 4, 182, 0, 205, 172, 42, 182, 0, 214, 4, 172]
abbrev dktX9_takesWord_0 : List UInt8 := dkwX9_takesWord_0 ++ []
theorem dksX9_takesWord_0 : cX9_takesWord.data.toList.drop 0 = dktX9_takesWord_0 := by decide +kernel
theorem dX9_takesWord_0 : decode cX9_takesWord 0 = .ok (.iload_n 1, 1) := dk_27 (dk_at dksX9_takesWord_0 0 rfl rfl)
theorem dX9_takesWord_1 : decode cX9_takesWord 1 = .ok (.ifCond .ne 9, 3) := dk_154 0 9 (dk_at dksX9_takesWord_0 1 rfl rfl)
theorem dX9_takesWord_4 : decode cX9_takesWord 4 = .ok (.aload_n 0, 1) := dk_42 (dk_at dksX9_takesWord_0 4 rfl rfl)
theorem dX9_takesWord_5 : decode cX9_takesWord 5 = .ok (.iconst 1, 1) := dk_4 (dk_at dksX9_takesWord_0 5 rfl rfl)
theorem dX9_takesWord_6 : decode cX9_takesWord 6 = .ok (.invokevirtual 205, 3) := dk_182 0 205 (dk_at dksX9_takesWord_0 6 rfl rfl)
theorem dX9_takesWord_9 : decode cX9_takesWord 9 = .ok (.ireturn, 1) := dk_172 (dk_at dksX9_takesWord_0 9 rfl rfl)
theorem dX9_takesWord_10 : decode cX9_takesWord 10 = .ok (.aload_n 0, 1) := dk_42 (dk_at dksX9_takesWord_0 10 rfl rfl)
theorem dX9_takesWord_11 : decode cX9_takesWord 11 = .ok (.invokevirtual 214, 3) := dk_182 0 214 (dk_at dksX9_takesWord_0 11 rfl rfl)
theorem dX9_takesWord_14 : decode cX9_takesWord 14 = .ok (.iconst 1, 1) := dk_4 (dk_at dksX9_takesWord_0 14 rfl rfl)
theorem dX9_takesWord_15 : decode cX9_takesWord 15 = .ok (.ireturn, 1) := dk_172 (dk_at dksX9_takesWord_0 15 rfl rfl)
abbrev cX9_takesThree : ByteArray := prog_41_method_61_code
def yX9_takesThree : MethodName := ⟨RX9, "takesThree", "(IZ)Z"⟩
def dkwX9_takesThree_3 : List UInt8 := [153, 0, 7, 4, 167, 0, 4, 3, 172]
abbrev dktX9_takesThree_3 : List UInt8 := dkwX9_takesThree_3 ++ []
def dkwX9_takesThree_2 : List UInt8 := [2, 159, 0, 7, 4, 167, 0, 4, 3, 182, 1, 5, 153, 0, 17, 42, 27, 5, 96, 182, 1, 9]
abbrev dktX9_takesThree_2 : List UInt8 := dkwX9_takesThree_2 ++ dktX9_takesThree_3
def dkwX9_takesThree_1 : List UInt8 := [153, 0, 10, 42, 182, 0, 255, 167, 0, 7, 42, 182, 1, 2, 79, 42, 42, 180, 0, 35, 27, 4, 96, 46]
abbrev dktX9_takesThree_1 : List UInt8 := dkwX9_takesThree_1 ++ dktX9_takesThree_2
def dkwX9_takesThree_0 : List UInt8 := [42, 27, 17, 1, 227, 5, 182, 0, 252, 154, 0, 5, 3, 172, 42, 180, 0, 35, 27, 4, 96, 28]
abbrev dktX9_takesThree_0 : List UInt8 := dkwX9_takesThree_0 ++ dktX9_takesThree_1
theorem dksX9_takesThree_0 : cX9_takesThree.data.toList.drop 0 = dktX9_takesThree_0 := by decide +kernel
theorem dksX9_takesThree_1 : cX9_takesThree.data.toList.drop 22 = dktX9_takesThree_1 := dk_seg dksX9_takesThree_0 22 rfl rfl
theorem dksX9_takesThree_2 : cX9_takesThree.data.toList.drop 46 = dktX9_takesThree_2 := dk_seg dksX9_takesThree_1 24 rfl rfl
theorem dksX9_takesThree_3 : cX9_takesThree.data.toList.drop 68 = dktX9_takesThree_3 := dk_seg dksX9_takesThree_2 22 rfl rfl
theorem dX9_takesThree_0 : decode cX9_takesThree 0 = .ok (.aload_n 0, 1) := dk_42 (dk_at dksX9_takesThree_0 0 rfl rfl)
theorem dX9_takesThree_1 : decode cX9_takesThree 1 = .ok (.iload_n 1, 1) := dk_27 (dk_at dksX9_takesThree_0 1 rfl rfl)
theorem dX9_takesThree_2 : decode cX9_takesThree 2 = .ok (.sipush 483, 3) := dk_17 1 227 (dk_at dksX9_takesThree_0 2 rfl rfl)
theorem dX9_takesThree_5 : decode cX9_takesThree 5 = .ok (.iconst 2, 1) := dk_5 (dk_at dksX9_takesThree_0 5 rfl rfl)
theorem dX9_takesThree_6 : decode cX9_takesThree 6 = .ok (.invokevirtual 252, 3) := dk_182 0 252 (dk_at dksX9_takesThree_0 6 rfl rfl)
theorem dX9_takesThree_9 : decode cX9_takesThree 9 = .ok (.ifCond .ne 5, 3) := dk_154 0 5 (dk_at dksX9_takesThree_0 9 rfl rfl)
theorem dX9_takesThree_12 : decode cX9_takesThree 12 = .ok (.iconst 0, 1) := dk_3 (dk_at dksX9_takesThree_0 12 rfl rfl)
theorem dX9_takesThree_13 : decode cX9_takesThree 13 = .ok (.ireturn, 1) := dk_172 (dk_at dksX9_takesThree_0 13 rfl rfl)
theorem dX9_takesThree_14 : decode cX9_takesThree 14 = .ok (.aload_n 0, 1) := dk_42 (dk_at dksX9_takesThree_0 14 rfl rfl)
theorem dX9_takesThree_15 : decode cX9_takesThree 15 = .ok (.getfield 35, 3) := dk_180 0 35 (dk_at dksX9_takesThree_0 15 rfl rfl)
theorem dX9_takesThree_18 : decode cX9_takesThree 18 = .ok (.iload_n 1, 1) := dk_27 (dk_at dksX9_takesThree_0 18 rfl rfl)
theorem dX9_takesThree_19 : decode cX9_takesThree 19 = .ok (.iconst 1, 1) := dk_4 (dk_at dksX9_takesThree_0 19 rfl rfl)
theorem dX9_takesThree_20 : decode cX9_takesThree 20 = .ok (.iadd, 1) := dk_96 (dk_at dksX9_takesThree_0 20 rfl rfl)
theorem dX9_takesThree_21 : decode cX9_takesThree 21 = .ok (.iload_n 2, 1) := dk_28 (dk_at dksX9_takesThree_0 21 rfl rfl)
theorem dX9_takesThree_22 : decode cX9_takesThree 22 = .ok (.ifCond .eq 10, 3) := dk_153 0 10 (dk_at dksX9_takesThree_1 0 rfl rfl)
theorem dX9_takesThree_25 : decode cX9_takesThree 25 = .ok (.aload_n 0, 1) := dk_42 (dk_at dksX9_takesThree_1 3 rfl rfl)
theorem dX9_takesThree_26 : decode cX9_takesThree 26 = .ok (.invokevirtual 255, 3) := dk_182 0 255 (dk_at dksX9_takesThree_1 4 rfl rfl)
theorem dX9_takesThree_29 : decode cX9_takesThree 29 = .ok (.goto 7, 3) := dk_167 0 7 (dk_at dksX9_takesThree_1 7 rfl rfl)
theorem dX9_takesThree_32 : decode cX9_takesThree 32 = .ok (.aload_n 0, 1) := dk_42 (dk_at dksX9_takesThree_1 10 rfl rfl)
theorem dX9_takesThree_33 : decode cX9_takesThree 33 = .ok (.invokevirtual 258, 3) := dk_182 1 2 (dk_at dksX9_takesThree_1 11 rfl rfl)
theorem dX9_takesThree_36 : decode cX9_takesThree 36 = .ok (.iastore, 1) := dk_79 (dk_at dksX9_takesThree_1 14 rfl rfl)
theorem dX9_takesThree_37 : decode cX9_takesThree 37 = .ok (.aload_n 0, 1) := dk_42 (dk_at dksX9_takesThree_1 15 rfl rfl)
theorem dX9_takesThree_38 : decode cX9_takesThree 38 = .ok (.aload_n 0, 1) := dk_42 (dk_at dksX9_takesThree_1 16 rfl rfl)
theorem dX9_takesThree_39 : decode cX9_takesThree 39 = .ok (.getfield 35, 3) := dk_180 0 35 (dk_at dksX9_takesThree_1 17 rfl rfl)
theorem dX9_takesThree_42 : decode cX9_takesThree 42 = .ok (.iload_n 1, 1) := dk_27 (dk_at dksX9_takesThree_1 20 rfl rfl)
theorem dX9_takesThree_43 : decode cX9_takesThree 43 = .ok (.iconst 1, 1) := dk_4 (dk_at dksX9_takesThree_1 21 rfl rfl)
theorem dX9_takesThree_44 : decode cX9_takesThree 44 = .ok (.iadd, 1) := dk_96 (dk_at dksX9_takesThree_1 22 rfl rfl)
theorem dX9_takesThree_45 : decode cX9_takesThree 45 = .ok (.iaload, 1) := dk_46 (dk_at dksX9_takesThree_1 23 rfl rfl)
theorem dX9_takesThree_46 : decode cX9_takesThree 46 = .ok (.iconst (-1), 1) := dk_2 (dk_at dksX9_takesThree_2 0 rfl rfl)
theorem dX9_takesThree_47 : decode cX9_takesThree 47 = .ok (.if_icmp .eq 7, 3) := dk_159 0 7 (dk_at dksX9_takesThree_2 1 rfl rfl)
theorem dX9_takesThree_50 : decode cX9_takesThree 50 = .ok (.iconst 1, 1) := dk_4 (dk_at dksX9_takesThree_2 4 rfl rfl)
theorem dX9_takesThree_51 : decode cX9_takesThree 51 = .ok (.goto 4, 3) := dk_167 0 4 (dk_at dksX9_takesThree_2 5 rfl rfl)
theorem dX9_takesThree_54 : decode cX9_takesThree 54 = .ok (.iconst 0, 1) := dk_3 (dk_at dksX9_takesThree_2 8 rfl rfl)
theorem dX9_takesThree_55 : decode cX9_takesThree 55 = .ok (.invokevirtual 261, 3) := dk_182 1 5 (dk_at dksX9_takesThree_2 9 rfl rfl)
theorem dX9_takesThree_58 : decode cX9_takesThree 58 = .ok (.ifCond .eq 17, 3) := dk_153 0 17 (dk_at dksX9_takesThree_2 12 rfl rfl)
theorem dX9_takesThree_61 : decode cX9_takesThree 61 = .ok (.aload_n 0, 1) := dk_42 (dk_at dksX9_takesThree_2 15 rfl rfl)
theorem dX9_takesThree_62 : decode cX9_takesThree 62 = .ok (.iload_n 1, 1) := dk_27 (dk_at dksX9_takesThree_2 16 rfl rfl)
theorem dX9_takesThree_63 : decode cX9_takesThree 63 = .ok (.iconst 2, 1) := dk_5 (dk_at dksX9_takesThree_2 17 rfl rfl)
theorem dX9_takesThree_64 : decode cX9_takesThree 64 = .ok (.iadd, 1) := dk_96 (dk_at dksX9_takesThree_2 18 rfl rfl)
theorem dX9_takesThree_65 : decode cX9_takesThree 65 = .ok (.invokevirtual 265, 3) := dk_182 1 9 (dk_at dksX9_takesThree_2 19 rfl rfl)
theorem dX9_takesThree_68 : decode cX9_takesThree 68 = .ok (.ifCond .eq 7, 3) := dk_153 0 7 (dk_at dksX9_takesThree_3 0 rfl rfl)
theorem dX9_takesThree_71 : decode cX9_takesThree 71 = .ok (.iconst 1, 1) := dk_4 (dk_at dksX9_takesThree_3 3 rfl rfl)
theorem dX9_takesThree_72 : decode cX9_takesThree 72 = .ok (.goto 4, 3) := dk_167 0 4 (dk_at dksX9_takesThree_3 4 rfl rfl)
theorem dX9_takesThree_75 : decode cX9_takesThree 75 = .ok (.iconst 0, 1) := dk_3 (dk_at dksX9_takesThree_3 7 rfl rfl)
theorem dX9_takesThree_76 : decode cX9_takesThree 76 = .ok (.ireturn, 1) := dk_172 (dk_at dksX9_takesThree_3 8 rfl rfl)
abbrev cX9_opHere : ByteArray := prog_41_method_59_code
def yX9_opHere : MethodName := ⟨RX9, "opHere", "()I"⟩
def dkwX9_opHere_2 : List UInt8 := [182, 0, 232, 153, 0, 5, 7, 172, 42, 18, 244, 182, 0, 232, 153, 0, 7, 8, 167, 0, 4, 2, 172]
abbrev dktX9_opHere_2 : List UInt8 := dkwX9_opHere_2 ++ []
def dkwX9_opHere_1 : List UInt8 := [18, 238, 182, 0, 232, 153, 0, 5, 5, 172, 42, 18, 240, 182, 0, 232, 153, 0, 5, 6, 172, 42, 18, 242]
abbrev dktX9_opHere_1 : List UInt8 := dkwX9_opHere_1 ++ dktX9_opHere_2
def dkwX9_opHere_0 : List UInt8 := [42, 18, 230, 182, 0, 232, 153, 0, 5, 3, 172, 42, 18, 236, 182, 0, 232, 153, 0, 5, 4, 172, 42]
abbrev dktX9_opHere_0 : List UInt8 := dkwX9_opHere_0 ++ dktX9_opHere_1
theorem dksX9_opHere_0 : cX9_opHere.data.toList.drop 0 = dktX9_opHere_0 := by decide +kernel
theorem dksX9_opHere_1 : cX9_opHere.data.toList.drop 23 = dktX9_opHere_1 := dk_seg dksX9_opHere_0 23 rfl rfl
theorem dksX9_opHere_2 : cX9_opHere.data.toList.drop 47 = dktX9_opHere_2 := dk_seg dksX9_opHere_1 24 rfl rfl
theorem dX9_opHere_0 : decode cX9_opHere 0 = .ok (.aload_n 0, 1) := dk_42 (dk_at dksX9_opHere_0 0 rfl rfl)
theorem dX9_opHere_1 : decode cX9_opHere 1 = .ok (.ldc 230, 2) := dk_18 230 (dk_at dksX9_opHere_0 1 rfl rfl)
theorem dX9_opHere_3 : decode cX9_opHere 3 = .ok (.invokevirtual 232, 3) := dk_182 0 232 (dk_at dksX9_opHere_0 3 rfl rfl)
theorem dX9_opHere_6 : decode cX9_opHere 6 = .ok (.ifCond .eq 5, 3) := dk_153 0 5 (dk_at dksX9_opHere_0 6 rfl rfl)
theorem dX9_opHere_9 : decode cX9_opHere 9 = .ok (.iconst 0, 1) := dk_3 (dk_at dksX9_opHere_0 9 rfl rfl)
theorem dX9_opHere_10 : decode cX9_opHere 10 = .ok (.ireturn, 1) := dk_172 (dk_at dksX9_opHere_0 10 rfl rfl)
theorem dX9_opHere_11 : decode cX9_opHere 11 = .ok (.aload_n 0, 1) := dk_42 (dk_at dksX9_opHere_0 11 rfl rfl)
theorem dX9_opHere_12 : decode cX9_opHere 12 = .ok (.ldc 236, 2) := dk_18 236 (dk_at dksX9_opHere_0 12 rfl rfl)
theorem dX9_opHere_14 : decode cX9_opHere 14 = .ok (.invokevirtual 232, 3) := dk_182 0 232 (dk_at dksX9_opHere_0 14 rfl rfl)
theorem dX9_opHere_17 : decode cX9_opHere 17 = .ok (.ifCond .eq 5, 3) := dk_153 0 5 (dk_at dksX9_opHere_0 17 rfl rfl)
theorem dX9_opHere_20 : decode cX9_opHere 20 = .ok (.iconst 1, 1) := dk_4 (dk_at dksX9_opHere_0 20 rfl rfl)
theorem dX9_opHere_21 : decode cX9_opHere 21 = .ok (.ireturn, 1) := dk_172 (dk_at dksX9_opHere_0 21 rfl rfl)
theorem dX9_opHere_22 : decode cX9_opHere 22 = .ok (.aload_n 0, 1) := dk_42 (dk_at dksX9_opHere_0 22 rfl rfl)
theorem dX9_opHere_23 : decode cX9_opHere 23 = .ok (.ldc 238, 2) := dk_18 238 (dk_at dksX9_opHere_1 0 rfl rfl)
theorem dX9_opHere_25 : decode cX9_opHere 25 = .ok (.invokevirtual 232, 3) := dk_182 0 232 (dk_at dksX9_opHere_1 2 rfl rfl)
theorem dX9_opHere_28 : decode cX9_opHere 28 = .ok (.ifCond .eq 5, 3) := dk_153 0 5 (dk_at dksX9_opHere_1 5 rfl rfl)
theorem dX9_opHere_31 : decode cX9_opHere 31 = .ok (.iconst 2, 1) := dk_5 (dk_at dksX9_opHere_1 8 rfl rfl)
theorem dX9_opHere_32 : decode cX9_opHere 32 = .ok (.ireturn, 1) := dk_172 (dk_at dksX9_opHere_1 9 rfl rfl)
theorem dX9_opHere_33 : decode cX9_opHere 33 = .ok (.aload_n 0, 1) := dk_42 (dk_at dksX9_opHere_1 10 rfl rfl)
theorem dX9_opHere_34 : decode cX9_opHere 34 = .ok (.ldc 240, 2) := dk_18 240 (dk_at dksX9_opHere_1 11 rfl rfl)
theorem dX9_opHere_36 : decode cX9_opHere 36 = .ok (.invokevirtual 232, 3) := dk_182 0 232 (dk_at dksX9_opHere_1 13 rfl rfl)
theorem dX9_opHere_39 : decode cX9_opHere 39 = .ok (.ifCond .eq 5, 3) := dk_153 0 5 (dk_at dksX9_opHere_1 16 rfl rfl)
theorem dX9_opHere_42 : decode cX9_opHere 42 = .ok (.iconst 3, 1) := dk_6 (dk_at dksX9_opHere_1 19 rfl rfl)
theorem dX9_opHere_43 : decode cX9_opHere 43 = .ok (.ireturn, 1) := dk_172 (dk_at dksX9_opHere_1 20 rfl rfl)
theorem dX9_opHere_44 : decode cX9_opHere 44 = .ok (.aload_n 0, 1) := dk_42 (dk_at dksX9_opHere_1 21 rfl rfl)
theorem dX9_opHere_45 : decode cX9_opHere 45 = .ok (.ldc 242, 2) := dk_18 242 (dk_at dksX9_opHere_1 22 rfl rfl)
theorem dX9_opHere_47 : decode cX9_opHere 47 = .ok (.invokevirtual 232, 3) := dk_182 0 232 (dk_at dksX9_opHere_2 0 rfl rfl)
theorem dX9_opHere_50 : decode cX9_opHere 50 = .ok (.ifCond .eq 5, 3) := dk_153 0 5 (dk_at dksX9_opHere_2 3 rfl rfl)
theorem dX9_opHere_53 : decode cX9_opHere 53 = .ok (.iconst 4, 1) := dk_7 (dk_at dksX9_opHere_2 6 rfl rfl)
theorem dX9_opHere_54 : decode cX9_opHere 54 = .ok (.ireturn, 1) := dk_172 (dk_at dksX9_opHere_2 7 rfl rfl)
theorem dX9_opHere_55 : decode cX9_opHere 55 = .ok (.aload_n 0, 1) := dk_42 (dk_at dksX9_opHere_2 8 rfl rfl)
theorem dX9_opHere_56 : decode cX9_opHere 56 = .ok (.ldc 244, 2) := dk_18 244 (dk_at dksX9_opHere_2 9 rfl rfl)
theorem dX9_opHere_58 : decode cX9_opHere 58 = .ok (.invokevirtual 232, 3) := dk_182 0 232 (dk_at dksX9_opHere_2 11 rfl rfl)
theorem dX9_opHere_61 : decode cX9_opHere 61 = .ok (.ifCond .eq 7, 3) := dk_153 0 7 (dk_at dksX9_opHere_2 14 rfl rfl)
theorem dX9_opHere_64 : decode cX9_opHere 64 = .ok (.iconst 5, 1) := dk_8 (dk_at dksX9_opHere_2 17 rfl rfl)
theorem dX9_opHere_65 : decode cX9_opHere 65 = .ok (.goto 4, 3) := dk_167 0 4 (dk_at dksX9_opHere_2 18 rfl rfl)
theorem dX9_opHere_68 : decode cX9_opHere 68 = .ok (.iconst (-1), 1) := dk_2 (dk_at dksX9_opHere_2 21 rfl rfl)
theorem dX9_opHere_69 : decode cX9_opHere 69 = .ok (.ireturn, 1) := dk_172 (dk_at dksX9_opHere_2 22 rfl rfl)
abbrev cX9_actionHere : ByteArray := prog_41_method_60_code
def yX9_actionHere : MethodName := ⟨RX9, "actionHere", "()I"⟩
def dkwX9_actionHere_1 : List UInt8 := [18, 250, 182, 0, 232, 153, 0, 7, 5, 167, 0, 4, 2, 172]
abbrev dktX9_actionHere_1 : List UInt8 := dkwX9_actionHere_1 ++ []
def dkwX9_actionHere_0 : List UInt8 := [42, 18, 246, 182, 0, 232, 153, 0, 5, 3, 172, 42, 18, 248, 182, 0, 232, 153, 0, 5, 4, 172, 42]
abbrev dktX9_actionHere_0 : List UInt8 := dkwX9_actionHere_0 ++ dktX9_actionHere_1
theorem dksX9_actionHere_0 : cX9_actionHere.data.toList.drop 0 = dktX9_actionHere_0 := by decide +kernel
theorem dksX9_actionHere_1 : cX9_actionHere.data.toList.drop 23 = dktX9_actionHere_1 := dk_seg dksX9_actionHere_0 23 rfl rfl
theorem dX9_actionHere_0 : decode cX9_actionHere 0 = .ok (.aload_n 0, 1) := dk_42 (dk_at dksX9_actionHere_0 0 rfl rfl)
theorem dX9_actionHere_1 : decode cX9_actionHere 1 = .ok (.ldc 246, 2) := dk_18 246 (dk_at dksX9_actionHere_0 1 rfl rfl)
theorem dX9_actionHere_3 : decode cX9_actionHere 3 = .ok (.invokevirtual 232, 3) := dk_182 0 232 (dk_at dksX9_actionHere_0 3 rfl rfl)
theorem dX9_actionHere_6 : decode cX9_actionHere 6 = .ok (.ifCond .eq 5, 3) := dk_153 0 5 (dk_at dksX9_actionHere_0 6 rfl rfl)
theorem dX9_actionHere_9 : decode cX9_actionHere 9 = .ok (.iconst 0, 1) := dk_3 (dk_at dksX9_actionHere_0 9 rfl rfl)
theorem dX9_actionHere_10 : decode cX9_actionHere 10 = .ok (.ireturn, 1) := dk_172 (dk_at dksX9_actionHere_0 10 rfl rfl)
theorem dX9_actionHere_11 : decode cX9_actionHere 11 = .ok (.aload_n 0, 1) := dk_42 (dk_at dksX9_actionHere_0 11 rfl rfl)
theorem dX9_actionHere_12 : decode cX9_actionHere 12 = .ok (.ldc 248, 2) := dk_18 248 (dk_at dksX9_actionHere_0 12 rfl rfl)
theorem dX9_actionHere_14 : decode cX9_actionHere 14 = .ok (.invokevirtual 232, 3) := dk_182 0 232 (dk_at dksX9_actionHere_0 14 rfl rfl)
theorem dX9_actionHere_17 : decode cX9_actionHere 17 = .ok (.ifCond .eq 5, 3) := dk_153 0 5 (dk_at dksX9_actionHere_0 17 rfl rfl)
theorem dX9_actionHere_20 : decode cX9_actionHere 20 = .ok (.iconst 1, 1) := dk_4 (dk_at dksX9_actionHere_0 20 rfl rfl)
theorem dX9_actionHere_21 : decode cX9_actionHere 21 = .ok (.ireturn, 1) := dk_172 (dk_at dksX9_actionHere_0 21 rfl rfl)
theorem dX9_actionHere_22 : decode cX9_actionHere 22 = .ok (.aload_n 0, 1) := dk_42 (dk_at dksX9_actionHere_0 22 rfl rfl)
theorem dX9_actionHere_23 : decode cX9_actionHere 23 = .ok (.ldc 250, 2) := dk_18 250 (dk_at dksX9_actionHere_1 0 rfl rfl)
theorem dX9_actionHere_25 : decode cX9_actionHere 25 = .ok (.invokevirtual 232, 3) := dk_182 0 232 (dk_at dksX9_actionHere_1 2 rfl rfl)
theorem dX9_actionHere_28 : decode cX9_actionHere 28 = .ok (.ifCond .eq 7, 3) := dk_153 0 7 (dk_at dksX9_actionHere_1 5 rfl rfl)
theorem dX9_actionHere_31 : decode cX9_actionHere 31 = .ok (.iconst 2, 1) := dk_5 (dk_at dksX9_actionHere_1 8 rfl rfl)
theorem dX9_actionHere_32 : decode cX9_actionHere 32 = .ok (.goto 4, 3) := dk_167 0 4 (dk_at dksX9_actionHere_1 9 rfl rfl)
theorem dX9_actionHere_35 : decode cX9_actionHere 35 = .ok (.iconst (-1), 1) := dk_2 (dk_at dksX9_actionHere_1 12 rfl rfl)
theorem dX9_actionHere_36 : decode cX9_actionHere 36 = .ok (.ireturn, 1) := dk_172 (dk_at dksX9_actionHere_1 13 rfl rfl)
abbrev cX9_readInvariant : ByteArray := prog_41_method_65_code
def yX9_readInvariant : MethodName := ⟨RX9, "readInvariant", "(Z)Z"⟩
def dkwX9_readInvariant_3 : List UInt8 := [42, 180, 0, 35, 5, 46, 42, 180, 0, 35, 6, 46, 182, 0, 71, 61, 42, 182, 1, 15, 172]
abbrev dktX9_readInvariant_3 : List UInt8 := dkwX9_readInvariant_3 ++ []
def dkwX9_readInvariant_2 : List UInt8 := [42, 4, 4, 182, 1, 22, 154, 0, 5, 3, 172, 42, 42, 180, 0, 35, 3, 46, 42, 180, 0, 35, 4, 46]
abbrev dktX9_readInvariant_2 : List UInt8 := dkwX9_readInvariant_2 ++ dktX9_readInvariant_3
def dkwX9_readInvariant_1 : List UInt8 := [180, 0, 35, 3, 2, 79, 27, 153, 0, 17, 42, 3, 17, 1, 101, 3, 182, 0, 252, 154, 0, 5, 3, 172]
abbrev dktX9_readInvariant_1 : List UInt8 := dkwX9_readInvariant_1 ++ dktX9_readInvariant_2
def dkwX9_readInvariant_0 : List UInt8 := [42, 180, 0, 7, 7, 46, 16, 12, 160, 0, 9, 42, 8, 182, 0, 205, 172, 42, 182, 0, 214, 42]
abbrev dktX9_readInvariant_0 : List UInt8 := dkwX9_readInvariant_0 ++ dktX9_readInvariant_1
theorem dksX9_readInvariant_0 : cX9_readInvariant.data.toList.drop 0 = dktX9_readInvariant_0 := by decide +kernel
theorem dksX9_readInvariant_1 : cX9_readInvariant.data.toList.drop 22 = dktX9_readInvariant_1 := dk_seg dksX9_readInvariant_0 22 rfl rfl
theorem dksX9_readInvariant_2 : cX9_readInvariant.data.toList.drop 46 = dktX9_readInvariant_2 := dk_seg dksX9_readInvariant_1 24 rfl rfl
theorem dksX9_readInvariant_3 : cX9_readInvariant.data.toList.drop 70 = dktX9_readInvariant_3 := dk_seg dksX9_readInvariant_2 24 rfl rfl
theorem dX9_readInvariant_0 : decode cX9_readInvariant 0 = .ok (.aload_n 0, 1) := dk_42 (dk_at dksX9_readInvariant_0 0 rfl rfl)
theorem dX9_readInvariant_1 : decode cX9_readInvariant 1 = .ok (.getfield 7, 3) := dk_180 0 7 (dk_at dksX9_readInvariant_0 1 rfl rfl)
theorem dX9_readInvariant_4 : decode cX9_readInvariant 4 = .ok (.iconst 4, 1) := dk_7 (dk_at dksX9_readInvariant_0 4 rfl rfl)
theorem dX9_readInvariant_5 : decode cX9_readInvariant 5 = .ok (.iaload, 1) := dk_46 (dk_at dksX9_readInvariant_0 5 rfl rfl)
theorem dX9_readInvariant_6 : decode cX9_readInvariant 6 = .ok (.bipush 12, 2) := dk_16 12 (dk_at dksX9_readInvariant_0 6 rfl rfl)
theorem dX9_readInvariant_8 : decode cX9_readInvariant 8 = .ok (.if_icmp .ne 9, 3) := dk_160 0 9 (dk_at dksX9_readInvariant_0 8 rfl rfl)
theorem dX9_readInvariant_11 : decode cX9_readInvariant 11 = .ok (.aload_n 0, 1) := dk_42 (dk_at dksX9_readInvariant_0 11 rfl rfl)
theorem dX9_readInvariant_12 : decode cX9_readInvariant 12 = .ok (.iconst 5, 1) := dk_8 (dk_at dksX9_readInvariant_0 12 rfl rfl)
theorem dX9_readInvariant_13 : decode cX9_readInvariant 13 = .ok (.invokevirtual 205, 3) := dk_182 0 205 (dk_at dksX9_readInvariant_0 13 rfl rfl)
theorem dX9_readInvariant_16 : decode cX9_readInvariant 16 = .ok (.ireturn, 1) := dk_172 (dk_at dksX9_readInvariant_0 16 rfl rfl)
theorem dX9_readInvariant_17 : decode cX9_readInvariant 17 = .ok (.aload_n 0, 1) := dk_42 (dk_at dksX9_readInvariant_0 17 rfl rfl)
theorem dX9_readInvariant_18 : decode cX9_readInvariant 18 = .ok (.invokevirtual 214, 3) := dk_182 0 214 (dk_at dksX9_readInvariant_0 18 rfl rfl)
theorem dX9_readInvariant_21 : decode cX9_readInvariant 21 = .ok (.aload_n 0, 1) := dk_42 (dk_at dksX9_readInvariant_0 21 rfl rfl)
theorem dX9_readInvariant_22 : decode cX9_readInvariant 22 = .ok (.getfield 35, 3) := dk_180 0 35 (dk_at dksX9_readInvariant_1 0 rfl rfl)
theorem dX9_readInvariant_25 : decode cX9_readInvariant 25 = .ok (.iconst 0, 1) := dk_3 (dk_at dksX9_readInvariant_1 3 rfl rfl)
theorem dX9_readInvariant_26 : decode cX9_readInvariant 26 = .ok (.iconst (-1), 1) := dk_2 (dk_at dksX9_readInvariant_1 4 rfl rfl)
theorem dX9_readInvariant_27 : decode cX9_readInvariant 27 = .ok (.iastore, 1) := dk_79 (dk_at dksX9_readInvariant_1 5 rfl rfl)
theorem dX9_readInvariant_28 : decode cX9_readInvariant 28 = .ok (.iload_n 1, 1) := dk_27 (dk_at dksX9_readInvariant_1 6 rfl rfl)
theorem dX9_readInvariant_29 : decode cX9_readInvariant 29 = .ok (.ifCond .eq 17, 3) := dk_153 0 17 (dk_at dksX9_readInvariant_1 7 rfl rfl)
theorem dX9_readInvariant_32 : decode cX9_readInvariant 32 = .ok (.aload_n 0, 1) := dk_42 (dk_at dksX9_readInvariant_1 10 rfl rfl)
theorem dX9_readInvariant_33 : decode cX9_readInvariant 33 = .ok (.iconst 0, 1) := dk_3 (dk_at dksX9_readInvariant_1 11 rfl rfl)
theorem dX9_readInvariant_34 : decode cX9_readInvariant 34 = .ok (.sipush 357, 3) := dk_17 1 101 (dk_at dksX9_readInvariant_1 12 rfl rfl)
theorem dX9_readInvariant_37 : decode cX9_readInvariant 37 = .ok (.iconst 0, 1) := dk_3 (dk_at dksX9_readInvariant_1 15 rfl rfl)
theorem dX9_readInvariant_38 : decode cX9_readInvariant 38 = .ok (.invokevirtual 252, 3) := dk_182 0 252 (dk_at dksX9_readInvariant_1 16 rfl rfl)
theorem dX9_readInvariant_41 : decode cX9_readInvariant 41 = .ok (.ifCond .ne 5, 3) := dk_154 0 5 (dk_at dksX9_readInvariant_1 19 rfl rfl)
theorem dX9_readInvariant_44 : decode cX9_readInvariant 44 = .ok (.iconst 0, 1) := dk_3 (dk_at dksX9_readInvariant_1 22 rfl rfl)
theorem dX9_readInvariant_45 : decode cX9_readInvariant 45 = .ok (.ireturn, 1) := dk_172 (dk_at dksX9_readInvariant_1 23 rfl rfl)
theorem dX9_readInvariant_46 : decode cX9_readInvariant 46 = .ok (.aload_n 0, 1) := dk_42 (dk_at dksX9_readInvariant_2 0 rfl rfl)
theorem dX9_readInvariant_47 : decode cX9_readInvariant 47 = .ok (.iconst 1, 1) := dk_4 (dk_at dksX9_readInvariant_2 1 rfl rfl)
theorem dX9_readInvariant_48 : decode cX9_readInvariant 48 = .ok (.iconst 1, 1) := dk_4 (dk_at dksX9_readInvariant_2 2 rfl rfl)
theorem dX9_readInvariant_49 : decode cX9_readInvariant 49 = .ok (.invokevirtual 278, 3) := dk_182 1 22 (dk_at dksX9_readInvariant_2 3 rfl rfl)
theorem dX9_readInvariant_52 : decode cX9_readInvariant 52 = .ok (.ifCond .ne 5, 3) := dk_154 0 5 (dk_at dksX9_readInvariant_2 6 rfl rfl)
theorem dX9_readInvariant_55 : decode cX9_readInvariant 55 = .ok (.iconst 0, 1) := dk_3 (dk_at dksX9_readInvariant_2 9 rfl rfl)
theorem dX9_readInvariant_56 : decode cX9_readInvariant 56 = .ok (.ireturn, 1) := dk_172 (dk_at dksX9_readInvariant_2 10 rfl rfl)
theorem dX9_readInvariant_57 : decode cX9_readInvariant 57 = .ok (.aload_n 0, 1) := dk_42 (dk_at dksX9_readInvariant_2 11 rfl rfl)
theorem dX9_readInvariant_58 : decode cX9_readInvariant 58 = .ok (.aload_n 0, 1) := dk_42 (dk_at dksX9_readInvariant_2 12 rfl rfl)
theorem dX9_readInvariant_59 : decode cX9_readInvariant 59 = .ok (.getfield 35, 3) := dk_180 0 35 (dk_at dksX9_readInvariant_2 13 rfl rfl)
theorem dX9_readInvariant_62 : decode cX9_readInvariant 62 = .ok (.iconst 0, 1) := dk_3 (dk_at dksX9_readInvariant_2 16 rfl rfl)
theorem dX9_readInvariant_63 : decode cX9_readInvariant 63 = .ok (.iaload, 1) := dk_46 (dk_at dksX9_readInvariant_2 17 rfl rfl)
theorem dX9_readInvariant_64 : decode cX9_readInvariant 64 = .ok (.aload_n 0, 1) := dk_42 (dk_at dksX9_readInvariant_2 18 rfl rfl)
theorem dX9_readInvariant_65 : decode cX9_readInvariant 65 = .ok (.getfield 35, 3) := dk_180 0 35 (dk_at dksX9_readInvariant_2 19 rfl rfl)
theorem dX9_readInvariant_68 : decode cX9_readInvariant 68 = .ok (.iconst 1, 1) := dk_4 (dk_at dksX9_readInvariant_2 22 rfl rfl)
theorem dX9_readInvariant_69 : decode cX9_readInvariant 69 = .ok (.iaload, 1) := dk_46 (dk_at dksX9_readInvariant_2 23 rfl rfl)
theorem dX9_readInvariant_70 : decode cX9_readInvariant 70 = .ok (.aload_n 0, 1) := dk_42 (dk_at dksX9_readInvariant_3 0 rfl rfl)
theorem dX9_readInvariant_71 : decode cX9_readInvariant 71 = .ok (.getfield 35, 3) := dk_180 0 35 (dk_at dksX9_readInvariant_3 1 rfl rfl)
theorem dX9_readInvariant_74 : decode cX9_readInvariant 74 = .ok (.iconst 2, 1) := dk_5 (dk_at dksX9_readInvariant_3 4 rfl rfl)
theorem dX9_readInvariant_75 : decode cX9_readInvariant 75 = .ok (.iaload, 1) := dk_46 (dk_at dksX9_readInvariant_3 5 rfl rfl)
theorem dX9_readInvariant_76 : decode cX9_readInvariant 76 = .ok (.aload_n 0, 1) := dk_42 (dk_at dksX9_readInvariant_3 6 rfl rfl)
theorem dX9_readInvariant_77 : decode cX9_readInvariant 77 = .ok (.getfield 35, 3) := dk_180 0 35 (dk_at dksX9_readInvariant_3 7 rfl rfl)
theorem dX9_readInvariant_80 : decode cX9_readInvariant 80 = .ok (.iconst 3, 1) := dk_6 (dk_at dksX9_readInvariant_3 10 rfl rfl)
theorem dX9_readInvariant_81 : decode cX9_readInvariant 81 = .ok (.iaload, 1) := dk_46 (dk_at dksX9_readInvariant_3 11 rfl rfl)
theorem dX9_readInvariant_82 : decode cX9_readInvariant 82 = .ok (.invokevirtual 71, 3) := dk_182 0 71 (dk_at dksX9_readInvariant_3 12 rfl rfl)
theorem dX9_readInvariant_85 : decode cX9_readInvariant 85 = .ok (.istore_n 2, 1) := dk_61 (dk_at dksX9_readInvariant_3 15 rfl rfl)
theorem dX9_readInvariant_86 : decode cX9_readInvariant 86 = .ok (.aload_n 0, 1) := dk_42 (dk_at dksX9_readInvariant_3 16 rfl rfl)
theorem dX9_readInvariant_87 : decode cX9_readInvariant 87 = .ok (.invokevirtual 271, 3) := dk_182 1 15 (dk_at dksX9_readInvariant_3 17 rfl rfl)
theorem dX9_readInvariant_90 : decode cX9_readInvariant 90 = .ok (.ireturn, 1) := dk_172 (dk_at dksX9_readInvariant_3 20 rfl rfl)
abbrev cX9_start : ByteArray := prog_41_method_18_code
def yX9_start : MethodName := ⟨RX9, "start", "()I"⟩
def dkwX9_start_1 : List UInt8 := [16, 11, 46, 104, 96, 172]
abbrev dktX9_start_1 : List UInt8 := dkwX9_start_1 ++ []
def dkwX9_start_0 : List UInt8 := [42, 180, 0, 7, 16, 9, 46, 16, 10, 42, 180, 0, 7, 16, 10, 46, 104, 96, 16, 100, 42, 180, 0, 7]
abbrev dktX9_start_0 : List UInt8 := dkwX9_start_0 ++ dktX9_start_1
theorem dksX9_start_0 : cX9_start.data.toList.drop 0 = dktX9_start_0 := by decide +kernel
theorem dksX9_start_1 : cX9_start.data.toList.drop 24 = dktX9_start_1 := dk_seg dksX9_start_0 24 rfl rfl
theorem dX9_start_0 : decode cX9_start 0 = .ok (.aload_n 0, 1) := dk_42 (dk_at dksX9_start_0 0 rfl rfl)
theorem dX9_start_1 : decode cX9_start 1 = .ok (.getfield 7, 3) := dk_180 0 7 (dk_at dksX9_start_0 1 rfl rfl)
theorem dX9_start_4 : decode cX9_start 4 = .ok (.bipush 9, 2) := dk_16 9 (dk_at dksX9_start_0 4 rfl rfl)
theorem dX9_start_6 : decode cX9_start 6 = .ok (.iaload, 1) := dk_46 (dk_at dksX9_start_0 6 rfl rfl)
theorem dX9_start_7 : decode cX9_start 7 = .ok (.bipush 10, 2) := dk_16 10 (dk_at dksX9_start_0 7 rfl rfl)
theorem dX9_start_9 : decode cX9_start 9 = .ok (.aload_n 0, 1) := dk_42 (dk_at dksX9_start_0 9 rfl rfl)
theorem dX9_start_10 : decode cX9_start 10 = .ok (.getfield 7, 3) := dk_180 0 7 (dk_at dksX9_start_0 10 rfl rfl)
theorem dX9_start_13 : decode cX9_start 13 = .ok (.bipush 10, 2) := dk_16 10 (dk_at dksX9_start_0 13 rfl rfl)
theorem dX9_start_15 : decode cX9_start 15 = .ok (.iaload, 1) := dk_46 (dk_at dksX9_start_0 15 rfl rfl)
theorem dX9_start_16 : decode cX9_start 16 = .ok (.imul, 1) := dk_104 (dk_at dksX9_start_0 16 rfl rfl)
theorem dX9_start_17 : decode cX9_start 17 = .ok (.iadd, 1) := dk_96 (dk_at dksX9_start_0 17 rfl rfl)
theorem dX9_start_18 : decode cX9_start 18 = .ok (.bipush 100, 2) := dk_16 100 (dk_at dksX9_start_0 18 rfl rfl)
theorem dX9_start_20 : decode cX9_start 20 = .ok (.aload_n 0, 1) := dk_42 (dk_at dksX9_start_0 20 rfl rfl)
theorem dX9_start_21 : decode cX9_start 21 = .ok (.getfield 7, 3) := dk_180 0 7 (dk_at dksX9_start_0 21 rfl rfl)
theorem dX9_start_24 : decode cX9_start 24 = .ok (.bipush 11, 2) := dk_16 11 (dk_at dksX9_start_1 0 rfl rfl)
theorem dX9_start_26 : decode cX9_start 26 = .ok (.iaload, 1) := dk_46 (dk_at dksX9_start_1 2 rfl rfl)
theorem dX9_start_27 : decode cX9_start 27 = .ok (.imul, 1) := dk_104 (dk_at dksX9_start_1 3 rfl rfl)
theorem dX9_start_28 : decode cX9_start 28 = .ok (.iadd, 1) := dk_96 (dk_at dksX9_start_1 4 rfl rfl)
theorem dX9_start_29 : decode cX9_start 29 = .ok (.ireturn, 1) := dk_172 (dk_at dksX9_start_1 5 rfl rfl)
abbrev cX9_firstBroken : ByteArray := prog_41_method_26_code
def yX9_firstBroken : MethodName := ⟨RX9, "firstBroken", "(I)I"⟩
def dkwX9_firstBroken_1 : List UInt8 := [132, 2, 1, 167, 255, 232, 2, 172]
abbrev dktX9_firstBroken_1 : List UInt8 := dkwX9_firstBroken_1 ++ []
def dkwX9_firstBroken_0 : List UInt8 := [3, 61, 28, 42, 180, 0, 7, 7, 46, 162, 0, 20, 42, 27, 28, 182, 0, 106, 153, 0, 5, 28, 172]
abbrev dktX9_firstBroken_0 : List UInt8 := dkwX9_firstBroken_0 ++ dktX9_firstBroken_1
theorem dksX9_firstBroken_0 : cX9_firstBroken.data.toList.drop 0 = dktX9_firstBroken_0 := by decide +kernel
theorem dksX9_firstBroken_1 : cX9_firstBroken.data.toList.drop 23 = dktX9_firstBroken_1 := dk_seg dksX9_firstBroken_0 23 rfl rfl
theorem dX9_firstBroken_0 : decode cX9_firstBroken 0 = .ok (.iconst 0, 1) := dk_3 (dk_at dksX9_firstBroken_0 0 rfl rfl)
theorem dX9_firstBroken_1 : decode cX9_firstBroken 1 = .ok (.istore_n 2, 1) := dk_61 (dk_at dksX9_firstBroken_0 1 rfl rfl)
theorem dX9_firstBroken_2 : decode cX9_firstBroken 2 = .ok (.iload_n 2, 1) := dk_28 (dk_at dksX9_firstBroken_0 2 rfl rfl)
theorem dX9_firstBroken_3 : decode cX9_firstBroken 3 = .ok (.aload_n 0, 1) := dk_42 (dk_at dksX9_firstBroken_0 3 rfl rfl)
theorem dX9_firstBroken_4 : decode cX9_firstBroken 4 = .ok (.getfield 7, 3) := dk_180 0 7 (dk_at dksX9_firstBroken_0 4 rfl rfl)
theorem dX9_firstBroken_7 : decode cX9_firstBroken 7 = .ok (.iconst 4, 1) := dk_7 (dk_at dksX9_firstBroken_0 7 rfl rfl)
theorem dX9_firstBroken_8 : decode cX9_firstBroken 8 = .ok (.iaload, 1) := dk_46 (dk_at dksX9_firstBroken_0 8 rfl rfl)
theorem dX9_firstBroken_9 : decode cX9_firstBroken 9 = .ok (.if_icmp .ge 20, 3) := dk_162 0 20 (dk_at dksX9_firstBroken_0 9 rfl rfl)
theorem dX9_firstBroken_12 : decode cX9_firstBroken 12 = .ok (.aload_n 0, 1) := dk_42 (dk_at dksX9_firstBroken_0 12 rfl rfl)
theorem dX9_firstBroken_13 : decode cX9_firstBroken 13 = .ok (.iload_n 1, 1) := dk_27 (dk_at dksX9_firstBroken_0 13 rfl rfl)
theorem dX9_firstBroken_14 : decode cX9_firstBroken 14 = .ok (.iload_n 2, 1) := dk_28 (dk_at dksX9_firstBroken_0 14 rfl rfl)
theorem dX9_firstBroken_15 : decode cX9_firstBroken 15 = .ok (.invokevirtual 106, 3) := dk_182 0 106 (dk_at dksX9_firstBroken_0 15 rfl rfl)
theorem dX9_firstBroken_18 : decode cX9_firstBroken 18 = .ok (.ifCond .eq 5, 3) := dk_153 0 5 (dk_at dksX9_firstBroken_0 18 rfl rfl)
theorem dX9_firstBroken_21 : decode cX9_firstBroken 21 = .ok (.iload_n 2, 1) := dk_28 (dk_at dksX9_firstBroken_0 21 rfl rfl)
theorem dX9_firstBroken_22 : decode cX9_firstBroken 22 = .ok (.ireturn, 1) := dk_172 (dk_at dksX9_firstBroken_0 22 rfl rfl)
theorem dX9_firstBroken_23 : decode cX9_firstBroken 23 = .ok (.iinc 2 1, 3) := dk_132 2 1 (dk_at dksX9_firstBroken_1 0 rfl rfl)
theorem dX9_firstBroken_26 : decode cX9_firstBroken 26 = .ok (.goto (-24), 3) := dk_167 255 232 (dk_at dksX9_firstBroken_1 3 rfl rfl)
theorem dX9_firstBroken_29 : decode cX9_firstBroken 29 = .ok (.iconst (-1), 1) := dk_2 (dk_at dksX9_firstBroken_1 6 rfl rfl)
theorem dX9_firstBroken_30 : decode cX9_firstBroken 30 = .ok (.ireturn, 1) := dk_172 (dk_at dksX9_firstBroken_1 7 rfl rfl)
abbrev cX9_breaks : ByteArray := prog_41_method_25_code
def yX9_breaks : MethodName := ⟨RX9, "breaks", "(II)Z"⟩
def dkwX9_breaks_1 : List UInt8 := [182, 0, 102, 154, 0, 7, 4, 167, 0, 4, 3, 172]
abbrev dktX9_breaks_1 : List UInt8 := dkwX9_breaks_1 ++ []
def dkwX9_breaks_0 : List UInt8 := [42, 28, 3, 182, 0, 92, 62, 29, 2, 159, 0, 11, 29, 27, 184, 0, 99, 160, 0, 16, 42, 28, 27]
abbrev dktX9_breaks_0 : List UInt8 := dkwX9_breaks_0 ++ dktX9_breaks_1
theorem dksX9_breaks_0 : cX9_breaks.data.toList.drop 0 = dktX9_breaks_0 := by decide +kernel
theorem dksX9_breaks_1 : cX9_breaks.data.toList.drop 23 = dktX9_breaks_1 := dk_seg dksX9_breaks_0 23 rfl rfl
theorem dX9_breaks_0 : decode cX9_breaks 0 = .ok (.aload_n 0, 1) := dk_42 (dk_at dksX9_breaks_0 0 rfl rfl)
theorem dX9_breaks_1 : decode cX9_breaks 1 = .ok (.iload_n 2, 1) := dk_28 (dk_at dksX9_breaks_0 1 rfl rfl)
theorem dX9_breaks_2 : decode cX9_breaks 2 = .ok (.iconst 0, 1) := dk_3 (dk_at dksX9_breaks_0 2 rfl rfl)
theorem dX9_breaks_3 : decode cX9_breaks 3 = .ok (.invokevirtual 92, 3) := dk_182 0 92 (dk_at dksX9_breaks_0 3 rfl rfl)
theorem dX9_breaks_6 : decode cX9_breaks 6 = .ok (.istore_n 3, 1) := dk_62 (dk_at dksX9_breaks_0 6 rfl rfl)
theorem dX9_breaks_7 : decode cX9_breaks 7 = .ok (.iload_n 3, 1) := dk_29 (dk_at dksX9_breaks_0 7 rfl rfl)
theorem dX9_breaks_8 : decode cX9_breaks 8 = .ok (.iconst (-1), 1) := dk_2 (dk_at dksX9_breaks_0 8 rfl rfl)
theorem dX9_breaks_9 : decode cX9_breaks 9 = .ok (.if_icmp .eq 11, 3) := dk_159 0 11 (dk_at dksX9_breaks_0 9 rfl rfl)
theorem dX9_breaks_12 : decode cX9_breaks 12 = .ok (.iload_n 3, 1) := dk_29 (dk_at dksX9_breaks_0 12 rfl rfl)
theorem dX9_breaks_13 : decode cX9_breaks 13 = .ok (.iload_n 1, 1) := dk_27 (dk_at dksX9_breaks_0 13 rfl rfl)
theorem dX9_breaks_14 : decode cX9_breaks 14 = .ok (.invokestatic 99, 3) := dk_184 0 99 (dk_at dksX9_breaks_0 14 rfl rfl)
theorem dX9_breaks_17 : decode cX9_breaks 17 = .ok (.if_icmp .ne 16, 3) := dk_160 0 16 (dk_at dksX9_breaks_0 17 rfl rfl)
theorem dX9_breaks_20 : decode cX9_breaks 20 = .ok (.aload_n 0, 1) := dk_42 (dk_at dksX9_breaks_0 20 rfl rfl)
theorem dX9_breaks_21 : decode cX9_breaks 21 = .ok (.iload_n 2, 1) := dk_28 (dk_at dksX9_breaks_0 21 rfl rfl)
theorem dX9_breaks_22 : decode cX9_breaks 22 = .ok (.iload_n 1, 1) := dk_27 (dk_at dksX9_breaks_0 22 rfl rfl)
theorem dX9_breaks_23 : decode cX9_breaks 23 = .ok (.invokevirtual 102, 3) := dk_182 0 102 (dk_at dksX9_breaks_1 0 rfl rfl)
theorem dX9_breaks_26 : decode cX9_breaks 26 = .ok (.ifCond .ne 7, 3) := dk_154 0 7 (dk_at dksX9_breaks_1 3 rfl rfl)
theorem dX9_breaks_29 : decode cX9_breaks 29 = .ok (.iconst 1, 1) := dk_4 (dk_at dksX9_breaks_1 6 rfl rfl)
theorem dX9_breaks_30 : decode cX9_breaks 30 = .ok (.goto 4, 3) := dk_167 0 4 (dk_at dksX9_breaks_1 7 rfl rfl)
theorem dX9_breaks_33 : decode cX9_breaks 33 = .ok (.iconst 0, 1) := dk_3 (dk_at dksX9_breaks_1 10 rfl rfl)
theorem dX9_breaks_34 : decode cX9_breaks 34 = .ok (.ireturn, 1) := dk_172 (dk_at dksX9_breaks_1 11 rfl rfl)
abbrev cX9_ofInvariant : ByteArray := prog_41_method_10_code
def yX9_ofInvariant : MethodName := ⟨RX9, "ofInvariant", "(II)I"⟩
def dkwX9_ofInvariant_0 : List UInt8 := [42, 180, 0, 7, 17, 1, 53, 7, 27, 104, 96, 28, 96, 46, 172]
abbrev dktX9_ofInvariant_0 : List UInt8 := dkwX9_ofInvariant_0 ++ []
theorem dksX9_ofInvariant_0 : cX9_ofInvariant.data.toList.drop 0 = dktX9_ofInvariant_0 := by decide +kernel
theorem dX9_ofInvariant_0 : decode cX9_ofInvariant 0 = .ok (.aload_n 0, 1) := dk_42 (dk_at dksX9_ofInvariant_0 0 rfl rfl)
theorem dX9_ofInvariant_1 : decode cX9_ofInvariant 1 = .ok (.getfield 7, 3) := dk_180 0 7 (dk_at dksX9_ofInvariant_0 1 rfl rfl)
theorem dX9_ofInvariant_4 : decode cX9_ofInvariant 4 = .ok (.sipush 309, 3) := dk_17 1 53 (dk_at dksX9_ofInvariant_0 4 rfl rfl)
theorem dX9_ofInvariant_7 : decode cX9_ofInvariant 7 = .ok (.iconst 4, 1) := dk_7 (dk_at dksX9_ofInvariant_0 7 rfl rfl)
theorem dX9_ofInvariant_8 : decode cX9_ofInvariant 8 = .ok (.iload_n 1, 1) := dk_27 (dk_at dksX9_ofInvariant_0 8 rfl rfl)
theorem dX9_ofInvariant_9 : decode cX9_ofInvariant 9 = .ok (.imul, 1) := dk_104 (dk_at dksX9_ofInvariant_0 9 rfl rfl)
theorem dX9_ofInvariant_10 : decode cX9_ofInvariant 10 = .ok (.iadd, 1) := dk_96 (dk_at dksX9_ofInvariant_0 10 rfl rfl)
theorem dX9_ofInvariant_11 : decode cX9_ofInvariant 11 = .ok (.iload_n 2, 1) := dk_28 (dk_at dksX9_ofInvariant_0 11 rfl rfl)
theorem dX9_ofInvariant_12 : decode cX9_ofInvariant 12 = .ok (.iadd, 1) := dk_96 (dk_at dksX9_ofInvariant_0 12 rfl rfl)
theorem dX9_ofInvariant_13 : decode cX9_ofInvariant 13 = .ok (.iaload, 1) := dk_46 (dk_at dksX9_ofInvariant_0 13 rfl rfl)
theorem dX9_ofInvariant_14 : decode cX9_ofInvariant 14 = .ok (.ireturn, 1) := dk_172 (dk_at dksX9_ofInvariant_0 14 rfl rfl)
abbrev cX9_stateIn : ByteArray := prog_41_method_19_code
def yX9_stateIn : MethodName := ⟨RX9, "stateIn", "(I)I"⟩
def dkwX9_stateIn_0 : List UInt8 := [26, 17, 3, 232, 108, 172]
abbrev dktX9_stateIn_0 : List UInt8 := dkwX9_stateIn_0 ++ []
theorem dksX9_stateIn_0 : cX9_stateIn.data.toList.drop 0 = dktX9_stateIn_0 := by decide +kernel
theorem dX9_stateIn_0 : decode cX9_stateIn 0 = .ok (.iload_n 0, 1) := dk_26 (dk_at dksX9_stateIn_0 0 rfl rfl)
theorem dX9_stateIn_1 : decode cX9_stateIn 1 = .ok (.sipush 1000, 3) := dk_17 3 232 (dk_at dksX9_stateIn_0 1 rfl rfl)
theorem dX9_stateIn_4 : decode cX9_stateIn 4 = .ok (.idiv, 1) := dk_108 (dk_at dksX9_stateIn_0 4 rfl rfl)
theorem dX9_stateIn_5 : decode cX9_stateIn 5 = .ok (.ireturn, 1) := dk_172 (dk_at dksX9_stateIn_0 5 rfl rfl)
abbrev cX9_compares : ByteArray := prog_41_method_24_code
def yX9_compares : MethodName := ⟨RX9, "compares", "(II)Z"⟩
def dkwX9_compares_1 : List UInt8 := [184, 0, 95, 172]
abbrev dktX9_compares_1 : List UInt8 := dkwX9_compares_1 ++ []
def dkwX9_compares_0 : List UInt8 := [28, 42, 27, 4, 182, 0, 92, 184, 0, 88, 42, 27, 5, 182, 0, 92, 42, 27, 6, 182, 0, 92]
abbrev dktX9_compares_0 : List UInt8 := dkwX9_compares_0 ++ dktX9_compares_1
theorem dksX9_compares_0 : cX9_compares.data.toList.drop 0 = dktX9_compares_0 := by decide +kernel
theorem dksX9_compares_1 : cX9_compares.data.toList.drop 22 = dktX9_compares_1 := dk_seg dksX9_compares_0 22 rfl rfl
theorem dX9_compares_0 : decode cX9_compares 0 = .ok (.iload_n 2, 1) := dk_28 (dk_at dksX9_compares_0 0 rfl rfl)
theorem dX9_compares_1 : decode cX9_compares 1 = .ok (.aload_n 0, 1) := dk_42 (dk_at dksX9_compares_0 1 rfl rfl)
theorem dX9_compares_2 : decode cX9_compares 2 = .ok (.iload_n 1, 1) := dk_27 (dk_at dksX9_compares_0 2 rfl rfl)
theorem dX9_compares_3 : decode cX9_compares 3 = .ok (.iconst 1, 1) := dk_4 (dk_at dksX9_compares_0 3 rfl rfl)
theorem dX9_compares_4 : decode cX9_compares 4 = .ok (.invokevirtual 92, 3) := dk_182 0 92 (dk_at dksX9_compares_0 4 rfl rfl)
theorem dX9_compares_7 : decode cX9_compares 7 = .ok (.invokestatic 88, 3) := dk_184 0 88 (dk_at dksX9_compares_0 7 rfl rfl)
theorem dX9_compares_10 : decode cX9_compares 10 = .ok (.aload_n 0, 1) := dk_42 (dk_at dksX9_compares_0 10 rfl rfl)
theorem dX9_compares_11 : decode cX9_compares 11 = .ok (.iload_n 1, 1) := dk_27 (dk_at dksX9_compares_0 11 rfl rfl)
theorem dX9_compares_12 : decode cX9_compares 12 = .ok (.iconst 2, 1) := dk_5 (dk_at dksX9_compares_0 12 rfl rfl)
theorem dX9_compares_13 : decode cX9_compares 13 = .ok (.invokevirtual 92, 3) := dk_182 0 92 (dk_at dksX9_compares_0 13 rfl rfl)
theorem dX9_compares_16 : decode cX9_compares 16 = .ok (.aload_n 0, 1) := dk_42 (dk_at dksX9_compares_0 16 rfl rfl)
theorem dX9_compares_17 : decode cX9_compares 17 = .ok (.iload_n 1, 1) := dk_27 (dk_at dksX9_compares_0 17 rfl rfl)
theorem dX9_compares_18 : decode cX9_compares 18 = .ok (.iconst 3, 1) := dk_6 (dk_at dksX9_compares_0 18 rfl rfl)
theorem dX9_compares_19 : decode cX9_compares 19 = .ok (.invokevirtual 92, 3) := dk_182 0 92 (dk_at dksX9_compares_0 19 rfl rfl)
theorem dX9_compares_22 : decode cX9_compares 22 = .ok (.invokestatic 95, 3) := dk_184 0 95 (dk_at dksX9_compares_1 0 rfl rfl)
theorem dX9_compares_25 : decode cX9_compares 25 = .ok (.ireturn, 1) := dk_172 (dk_at dksX9_compares_1 3 rfl rfl)
abbrev cX9_valueIn : ByteArray := prog_41_method_21_code
def yX9_valueIn : MethodName := ⟨RX9, "valueIn", "(II)I"⟩
def dkwX9_valueIn_0 : List UInt8 := [26, 27, 184, 0, 84, 108, 16, 10, 112, 172]
abbrev dktX9_valueIn_0 : List UInt8 := dkwX9_valueIn_0 ++ []
theorem dksX9_valueIn_0 : cX9_valueIn.data.toList.drop 0 = dktX9_valueIn_0 := by decide +kernel
theorem dX9_valueIn_0 : decode cX9_valueIn 0 = .ok (.iload_n 0, 1) := dk_26 (dk_at dksX9_valueIn_0 0 rfl rfl)
theorem dX9_valueIn_1 : decode cX9_valueIn 1 = .ok (.iload_n 1, 1) := dk_27 (dk_at dksX9_valueIn_0 1 rfl rfl)
theorem dX9_valueIn_2 : decode cX9_valueIn 2 = .ok (.invokestatic 84, 3) := dk_184 0 84 (dk_at dksX9_valueIn_0 2 rfl rfl)
theorem dX9_valueIn_5 : decode cX9_valueIn 5 = .ok (.idiv, 1) := dk_108 (dk_at dksX9_valueIn_0 5 rfl rfl)
theorem dX9_valueIn_6 : decode cX9_valueIn 6 = .ok (.bipush 10, 2) := dk_16 10 (dk_at dksX9_valueIn_0 6 rfl rfl)
theorem dX9_valueIn_8 : decode cX9_valueIn 8 = .ok (.irem, 1) := dk_112 (dk_at dksX9_valueIn_0 8 rfl rfl)
theorem dX9_valueIn_9 : decode cX9_valueIn 9 = .ok (.ireturn, 1) := dk_172 (dk_at dksX9_valueIn_0 9 rfl rfl)
abbrev cX9_weight : ByteArray := prog_41_method_20_code
def yX9_weight : MethodName := ⟨RX9, "weight", "(I)I"⟩
def dkwX9_weight_0 : List UInt8 := [26, 154, 0, 7, 4, 167, 0, 15, 26, 4, 160, 0, 8, 16, 10, 167, 0, 5, 16, 100, 172]
abbrev dktX9_weight_0 : List UInt8 := dkwX9_weight_0 ++ []
theorem dksX9_weight_0 : cX9_weight.data.toList.drop 0 = dktX9_weight_0 := by decide +kernel
theorem dX9_weight_0 : decode cX9_weight 0 = .ok (.iload_n 0, 1) := dk_26 (dk_at dksX9_weight_0 0 rfl rfl)
theorem dX9_weight_1 : decode cX9_weight 1 = .ok (.ifCond .ne 7, 3) := dk_154 0 7 (dk_at dksX9_weight_0 1 rfl rfl)
theorem dX9_weight_4 : decode cX9_weight 4 = .ok (.iconst 1, 1) := dk_4 (dk_at dksX9_weight_0 4 rfl rfl)
theorem dX9_weight_5 : decode cX9_weight 5 = .ok (.goto 15, 3) := dk_167 0 15 (dk_at dksX9_weight_0 5 rfl rfl)
theorem dX9_weight_8 : decode cX9_weight 8 = .ok (.iload_n 0, 1) := dk_26 (dk_at dksX9_weight_0 8 rfl rfl)
theorem dX9_weight_9 : decode cX9_weight 9 = .ok (.iconst 1, 1) := dk_4 (dk_at dksX9_weight_0 9 rfl rfl)
theorem dX9_weight_10 : decode cX9_weight 10 = .ok (.if_icmp .ne 8, 3) := dk_160 0 8 (dk_at dksX9_weight_0 10 rfl rfl)
theorem dX9_weight_13 : decode cX9_weight 13 = .ok (.bipush 10, 2) := dk_16 10 (dk_at dksX9_weight_0 13 rfl rfl)
theorem dX9_weight_15 : decode cX9_weight 15 = .ok (.goto 5, 3) := dk_167 0 5 (dk_at dksX9_weight_0 15 rfl rfl)
theorem dX9_weight_18 : decode cX9_weight 18 = .ok (.bipush 100, 2) := dk_16 100 (dk_at dksX9_weight_0 18 rfl rfl)
theorem dX9_weight_20 : decode cX9_weight 20 = .ok (.ireturn, 1) := dk_172 (dk_at dksX9_weight_0 20 rfl rfl)
abbrev cX9_holds : ByteArray := prog_41_method_23_code
def yX9_holds : MethodName := ⟨RX9, "holds", "(III)Z"⟩
def dkwX9_holds_4 : List UInt8 := [161, 0, 7, 4, 167, 0, 4, 3, 172, 26, 28, 164, 0, 7, 4, 167, 0, 4, 3, 172]
abbrev dktX9_holds_4 : List UInt8 := dkwX9_holds_4 ++ []
def dkwX9_holds_3 : List UInt8 := [160, 0, 7, 4, 167, 0, 4, 3, 172, 26, 28, 159, 0, 7, 4, 167, 0, 4, 3, 172, 26, 28]
abbrev dktX9_holds_3 : List UInt8 := dkwX9_holds_3 ++ dktX9_holds_4
def dkwX9_holds_2 : List UInt8 := [26, 28, 162, 0, 7, 4, 167, 0, 4, 3, 172, 26, 28, 163, 0, 7, 4, 167, 0, 4, 3, 172, 26, 28]
abbrev dktX9_holds_2 : List UInt8 := dkwX9_holds_2 ++ dktX9_holds_3
def dkwX9_holds_1 : List UInt8 := [170, 0, 0, 0, 0, 0, 90, 0, 0, 0, 0, 0, 0, 0, 4, 0, 0, 0, 35, 0, 0, 0, 46, 0, 0, 0, 57, 0, 0, 0, 68, 0, 0, 0, 79]
abbrev dktX9_holds_1 : List UInt8 := dkwX9_holds_1 ++ dktX9_holds_2
def dkwX9_holds_0 : List UInt8 := [27]
abbrev dktX9_holds_0 : List UInt8 := dkwX9_holds_0 ++ dktX9_holds_1
theorem dksX9_holds_0 : cX9_holds.data.toList.drop 0 = dktX9_holds_0 := by decide +kernel
theorem dksX9_holds_1 : cX9_holds.data.toList.drop 1 = dktX9_holds_1 := dk_seg dksX9_holds_0 1 rfl rfl
theorem dksX9_holds_2 : cX9_holds.data.toList.drop 36 = dktX9_holds_2 := dk_seg dksX9_holds_1 35 rfl rfl
theorem dksX9_holds_3 : cX9_holds.data.toList.drop 60 = dktX9_holds_3 := dk_seg dksX9_holds_2 24 rfl rfl
theorem dksX9_holds_4 : cX9_holds.data.toList.drop 82 = dktX9_holds_4 := dk_seg dksX9_holds_3 22 rfl rfl
theorem dX9_holds_0 : decode cX9_holds 0 = .ok (.iload_n 1, 1) := dk_27 (dk_at dksX9_holds_0 0 rfl rfl)
theorem dX9_holds_1 : decode cX9_holds 1 = .ok (.tableswitch 90 0 4 #[35, 46, 57, 68, 79], 35) := by decide +kernel
theorem dX9_holds_36 : decode cX9_holds 36 = .ok (.iload_n 0, 1) := dk_26 (dk_at dksX9_holds_2 0 rfl rfl)
theorem dX9_holds_37 : decode cX9_holds 37 = .ok (.iload_n 2, 1) := dk_28 (dk_at dksX9_holds_2 1 rfl rfl)
theorem dX9_holds_38 : decode cX9_holds 38 = .ok (.if_icmp .ge 7, 3) := dk_162 0 7 (dk_at dksX9_holds_2 2 rfl rfl)
theorem dX9_holds_41 : decode cX9_holds 41 = .ok (.iconst 1, 1) := dk_4 (dk_at dksX9_holds_2 5 rfl rfl)
theorem dX9_holds_42 : decode cX9_holds 42 = .ok (.goto 4, 3) := dk_167 0 4 (dk_at dksX9_holds_2 6 rfl rfl)
theorem dX9_holds_45 : decode cX9_holds 45 = .ok (.iconst 0, 1) := dk_3 (dk_at dksX9_holds_2 9 rfl rfl)
theorem dX9_holds_46 : decode cX9_holds 46 = .ok (.ireturn, 1) := dk_172 (dk_at dksX9_holds_2 10 rfl rfl)
theorem dX9_holds_47 : decode cX9_holds 47 = .ok (.iload_n 0, 1) := dk_26 (dk_at dksX9_holds_2 11 rfl rfl)
theorem dX9_holds_48 : decode cX9_holds 48 = .ok (.iload_n 2, 1) := dk_28 (dk_at dksX9_holds_2 12 rfl rfl)
theorem dX9_holds_49 : decode cX9_holds 49 = .ok (.if_icmp .gt 7, 3) := dk_163 0 7 (dk_at dksX9_holds_2 13 rfl rfl)
theorem dX9_holds_52 : decode cX9_holds 52 = .ok (.iconst 1, 1) := dk_4 (dk_at dksX9_holds_2 16 rfl rfl)
theorem dX9_holds_53 : decode cX9_holds 53 = .ok (.goto 4, 3) := dk_167 0 4 (dk_at dksX9_holds_2 17 rfl rfl)
theorem dX9_holds_56 : decode cX9_holds 56 = .ok (.iconst 0, 1) := dk_3 (dk_at dksX9_holds_2 20 rfl rfl)
theorem dX9_holds_57 : decode cX9_holds 57 = .ok (.ireturn, 1) := dk_172 (dk_at dksX9_holds_2 21 rfl rfl)
theorem dX9_holds_58 : decode cX9_holds 58 = .ok (.iload_n 0, 1) := dk_26 (dk_at dksX9_holds_2 22 rfl rfl)
theorem dX9_holds_59 : decode cX9_holds 59 = .ok (.iload_n 2, 1) := dk_28 (dk_at dksX9_holds_2 23 rfl rfl)
theorem dX9_holds_60 : decode cX9_holds 60 = .ok (.if_icmp .ne 7, 3) := dk_160 0 7 (dk_at dksX9_holds_3 0 rfl rfl)
theorem dX9_holds_63 : decode cX9_holds 63 = .ok (.iconst 1, 1) := dk_4 (dk_at dksX9_holds_3 3 rfl rfl)
theorem dX9_holds_64 : decode cX9_holds 64 = .ok (.goto 4, 3) := dk_167 0 4 (dk_at dksX9_holds_3 4 rfl rfl)
theorem dX9_holds_67 : decode cX9_holds 67 = .ok (.iconst 0, 1) := dk_3 (dk_at dksX9_holds_3 7 rfl rfl)
theorem dX9_holds_68 : decode cX9_holds 68 = .ok (.ireturn, 1) := dk_172 (dk_at dksX9_holds_3 8 rfl rfl)
theorem dX9_holds_69 : decode cX9_holds 69 = .ok (.iload_n 0, 1) := dk_26 (dk_at dksX9_holds_3 9 rfl rfl)
theorem dX9_holds_70 : decode cX9_holds 70 = .ok (.iload_n 2, 1) := dk_28 (dk_at dksX9_holds_3 10 rfl rfl)
theorem dX9_holds_71 : decode cX9_holds 71 = .ok (.if_icmp .eq 7, 3) := dk_159 0 7 (dk_at dksX9_holds_3 11 rfl rfl)
theorem dX9_holds_74 : decode cX9_holds 74 = .ok (.iconst 1, 1) := dk_4 (dk_at dksX9_holds_3 14 rfl rfl)
theorem dX9_holds_75 : decode cX9_holds 75 = .ok (.goto 4, 3) := dk_167 0 4 (dk_at dksX9_holds_3 15 rfl rfl)
theorem dX9_holds_78 : decode cX9_holds 78 = .ok (.iconst 0, 1) := dk_3 (dk_at dksX9_holds_3 18 rfl rfl)
theorem dX9_holds_79 : decode cX9_holds 79 = .ok (.ireturn, 1) := dk_172 (dk_at dksX9_holds_3 19 rfl rfl)
theorem dX9_holds_80 : decode cX9_holds 80 = .ok (.iload_n 0, 1) := dk_26 (dk_at dksX9_holds_3 20 rfl rfl)
theorem dX9_holds_81 : decode cX9_holds 81 = .ok (.iload_n 2, 1) := dk_28 (dk_at dksX9_holds_3 21 rfl rfl)
theorem dX9_holds_82 : decode cX9_holds 82 = .ok (.if_icmp .lt 7, 3) := dk_161 0 7 (dk_at dksX9_holds_4 0 rfl rfl)
theorem dX9_holds_85 : decode cX9_holds 85 = .ok (.iconst 1, 1) := dk_4 (dk_at dksX9_holds_4 3 rfl rfl)
theorem dX9_holds_86 : decode cX9_holds 86 = .ok (.goto 4, 3) := dk_167 0 4 (dk_at dksX9_holds_4 4 rfl rfl)
theorem dX9_holds_89 : decode cX9_holds 89 = .ok (.iconst 0, 1) := dk_3 (dk_at dksX9_holds_4 7 rfl rfl)
theorem dX9_holds_90 : decode cX9_holds 90 = .ok (.ireturn, 1) := dk_172 (dk_at dksX9_holds_4 8 rfl rfl)
theorem dX9_holds_91 : decode cX9_holds 91 = .ok (.iload_n 0, 1) := dk_26 (dk_at dksX9_holds_4 9 rfl rfl)
theorem dX9_holds_92 : decode cX9_holds 92 = .ok (.iload_n 2, 1) := dk_28 (dk_at dksX9_holds_4 10 rfl rfl)
theorem dX9_holds_93 : decode cX9_holds 93 = .ok (.if_icmp .le 7, 3) := dk_164 0 7 (dk_at dksX9_holds_4 11 rfl rfl)
theorem dX9_holds_96 : decode cX9_holds 96 = .ok (.iconst 1, 1) := dk_4 (dk_at dksX9_holds_4 14 rfl rfl)
theorem dX9_holds_97 : decode cX9_holds 97 = .ok (.goto 4, 3) := dk_167 0 4 (dk_at dksX9_holds_4 15 rfl rfl)
theorem dX9_holds_100 : decode cX9_holds 100 = .ok (.iconst 0, 1) := dk_3 (dk_at dksX9_holds_4 18 rfl rfl)
theorem dX9_holds_101 : decode cX9_holds 101 = .ok (.ireturn, 1) := dk_172 (dk_at dksX9_holds_4 19 rfl rfl)
abbrev cX9_endsText : ByteArray := prog_41_method_69_code
def yX9_endsText : MethodName := ⟨RX9, "endsText", "()V"⟩
def dkwX9_endsText_0 : List UInt8 := [42, 3, 181, 0, 165, 42, 42, 180, 0, 190, 181, 1, 58, 42, 42, 180, 0, 193, 181, 0, 31, 177]
abbrev dktX9_endsText_0 : List UInt8 := dkwX9_endsText_0 ++ []
theorem dksX9_endsText_0 : cX9_endsText.data.toList.drop 0 = dktX9_endsText_0 := by decide +kernel
theorem dX9_endsText_0 : decode cX9_endsText 0 = .ok (.aload_n 0, 1) := dk_42 (dk_at dksX9_endsText_0 0 rfl rfl)
theorem dX9_endsText_1 : decode cX9_endsText 1 = .ok (.iconst 0, 1) := dk_3 (dk_at dksX9_endsText_0 1 rfl rfl)
theorem dX9_endsText_2 : decode cX9_endsText 2 = .ok (.putfield 165, 3) := dk_181 0 165 (dk_at dksX9_endsText_0 2 rfl rfl)
theorem dX9_endsText_5 : decode cX9_endsText 5 = .ok (.aload_n 0, 1) := dk_42 (dk_at dksX9_endsText_0 5 rfl rfl)
theorem dX9_endsText_6 : decode cX9_endsText 6 = .ok (.aload_n 0, 1) := dk_42 (dk_at dksX9_endsText_0 6 rfl rfl)
theorem dX9_endsText_7 : decode cX9_endsText 7 = .ok (.getfield 190, 3) := dk_180 0 190 (dk_at dksX9_endsText_0 7 rfl rfl)
theorem dX9_endsText_10 : decode cX9_endsText 10 = .ok (.putfield 314, 3) := dk_181 1 58 (dk_at dksX9_endsText_0 10 rfl rfl)
theorem dX9_endsText_13 : decode cX9_endsText 13 = .ok (.aload_n 0, 1) := dk_42 (dk_at dksX9_endsText_0 13 rfl rfl)
theorem dX9_endsText_14 : decode cX9_endsText 14 = .ok (.aload_n 0, 1) := dk_42 (dk_at dksX9_endsText_0 14 rfl rfl)
theorem dX9_endsText_15 : decode cX9_endsText 15 = .ok (.getfield 193, 3) := dk_180 0 193 (dk_at dksX9_endsText_0 15 rfl rfl)
theorem dX9_endsText_18 : decode cX9_endsText 18 = .ok (.putfield 31, 3) := dk_181 0 31 (dk_at dksX9_endsText_0 18 rfl rfl)
theorem dX9_endsText_21 : decode cX9_endsText 21 = .ok (.return_, 1) := dk_177 (dk_at dksX9_endsText_0 21 rfl rfl)
abbrev cX9_runScript : ByteArray := prog_41_method_75_code
def yX9_runScript : MethodName := ⟨RX9, "runScript", "()I"⟩
def dkwX9_runScript_2 : List UInt8 := [42, 180, 1, 55, 162, 0, 17, 42, 28, 182, 1, 107, 153, 0, 9, 132, 2, 1, 167, 255, 237, 28, 172]
abbrev dktX9_runScript_2 : List UInt8 := dkwX9_runScript_2 ++ []
def dkwX9_runScript_1 : List UInt8 := [182, 1, 101, 60, 167, 255, 240, 42, 182, 1, 67, 27, 154, 0, 5, 2, 172, 42, 182, 1, 104, 3, 61, 28]
abbrev dktX9_runScript_1 : List UInt8 := dkwX9_runScript_1 ++ dktX9_runScript_2
def dkwX9_runScript_0 : List UInt8 := [42, 3, 181, 0, 78, 42, 182, 1, 61, 4, 60, 27, 153, 0, 18, 42, 180, 0, 183, 153, 0, 11, 42]
abbrev dktX9_runScript_0 : List UInt8 := dkwX9_runScript_0 ++ dktX9_runScript_1
theorem dksX9_runScript_0 : cX9_runScript.data.toList.drop 0 = dktX9_runScript_0 := by decide +kernel
theorem dksX9_runScript_1 : cX9_runScript.data.toList.drop 23 = dktX9_runScript_1 := dk_seg dksX9_runScript_0 23 rfl rfl
theorem dksX9_runScript_2 : cX9_runScript.data.toList.drop 47 = dktX9_runScript_2 := dk_seg dksX9_runScript_1 24 rfl rfl
theorem dX9_runScript_0 : decode cX9_runScript 0 = .ok (.aload_n 0, 1) := dk_42 (dk_at dksX9_runScript_0 0 rfl rfl)
theorem dX9_runScript_1 : decode cX9_runScript 1 = .ok (.iconst 0, 1) := dk_3 (dk_at dksX9_runScript_0 1 rfl rfl)
theorem dX9_runScript_2 : decode cX9_runScript 2 = .ok (.putfield 78, 3) := dk_181 0 78 (dk_at dksX9_runScript_0 2 rfl rfl)
theorem dX9_runScript_5 : decode cX9_runScript 5 = .ok (.aload_n 0, 1) := dk_42 (dk_at dksX9_runScript_0 5 rfl rfl)
theorem dX9_runScript_6 : decode cX9_runScript 6 = .ok (.invokevirtual 317, 3) := dk_182 1 61 (dk_at dksX9_runScript_0 6 rfl rfl)
theorem dX9_runScript_9 : decode cX9_runScript 9 = .ok (.iconst 1, 1) := dk_4 (dk_at dksX9_runScript_0 9 rfl rfl)
theorem dX9_runScript_10 : decode cX9_runScript 10 = .ok (.istore_n 1, 1) := dk_60 (dk_at dksX9_runScript_0 10 rfl rfl)
theorem dX9_runScript_11 : decode cX9_runScript 11 = .ok (.iload_n 1, 1) := dk_27 (dk_at dksX9_runScript_0 11 rfl rfl)
theorem dX9_runScript_12 : decode cX9_runScript 12 = .ok (.ifCond .eq 18, 3) := dk_153 0 18 (dk_at dksX9_runScript_0 12 rfl rfl)
theorem dX9_runScript_15 : decode cX9_runScript 15 = .ok (.aload_n 0, 1) := dk_42 (dk_at dksX9_runScript_0 15 rfl rfl)
theorem dX9_runScript_16 : decode cX9_runScript 16 = .ok (.getfield 183, 3) := dk_180 0 183 (dk_at dksX9_runScript_0 16 rfl rfl)
theorem dX9_runScript_19 : decode cX9_runScript 19 = .ok (.ifCond .eq 11, 3) := dk_153 0 11 (dk_at dksX9_runScript_0 19 rfl rfl)
theorem dX9_runScript_22 : decode cX9_runScript 22 = .ok (.aload_n 0, 1) := dk_42 (dk_at dksX9_runScript_0 22 rfl rfl)
theorem dX9_runScript_23 : decode cX9_runScript 23 = .ok (.invokevirtual 357, 3) := dk_182 1 101 (dk_at dksX9_runScript_1 0 rfl rfl)
theorem dX9_runScript_26 : decode cX9_runScript 26 = .ok (.istore_n 1, 1) := dk_60 (dk_at dksX9_runScript_1 3 rfl rfl)
theorem dX9_runScript_27 : decode cX9_runScript 27 = .ok (.goto (-16), 3) := dk_167 255 240 (dk_at dksX9_runScript_1 4 rfl rfl)
theorem dX9_runScript_30 : decode cX9_runScript 30 = .ok (.aload_n 0, 1) := dk_42 (dk_at dksX9_runScript_1 7 rfl rfl)
theorem dX9_runScript_31 : decode cX9_runScript 31 = .ok (.invokevirtual 323, 3) := dk_182 1 67 (dk_at dksX9_runScript_1 8 rfl rfl)
theorem dX9_runScript_34 : decode cX9_runScript 34 = .ok (.iload_n 1, 1) := dk_27 (dk_at dksX9_runScript_1 11 rfl rfl)
theorem dX9_runScript_35 : decode cX9_runScript 35 = .ok (.ifCond .ne 5, 3) := dk_154 0 5 (dk_at dksX9_runScript_1 12 rfl rfl)
theorem dX9_runScript_38 : decode cX9_runScript 38 = .ok (.iconst (-1), 1) := dk_2 (dk_at dksX9_runScript_1 15 rfl rfl)
theorem dX9_runScript_39 : decode cX9_runScript 39 = .ok (.ireturn, 1) := dk_172 (dk_at dksX9_runScript_1 16 rfl rfl)
theorem dX9_runScript_40 : decode cX9_runScript 40 = .ok (.aload_n 0, 1) := dk_42 (dk_at dksX9_runScript_1 17 rfl rfl)
theorem dX9_runScript_41 : decode cX9_runScript 41 = .ok (.invokevirtual 360, 3) := dk_182 1 104 (dk_at dksX9_runScript_1 18 rfl rfl)
theorem dX9_runScript_44 : decode cX9_runScript 44 = .ok (.iconst 0, 1) := dk_3 (dk_at dksX9_runScript_1 21 rfl rfl)
theorem dX9_runScript_45 : decode cX9_runScript 45 = .ok (.istore_n 2, 1) := dk_61 (dk_at dksX9_runScript_1 22 rfl rfl)
theorem dX9_runScript_46 : decode cX9_runScript 46 = .ok (.iload_n 2, 1) := dk_28 (dk_at dksX9_runScript_1 23 rfl rfl)
theorem dX9_runScript_47 : decode cX9_runScript 47 = .ok (.aload_n 0, 1) := dk_42 (dk_at dksX9_runScript_2 0 rfl rfl)
theorem dX9_runScript_48 : decode cX9_runScript 48 = .ok (.getfield 311, 3) := dk_180 1 55 (dk_at dksX9_runScript_2 1 rfl rfl)
theorem dX9_runScript_51 : decode cX9_runScript 51 = .ok (.if_icmp .ge 17, 3) := dk_162 0 17 (dk_at dksX9_runScript_2 4 rfl rfl)
theorem dX9_runScript_54 : decode cX9_runScript 54 = .ok (.aload_n 0, 1) := dk_42 (dk_at dksX9_runScript_2 7 rfl rfl)
theorem dX9_runScript_55 : decode cX9_runScript 55 = .ok (.iload_n 2, 1) := dk_28 (dk_at dksX9_runScript_2 8 rfl rfl)
theorem dX9_runScript_56 : decode cX9_runScript 56 = .ok (.invokevirtual 363, 3) := dk_182 1 107 (dk_at dksX9_runScript_2 9 rfl rfl)
theorem dX9_runScript_59 : decode cX9_runScript 59 = .ok (.ifCond .eq 9, 3) := dk_153 0 9 (dk_at dksX9_runScript_2 12 rfl rfl)
theorem dX9_runScript_62 : decode cX9_runScript 62 = .ok (.iinc 2 1, 3) := dk_132 2 1 (dk_at dksX9_runScript_2 15 rfl rfl)
theorem dX9_runScript_65 : decode cX9_runScript 65 = .ok (.goto (-19), 3) := dk_167 255 237 (dk_at dksX9_runScript_2 18 rfl rfl)
theorem dX9_runScript_68 : decode cX9_runScript 68 = .ok (.iload_n 2, 1) := dk_28 (dk_at dksX9_runScript_2 21 rfl rfl)
theorem dX9_runScript_69 : decode cX9_runScript 69 = .ok (.ireturn, 1) := dk_172 (dk_at dksX9_runScript_2 22 rfl rfl)
abbrev cX9_readScriptStatement : ByteArray := prog_41_method_73_code
def yX9_readScriptStatement : MethodName := ⟨RX9, "readScriptStatement", "()Z"⟩
def dkwX9_readScriptStatement_4 : List UInt8 := [42, 182, 1, 15, 172]
abbrev dktX9_readScriptStatement_4 : List UInt8 := dkwX9_readScriptStatement_4 ++ []
def dkwX9_readScriptStatement_3 : List UInt8 := [42, 180, 1, 55, 104, 4, 96, 42, 180, 0, 35, 4, 46, 79, 42, 89, 180, 1, 55, 4, 96, 181, 1, 55]
abbrev dktX9_readScriptStatement_3 : List UInt8 := dkwX9_readScriptStatement_3 ++ dktX9_readScriptStatement_4
def dkwX9_readScriptStatement_2 : List UInt8 := [27, 79, 42, 180, 0, 41, 5, 42, 180, 1, 55, 104, 42, 180, 0, 35, 3, 46, 79, 42, 180, 0, 41, 5]
abbrev dktX9_readScriptStatement_2 : List UInt8 := dkwX9_readScriptStatement_2 ++ dktX9_readScriptStatement_3
def dkwX9_readScriptStatement_1 : List UInt8 := [42, 8, 182, 0, 205, 172, 42, 27, 182, 1, 83, 154, 0, 5, 3, 172, 42, 180, 0, 38, 42, 180, 1, 55]
abbrev dktX9_readScriptStatement_1 : List UInt8 := dkwX9_readScriptStatement_1 ++ dktX9_readScriptStatement_2
def dkwX9_readScriptStatement_0 : List UInt8 := [42, 182, 1, 80, 60, 27, 154, 0, 9, 42, 4, 182, 0, 205, 172, 42, 180, 1, 55, 16, 30, 160, 0, 9]
abbrev dktX9_readScriptStatement_0 : List UInt8 := dkwX9_readScriptStatement_0 ++ dktX9_readScriptStatement_1
theorem dksX9_readScriptStatement_0 : cX9_readScriptStatement.data.toList.drop 0 = dktX9_readScriptStatement_0 := by decide +kernel
theorem dksX9_readScriptStatement_1 : cX9_readScriptStatement.data.toList.drop 24 = dktX9_readScriptStatement_1 := dk_seg dksX9_readScriptStatement_0 24 rfl rfl
theorem dksX9_readScriptStatement_2 : cX9_readScriptStatement.data.toList.drop 48 = dktX9_readScriptStatement_2 := dk_seg dksX9_readScriptStatement_1 24 rfl rfl
theorem dksX9_readScriptStatement_3 : cX9_readScriptStatement.data.toList.drop 72 = dktX9_readScriptStatement_3 := dk_seg dksX9_readScriptStatement_2 24 rfl rfl
theorem dksX9_readScriptStatement_4 : cX9_readScriptStatement.data.toList.drop 96 = dktX9_readScriptStatement_4 := dk_seg dksX9_readScriptStatement_3 24 rfl rfl
theorem dX9_readScriptStatement_0 : decode cX9_readScriptStatement 0 = .ok (.aload_n 0, 1) := dk_42 (dk_at dksX9_readScriptStatement_0 0 rfl rfl)
theorem dX9_readScriptStatement_1 : decode cX9_readScriptStatement 1 = .ok (.invokevirtual 336, 3) := dk_182 1 80 (dk_at dksX9_readScriptStatement_0 1 rfl rfl)
theorem dX9_readScriptStatement_4 : decode cX9_readScriptStatement 4 = .ok (.istore_n 1, 1) := dk_60 (dk_at dksX9_readScriptStatement_0 4 rfl rfl)
theorem dX9_readScriptStatement_5 : decode cX9_readScriptStatement 5 = .ok (.iload_n 1, 1) := dk_27 (dk_at dksX9_readScriptStatement_0 5 rfl rfl)
theorem dX9_readScriptStatement_6 : decode cX9_readScriptStatement 6 = .ok (.ifCond .ne 9, 3) := dk_154 0 9 (dk_at dksX9_readScriptStatement_0 6 rfl rfl)
theorem dX9_readScriptStatement_9 : decode cX9_readScriptStatement 9 = .ok (.aload_n 0, 1) := dk_42 (dk_at dksX9_readScriptStatement_0 9 rfl rfl)
theorem dX9_readScriptStatement_10 : decode cX9_readScriptStatement 10 = .ok (.iconst 1, 1) := dk_4 (dk_at dksX9_readScriptStatement_0 10 rfl rfl)
theorem dX9_readScriptStatement_11 : decode cX9_readScriptStatement 11 = .ok (.invokevirtual 205, 3) := dk_182 0 205 (dk_at dksX9_readScriptStatement_0 11 rfl rfl)
theorem dX9_readScriptStatement_14 : decode cX9_readScriptStatement 14 = .ok (.ireturn, 1) := dk_172 (dk_at dksX9_readScriptStatement_0 14 rfl rfl)
theorem dX9_readScriptStatement_15 : decode cX9_readScriptStatement 15 = .ok (.aload_n 0, 1) := dk_42 (dk_at dksX9_readScriptStatement_0 15 rfl rfl)
theorem dX9_readScriptStatement_16 : decode cX9_readScriptStatement 16 = .ok (.getfield 311, 3) := dk_180 1 55 (dk_at dksX9_readScriptStatement_0 16 rfl rfl)
theorem dX9_readScriptStatement_19 : decode cX9_readScriptStatement 19 = .ok (.bipush 30, 2) := dk_16 30 (dk_at dksX9_readScriptStatement_0 19 rfl rfl)
theorem dX9_readScriptStatement_21 : decode cX9_readScriptStatement 21 = .ok (.if_icmp .ne 9, 3) := dk_160 0 9 (dk_at dksX9_readScriptStatement_0 21 rfl rfl)
theorem dX9_readScriptStatement_24 : decode cX9_readScriptStatement 24 = .ok (.aload_n 0, 1) := dk_42 (dk_at dksX9_readScriptStatement_1 0 rfl rfl)
theorem dX9_readScriptStatement_25 : decode cX9_readScriptStatement 25 = .ok (.iconst 5, 1) := dk_8 (dk_at dksX9_readScriptStatement_1 1 rfl rfl)
theorem dX9_readScriptStatement_26 : decode cX9_readScriptStatement 26 = .ok (.invokevirtual 205, 3) := dk_182 0 205 (dk_at dksX9_readScriptStatement_1 2 rfl rfl)
theorem dX9_readScriptStatement_29 : decode cX9_readScriptStatement 29 = .ok (.ireturn, 1) := dk_172 (dk_at dksX9_readScriptStatement_1 5 rfl rfl)
theorem dX9_readScriptStatement_30 : decode cX9_readScriptStatement 30 = .ok (.aload_n 0, 1) := dk_42 (dk_at dksX9_readScriptStatement_1 6 rfl rfl)
theorem dX9_readScriptStatement_31 : decode cX9_readScriptStatement 31 = .ok (.iload_n 1, 1) := dk_27 (dk_at dksX9_readScriptStatement_1 7 rfl rfl)
theorem dX9_readScriptStatement_32 : decode cX9_readScriptStatement 32 = .ok (.invokevirtual 339, 3) := dk_182 1 83 (dk_at dksX9_readScriptStatement_1 8 rfl rfl)
theorem dX9_readScriptStatement_35 : decode cX9_readScriptStatement 35 = .ok (.ifCond .ne 5, 3) := dk_154 0 5 (dk_at dksX9_readScriptStatement_1 11 rfl rfl)
theorem dX9_readScriptStatement_38 : decode cX9_readScriptStatement 38 = .ok (.iconst 0, 1) := dk_3 (dk_at dksX9_readScriptStatement_1 14 rfl rfl)
theorem dX9_readScriptStatement_39 : decode cX9_readScriptStatement 39 = .ok (.ireturn, 1) := dk_172 (dk_at dksX9_readScriptStatement_1 15 rfl rfl)
theorem dX9_readScriptStatement_40 : decode cX9_readScriptStatement 40 = .ok (.aload_n 0, 1) := dk_42 (dk_at dksX9_readScriptStatement_1 16 rfl rfl)
theorem dX9_readScriptStatement_41 : decode cX9_readScriptStatement 41 = .ok (.getfield 38, 3) := dk_180 0 38 (dk_at dksX9_readScriptStatement_1 17 rfl rfl)
theorem dX9_readScriptStatement_44 : decode cX9_readScriptStatement 44 = .ok (.aload_n 0, 1) := dk_42 (dk_at dksX9_readScriptStatement_1 20 rfl rfl)
theorem dX9_readScriptStatement_45 : decode cX9_readScriptStatement 45 = .ok (.getfield 311, 3) := dk_180 1 55 (dk_at dksX9_readScriptStatement_1 21 rfl rfl)
theorem dX9_readScriptStatement_48 : decode cX9_readScriptStatement 48 = .ok (.iload_n 1, 1) := dk_27 (dk_at dksX9_readScriptStatement_2 0 rfl rfl)
theorem dX9_readScriptStatement_49 : decode cX9_readScriptStatement 49 = .ok (.iastore, 1) := dk_79 (dk_at dksX9_readScriptStatement_2 1 rfl rfl)
theorem dX9_readScriptStatement_50 : decode cX9_readScriptStatement 50 = .ok (.aload_n 0, 1) := dk_42 (dk_at dksX9_readScriptStatement_2 2 rfl rfl)
theorem dX9_readScriptStatement_51 : decode cX9_readScriptStatement 51 = .ok (.getfield 41, 3) := dk_180 0 41 (dk_at dksX9_readScriptStatement_2 3 rfl rfl)
theorem dX9_readScriptStatement_54 : decode cX9_readScriptStatement 54 = .ok (.iconst 2, 1) := dk_5 (dk_at dksX9_readScriptStatement_2 6 rfl rfl)
theorem dX9_readScriptStatement_55 : decode cX9_readScriptStatement 55 = .ok (.aload_n 0, 1) := dk_42 (dk_at dksX9_readScriptStatement_2 7 rfl rfl)
theorem dX9_readScriptStatement_56 : decode cX9_readScriptStatement 56 = .ok (.getfield 311, 3) := dk_180 1 55 (dk_at dksX9_readScriptStatement_2 8 rfl rfl)
theorem dX9_readScriptStatement_59 : decode cX9_readScriptStatement 59 = .ok (.imul, 1) := dk_104 (dk_at dksX9_readScriptStatement_2 11 rfl rfl)
theorem dX9_readScriptStatement_60 : decode cX9_readScriptStatement 60 = .ok (.aload_n 0, 1) := dk_42 (dk_at dksX9_readScriptStatement_2 12 rfl rfl)
theorem dX9_readScriptStatement_61 : decode cX9_readScriptStatement 61 = .ok (.getfield 35, 3) := dk_180 0 35 (dk_at dksX9_readScriptStatement_2 13 rfl rfl)
theorem dX9_readScriptStatement_64 : decode cX9_readScriptStatement 64 = .ok (.iconst 0, 1) := dk_3 (dk_at dksX9_readScriptStatement_2 16 rfl rfl)
theorem dX9_readScriptStatement_65 : decode cX9_readScriptStatement 65 = .ok (.iaload, 1) := dk_46 (dk_at dksX9_readScriptStatement_2 17 rfl rfl)
theorem dX9_readScriptStatement_66 : decode cX9_readScriptStatement 66 = .ok (.iastore, 1) := dk_79 (dk_at dksX9_readScriptStatement_2 18 rfl rfl)
theorem dX9_readScriptStatement_67 : decode cX9_readScriptStatement 67 = .ok (.aload_n 0, 1) := dk_42 (dk_at dksX9_readScriptStatement_2 19 rfl rfl)
theorem dX9_readScriptStatement_68 : decode cX9_readScriptStatement 68 = .ok (.getfield 41, 3) := dk_180 0 41 (dk_at dksX9_readScriptStatement_2 20 rfl rfl)
theorem dX9_readScriptStatement_71 : decode cX9_readScriptStatement 71 = .ok (.iconst 2, 1) := dk_5 (dk_at dksX9_readScriptStatement_2 23 rfl rfl)
theorem dX9_readScriptStatement_72 : decode cX9_readScriptStatement 72 = .ok (.aload_n 0, 1) := dk_42 (dk_at dksX9_readScriptStatement_3 0 rfl rfl)
theorem dX9_readScriptStatement_73 : decode cX9_readScriptStatement 73 = .ok (.getfield 311, 3) := dk_180 1 55 (dk_at dksX9_readScriptStatement_3 1 rfl rfl)
theorem dX9_readScriptStatement_76 : decode cX9_readScriptStatement 76 = .ok (.imul, 1) := dk_104 (dk_at dksX9_readScriptStatement_3 4 rfl rfl)
theorem dX9_readScriptStatement_77 : decode cX9_readScriptStatement 77 = .ok (.iconst 1, 1) := dk_4 (dk_at dksX9_readScriptStatement_3 5 rfl rfl)
theorem dX9_readScriptStatement_78 : decode cX9_readScriptStatement 78 = .ok (.iadd, 1) := dk_96 (dk_at dksX9_readScriptStatement_3 6 rfl rfl)
theorem dX9_readScriptStatement_79 : decode cX9_readScriptStatement 79 = .ok (.aload_n 0, 1) := dk_42 (dk_at dksX9_readScriptStatement_3 7 rfl rfl)
theorem dX9_readScriptStatement_80 : decode cX9_readScriptStatement 80 = .ok (.getfield 35, 3) := dk_180 0 35 (dk_at dksX9_readScriptStatement_3 8 rfl rfl)
theorem dX9_readScriptStatement_83 : decode cX9_readScriptStatement 83 = .ok (.iconst 1, 1) := dk_4 (dk_at dksX9_readScriptStatement_3 11 rfl rfl)
theorem dX9_readScriptStatement_84 : decode cX9_readScriptStatement 84 = .ok (.iaload, 1) := dk_46 (dk_at dksX9_readScriptStatement_3 12 rfl rfl)
theorem dX9_readScriptStatement_85 : decode cX9_readScriptStatement 85 = .ok (.iastore, 1) := dk_79 (dk_at dksX9_readScriptStatement_3 13 rfl rfl)
theorem dX9_readScriptStatement_86 : decode cX9_readScriptStatement 86 = .ok (.aload_n 0, 1) := dk_42 (dk_at dksX9_readScriptStatement_3 14 rfl rfl)
theorem dX9_readScriptStatement_87 : decode cX9_readScriptStatement 87 = .ok (.dup, 1) := dk_89 (dk_at dksX9_readScriptStatement_3 15 rfl rfl)
theorem dX9_readScriptStatement_88 : decode cX9_readScriptStatement 88 = .ok (.getfield 311, 3) := dk_180 1 55 (dk_at dksX9_readScriptStatement_3 16 rfl rfl)
theorem dX9_readScriptStatement_91 : decode cX9_readScriptStatement 91 = .ok (.iconst 1, 1) := dk_4 (dk_at dksX9_readScriptStatement_3 19 rfl rfl)
theorem dX9_readScriptStatement_92 : decode cX9_readScriptStatement 92 = .ok (.iadd, 1) := dk_96 (dk_at dksX9_readScriptStatement_3 20 rfl rfl)
theorem dX9_readScriptStatement_93 : decode cX9_readScriptStatement 93 = .ok (.putfield 311, 3) := dk_181 1 55 (dk_at dksX9_readScriptStatement_3 21 rfl rfl)
theorem dX9_readScriptStatement_96 : decode cX9_readScriptStatement 96 = .ok (.aload_n 0, 1) := dk_42 (dk_at dksX9_readScriptStatement_4 0 rfl rfl)
theorem dX9_readScriptStatement_97 : decode cX9_readScriptStatement 97 = .ok (.invokevirtual 271, 3) := dk_182 1 15 (dk_at dksX9_readScriptStatement_4 1 rfl rfl)
theorem dX9_readScriptStatement_100 : decode cX9_readScriptStatement 100 = .ok (.ireturn, 1) := dk_172 (dk_at dksX9_readScriptStatement_4 4 rfl rfl)
abbrev cX9_scriptHere : ByteArray := prog_41_method_71_code
def yX9_scriptHere : MethodName := ⟨RX9, "scriptHere", "()I"⟩
def dkwX9_scriptHere_2 : List UInt8 := [167, 0, 4, 3, 172]
abbrev dktX9_scriptHere_2 : List UInt8 := dkwX9_scriptHere_2 ++ []
def dkwX9_scriptHere_1 : List UInt8 := [19, 1, 76, 182, 0, 232, 153, 0, 5, 6, 172, 42, 19, 1, 78, 182, 0, 232, 153, 0, 7, 7]
abbrev dktX9_scriptHere_1 : List UInt8 := dkwX9_scriptHere_1 ++ dktX9_scriptHere_2
def dkwX9_scriptHere_0 : List UInt8 := [42, 19, 1, 74, 182, 0, 232, 153, 0, 5, 4, 172, 42, 18, 250, 182, 0, 232, 153, 0, 5, 5, 172, 42]
abbrev dktX9_scriptHere_0 : List UInt8 := dkwX9_scriptHere_0 ++ dktX9_scriptHere_1
theorem dksX9_scriptHere_0 : cX9_scriptHere.data.toList.drop 0 = dktX9_scriptHere_0 := by decide +kernel
theorem dksX9_scriptHere_1 : cX9_scriptHere.data.toList.drop 24 = dktX9_scriptHere_1 := dk_seg dksX9_scriptHere_0 24 rfl rfl
theorem dksX9_scriptHere_2 : cX9_scriptHere.data.toList.drop 46 = dktX9_scriptHere_2 := dk_seg dksX9_scriptHere_1 22 rfl rfl
theorem dX9_scriptHere_0 : decode cX9_scriptHere 0 = .ok (.aload_n 0, 1) := dk_42 (dk_at dksX9_scriptHere_0 0 rfl rfl)
theorem dX9_scriptHere_1 : decode cX9_scriptHere 1 = .ok (.ldc_w 330, 3) := dk_19 1 74 (dk_at dksX9_scriptHere_0 1 rfl rfl)
theorem dX9_scriptHere_4 : decode cX9_scriptHere 4 = .ok (.invokevirtual 232, 3) := dk_182 0 232 (dk_at dksX9_scriptHere_0 4 rfl rfl)
theorem dX9_scriptHere_7 : decode cX9_scriptHere 7 = .ok (.ifCond .eq 5, 3) := dk_153 0 5 (dk_at dksX9_scriptHere_0 7 rfl rfl)
theorem dX9_scriptHere_10 : decode cX9_scriptHere 10 = .ok (.iconst 1, 1) := dk_4 (dk_at dksX9_scriptHere_0 10 rfl rfl)
theorem dX9_scriptHere_11 : decode cX9_scriptHere 11 = .ok (.ireturn, 1) := dk_172 (dk_at dksX9_scriptHere_0 11 rfl rfl)
theorem dX9_scriptHere_12 : decode cX9_scriptHere 12 = .ok (.aload_n 0, 1) := dk_42 (dk_at dksX9_scriptHere_0 12 rfl rfl)
theorem dX9_scriptHere_13 : decode cX9_scriptHere 13 = .ok (.ldc 250, 2) := dk_18 250 (dk_at dksX9_scriptHere_0 13 rfl rfl)
theorem dX9_scriptHere_15 : decode cX9_scriptHere 15 = .ok (.invokevirtual 232, 3) := dk_182 0 232 (dk_at dksX9_scriptHere_0 15 rfl rfl)
theorem dX9_scriptHere_18 : decode cX9_scriptHere 18 = .ok (.ifCond .eq 5, 3) := dk_153 0 5 (dk_at dksX9_scriptHere_0 18 rfl rfl)
theorem dX9_scriptHere_21 : decode cX9_scriptHere 21 = .ok (.iconst 2, 1) := dk_5 (dk_at dksX9_scriptHere_0 21 rfl rfl)
theorem dX9_scriptHere_22 : decode cX9_scriptHere 22 = .ok (.ireturn, 1) := dk_172 (dk_at dksX9_scriptHere_0 22 rfl rfl)
theorem dX9_scriptHere_23 : decode cX9_scriptHere 23 = .ok (.aload_n 0, 1) := dk_42 (dk_at dksX9_scriptHere_0 23 rfl rfl)
theorem dX9_scriptHere_24 : decode cX9_scriptHere 24 = .ok (.ldc_w 332, 3) := dk_19 1 76 (dk_at dksX9_scriptHere_1 0 rfl rfl)
theorem dX9_scriptHere_27 : decode cX9_scriptHere 27 = .ok (.invokevirtual 232, 3) := dk_182 0 232 (dk_at dksX9_scriptHere_1 3 rfl rfl)
theorem dX9_scriptHere_30 : decode cX9_scriptHere 30 = .ok (.ifCond .eq 5, 3) := dk_153 0 5 (dk_at dksX9_scriptHere_1 6 rfl rfl)
theorem dX9_scriptHere_33 : decode cX9_scriptHere 33 = .ok (.iconst 3, 1) := dk_6 (dk_at dksX9_scriptHere_1 9 rfl rfl)
theorem dX9_scriptHere_34 : decode cX9_scriptHere 34 = .ok (.ireturn, 1) := dk_172 (dk_at dksX9_scriptHere_1 10 rfl rfl)
theorem dX9_scriptHere_35 : decode cX9_scriptHere 35 = .ok (.aload_n 0, 1) := dk_42 (dk_at dksX9_scriptHere_1 11 rfl rfl)
theorem dX9_scriptHere_36 : decode cX9_scriptHere 36 = .ok (.ldc_w 334, 3) := dk_19 1 78 (dk_at dksX9_scriptHere_1 12 rfl rfl)
theorem dX9_scriptHere_39 : decode cX9_scriptHere 39 = .ok (.invokevirtual 232, 3) := dk_182 0 232 (dk_at dksX9_scriptHere_1 15 rfl rfl)
theorem dX9_scriptHere_42 : decode cX9_scriptHere 42 = .ok (.ifCond .eq 7, 3) := dk_153 0 7 (dk_at dksX9_scriptHere_1 18 rfl rfl)
theorem dX9_scriptHere_45 : decode cX9_scriptHere 45 = .ok (.iconst 4, 1) := dk_7 (dk_at dksX9_scriptHere_1 21 rfl rfl)
theorem dX9_scriptHere_46 : decode cX9_scriptHere 46 = .ok (.goto 4, 3) := dk_167 0 4 (dk_at dksX9_scriptHere_2 0 rfl rfl)
theorem dX9_scriptHere_49 : decode cX9_scriptHere 49 = .ok (.iconst 0, 1) := dk_3 (dk_at dksX9_scriptHere_2 3 rfl rfl)
theorem dX9_scriptHere_50 : decode cX9_scriptHere 50 = .ok (.ireturn, 1) := dk_172 (dk_at dksX9_scriptHere_2 4 rfl rfl)
abbrev cX9_takesRest : ByteArray := prog_41_method_72_code
def yX9_takesRest : MethodName := ⟨RX9, "takesRest", "(I)Z"⟩
def dkwX9_takesRest_3 : List UInt8 := [182, 1, 9, 153, 0, 7, 4, 167, 0, 4, 3, 172, 4, 172]
abbrev dktX9_takesRest_3 : List UInt8 := dkwX9_takesRest_3 ++ []
def dkwX9_takesRest_2 : List UInt8 := [42, 3, 17, 1, 171, 4, 182, 0, 252, 172, 42, 3, 17, 1, 227, 5, 182, 0, 252, 153, 0, 15, 42, 4]
abbrev dktX9_takesRest_2 : List UInt8 := dkwX9_takesRest_2 ++ dktX9_takesRest_3
def dkwX9_takesRest_1 : List UInt8 := [171, 0, 0, 0, 0, 0, 63, 0, 0, 0, 2, 0, 0, 0, 1, 0, 0, 0, 27, 0, 0, 0, 2, 0, 0, 0, 37]
abbrev dktX9_takesRest_1 : List UInt8 := dkwX9_takesRest_1 ++ dktX9_takesRest_2
def dkwX9_takesRest_0 : List UInt8 := [42, 182, 0, 214, 27]
abbrev dktX9_takesRest_0 : List UInt8 := dkwX9_takesRest_0 ++ dktX9_takesRest_1
theorem dksX9_takesRest_0 : cX9_takesRest.data.toList.drop 0 = dktX9_takesRest_0 := by decide +kernel
theorem dksX9_takesRest_1 : cX9_takesRest.data.toList.drop 5 = dktX9_takesRest_1 := dk_seg dksX9_takesRest_0 5 rfl rfl
theorem dksX9_takesRest_2 : cX9_takesRest.data.toList.drop 32 = dktX9_takesRest_2 := dk_seg dksX9_takesRest_1 27 rfl rfl
theorem dksX9_takesRest_3 : cX9_takesRest.data.toList.drop 56 = dktX9_takesRest_3 := dk_seg dksX9_takesRest_2 24 rfl rfl
theorem dX9_takesRest_0 : decode cX9_takesRest 0 = .ok (.aload_n 0, 1) := dk_42 (dk_at dksX9_takesRest_0 0 rfl rfl)
theorem dX9_takesRest_1 : decode cX9_takesRest 1 = .ok (.invokevirtual 214, 3) := dk_182 0 214 (dk_at dksX9_takesRest_0 1 rfl rfl)
theorem dX9_takesRest_4 : decode cX9_takesRest 4 = .ok (.iload_n 1, 1) := dk_27 (dk_at dksX9_takesRest_0 4 rfl rfl)
theorem dX9_takesRest_5 : decode cX9_takesRest 5 = .ok (.lookupswitch 63 #[(1, 27), (2, 37)], 27) := by decide +kernel
theorem dX9_takesRest_32 : decode cX9_takesRest 32 = .ok (.aload_n 0, 1) := dk_42 (dk_at dksX9_takesRest_2 0 rfl rfl)
theorem dX9_takesRest_33 : decode cX9_takesRest 33 = .ok (.iconst 0, 1) := dk_3 (dk_at dksX9_takesRest_2 1 rfl rfl)
theorem dX9_takesRest_34 : decode cX9_takesRest 34 = .ok (.sipush 427, 3) := dk_17 1 171 (dk_at dksX9_takesRest_2 2 rfl rfl)
theorem dX9_takesRest_37 : decode cX9_takesRest 37 = .ok (.iconst 1, 1) := dk_4 (dk_at dksX9_takesRest_2 5 rfl rfl)
theorem dX9_takesRest_38 : decode cX9_takesRest 38 = .ok (.invokevirtual 252, 3) := dk_182 0 252 (dk_at dksX9_takesRest_2 6 rfl rfl)
theorem dX9_takesRest_41 : decode cX9_takesRest 41 = .ok (.ireturn, 1) := dk_172 (dk_at dksX9_takesRest_2 9 rfl rfl)
theorem dX9_takesRest_42 : decode cX9_takesRest 42 = .ok (.aload_n 0, 1) := dk_42 (dk_at dksX9_takesRest_2 10 rfl rfl)
theorem dX9_takesRest_43 : decode cX9_takesRest 43 = .ok (.iconst 0, 1) := dk_3 (dk_at dksX9_takesRest_2 11 rfl rfl)
theorem dX9_takesRest_44 : decode cX9_takesRest 44 = .ok (.sipush 483, 3) := dk_17 1 227 (dk_at dksX9_takesRest_2 12 rfl rfl)
theorem dX9_takesRest_47 : decode cX9_takesRest 47 = .ok (.iconst 2, 1) := dk_5 (dk_at dksX9_takesRest_2 15 rfl rfl)
theorem dX9_takesRest_48 : decode cX9_takesRest 48 = .ok (.invokevirtual 252, 3) := dk_182 0 252 (dk_at dksX9_takesRest_2 16 rfl rfl)
theorem dX9_takesRest_51 : decode cX9_takesRest 51 = .ok (.ifCond .eq 15, 3) := dk_153 0 15 (dk_at dksX9_takesRest_2 19 rfl rfl)
theorem dX9_takesRest_54 : decode cX9_takesRest 54 = .ok (.aload_n 0, 1) := dk_42 (dk_at dksX9_takesRest_2 22 rfl rfl)
theorem dX9_takesRest_55 : decode cX9_takesRest 55 = .ok (.iconst 1, 1) := dk_4 (dk_at dksX9_takesRest_2 23 rfl rfl)
theorem dX9_takesRest_56 : decode cX9_takesRest 56 = .ok (.invokevirtual 265, 3) := dk_182 1 9 (dk_at dksX9_takesRest_3 0 rfl rfl)
theorem dX9_takesRest_59 : decode cX9_takesRest 59 = .ok (.ifCond .eq 7, 3) := dk_153 0 7 (dk_at dksX9_takesRest_3 3 rfl rfl)
theorem dX9_takesRest_62 : decode cX9_takesRest 62 = .ok (.iconst 1, 1) := dk_4 (dk_at dksX9_takesRest_3 6 rfl rfl)
theorem dX9_takesRest_63 : decode cX9_takesRest 63 = .ok (.goto 4, 3) := dk_167 0 4 (dk_at dksX9_takesRest_3 7 rfl rfl)
theorem dX9_takesRest_66 : decode cX9_takesRest 66 = .ok (.iconst 0, 1) := dk_3 (dk_at dksX9_takesRest_3 10 rfl rfl)
theorem dX9_takesRest_67 : decode cX9_takesRest 67 = .ok (.ireturn, 1) := dk_172 (dk_at dksX9_takesRest_3 11 rfl rfl)
theorem dX9_takesRest_68 : decode cX9_takesRest 68 = .ok (.iconst 1, 1) := dk_4 (dk_at dksX9_takesRest_3 12 rfl rfl)
theorem dX9_takesRest_69 : decode cX9_takesRest 69 = .ok (.ireturn, 1) := dk_172 (dk_at dksX9_takesRest_3 13 rfl rfl)
abbrev cX9_remembers : ByteArray := prog_41_method_41_code
def yX9_remembers : MethodName := ⟨RX9, "remembers", "()V"⟩
def dkwX9_remembers_3 : List UInt8 := [89, 180, 0, 158, 4, 96, 181, 0, 158, 177]
abbrev dktX9_remembers_3 : List UInt8 := dkwX9_remembers_3 ++ []
def dkwX9_remembers_2 : List UInt8 := [181, 0, 158, 42, 180, 0, 7, 3, 42, 180, 0, 19, 17, 1, 248, 42, 180, 0, 158, 104, 184, 0, 161, 42]
abbrev dktX9_remembers_2 : List UInt8 := dkwX9_remembers_2 ++ dktX9_remembers_3
def dkwX9_remembers_1 : List UInt8 := [180, 0, 19, 27, 17, 1, 248, 96, 46, 79, 132, 1, 1, 167, 255, 230, 42, 89, 180, 0, 158, 4, 100]
abbrev dktX9_remembers_1 : List UInt8 := dkwX9_remembers_1 ++ dktX9_remembers_2
def dkwX9_remembers_0 : List UInt8 := [42, 180, 0, 158, 16, 8, 160, 0, 44, 3, 60, 27, 17, 13, 200, 162, 0, 25, 42, 180, 0, 19, 27, 42]
abbrev dktX9_remembers_0 : List UInt8 := dkwX9_remembers_0 ++ dktX9_remembers_1
theorem dksX9_remembers_0 : cX9_remembers.data.toList.drop 0 = dktX9_remembers_0 := by decide +kernel
theorem dksX9_remembers_1 : cX9_remembers.data.toList.drop 24 = dktX9_remembers_1 := dk_seg dksX9_remembers_0 24 rfl rfl
theorem dksX9_remembers_2 : cX9_remembers.data.toList.drop 47 = dktX9_remembers_2 := dk_seg dksX9_remembers_1 23 rfl rfl
theorem dksX9_remembers_3 : cX9_remembers.data.toList.drop 71 = dktX9_remembers_3 := dk_seg dksX9_remembers_2 24 rfl rfl
theorem dX9_remembers_0 : decode cX9_remembers 0 = .ok (.aload_n 0, 1) := dk_42 (dk_at dksX9_remembers_0 0 rfl rfl)
theorem dX9_remembers_1 : decode cX9_remembers 1 = .ok (.getfield 158, 3) := dk_180 0 158 (dk_at dksX9_remembers_0 1 rfl rfl)
theorem dX9_remembers_4 : decode cX9_remembers 4 = .ok (.bipush 8, 2) := dk_16 8 (dk_at dksX9_remembers_0 4 rfl rfl)
theorem dX9_remembers_6 : decode cX9_remembers 6 = .ok (.if_icmp .ne 44, 3) := dk_160 0 44 (dk_at dksX9_remembers_0 6 rfl rfl)
theorem dX9_remembers_9 : decode cX9_remembers 9 = .ok (.iconst 0, 1) := dk_3 (dk_at dksX9_remembers_0 9 rfl rfl)
theorem dX9_remembers_10 : decode cX9_remembers 10 = .ok (.istore_n 1, 1) := dk_60 (dk_at dksX9_remembers_0 10 rfl rfl)
theorem dX9_remembers_11 : decode cX9_remembers 11 = .ok (.iload_n 1, 1) := dk_27 (dk_at dksX9_remembers_0 11 rfl rfl)
theorem dX9_remembers_12 : decode cX9_remembers 12 = .ok (.sipush 3528, 3) := dk_17 13 200 (dk_at dksX9_remembers_0 12 rfl rfl)
theorem dX9_remembers_15 : decode cX9_remembers 15 = .ok (.if_icmp .ge 25, 3) := dk_162 0 25 (dk_at dksX9_remembers_0 15 rfl rfl)
theorem dX9_remembers_18 : decode cX9_remembers 18 = .ok (.aload_n 0, 1) := dk_42 (dk_at dksX9_remembers_0 18 rfl rfl)
theorem dX9_remembers_19 : decode cX9_remembers 19 = .ok (.getfield 19, 3) := dk_180 0 19 (dk_at dksX9_remembers_0 19 rfl rfl)
theorem dX9_remembers_22 : decode cX9_remembers 22 = .ok (.iload_n 1, 1) := dk_27 (dk_at dksX9_remembers_0 22 rfl rfl)
theorem dX9_remembers_23 : decode cX9_remembers 23 = .ok (.aload_n 0, 1) := dk_42 (dk_at dksX9_remembers_0 23 rfl rfl)
theorem dX9_remembers_24 : decode cX9_remembers 24 = .ok (.getfield 19, 3) := dk_180 0 19 (dk_at dksX9_remembers_1 0 rfl rfl)
theorem dX9_remembers_27 : decode cX9_remembers 27 = .ok (.iload_n 1, 1) := dk_27 (dk_at dksX9_remembers_1 3 rfl rfl)
theorem dX9_remembers_28 : decode cX9_remembers 28 = .ok (.sipush 504, 3) := dk_17 1 248 (dk_at dksX9_remembers_1 4 rfl rfl)
theorem dX9_remembers_31 : decode cX9_remembers 31 = .ok (.iadd, 1) := dk_96 (dk_at dksX9_remembers_1 7 rfl rfl)
theorem dX9_remembers_32 : decode cX9_remembers 32 = .ok (.iaload, 1) := dk_46 (dk_at dksX9_remembers_1 8 rfl rfl)
theorem dX9_remembers_33 : decode cX9_remembers 33 = .ok (.iastore, 1) := dk_79 (dk_at dksX9_remembers_1 9 rfl rfl)
theorem dX9_remembers_34 : decode cX9_remembers 34 = .ok (.iinc 1 1, 3) := dk_132 1 1 (dk_at dksX9_remembers_1 10 rfl rfl)
theorem dX9_remembers_37 : decode cX9_remembers 37 = .ok (.goto (-26), 3) := dk_167 255 230 (dk_at dksX9_remembers_1 13 rfl rfl)
theorem dX9_remembers_40 : decode cX9_remembers 40 = .ok (.aload_n 0, 1) := dk_42 (dk_at dksX9_remembers_1 16 rfl rfl)
theorem dX9_remembers_41 : decode cX9_remembers 41 = .ok (.dup, 1) := dk_89 (dk_at dksX9_remembers_1 17 rfl rfl)
theorem dX9_remembers_42 : decode cX9_remembers 42 = .ok (.getfield 158, 3) := dk_180 0 158 (dk_at dksX9_remembers_1 18 rfl rfl)
theorem dX9_remembers_45 : decode cX9_remembers 45 = .ok (.iconst 1, 1) := dk_4 (dk_at dksX9_remembers_1 21 rfl rfl)
theorem dX9_remembers_46 : decode cX9_remembers 46 = .ok (.isub, 1) := dk_100 (dk_at dksX9_remembers_1 22 rfl rfl)
theorem dX9_remembers_47 : decode cX9_remembers 47 = .ok (.putfield 158, 3) := dk_181 0 158 (dk_at dksX9_remembers_2 0 rfl rfl)
theorem dX9_remembers_50 : decode cX9_remembers 50 = .ok (.aload_n 0, 1) := dk_42 (dk_at dksX9_remembers_2 3 rfl rfl)
theorem dX9_remembers_51 : decode cX9_remembers 51 = .ok (.getfield 7, 3) := dk_180 0 7 (dk_at dksX9_remembers_2 4 rfl rfl)
theorem dX9_remembers_54 : decode cX9_remembers 54 = .ok (.iconst 0, 1) := dk_3 (dk_at dksX9_remembers_2 7 rfl rfl)
theorem dX9_remembers_55 : decode cX9_remembers 55 = .ok (.aload_n 0, 1) := dk_42 (dk_at dksX9_remembers_2 8 rfl rfl)
theorem dX9_remembers_56 : decode cX9_remembers 56 = .ok (.getfield 19, 3) := dk_180 0 19 (dk_at dksX9_remembers_2 9 rfl rfl)
theorem dX9_remembers_59 : decode cX9_remembers 59 = .ok (.sipush 504, 3) := dk_17 1 248 (dk_at dksX9_remembers_2 12 rfl rfl)
theorem dX9_remembers_62 : decode cX9_remembers 62 = .ok (.aload_n 0, 1) := dk_42 (dk_at dksX9_remembers_2 15 rfl rfl)
theorem dX9_remembers_63 : decode cX9_remembers 63 = .ok (.getfield 158, 3) := dk_180 0 158 (dk_at dksX9_remembers_2 16 rfl rfl)
theorem dX9_remembers_66 : decode cX9_remembers 66 = .ok (.imul, 1) := dk_104 (dk_at dksX9_remembers_2 19 rfl rfl)
theorem dX9_remembers_67 : decode cX9_remembers 67 = .ok (.invokestatic 161, 3) := dk_184 0 161 (dk_at dksX9_remembers_2 20 rfl rfl)
theorem dX9_remembers_70 : decode cX9_remembers 70 = .ok (.aload_n 0, 1) := dk_42 (dk_at dksX9_remembers_2 23 rfl rfl)
theorem dX9_remembers_71 : decode cX9_remembers 71 = .ok (.dup, 1) := dk_89 (dk_at dksX9_remembers_3 0 rfl rfl)
theorem dX9_remembers_72 : decode cX9_remembers 72 = .ok (.getfield 158, 3) := dk_180 0 158 (dk_at dksX9_remembers_3 1 rfl rfl)
theorem dX9_remembers_75 : decode cX9_remembers 75 = .ok (.iconst 1, 1) := dk_4 (dk_at dksX9_remembers_3 4 rfl rfl)
theorem dX9_remembers_76 : decode cX9_remembers 76 = .ok (.iadd, 1) := dk_96 (dk_at dksX9_remembers_3 5 rfl rfl)
theorem dX9_remembers_77 : decode cX9_remembers 77 = .ok (.putfield 158, 3) := dk_181 0 158 (dk_at dksX9_remembers_3 6 rfl rfl)
theorem dX9_remembers_80 : decode cX9_remembers 80 = .ok (.return_, 1) := dk_177 (dk_at dksX9_remembers_3 9 rfl rfl)
abbrev cX9_does : ByteArray := prog_41_method_74_code
def yX9_does : MethodName := ⟨RX9, "does", "(I)Z"⟩
def dkwX9_does_5 : List UInt8 := [167, 0, 4, 3, 172, 42, 182, 1, 98, 155, 0, 7, 4, 167, 0, 4, 3, 172]
abbrev dktX9_does_5 : List UInt8 := dkwX9_does_5 ++ []
def dkwX9_does_4 : List UInt8 := [28, 29, 182, 1, 92, 155, 0, 7, 4, 167, 0, 4, 3, 172, 42, 182, 1, 95, 155, 0, 7, 4]
abbrev dktX9_does_4 : List UInt8 := dkwX9_does_4 ++ dktX9_does_5
def dkwX9_does_3 : List UInt8 := [42, 28, 182, 1, 86, 155, 0, 7, 4, 167, 0, 4, 3, 172, 42, 28, 29, 182, 1, 89, 153, 0, 16, 42]
abbrev dktX9_does_3 : List UInt8 := dkwX9_does_3 ++ dktX9_does_4
def dkwX9_does_2 : List UInt8 := [170, 0, 0, 0, 0, 77, 0, 0, 0, 1, 0, 0, 0, 3, 0, 0, 0, 26, 0, 0, 0, 40, 0, 0, 0, 64]
abbrev dktX9_does_2 : List UInt8 := dkwX9_does_2 ++ dktX9_does_3
def dkwX9_does_1 : List UInt8 := [27, 46]
abbrev dktX9_does_1 : List UInt8 := dkwX9_does_1 ++ dktX9_does_2
def dkwX9_does_0 : List UInt8 := [42, 180, 0, 41, 5, 27, 104, 46, 61, 42, 180, 0, 41, 5, 27, 104, 4, 96, 46, 62, 42, 180, 0, 38]
abbrev dktX9_does_0 : List UInt8 := dkwX9_does_0 ++ dktX9_does_1
theorem dksX9_does_0 : cX9_does.data.toList.drop 0 = dktX9_does_0 := by decide +kernel
theorem dksX9_does_1 : cX9_does.data.toList.drop 24 = dktX9_does_1 := dk_seg dksX9_does_0 24 rfl rfl
theorem dksX9_does_2 : cX9_does.data.toList.drop 26 = dktX9_does_2 := dk_seg dksX9_does_1 2 rfl rfl
theorem dksX9_does_3 : cX9_does.data.toList.drop 52 = dktX9_does_3 := dk_seg dksX9_does_2 26 rfl rfl
theorem dksX9_does_4 : cX9_does.data.toList.drop 76 = dktX9_does_4 := dk_seg dksX9_does_3 24 rfl rfl
theorem dksX9_does_5 : cX9_does.data.toList.drop 98 = dktX9_does_5 := dk_seg dksX9_does_4 22 rfl rfl
theorem dX9_does_0 : decode cX9_does 0 = .ok (.aload_n 0, 1) := dk_42 (dk_at dksX9_does_0 0 rfl rfl)
theorem dX9_does_1 : decode cX9_does 1 = .ok (.getfield 41, 3) := dk_180 0 41 (dk_at dksX9_does_0 1 rfl rfl)
theorem dX9_does_4 : decode cX9_does 4 = .ok (.iconst 2, 1) := dk_5 (dk_at dksX9_does_0 4 rfl rfl)
theorem dX9_does_5 : decode cX9_does 5 = .ok (.iload_n 1, 1) := dk_27 (dk_at dksX9_does_0 5 rfl rfl)
theorem dX9_does_6 : decode cX9_does 6 = .ok (.imul, 1) := dk_104 (dk_at dksX9_does_0 6 rfl rfl)
theorem dX9_does_7 : decode cX9_does 7 = .ok (.iaload, 1) := dk_46 (dk_at dksX9_does_0 7 rfl rfl)
theorem dX9_does_8 : decode cX9_does 8 = .ok (.istore_n 2, 1) := dk_61 (dk_at dksX9_does_0 8 rfl rfl)
theorem dX9_does_9 : decode cX9_does 9 = .ok (.aload_n 0, 1) := dk_42 (dk_at dksX9_does_0 9 rfl rfl)
theorem dX9_does_10 : decode cX9_does 10 = .ok (.getfield 41, 3) := dk_180 0 41 (dk_at dksX9_does_0 10 rfl rfl)
theorem dX9_does_13 : decode cX9_does 13 = .ok (.iconst 2, 1) := dk_5 (dk_at dksX9_does_0 13 rfl rfl)
theorem dX9_does_14 : decode cX9_does 14 = .ok (.iload_n 1, 1) := dk_27 (dk_at dksX9_does_0 14 rfl rfl)
theorem dX9_does_15 : decode cX9_does 15 = .ok (.imul, 1) := dk_104 (dk_at dksX9_does_0 15 rfl rfl)
theorem dX9_does_16 : decode cX9_does 16 = .ok (.iconst 1, 1) := dk_4 (dk_at dksX9_does_0 16 rfl rfl)
theorem dX9_does_17 : decode cX9_does 17 = .ok (.iadd, 1) := dk_96 (dk_at dksX9_does_0 17 rfl rfl)
theorem dX9_does_18 : decode cX9_does 18 = .ok (.iaload, 1) := dk_46 (dk_at dksX9_does_0 18 rfl rfl)
theorem dX9_does_19 : decode cX9_does 19 = .ok (.istore_n 3, 1) := dk_62 (dk_at dksX9_does_0 19 rfl rfl)
theorem dX9_does_20 : decode cX9_does 20 = .ok (.aload_n 0, 1) := dk_42 (dk_at dksX9_does_0 20 rfl rfl)
theorem dX9_does_21 : decode cX9_does 21 = .ok (.getfield 38, 3) := dk_180 0 38 (dk_at dksX9_does_0 21 rfl rfl)
theorem dX9_does_24 : decode cX9_does 24 = .ok (.iload_n 1, 1) := dk_27 (dk_at dksX9_does_1 0 rfl rfl)
theorem dX9_does_25 : decode cX9_does 25 = .ok (.iaload, 1) := dk_46 (dk_at dksX9_does_1 1 rfl rfl)
theorem dX9_does_26 : decode cX9_does 26 = .ok (.tableswitch 77 1 3 #[26, 40, 64], 26) := by decide +kernel
theorem dX9_does_52 : decode cX9_does 52 = .ok (.aload_n 0, 1) := dk_42 (dk_at dksX9_does_3 0 rfl rfl)
theorem dX9_does_53 : decode cX9_does 53 = .ok (.iload_n 2, 1) := dk_28 (dk_at dksX9_does_3 1 rfl rfl)
theorem dX9_does_54 : decode cX9_does 54 = .ok (.invokevirtual 342, 3) := dk_182 1 86 (dk_at dksX9_does_3 2 rfl rfl)
theorem dX9_does_57 : decode cX9_does 57 = .ok (.ifCond .lt 7, 3) := dk_155 0 7 (dk_at dksX9_does_3 5 rfl rfl)
theorem dX9_does_60 : decode cX9_does 60 = .ok (.iconst 1, 1) := dk_4 (dk_at dksX9_does_3 8 rfl rfl)
theorem dX9_does_61 : decode cX9_does 61 = .ok (.goto 4, 3) := dk_167 0 4 (dk_at dksX9_does_3 9 rfl rfl)
theorem dX9_does_64 : decode cX9_does 64 = .ok (.iconst 0, 1) := dk_3 (dk_at dksX9_does_3 12 rfl rfl)
theorem dX9_does_65 : decode cX9_does 65 = .ok (.ireturn, 1) := dk_172 (dk_at dksX9_does_3 13 rfl rfl)
theorem dX9_does_66 : decode cX9_does 66 = .ok (.aload_n 0, 1) := dk_42 (dk_at dksX9_does_3 14 rfl rfl)
theorem dX9_does_67 : decode cX9_does 67 = .ok (.iload_n 2, 1) := dk_28 (dk_at dksX9_does_3 15 rfl rfl)
theorem dX9_does_68 : decode cX9_does 68 = .ok (.iload_n 3, 1) := dk_29 (dk_at dksX9_does_3 16 rfl rfl)
theorem dX9_does_69 : decode cX9_does 69 = .ok (.invokevirtual 345, 3) := dk_182 1 89 (dk_at dksX9_does_3 17 rfl rfl)
theorem dX9_does_72 : decode cX9_does 72 = .ok (.ifCond .eq 16, 3) := dk_153 0 16 (dk_at dksX9_does_3 20 rfl rfl)
theorem dX9_does_75 : decode cX9_does 75 = .ok (.aload_n 0, 1) := dk_42 (dk_at dksX9_does_3 23 rfl rfl)
theorem dX9_does_76 : decode cX9_does 76 = .ok (.iload_n 2, 1) := dk_28 (dk_at dksX9_does_4 0 rfl rfl)
theorem dX9_does_77 : decode cX9_does 77 = .ok (.iload_n 3, 1) := dk_29 (dk_at dksX9_does_4 1 rfl rfl)
theorem dX9_does_78 : decode cX9_does 78 = .ok (.invokevirtual 348, 3) := dk_182 1 92 (dk_at dksX9_does_4 2 rfl rfl)
theorem dX9_does_81 : decode cX9_does 81 = .ok (.ifCond .lt 7, 3) := dk_155 0 7 (dk_at dksX9_does_4 5 rfl rfl)
theorem dX9_does_84 : decode cX9_does 84 = .ok (.iconst 1, 1) := dk_4 (dk_at dksX9_does_4 8 rfl rfl)
theorem dX9_does_85 : decode cX9_does 85 = .ok (.goto 4, 3) := dk_167 0 4 (dk_at dksX9_does_4 9 rfl rfl)
theorem dX9_does_88 : decode cX9_does 88 = .ok (.iconst 0, 1) := dk_3 (dk_at dksX9_does_4 12 rfl rfl)
theorem dX9_does_89 : decode cX9_does 89 = .ok (.ireturn, 1) := dk_172 (dk_at dksX9_does_4 13 rfl rfl)
theorem dX9_does_90 : decode cX9_does 90 = .ok (.aload_n 0, 1) := dk_42 (dk_at dksX9_does_4 14 rfl rfl)
theorem dX9_does_91 : decode cX9_does 91 = .ok (.invokevirtual 351, 3) := dk_182 1 95 (dk_at dksX9_does_4 15 rfl rfl)
theorem dX9_does_94 : decode cX9_does 94 = .ok (.ifCond .lt 7, 3) := dk_155 0 7 (dk_at dksX9_does_4 18 rfl rfl)
theorem dX9_does_97 : decode cX9_does 97 = .ok (.iconst 1, 1) := dk_4 (dk_at dksX9_does_4 21 rfl rfl)
theorem dX9_does_98 : decode cX9_does 98 = .ok (.goto 4, 3) := dk_167 0 4 (dk_at dksX9_does_5 0 rfl rfl)
theorem dX9_does_101 : decode cX9_does 101 = .ok (.iconst 0, 1) := dk_3 (dk_at dksX9_does_5 3 rfl rfl)
theorem dX9_does_102 : decode cX9_does 102 = .ok (.ireturn, 1) := dk_172 (dk_at dksX9_does_5 4 rfl rfl)
theorem dX9_does_103 : decode cX9_does 103 = .ok (.aload_n 0, 1) := dk_42 (dk_at dksX9_does_5 5 rfl rfl)
theorem dX9_does_104 : decode cX9_does 104 = .ok (.invokevirtual 354, 3) := dk_182 1 98 (dk_at dksX9_does_5 6 rfl rfl)
theorem dX9_does_107 : decode cX9_does 107 = .ok (.ifCond .lt 7, 3) := dk_155 0 7 (dk_at dksX9_does_5 9 rfl rfl)
theorem dX9_does_110 : decode cX9_does 110 = .ok (.iconst 1, 1) := dk_4 (dk_at dksX9_does_5 12 rfl rfl)
theorem dX9_does_111 : decode cX9_does 111 = .ok (.goto 4, 3) := dk_167 0 4 (dk_at dksX9_does_5 13 rfl rfl)
theorem dX9_does_114 : decode cX9_does 114 = .ok (.iconst 0, 1) := dk_3 (dk_at dksX9_does_5 16 rfl rfl)
theorem dX9_does_115 : decode cX9_does 115 = .ok (.ireturn, 1) := dk_172 (dk_at dksX9_does_5 17 rfl rfl)
abbrev cX9_fires : ByteArray := prog_41_method_36_code
def yX9_fires : MethodName := ⟨RX9, "fires", "(I)I"⟩
def dkwX9_fires_5 : List UInt8 := [180, 0, 7, 8, 46, 96, 92, 46, 4, 96, 79, 42, 27, 42, 180, 0, 112, 182, 0, 155, 28, 172]
abbrev dktX9_fires_5 : List UInt8 := dkwX9_fires_5 ++ []
def dkwX9_fires_4 : List UInt8 := [79, 42, 180, 0, 7, 16, 69, 42, 180, 0, 112, 96, 92, 46, 4, 96, 79, 42, 180, 0, 7, 16, 59, 42]
abbrev dktX9_fires_4 : List UInt8 := dkwX9_fires_4 ++ dktX9_fires_5
def dkwX9_fires_3 : List UInt8 := [180, 0, 118, 29, 184, 0, 88, 79, 132, 3, 1, 167, 255, 231, 42, 180, 0, 7, 16, 12, 92, 46, 4, 96]
abbrev dktX9_fires_3 : List UInt8 := dkwX9_fires_3 ++ dktX9_fires_4
def dkwX9_fires_2 : List UInt8 := [180, 0, 118, 184, 0, 99, 79, 3, 62, 29, 6, 162, 0, 26, 42, 180, 0, 7, 16, 6, 29, 96, 42]
abbrev dktX9_fires_2 : List UInt8 := dkwX9_fires_2 ++ dktX9_fires_3
def dkwX9_fires_1 : List UInt8 := [4, 96, 79, 42, 180, 0, 7, 16, 17, 92, 46, 4, 96, 79, 28, 172, 42, 180, 0, 7, 8, 42]
abbrev dktX9_fires_1 : List UInt8 := dkwX9_fires_1 ++ dktX9_fires_2
def dkwX9_fires_0 : List UInt8 := [42, 42, 182, 0, 151, 27, 182, 0, 137, 61, 28, 153, 0, 29, 42, 180, 0, 7, 16, 12, 28, 96, 92, 46]
abbrev dktX9_fires_0 : List UInt8 := dkwX9_fires_0 ++ dktX9_fires_1
theorem dksX9_fires_0 : cX9_fires.data.toList.drop 0 = dktX9_fires_0 := by decide +kernel
theorem dksX9_fires_1 : cX9_fires.data.toList.drop 24 = dktX9_fires_1 := dk_seg dksX9_fires_0 24 rfl rfl
theorem dksX9_fires_2 : cX9_fires.data.toList.drop 46 = dktX9_fires_2 := dk_seg dksX9_fires_1 22 rfl rfl
theorem dksX9_fires_3 : cX9_fires.data.toList.drop 69 = dktX9_fires_3 := dk_seg dksX9_fires_2 23 rfl rfl
theorem dksX9_fires_4 : cX9_fires.data.toList.drop 93 = dktX9_fires_4 := dk_seg dksX9_fires_3 24 rfl rfl
theorem dksX9_fires_5 : cX9_fires.data.toList.drop 117 = dktX9_fires_5 := dk_seg dksX9_fires_4 24 rfl rfl
theorem dX9_fires_0 : decode cX9_fires 0 = .ok (.aload_n 0, 1) := dk_42 (dk_at dksX9_fires_0 0 rfl rfl)
theorem dX9_fires_1 : decode cX9_fires 1 = .ok (.aload_n 0, 1) := dk_42 (dk_at dksX9_fires_0 1 rfl rfl)
theorem dX9_fires_2 : decode cX9_fires 2 = .ok (.invokevirtual 151, 3) := dk_182 0 151 (dk_at dksX9_fires_0 2 rfl rfl)
theorem dX9_fires_5 : decode cX9_fires 5 = .ok (.iload_n 1, 1) := dk_27 (dk_at dksX9_fires_0 5 rfl rfl)
theorem dX9_fires_6 : decode cX9_fires 6 = .ok (.invokevirtual 137, 3) := dk_182 0 137 (dk_at dksX9_fires_0 6 rfl rfl)
theorem dX9_fires_9 : decode cX9_fires 9 = .ok (.istore_n 2, 1) := dk_61 (dk_at dksX9_fires_0 9 rfl rfl)
theorem dX9_fires_10 : decode cX9_fires 10 = .ok (.iload_n 2, 1) := dk_28 (dk_at dksX9_fires_0 10 rfl rfl)
theorem dX9_fires_11 : decode cX9_fires 11 = .ok (.ifCond .eq 29, 3) := dk_153 0 29 (dk_at dksX9_fires_0 11 rfl rfl)
theorem dX9_fires_14 : decode cX9_fires 14 = .ok (.aload_n 0, 1) := dk_42 (dk_at dksX9_fires_0 14 rfl rfl)
theorem dX9_fires_15 : decode cX9_fires 15 = .ok (.getfield 7, 3) := dk_180 0 7 (dk_at dksX9_fires_0 15 rfl rfl)
theorem dX9_fires_18 : decode cX9_fires 18 = .ok (.bipush 12, 2) := dk_16 12 (dk_at dksX9_fires_0 18 rfl rfl)
theorem dX9_fires_20 : decode cX9_fires 20 = .ok (.iload_n 2, 1) := dk_28 (dk_at dksX9_fires_0 20 rfl rfl)
theorem dX9_fires_21 : decode cX9_fires 21 = .ok (.iadd, 1) := dk_96 (dk_at dksX9_fires_0 21 rfl rfl)
theorem dX9_fires_22 : decode cX9_fires 22 = .ok (.dup2, 1) := dk_92 (dk_at dksX9_fires_0 22 rfl rfl)
theorem dX9_fires_23 : decode cX9_fires 23 = .ok (.iaload, 1) := dk_46 (dk_at dksX9_fires_0 23 rfl rfl)
theorem dX9_fires_24 : decode cX9_fires 24 = .ok (.iconst 1, 1) := dk_4 (dk_at dksX9_fires_1 0 rfl rfl)
theorem dX9_fires_25 : decode cX9_fires 25 = .ok (.iadd, 1) := dk_96 (dk_at dksX9_fires_1 1 rfl rfl)
theorem dX9_fires_26 : decode cX9_fires 26 = .ok (.iastore, 1) := dk_79 (dk_at dksX9_fires_1 2 rfl rfl)
theorem dX9_fires_27 : decode cX9_fires 27 = .ok (.aload_n 0, 1) := dk_42 (dk_at dksX9_fires_1 3 rfl rfl)
theorem dX9_fires_28 : decode cX9_fires 28 = .ok (.getfield 7, 3) := dk_180 0 7 (dk_at dksX9_fires_1 4 rfl rfl)
theorem dX9_fires_31 : decode cX9_fires 31 = .ok (.bipush 17, 2) := dk_16 17 (dk_at dksX9_fires_1 7 rfl rfl)
theorem dX9_fires_33 : decode cX9_fires 33 = .ok (.dup2, 1) := dk_92 (dk_at dksX9_fires_1 9 rfl rfl)
theorem dX9_fires_34 : decode cX9_fires 34 = .ok (.iaload, 1) := dk_46 (dk_at dksX9_fires_1 10 rfl rfl)
theorem dX9_fires_35 : decode cX9_fires 35 = .ok (.iconst 1, 1) := dk_4 (dk_at dksX9_fires_1 11 rfl rfl)
theorem dX9_fires_36 : decode cX9_fires 36 = .ok (.iadd, 1) := dk_96 (dk_at dksX9_fires_1 12 rfl rfl)
theorem dX9_fires_37 : decode cX9_fires 37 = .ok (.iastore, 1) := dk_79 (dk_at dksX9_fires_1 13 rfl rfl)
theorem dX9_fires_38 : decode cX9_fires 38 = .ok (.iload_n 2, 1) := dk_28 (dk_at dksX9_fires_1 14 rfl rfl)
theorem dX9_fires_39 : decode cX9_fires 39 = .ok (.ireturn, 1) := dk_172 (dk_at dksX9_fires_1 15 rfl rfl)
theorem dX9_fires_40 : decode cX9_fires 40 = .ok (.aload_n 0, 1) := dk_42 (dk_at dksX9_fires_1 16 rfl rfl)
theorem dX9_fires_41 : decode cX9_fires 41 = .ok (.getfield 7, 3) := dk_180 0 7 (dk_at dksX9_fires_1 17 rfl rfl)
theorem dX9_fires_44 : decode cX9_fires 44 = .ok (.iconst 5, 1) := dk_8 (dk_at dksX9_fires_1 20 rfl rfl)
theorem dX9_fires_45 : decode cX9_fires 45 = .ok (.aload_n 0, 1) := dk_42 (dk_at dksX9_fires_1 21 rfl rfl)
theorem dX9_fires_46 : decode cX9_fires 46 = .ok (.getfield 118, 3) := dk_180 0 118 (dk_at dksX9_fires_2 0 rfl rfl)
theorem dX9_fires_49 : decode cX9_fires 49 = .ok (.invokestatic 99, 3) := dk_184 0 99 (dk_at dksX9_fires_2 3 rfl rfl)
theorem dX9_fires_52 : decode cX9_fires 52 = .ok (.iastore, 1) := dk_79 (dk_at dksX9_fires_2 6 rfl rfl)
theorem dX9_fires_53 : decode cX9_fires 53 = .ok (.iconst 0, 1) := dk_3 (dk_at dksX9_fires_2 7 rfl rfl)
theorem dX9_fires_54 : decode cX9_fires 54 = .ok (.istore_n 3, 1) := dk_62 (dk_at dksX9_fires_2 8 rfl rfl)
theorem dX9_fires_55 : decode cX9_fires 55 = .ok (.iload_n 3, 1) := dk_29 (dk_at dksX9_fires_2 9 rfl rfl)
theorem dX9_fires_56 : decode cX9_fires 56 = .ok (.iconst 3, 1) := dk_6 (dk_at dksX9_fires_2 10 rfl rfl)
theorem dX9_fires_57 : decode cX9_fires 57 = .ok (.if_icmp .ge 26, 3) := dk_162 0 26 (dk_at dksX9_fires_2 11 rfl rfl)
theorem dX9_fires_60 : decode cX9_fires 60 = .ok (.aload_n 0, 1) := dk_42 (dk_at dksX9_fires_2 14 rfl rfl)
theorem dX9_fires_61 : decode cX9_fires 61 = .ok (.getfield 7, 3) := dk_180 0 7 (dk_at dksX9_fires_2 15 rfl rfl)
theorem dX9_fires_64 : decode cX9_fires 64 = .ok (.bipush 6, 2) := dk_16 6 (dk_at dksX9_fires_2 18 rfl rfl)
theorem dX9_fires_66 : decode cX9_fires 66 = .ok (.iload_n 3, 1) := dk_29 (dk_at dksX9_fires_2 20 rfl rfl)
theorem dX9_fires_67 : decode cX9_fires 67 = .ok (.iadd, 1) := dk_96 (dk_at dksX9_fires_2 21 rfl rfl)
theorem dX9_fires_68 : decode cX9_fires 68 = .ok (.aload_n 0, 1) := dk_42 (dk_at dksX9_fires_2 22 rfl rfl)
theorem dX9_fires_69 : decode cX9_fires 69 = .ok (.getfield 118, 3) := dk_180 0 118 (dk_at dksX9_fires_3 0 rfl rfl)
theorem dX9_fires_72 : decode cX9_fires 72 = .ok (.iload_n 3, 1) := dk_29 (dk_at dksX9_fires_3 3 rfl rfl)
theorem dX9_fires_73 : decode cX9_fires 73 = .ok (.invokestatic 88, 3) := dk_184 0 88 (dk_at dksX9_fires_3 4 rfl rfl)
theorem dX9_fires_76 : decode cX9_fires 76 = .ok (.iastore, 1) := dk_79 (dk_at dksX9_fires_3 7 rfl rfl)
theorem dX9_fires_77 : decode cX9_fires 77 = .ok (.iinc 3 1, 3) := dk_132 3 1 (dk_at dksX9_fires_3 8 rfl rfl)
theorem dX9_fires_80 : decode cX9_fires 80 = .ok (.goto (-25), 3) := dk_167 255 231 (dk_at dksX9_fires_3 11 rfl rfl)
theorem dX9_fires_83 : decode cX9_fires 83 = .ok (.aload_n 0, 1) := dk_42 (dk_at dksX9_fires_3 14 rfl rfl)
theorem dX9_fires_84 : decode cX9_fires 84 = .ok (.getfield 7, 3) := dk_180 0 7 (dk_at dksX9_fires_3 15 rfl rfl)
theorem dX9_fires_87 : decode cX9_fires 87 = .ok (.bipush 12, 2) := dk_16 12 (dk_at dksX9_fires_3 18 rfl rfl)
theorem dX9_fires_89 : decode cX9_fires 89 = .ok (.dup2, 1) := dk_92 (dk_at dksX9_fires_3 20 rfl rfl)
theorem dX9_fires_90 : decode cX9_fires 90 = .ok (.iaload, 1) := dk_46 (dk_at dksX9_fires_3 21 rfl rfl)
theorem dX9_fires_91 : decode cX9_fires 91 = .ok (.iconst 1, 1) := dk_4 (dk_at dksX9_fires_3 22 rfl rfl)
theorem dX9_fires_92 : decode cX9_fires 92 = .ok (.iadd, 1) := dk_96 (dk_at dksX9_fires_3 23 rfl rfl)
theorem dX9_fires_93 : decode cX9_fires 93 = .ok (.iastore, 1) := dk_79 (dk_at dksX9_fires_4 0 rfl rfl)
theorem dX9_fires_94 : decode cX9_fires 94 = .ok (.aload_n 0, 1) := dk_42 (dk_at dksX9_fires_4 1 rfl rfl)
theorem dX9_fires_95 : decode cX9_fires 95 = .ok (.getfield 7, 3) := dk_180 0 7 (dk_at dksX9_fires_4 2 rfl rfl)
theorem dX9_fires_98 : decode cX9_fires 98 = .ok (.bipush 69, 2) := dk_16 69 (dk_at dksX9_fires_4 5 rfl rfl)
theorem dX9_fires_100 : decode cX9_fires 100 = .ok (.aload_n 0, 1) := dk_42 (dk_at dksX9_fires_4 7 rfl rfl)
theorem dX9_fires_101 : decode cX9_fires 101 = .ok (.getfield 112, 3) := dk_180 0 112 (dk_at dksX9_fires_4 8 rfl rfl)
theorem dX9_fires_104 : decode cX9_fires 104 = .ok (.iadd, 1) := dk_96 (dk_at dksX9_fires_4 11 rfl rfl)
theorem dX9_fires_105 : decode cX9_fires 105 = .ok (.dup2, 1) := dk_92 (dk_at dksX9_fires_4 12 rfl rfl)
theorem dX9_fires_106 : decode cX9_fires 106 = .ok (.iaload, 1) := dk_46 (dk_at dksX9_fires_4 13 rfl rfl)
theorem dX9_fires_107 : decode cX9_fires 107 = .ok (.iconst 1, 1) := dk_4 (dk_at dksX9_fires_4 14 rfl rfl)
theorem dX9_fires_108 : decode cX9_fires 108 = .ok (.iadd, 1) := dk_96 (dk_at dksX9_fires_4 15 rfl rfl)
theorem dX9_fires_109 : decode cX9_fires 109 = .ok (.iastore, 1) := dk_79 (dk_at dksX9_fires_4 16 rfl rfl)
theorem dX9_fires_110 : decode cX9_fires 110 = .ok (.aload_n 0, 1) := dk_42 (dk_at dksX9_fires_4 17 rfl rfl)
theorem dX9_fires_111 : decode cX9_fires 111 = .ok (.getfield 7, 3) := dk_180 0 7 (dk_at dksX9_fires_4 18 rfl rfl)
theorem dX9_fires_114 : decode cX9_fires 114 = .ok (.bipush 59, 2) := dk_16 59 (dk_at dksX9_fires_4 21 rfl rfl)
theorem dX9_fires_116 : decode cX9_fires 116 = .ok (.aload_n 0, 1) := dk_42 (dk_at dksX9_fires_4 23 rfl rfl)
theorem dX9_fires_117 : decode cX9_fires 117 = .ok (.getfield 7, 3) := dk_180 0 7 (dk_at dksX9_fires_5 0 rfl rfl)
theorem dX9_fires_120 : decode cX9_fires 120 = .ok (.iconst 5, 1) := dk_8 (dk_at dksX9_fires_5 3 rfl rfl)
theorem dX9_fires_121 : decode cX9_fires 121 = .ok (.iaload, 1) := dk_46 (dk_at dksX9_fires_5 4 rfl rfl)
theorem dX9_fires_122 : decode cX9_fires 122 = .ok (.iadd, 1) := dk_96 (dk_at dksX9_fires_5 5 rfl rfl)
theorem dX9_fires_123 : decode cX9_fires 123 = .ok (.dup2, 1) := dk_92 (dk_at dksX9_fires_5 6 rfl rfl)
theorem dX9_fires_124 : decode cX9_fires 124 = .ok (.iaload, 1) := dk_46 (dk_at dksX9_fires_5 7 rfl rfl)
theorem dX9_fires_125 : decode cX9_fires 125 = .ok (.iconst 1, 1) := dk_4 (dk_at dksX9_fires_5 8 rfl rfl)
theorem dX9_fires_126 : decode cX9_fires 126 = .ok (.iadd, 1) := dk_96 (dk_at dksX9_fires_5 9 rfl rfl)
theorem dX9_fires_127 : decode cX9_fires 127 = .ok (.iastore, 1) := dk_79 (dk_at dksX9_fires_5 10 rfl rfl)
theorem dX9_fires_128 : decode cX9_fires 128 = .ok (.aload_n 0, 1) := dk_42 (dk_at dksX9_fires_5 11 rfl rfl)
theorem dX9_fires_129 : decode cX9_fires 129 = .ok (.iload_n 1, 1) := dk_27 (dk_at dksX9_fires_5 12 rfl rfl)
theorem dX9_fires_130 : decode cX9_fires 130 = .ok (.aload_n 0, 1) := dk_42 (dk_at dksX9_fires_5 13 rfl rfl)
theorem dX9_fires_131 : decode cX9_fires 131 = .ok (.getfield 112, 3) := dk_180 0 112 (dk_at dksX9_fires_5 14 rfl rfl)
theorem dX9_fires_134 : decode cX9_fires 134 = .ok (.invokevirtual 155, 3) := dk_182 0 155 (dk_at dksX9_fires_5 17 rfl rfl)
theorem dX9_fires_137 : decode cX9_fires 137 = .ok (.iload_n 2, 1) := dk_28 (dk_at dksX9_fires_5 20 rfl rfl)
theorem dX9_fires_138 : decode cX9_fires 138 = .ok (.ireturn, 1) := dk_172 (dk_at dksX9_fires_5 21 rfl rfl)
abbrev cX9_here : ByteArray := prog_41_method_17_code
def yX9_here : MethodName := ⟨RX9, "here", "()I"⟩
def dkwX9_here_1 : List UInt8 := [16, 7, 46, 104, 96, 16, 100, 42, 180, 0, 7, 16, 8, 46, 104, 96, 172]
abbrev dktX9_here_1 : List UInt8 := dkwX9_here_1 ++ []
def dkwX9_here_0 : List UInt8 := [17, 3, 232, 42, 180, 0, 7, 8, 46, 104, 42, 180, 0, 7, 16, 6, 46, 96, 16, 10, 42, 180, 0, 7]
abbrev dktX9_here_0 : List UInt8 := dkwX9_here_0 ++ dktX9_here_1
theorem dksX9_here_0 : cX9_here.data.toList.drop 0 = dktX9_here_0 := by decide +kernel
theorem dksX9_here_1 : cX9_here.data.toList.drop 24 = dktX9_here_1 := dk_seg dksX9_here_0 24 rfl rfl
theorem dX9_here_0 : decode cX9_here 0 = .ok (.sipush 1000, 3) := dk_17 3 232 (dk_at dksX9_here_0 0 rfl rfl)
theorem dX9_here_3 : decode cX9_here 3 = .ok (.aload_n 0, 1) := dk_42 (dk_at dksX9_here_0 3 rfl rfl)
theorem dX9_here_4 : decode cX9_here 4 = .ok (.getfield 7, 3) := dk_180 0 7 (dk_at dksX9_here_0 4 rfl rfl)
theorem dX9_here_7 : decode cX9_here 7 = .ok (.iconst 5, 1) := dk_8 (dk_at dksX9_here_0 7 rfl rfl)
theorem dX9_here_8 : decode cX9_here 8 = .ok (.iaload, 1) := dk_46 (dk_at dksX9_here_0 8 rfl rfl)
theorem dX9_here_9 : decode cX9_here 9 = .ok (.imul, 1) := dk_104 (dk_at dksX9_here_0 9 rfl rfl)
theorem dX9_here_10 : decode cX9_here 10 = .ok (.aload_n 0, 1) := dk_42 (dk_at dksX9_here_0 10 rfl rfl)
theorem dX9_here_11 : decode cX9_here 11 = .ok (.getfield 7, 3) := dk_180 0 7 (dk_at dksX9_here_0 11 rfl rfl)
theorem dX9_here_14 : decode cX9_here 14 = .ok (.bipush 6, 2) := dk_16 6 (dk_at dksX9_here_0 14 rfl rfl)
theorem dX9_here_16 : decode cX9_here 16 = .ok (.iaload, 1) := dk_46 (dk_at dksX9_here_0 16 rfl rfl)
theorem dX9_here_17 : decode cX9_here 17 = .ok (.iadd, 1) := dk_96 (dk_at dksX9_here_0 17 rfl rfl)
theorem dX9_here_18 : decode cX9_here 18 = .ok (.bipush 10, 2) := dk_16 10 (dk_at dksX9_here_0 18 rfl rfl)
theorem dX9_here_20 : decode cX9_here 20 = .ok (.aload_n 0, 1) := dk_42 (dk_at dksX9_here_0 20 rfl rfl)
theorem dX9_here_21 : decode cX9_here 21 = .ok (.getfield 7, 3) := dk_180 0 7 (dk_at dksX9_here_0 21 rfl rfl)
theorem dX9_here_24 : decode cX9_here 24 = .ok (.bipush 7, 2) := dk_16 7 (dk_at dksX9_here_1 0 rfl rfl)
theorem dX9_here_26 : decode cX9_here 26 = .ok (.iaload, 1) := dk_46 (dk_at dksX9_here_1 2 rfl rfl)
theorem dX9_here_27 : decode cX9_here 27 = .ok (.imul, 1) := dk_104 (dk_at dksX9_here_1 3 rfl rfl)
theorem dX9_here_28 : decode cX9_here 28 = .ok (.iadd, 1) := dk_96 (dk_at dksX9_here_1 4 rfl rfl)
theorem dX9_here_29 : decode cX9_here 29 = .ok (.bipush 100, 2) := dk_16 100 (dk_at dksX9_here_1 5 rfl rfl)
theorem dX9_here_31 : decode cX9_here 31 = .ok (.aload_n 0, 1) := dk_42 (dk_at dksX9_here_1 7 rfl rfl)
theorem dX9_here_32 : decode cX9_here 32 = .ok (.getfield 7, 3) := dk_180 0 7 (dk_at dksX9_here_1 8 rfl rfl)
theorem dX9_here_35 : decode cX9_here 35 = .ok (.bipush 8, 2) := dk_16 8 (dk_at dksX9_here_1 11 rfl rfl)
theorem dX9_here_37 : decode cX9_here 37 = .ok (.iaload, 1) := dk_46 (dk_at dksX9_here_1 13 rfl rfl)
theorem dX9_here_38 : decode cX9_here 38 = .ok (.imul, 1) := dk_104 (dk_at dksX9_here_1 14 rfl rfl)
theorem dX9_here_39 : decode cX9_here 39 = .ok (.iadd, 1) := dk_96 (dk_at dksX9_here_1 15 rfl rfl)
theorem dX9_here_40 : decode cX9_here 40 = .ok (.ireturn, 1) := dk_172 (dk_at dksX9_here_1 16 rfl rfl)
abbrev cX9_verdict : ByteArray := prog_41_method_30_code
def yX9_verdict : MethodName := ⟨RX9, "verdict", "(II)I"⟩
def dkwX9_verdict_5 : List UInt8 := [167, 0, 4, 3, 172]
abbrev dktX9_verdict_5 : List UInt8 := dkwX9_verdict_5 ++ []
def dkwX9_verdict_4 : List UInt8 := [21, 4, 21, 5, 184, 0, 130, 62, 42, 29, 181, 0, 118, 42, 29, 182, 0, 134, 2, 159, 0, 7, 7]
abbrev dktX9_verdict_4 : List UInt8 := dkwX9_verdict_4 ++ dktX9_verdict_5
def dkwX9_verdict_3 : List UInt8 := [21, 4, 184, 0, 88, 182, 0, 124, 54, 5, 21, 5, 3, 16, 9, 184, 0, 127, 154, 0, 5, 6, 172, 29]
abbrev dktX9_verdict_3 : List UInt8 := dkwX9_verdict_3 ++ dktX9_verdict_4
def dkwX9_verdict_2 : List UInt8 := [42, 180, 0, 112, 16, 6, 182, 0, 109, 54, 4, 21, 4, 2, 159, 0, 41, 42, 42, 180, 0, 112, 27]
abbrev dktX9_verdict_2 : List UInt8 := dkwX9_verdict_2 ++ dktX9_verdict_3
def dkwX9_verdict_1 : List UInt8 := [5, 172, 27, 17, 3, 232, 42, 42, 180, 0, 112, 5, 182, 0, 109, 27, 184, 0, 99, 100, 104, 96, 62, 42]
abbrev dktX9_verdict_1 : List UInt8 := dkwX9_verdict_1 ++ dktX9_verdict_2
def dkwX9_verdict_0 : List UInt8 := [42, 27, 181, 0, 118, 42, 27, 28, 182, 0, 121, 154, 0, 5, 4, 172, 42, 180, 0, 112, 2, 160, 0, 5]
abbrev dktX9_verdict_0 : List UInt8 := dkwX9_verdict_0 ++ dktX9_verdict_1
theorem dksX9_verdict_0 : cX9_verdict.data.toList.drop 0 = dktX9_verdict_0 := by decide +kernel
theorem dksX9_verdict_1 : cX9_verdict.data.toList.drop 24 = dktX9_verdict_1 := dk_seg dksX9_verdict_0 24 rfl rfl
theorem dksX9_verdict_2 : cX9_verdict.data.toList.drop 48 = dktX9_verdict_2 := dk_seg dksX9_verdict_1 24 rfl rfl
theorem dksX9_verdict_3 : cX9_verdict.data.toList.drop 71 = dktX9_verdict_3 := dk_seg dksX9_verdict_2 23 rfl rfl
theorem dksX9_verdict_4 : cX9_verdict.data.toList.drop 95 = dktX9_verdict_4 := dk_seg dksX9_verdict_3 24 rfl rfl
theorem dksX9_verdict_5 : cX9_verdict.data.toList.drop 118 = dktX9_verdict_5 := dk_seg dksX9_verdict_4 23 rfl rfl
theorem dX9_verdict_0 : decode cX9_verdict 0 = .ok (.aload_n 0, 1) := dk_42 (dk_at dksX9_verdict_0 0 rfl rfl)
theorem dX9_verdict_1 : decode cX9_verdict 1 = .ok (.iload_n 1, 1) := dk_27 (dk_at dksX9_verdict_0 1 rfl rfl)
theorem dX9_verdict_2 : decode cX9_verdict 2 = .ok (.putfield 118, 3) := dk_181 0 118 (dk_at dksX9_verdict_0 2 rfl rfl)
theorem dX9_verdict_5 : decode cX9_verdict 5 = .ok (.aload_n 0, 1) := dk_42 (dk_at dksX9_verdict_0 5 rfl rfl)
theorem dX9_verdict_6 : decode cX9_verdict 6 = .ok (.iload_n 1, 1) := dk_27 (dk_at dksX9_verdict_0 6 rfl rfl)
theorem dX9_verdict_7 : decode cX9_verdict 7 = .ok (.iload_n 2, 1) := dk_28 (dk_at dksX9_verdict_0 7 rfl rfl)
theorem dX9_verdict_8 : decode cX9_verdict 8 = .ok (.invokevirtual 121, 3) := dk_182 0 121 (dk_at dksX9_verdict_0 8 rfl rfl)
theorem dX9_verdict_11 : decode cX9_verdict 11 = .ok (.ifCond .ne 5, 3) := dk_154 0 5 (dk_at dksX9_verdict_0 11 rfl rfl)
theorem dX9_verdict_14 : decode cX9_verdict 14 = .ok (.iconst 1, 1) := dk_4 (dk_at dksX9_verdict_0 14 rfl rfl)
theorem dX9_verdict_15 : decode cX9_verdict 15 = .ok (.ireturn, 1) := dk_172 (dk_at dksX9_verdict_0 15 rfl rfl)
theorem dX9_verdict_16 : decode cX9_verdict 16 = .ok (.aload_n 0, 1) := dk_42 (dk_at dksX9_verdict_0 16 rfl rfl)
theorem dX9_verdict_17 : decode cX9_verdict 17 = .ok (.getfield 112, 3) := dk_180 0 112 (dk_at dksX9_verdict_0 17 rfl rfl)
theorem dX9_verdict_20 : decode cX9_verdict 20 = .ok (.iconst (-1), 1) := dk_2 (dk_at dksX9_verdict_0 20 rfl rfl)
theorem dX9_verdict_21 : decode cX9_verdict 21 = .ok (.if_icmp .ne 5, 3) := dk_160 0 5 (dk_at dksX9_verdict_0 21 rfl rfl)
theorem dX9_verdict_24 : decode cX9_verdict 24 = .ok (.iconst 2, 1) := dk_5 (dk_at dksX9_verdict_1 0 rfl rfl)
theorem dX9_verdict_25 : decode cX9_verdict 25 = .ok (.ireturn, 1) := dk_172 (dk_at dksX9_verdict_1 1 rfl rfl)
theorem dX9_verdict_26 : decode cX9_verdict 26 = .ok (.iload_n 1, 1) := dk_27 (dk_at dksX9_verdict_1 2 rfl rfl)
theorem dX9_verdict_27 : decode cX9_verdict 27 = .ok (.sipush 1000, 3) := dk_17 3 232 (dk_at dksX9_verdict_1 3 rfl rfl)
theorem dX9_verdict_30 : decode cX9_verdict 30 = .ok (.aload_n 0, 1) := dk_42 (dk_at dksX9_verdict_1 6 rfl rfl)
theorem dX9_verdict_31 : decode cX9_verdict 31 = .ok (.aload_n 0, 1) := dk_42 (dk_at dksX9_verdict_1 7 rfl rfl)
theorem dX9_verdict_32 : decode cX9_verdict 32 = .ok (.getfield 112, 3) := dk_180 0 112 (dk_at dksX9_verdict_1 8 rfl rfl)
theorem dX9_verdict_35 : decode cX9_verdict 35 = .ok (.iconst 2, 1) := dk_5 (dk_at dksX9_verdict_1 11 rfl rfl)
theorem dX9_verdict_36 : decode cX9_verdict 36 = .ok (.invokevirtual 109, 3) := dk_182 0 109 (dk_at dksX9_verdict_1 12 rfl rfl)
theorem dX9_verdict_39 : decode cX9_verdict 39 = .ok (.iload_n 1, 1) := dk_27 (dk_at dksX9_verdict_1 15 rfl rfl)
theorem dX9_verdict_40 : decode cX9_verdict 40 = .ok (.invokestatic 99, 3) := dk_184 0 99 (dk_at dksX9_verdict_1 16 rfl rfl)
theorem dX9_verdict_43 : decode cX9_verdict 43 = .ok (.isub, 1) := dk_100 (dk_at dksX9_verdict_1 19 rfl rfl)
theorem dX9_verdict_44 : decode cX9_verdict 44 = .ok (.imul, 1) := dk_104 (dk_at dksX9_verdict_1 20 rfl rfl)
theorem dX9_verdict_45 : decode cX9_verdict 45 = .ok (.iadd, 1) := dk_96 (dk_at dksX9_verdict_1 21 rfl rfl)
theorem dX9_verdict_46 : decode cX9_verdict 46 = .ok (.istore_n 3, 1) := dk_62 (dk_at dksX9_verdict_1 22 rfl rfl)
theorem dX9_verdict_47 : decode cX9_verdict 47 = .ok (.aload_n 0, 1) := dk_42 (dk_at dksX9_verdict_1 23 rfl rfl)
theorem dX9_verdict_48 : decode cX9_verdict 48 = .ok (.aload_n 0, 1) := dk_42 (dk_at dksX9_verdict_2 0 rfl rfl)
theorem dX9_verdict_49 : decode cX9_verdict 49 = .ok (.getfield 112, 3) := dk_180 0 112 (dk_at dksX9_verdict_2 1 rfl rfl)
theorem dX9_verdict_52 : decode cX9_verdict 52 = .ok (.bipush 6, 2) := dk_16 6 (dk_at dksX9_verdict_2 4 rfl rfl)
theorem dX9_verdict_54 : decode cX9_verdict 54 = .ok (.invokevirtual 109, 3) := dk_182 0 109 (dk_at dksX9_verdict_2 6 rfl rfl)
theorem dX9_verdict_57 : decode cX9_verdict 57 = .ok (.istore 4, 2) := dk_54 4 (dk_at dksX9_verdict_2 9 rfl rfl)
theorem dX9_verdict_59 : decode cX9_verdict 59 = .ok (.iload 4, 2) := dk_21 4 (dk_at dksX9_verdict_2 11 rfl rfl)
theorem dX9_verdict_61 : decode cX9_verdict 61 = .ok (.iconst (-1), 1) := dk_2 (dk_at dksX9_verdict_2 13 rfl rfl)
theorem dX9_verdict_62 : decode cX9_verdict 62 = .ok (.if_icmp .eq 41, 3) := dk_159 0 41 (dk_at dksX9_verdict_2 14 rfl rfl)
theorem dX9_verdict_65 : decode cX9_verdict 65 = .ok (.aload_n 0, 1) := dk_42 (dk_at dksX9_verdict_2 17 rfl rfl)
theorem dX9_verdict_66 : decode cX9_verdict 66 = .ok (.aload_n 0, 1) := dk_42 (dk_at dksX9_verdict_2 18 rfl rfl)
theorem dX9_verdict_67 : decode cX9_verdict 67 = .ok (.getfield 112, 3) := dk_180 0 112 (dk_at dksX9_verdict_2 19 rfl rfl)
theorem dX9_verdict_70 : decode cX9_verdict 70 = .ok (.iload_n 1, 1) := dk_27 (dk_at dksX9_verdict_2 22 rfl rfl)
theorem dX9_verdict_71 : decode cX9_verdict 71 = .ok (.iload 4, 2) := dk_21 4 (dk_at dksX9_verdict_3 0 rfl rfl)
theorem dX9_verdict_73 : decode cX9_verdict 73 = .ok (.invokestatic 88, 3) := dk_184 0 88 (dk_at dksX9_verdict_3 2 rfl rfl)
theorem dX9_verdict_76 : decode cX9_verdict 76 = .ok (.invokevirtual 124, 3) := dk_182 0 124 (dk_at dksX9_verdict_3 5 rfl rfl)
theorem dX9_verdict_79 : decode cX9_verdict 79 = .ok (.istore 5, 2) := dk_54 5 (dk_at dksX9_verdict_3 8 rfl rfl)
theorem dX9_verdict_81 : decode cX9_verdict 81 = .ok (.iload 5, 2) := dk_21 5 (dk_at dksX9_verdict_3 10 rfl rfl)
theorem dX9_verdict_83 : decode cX9_verdict 83 = .ok (.iconst 0, 1) := dk_3 (dk_at dksX9_verdict_3 12 rfl rfl)
theorem dX9_verdict_84 : decode cX9_verdict 84 = .ok (.bipush 9, 2) := dk_16 9 (dk_at dksX9_verdict_3 13 rfl rfl)
theorem dX9_verdict_86 : decode cX9_verdict 86 = .ok (.invokestatic 127, 3) := dk_184 0 127 (dk_at dksX9_verdict_3 15 rfl rfl)
theorem dX9_verdict_89 : decode cX9_verdict 89 = .ok (.ifCond .ne 5, 3) := dk_154 0 5 (dk_at dksX9_verdict_3 18 rfl rfl)
theorem dX9_verdict_92 : decode cX9_verdict 92 = .ok (.iconst 3, 1) := dk_6 (dk_at dksX9_verdict_3 21 rfl rfl)
theorem dX9_verdict_93 : decode cX9_verdict 93 = .ok (.ireturn, 1) := dk_172 (dk_at dksX9_verdict_3 22 rfl rfl)
theorem dX9_verdict_94 : decode cX9_verdict 94 = .ok (.iload_n 3, 1) := dk_29 (dk_at dksX9_verdict_3 23 rfl rfl)
theorem dX9_verdict_95 : decode cX9_verdict 95 = .ok (.iload 4, 2) := dk_21 4 (dk_at dksX9_verdict_4 0 rfl rfl)
theorem dX9_verdict_97 : decode cX9_verdict 97 = .ok (.iload 5, 2) := dk_21 5 (dk_at dksX9_verdict_4 2 rfl rfl)
theorem dX9_verdict_99 : decode cX9_verdict 99 = .ok (.invokestatic 130, 3) := dk_184 0 130 (dk_at dksX9_verdict_4 4 rfl rfl)
theorem dX9_verdict_102 : decode cX9_verdict 102 = .ok (.istore_n 3, 1) := dk_62 (dk_at dksX9_verdict_4 7 rfl rfl)
theorem dX9_verdict_103 : decode cX9_verdict 103 = .ok (.aload_n 0, 1) := dk_42 (dk_at dksX9_verdict_4 8 rfl rfl)
theorem dX9_verdict_104 : decode cX9_verdict 104 = .ok (.iload_n 3, 1) := dk_29 (dk_at dksX9_verdict_4 9 rfl rfl)
theorem dX9_verdict_105 : decode cX9_verdict 105 = .ok (.putfield 118, 3) := dk_181 0 118 (dk_at dksX9_verdict_4 10 rfl rfl)
theorem dX9_verdict_108 : decode cX9_verdict 108 = .ok (.aload_n 0, 1) := dk_42 (dk_at dksX9_verdict_4 13 rfl rfl)
theorem dX9_verdict_109 : decode cX9_verdict 109 = .ok (.iload_n 3, 1) := dk_29 (dk_at dksX9_verdict_4 14 rfl rfl)
theorem dX9_verdict_110 : decode cX9_verdict 110 = .ok (.invokevirtual 134, 3) := dk_182 0 134 (dk_at dksX9_verdict_4 15 rfl rfl)
theorem dX9_verdict_113 : decode cX9_verdict 113 = .ok (.iconst (-1), 1) := dk_2 (dk_at dksX9_verdict_4 18 rfl rfl)
theorem dX9_verdict_114 : decode cX9_verdict 114 = .ok (.if_icmp .eq 7, 3) := dk_159 0 7 (dk_at dksX9_verdict_4 19 rfl rfl)
theorem dX9_verdict_117 : decode cX9_verdict 117 = .ok (.iconst 4, 1) := dk_7 (dk_at dksX9_verdict_4 22 rfl rfl)
theorem dX9_verdict_118 : decode cX9_verdict 118 = .ok (.goto 4, 3) := dk_167 0 4 (dk_at dksX9_verdict_5 0 rfl rfl)
theorem dX9_verdict_121 : decode cX9_verdict 121 = .ok (.iconst 0, 1) := dk_3 (dk_at dksX9_verdict_5 3 rfl rfl)
theorem dX9_verdict_122 : decode cX9_verdict 122 = .ok (.ireturn, 1) := dk_172 (dk_at dksX9_verdict_5 4 rfl rfl)
abbrev cX9_choose : ByteArray := prog_41_method_29_code
def yX9_choose : MethodName := ⟨RX9, "choose", "(II)Z"⟩
def dkwX9_choose_3 : List UInt8 := [21, 4, 181, 0, 112, 132, 4, 1, 167, 255, 188, 29, 172]
abbrev dktX9_choose_3 : List UInt8 := dkwX9_choose_3 ++ []
def dkwX9_choose_2 : List UInt8 := [4, 182, 0, 109, 28, 159, 0, 6, 167, 0, 21, 4, 62, 42, 21, 4, 27, 182, 0, 115, 153, 0, 9, 42]
abbrev dktX9_choose_2 : List UInt8 := dkwX9_choose_2 ++ dktX9_choose_3
def dkwX9_choose_1 : List UInt8 := [180, 0, 112, 2, 160, 0, 55, 42, 21, 4, 3, 182, 0, 109, 27, 184, 0, 99, 160, 0, 35, 42, 21, 4]
abbrev dktX9_choose_1 : List UInt8 := dkwX9_choose_1 ++ dktX9_choose_2
def dkwX9_choose_0 : List UInt8 := [3, 62, 42, 2, 181, 0, 112, 3, 54, 4, 21, 4, 42, 180, 0, 7, 6, 46, 162, 0, 63, 42]
abbrev dktX9_choose_0 : List UInt8 := dkwX9_choose_0 ++ dktX9_choose_1
theorem dksX9_choose_0 : cX9_choose.data.toList.drop 0 = dktX9_choose_0 := by decide +kernel
theorem dksX9_choose_1 : cX9_choose.data.toList.drop 22 = dktX9_choose_1 := dk_seg dksX9_choose_0 22 rfl rfl
theorem dksX9_choose_2 : cX9_choose.data.toList.drop 46 = dktX9_choose_2 := dk_seg dksX9_choose_1 24 rfl rfl
theorem dksX9_choose_3 : cX9_choose.data.toList.drop 70 = dktX9_choose_3 := dk_seg dksX9_choose_2 24 rfl rfl
theorem dX9_choose_0 : decode cX9_choose 0 = .ok (.iconst 0, 1) := dk_3 (dk_at dksX9_choose_0 0 rfl rfl)
theorem dX9_choose_1 : decode cX9_choose 1 = .ok (.istore_n 3, 1) := dk_62 (dk_at dksX9_choose_0 1 rfl rfl)
theorem dX9_choose_2 : decode cX9_choose 2 = .ok (.aload_n 0, 1) := dk_42 (dk_at dksX9_choose_0 2 rfl rfl)
theorem dX9_choose_3 : decode cX9_choose 3 = .ok (.iconst (-1), 1) := dk_2 (dk_at dksX9_choose_0 3 rfl rfl)
theorem dX9_choose_4 : decode cX9_choose 4 = .ok (.putfield 112, 3) := dk_181 0 112 (dk_at dksX9_choose_0 4 rfl rfl)
theorem dX9_choose_7 : decode cX9_choose 7 = .ok (.iconst 0, 1) := dk_3 (dk_at dksX9_choose_0 7 rfl rfl)
theorem dX9_choose_8 : decode cX9_choose 8 = .ok (.istore 4, 2) := dk_54 4 (dk_at dksX9_choose_0 8 rfl rfl)
theorem dX9_choose_10 : decode cX9_choose 10 = .ok (.iload 4, 2) := dk_21 4 (dk_at dksX9_choose_0 10 rfl rfl)
theorem dX9_choose_12 : decode cX9_choose 12 = .ok (.aload_n 0, 1) := dk_42 (dk_at dksX9_choose_0 12 rfl rfl)
theorem dX9_choose_13 : decode cX9_choose 13 = .ok (.getfield 7, 3) := dk_180 0 7 (dk_at dksX9_choose_0 13 rfl rfl)
theorem dX9_choose_16 : decode cX9_choose 16 = .ok (.iconst 3, 1) := dk_6 (dk_at dksX9_choose_0 16 rfl rfl)
theorem dX9_choose_17 : decode cX9_choose 17 = .ok (.iaload, 1) := dk_46 (dk_at dksX9_choose_0 17 rfl rfl)
theorem dX9_choose_18 : decode cX9_choose 18 = .ok (.if_icmp .ge 63, 3) := dk_162 0 63 (dk_at dksX9_choose_0 18 rfl rfl)
theorem dX9_choose_21 : decode cX9_choose 21 = .ok (.aload_n 0, 1) := dk_42 (dk_at dksX9_choose_0 21 rfl rfl)
theorem dX9_choose_22 : decode cX9_choose 22 = .ok (.getfield 112, 3) := dk_180 0 112 (dk_at dksX9_choose_1 0 rfl rfl)
theorem dX9_choose_25 : decode cX9_choose 25 = .ok (.iconst (-1), 1) := dk_2 (dk_at dksX9_choose_1 3 rfl rfl)
theorem dX9_choose_26 : decode cX9_choose 26 = .ok (.if_icmp .ne 55, 3) := dk_160 0 55 (dk_at dksX9_choose_1 4 rfl rfl)
theorem dX9_choose_29 : decode cX9_choose 29 = .ok (.aload_n 0, 1) := dk_42 (dk_at dksX9_choose_1 7 rfl rfl)
theorem dX9_choose_30 : decode cX9_choose 30 = .ok (.iload 4, 2) := dk_21 4 (dk_at dksX9_choose_1 8 rfl rfl)
theorem dX9_choose_32 : decode cX9_choose 32 = .ok (.iconst 0, 1) := dk_3 (dk_at dksX9_choose_1 10 rfl rfl)
theorem dX9_choose_33 : decode cX9_choose 33 = .ok (.invokevirtual 109, 3) := dk_182 0 109 (dk_at dksX9_choose_1 11 rfl rfl)
theorem dX9_choose_36 : decode cX9_choose 36 = .ok (.iload_n 1, 1) := dk_27 (dk_at dksX9_choose_1 14 rfl rfl)
theorem dX9_choose_37 : decode cX9_choose 37 = .ok (.invokestatic 99, 3) := dk_184 0 99 (dk_at dksX9_choose_1 15 rfl rfl)
theorem dX9_choose_40 : decode cX9_choose 40 = .ok (.if_icmp .ne 35, 3) := dk_160 0 35 (dk_at dksX9_choose_1 18 rfl rfl)
theorem dX9_choose_43 : decode cX9_choose 43 = .ok (.aload_n 0, 1) := dk_42 (dk_at dksX9_choose_1 21 rfl rfl)
theorem dX9_choose_44 : decode cX9_choose 44 = .ok (.iload 4, 2) := dk_21 4 (dk_at dksX9_choose_1 22 rfl rfl)
theorem dX9_choose_46 : decode cX9_choose 46 = .ok (.iconst 1, 1) := dk_4 (dk_at dksX9_choose_2 0 rfl rfl)
theorem dX9_choose_47 : decode cX9_choose 47 = .ok (.invokevirtual 109, 3) := dk_182 0 109 (dk_at dksX9_choose_2 1 rfl rfl)
theorem dX9_choose_50 : decode cX9_choose 50 = .ok (.iload_n 2, 1) := dk_28 (dk_at dksX9_choose_2 4 rfl rfl)
theorem dX9_choose_51 : decode cX9_choose 51 = .ok (.if_icmp .eq 6, 3) := dk_159 0 6 (dk_at dksX9_choose_2 5 rfl rfl)
theorem dX9_choose_54 : decode cX9_choose 54 = .ok (.goto 21, 3) := dk_167 0 21 (dk_at dksX9_choose_2 8 rfl rfl)
theorem dX9_choose_57 : decode cX9_choose 57 = .ok (.iconst 1, 1) := dk_4 (dk_at dksX9_choose_2 11 rfl rfl)
theorem dX9_choose_58 : decode cX9_choose 58 = .ok (.istore_n 3, 1) := dk_62 (dk_at dksX9_choose_2 12 rfl rfl)
theorem dX9_choose_59 : decode cX9_choose 59 = .ok (.aload_n 0, 1) := dk_42 (dk_at dksX9_choose_2 13 rfl rfl)
theorem dX9_choose_60 : decode cX9_choose 60 = .ok (.iload 4, 2) := dk_21 4 (dk_at dksX9_choose_2 14 rfl rfl)
theorem dX9_choose_62 : decode cX9_choose 62 = .ok (.iload_n 1, 1) := dk_27 (dk_at dksX9_choose_2 16 rfl rfl)
theorem dX9_choose_63 : decode cX9_choose 63 = .ok (.invokevirtual 115, 3) := dk_182 0 115 (dk_at dksX9_choose_2 17 rfl rfl)
theorem dX9_choose_66 : decode cX9_choose 66 = .ok (.ifCond .eq 9, 3) := dk_153 0 9 (dk_at dksX9_choose_2 20 rfl rfl)
theorem dX9_choose_69 : decode cX9_choose 69 = .ok (.aload_n 0, 1) := dk_42 (dk_at dksX9_choose_2 23 rfl rfl)
theorem dX9_choose_70 : decode cX9_choose 70 = .ok (.iload 4, 2) := dk_21 4 (dk_at dksX9_choose_3 0 rfl rfl)
theorem dX9_choose_72 : decode cX9_choose 72 = .ok (.putfield 112, 3) := dk_181 0 112 (dk_at dksX9_choose_3 2 rfl rfl)
theorem dX9_choose_75 : decode cX9_choose 75 = .ok (.iinc 4 1, 3) := dk_132 4 1 (dk_at dksX9_choose_3 5 rfl rfl)
theorem dX9_choose_78 : decode cX9_choose 78 = .ok (.goto (-68), 3) := dk_167 255 188 (dk_at dksX9_choose_3 8 rfl rfl)
theorem dX9_choose_81 : decode cX9_choose 81 = .ok (.iload_n 3, 1) := dk_29 (dk_at dksX9_choose_3 11 rfl rfl)
theorem dX9_choose_82 : decode cX9_choose 82 = .ok (.ireturn, 1) := dk_172 (dk_at dksX9_choose_3 12 rfl rfl)
abbrev cX9_of : ByteArray := prog_41_method_9_code
def yX9_of : MethodName := ⟨RX9, "of", "(II)I"⟩
def dkwX9_of_0 : List UInt8 := [42, 180, 0, 7, 16, 93, 16, 9, 27, 104, 96, 28, 96, 46, 172]
abbrev dktX9_of_0 : List UInt8 := dkwX9_of_0 ++ []
theorem dksX9_of_0 : cX9_of.data.toList.drop 0 = dktX9_of_0 := by decide +kernel
theorem dX9_of_0 : decode cX9_of 0 = .ok (.aload_n 0, 1) := dk_42 (dk_at dksX9_of_0 0 rfl rfl)
theorem dX9_of_1 : decode cX9_of 1 = .ok (.getfield 7, 3) := dk_180 0 7 (dk_at dksX9_of_0 1 rfl rfl)
theorem dX9_of_4 : decode cX9_of 4 = .ok (.bipush 93, 2) := dk_16 93 (dk_at dksX9_of_0 4 rfl rfl)
theorem dX9_of_6 : decode cX9_of 6 = .ok (.bipush 9, 2) := dk_16 9 (dk_at dksX9_of_0 6 rfl rfl)
theorem dX9_of_8 : decode cX9_of 8 = .ok (.iload_n 1, 1) := dk_27 (dk_at dksX9_of_0 8 rfl rfl)
theorem dX9_of_9 : decode cX9_of 9 = .ok (.imul, 1) := dk_104 (dk_at dksX9_of_0 9 rfl rfl)
theorem dX9_of_10 : decode cX9_of 10 = .ok (.iadd, 1) := dk_96 (dk_at dksX9_of_0 10 rfl rfl)
theorem dX9_of_11 : decode cX9_of 11 = .ok (.iload_n 2, 1) := dk_28 (dk_at dksX9_of_0 11 rfl rfl)
theorem dX9_of_12 : decode cX9_of 12 = .ok (.iadd, 1) := dk_96 (dk_at dksX9_of_0 12 rfl rfl)
theorem dX9_of_13 : decode cX9_of 13 = .ok (.iaload, 1) := dk_46 (dk_at dksX9_of_0 13 rfl rfl)
theorem dX9_of_14 : decode cX9_of 14 = .ok (.ireturn, 1) := dk_172 (dk_at dksX9_of_0 14 rfl rfl)
abbrev cX9_isGuardRight : ByteArray := prog_41_method_27_code
def yX9_isGuardRight : MethodName := ⟨RX9, "isGuardRight", "(II)Z"⟩
def dkwX9_isGuardRight_1 : List UInt8 := [27, 8, 182, 0, 109, 184, 0, 95, 153, 0, 7, 4, 167, 0, 4, 3, 172]
abbrev dktX9_isGuardRight_1 : List UInt8 := dkwX9_isGuardRight_1 ++ []
def dkwX9_isGuardRight_0 : List UInt8 := [42, 27, 6, 182, 0, 109, 62, 29, 2, 159, 0, 26, 28, 29, 184, 0, 88, 42, 27, 7, 182, 0, 109, 42]
abbrev dktX9_isGuardRight_0 : List UInt8 := dkwX9_isGuardRight_0 ++ dktX9_isGuardRight_1
theorem dksX9_isGuardRight_0 : cX9_isGuardRight.data.toList.drop 0 = dktX9_isGuardRight_0 := by decide +kernel
theorem dksX9_isGuardRight_1 : cX9_isGuardRight.data.toList.drop 24 = dktX9_isGuardRight_1 := dk_seg dksX9_isGuardRight_0 24 rfl rfl
theorem dX9_isGuardRight_0 : decode cX9_isGuardRight 0 = .ok (.aload_n 0, 1) := dk_42 (dk_at dksX9_isGuardRight_0 0 rfl rfl)
theorem dX9_isGuardRight_1 : decode cX9_isGuardRight 1 = .ok (.iload_n 1, 1) := dk_27 (dk_at dksX9_isGuardRight_0 1 rfl rfl)
theorem dX9_isGuardRight_2 : decode cX9_isGuardRight 2 = .ok (.iconst 3, 1) := dk_6 (dk_at dksX9_isGuardRight_0 2 rfl rfl)
theorem dX9_isGuardRight_3 : decode cX9_isGuardRight 3 = .ok (.invokevirtual 109, 3) := dk_182 0 109 (dk_at dksX9_isGuardRight_0 3 rfl rfl)
theorem dX9_isGuardRight_6 : decode cX9_isGuardRight 6 = .ok (.istore_n 3, 1) := dk_62 (dk_at dksX9_isGuardRight_0 6 rfl rfl)
theorem dX9_isGuardRight_7 : decode cX9_isGuardRight 7 = .ok (.iload_n 3, 1) := dk_29 (dk_at dksX9_isGuardRight_0 7 rfl rfl)
theorem dX9_isGuardRight_8 : decode cX9_isGuardRight 8 = .ok (.iconst (-1), 1) := dk_2 (dk_at dksX9_isGuardRight_0 8 rfl rfl)
theorem dX9_isGuardRight_9 : decode cX9_isGuardRight 9 = .ok (.if_icmp .eq 26, 3) := dk_159 0 26 (dk_at dksX9_isGuardRight_0 9 rfl rfl)
theorem dX9_isGuardRight_12 : decode cX9_isGuardRight 12 = .ok (.iload_n 2, 1) := dk_28 (dk_at dksX9_isGuardRight_0 12 rfl rfl)
theorem dX9_isGuardRight_13 : decode cX9_isGuardRight 13 = .ok (.iload_n 3, 1) := dk_29 (dk_at dksX9_isGuardRight_0 13 rfl rfl)
theorem dX9_isGuardRight_14 : decode cX9_isGuardRight 14 = .ok (.invokestatic 88, 3) := dk_184 0 88 (dk_at dksX9_isGuardRight_0 14 rfl rfl)
theorem dX9_isGuardRight_17 : decode cX9_isGuardRight 17 = .ok (.aload_n 0, 1) := dk_42 (dk_at dksX9_isGuardRight_0 17 rfl rfl)
theorem dX9_isGuardRight_18 : decode cX9_isGuardRight 18 = .ok (.iload_n 1, 1) := dk_27 (dk_at dksX9_isGuardRight_0 18 rfl rfl)
theorem dX9_isGuardRight_19 : decode cX9_isGuardRight 19 = .ok (.iconst 4, 1) := dk_7 (dk_at dksX9_isGuardRight_0 19 rfl rfl)
theorem dX9_isGuardRight_20 : decode cX9_isGuardRight 20 = .ok (.invokevirtual 109, 3) := dk_182 0 109 (dk_at dksX9_isGuardRight_0 20 rfl rfl)
theorem dX9_isGuardRight_23 : decode cX9_isGuardRight 23 = .ok (.aload_n 0, 1) := dk_42 (dk_at dksX9_isGuardRight_0 23 rfl rfl)
theorem dX9_isGuardRight_24 : decode cX9_isGuardRight 24 = .ok (.iload_n 1, 1) := dk_27 (dk_at dksX9_isGuardRight_1 0 rfl rfl)
theorem dX9_isGuardRight_25 : decode cX9_isGuardRight 25 = .ok (.iconst 5, 1) := dk_8 (dk_at dksX9_isGuardRight_1 1 rfl rfl)
theorem dX9_isGuardRight_26 : decode cX9_isGuardRight 26 = .ok (.invokevirtual 109, 3) := dk_182 0 109 (dk_at dksX9_isGuardRight_1 2 rfl rfl)
theorem dX9_isGuardRight_29 : decode cX9_isGuardRight 29 = .ok (.invokestatic 95, 3) := dk_184 0 95 (dk_at dksX9_isGuardRight_1 5 rfl rfl)
theorem dX9_isGuardRight_32 : decode cX9_isGuardRight 32 = .ok (.ifCond .eq 7, 3) := dk_153 0 7 (dk_at dksX9_isGuardRight_1 8 rfl rfl)
theorem dX9_isGuardRight_35 : decode cX9_isGuardRight 35 = .ok (.iconst 1, 1) := dk_4 (dk_at dksX9_isGuardRight_1 11 rfl rfl)
theorem dX9_isGuardRight_36 : decode cX9_isGuardRight 36 = .ok (.goto 4, 3) := dk_167 0 4 (dk_at dksX9_isGuardRight_1 12 rfl rfl)
theorem dX9_isGuardRight_39 : decode cX9_isGuardRight 39 = .ok (.iconst 0, 1) := dk_3 (dk_at dksX9_isGuardRight_1 15 rfl rfl)
theorem dX9_isGuardRight_40 : decode cX9_isGuardRight 40 = .ok (.ireturn, 1) := dk_172 (dk_at dksX9_isGuardRight_1 16 rfl rfl)
abbrev cX9_acted : ByteArray := prog_41_method_28_code
def yX9_acted : MethodName := ⟨RX9, "acted", "(II)I"⟩
def dkwX9_acted_2 : List UInt8 := [28, 29, 96, 172, 28, 29, 100, 172, 29, 172]
abbrev dktX9_acted_2 : List UInt8 := dkwX9_acted_2 ++ []
def dkwX9_acted_1 : List UInt8 := [171, 0, 0, 0, 33, 0, 0, 0, 2, 0, 0, 0, 0, 0, 0, 0, 25, 0, 0, 0, 1, 0, 0, 0, 29]
abbrev dktX9_acted_1 : List UInt8 := dkwX9_acted_1 ++ dktX9_acted_2
def dkwX9_acted_0 : List UInt8 := [42, 27, 16, 8, 182, 0, 109, 62, 42, 27, 16, 7, 182, 0, 109]
abbrev dktX9_acted_0 : List UInt8 := dkwX9_acted_0 ++ dktX9_acted_1
theorem dksX9_acted_0 : cX9_acted.data.toList.drop 0 = dktX9_acted_0 := by decide +kernel
theorem dksX9_acted_1 : cX9_acted.data.toList.drop 15 = dktX9_acted_1 := dk_seg dksX9_acted_0 15 rfl rfl
theorem dksX9_acted_2 : cX9_acted.data.toList.drop 40 = dktX9_acted_2 := dk_seg dksX9_acted_1 25 rfl rfl
theorem dX9_acted_0 : decode cX9_acted 0 = .ok (.aload_n 0, 1) := dk_42 (dk_at dksX9_acted_0 0 rfl rfl)
theorem dX9_acted_1 : decode cX9_acted 1 = .ok (.iload_n 1, 1) := dk_27 (dk_at dksX9_acted_0 1 rfl rfl)
theorem dX9_acted_2 : decode cX9_acted 2 = .ok (.bipush 8, 2) := dk_16 8 (dk_at dksX9_acted_0 2 rfl rfl)
theorem dX9_acted_4 : decode cX9_acted 4 = .ok (.invokevirtual 109, 3) := dk_182 0 109 (dk_at dksX9_acted_0 4 rfl rfl)
theorem dX9_acted_7 : decode cX9_acted 7 = .ok (.istore_n 3, 1) := dk_62 (dk_at dksX9_acted_0 7 rfl rfl)
theorem dX9_acted_8 : decode cX9_acted 8 = .ok (.aload_n 0, 1) := dk_42 (dk_at dksX9_acted_0 8 rfl rfl)
theorem dX9_acted_9 : decode cX9_acted 9 = .ok (.iload_n 1, 1) := dk_27 (dk_at dksX9_acted_0 9 rfl rfl)
theorem dX9_acted_10 : decode cX9_acted 10 = .ok (.bipush 7, 2) := dk_16 7 (dk_at dksX9_acted_0 10 rfl rfl)
theorem dX9_acted_12 : decode cX9_acted 12 = .ok (.invokevirtual 109, 3) := dk_182 0 109 (dk_at dksX9_acted_0 12 rfl rfl)
theorem dX9_acted_15 : decode cX9_acted 15 = .ok (.lookupswitch 33 #[(0, 25), (1, 29)], 25) := by decide +kernel
theorem dX9_acted_40 : decode cX9_acted 40 = .ok (.iload_n 2, 1) := dk_28 (dk_at dksX9_acted_2 0 rfl rfl)
theorem dX9_acted_41 : decode cX9_acted 41 = .ok (.iload_n 3, 1) := dk_29 (dk_at dksX9_acted_2 1 rfl rfl)
theorem dX9_acted_42 : decode cX9_acted 42 = .ok (.iadd, 1) := dk_96 (dk_at dksX9_acted_2 2 rfl rfl)
theorem dX9_acted_43 : decode cX9_acted 43 = .ok (.ireturn, 1) := dk_172 (dk_at dksX9_acted_2 3 rfl rfl)
theorem dX9_acted_44 : decode cX9_acted 44 = .ok (.iload_n 2, 1) := dk_28 (dk_at dksX9_acted_2 4 rfl rfl)
theorem dX9_acted_45 : decode cX9_acted 45 = .ok (.iload_n 3, 1) := dk_29 (dk_at dksX9_acted_2 5 rfl rfl)
theorem dX9_acted_46 : decode cX9_acted 46 = .ok (.isub, 1) := dk_100 (dk_at dksX9_acted_2 6 rfl rfl)
theorem dX9_acted_47 : decode cX9_acted 47 = .ok (.ireturn, 1) := dk_172 (dk_at dksX9_acted_2 7 rfl rfl)
theorem dX9_acted_48 : decode cX9_acted 48 = .ok (.iload_n 3, 1) := dk_29 (dk_at dksX9_acted_2 8 rfl rfl)
theorem dX9_acted_49 : decode cX9_acted 49 = .ok (.ireturn, 1) := dk_172 (dk_at dksX9_acted_2 9 rfl rfl)
abbrev cX9_with : ByteArray := prog_41_method_22_code
def yX9_with : MethodName := ⟨RX9, "with", "(III)I"⟩
def dkwX9_with_0 : List UInt8 := [26, 27, 184, 0, 84, 28, 26, 27, 184, 0, 88, 100, 104, 96, 172]
abbrev dktX9_with_0 : List UInt8 := dkwX9_with_0 ++ []
theorem dksX9_with_0 : cX9_with.data.toList.drop 0 = dktX9_with_0 := by decide +kernel
theorem dX9_with_0 : decode cX9_with 0 = .ok (.iload_n 0, 1) := dk_26 (dk_at dksX9_with_0 0 rfl rfl)
theorem dX9_with_1 : decode cX9_with 1 = .ok (.iload_n 1, 1) := dk_27 (dk_at dksX9_with_0 1 rfl rfl)
theorem dX9_with_2 : decode cX9_with 2 = .ok (.invokestatic 84, 3) := dk_184 0 84 (dk_at dksX9_with_0 2 rfl rfl)
theorem dX9_with_5 : decode cX9_with 5 = .ok (.iload_n 2, 1) := dk_28 (dk_at dksX9_with_0 5 rfl rfl)
theorem dX9_with_6 : decode cX9_with 6 = .ok (.iload_n 0, 1) := dk_26 (dk_at dksX9_with_0 6 rfl rfl)
theorem dX9_with_7 : decode cX9_with 7 = .ok (.iload_n 1, 1) := dk_27 (dk_at dksX9_with_0 7 rfl rfl)
theorem dX9_with_8 : decode cX9_with 8 = .ok (.invokestatic 88, 3) := dk_184 0 88 (dk_at dksX9_with_0 8 rfl rfl)
theorem dX9_with_11 : decode cX9_with 11 = .ok (.isub, 1) := dk_100 (dk_at dksX9_with_0 11 rfl rfl)
theorem dX9_with_12 : decode cX9_with 12 = .ok (.imul, 1) := dk_104 (dk_at dksX9_with_0 12 rfl rfl)
theorem dX9_with_13 : decode cX9_with 13 = .ok (.iadd, 1) := dk_96 (dk_at dksX9_with_0 13 rfl rfl)
theorem dX9_with_14 : decode cX9_with 14 = .ok (.ireturn, 1) := dk_172 (dk_at dksX9_with_0 14 rfl rfl)
abbrev cX9_traces : ByteArray := prog_41_method_35_code
def yX9_traces : MethodName := ⟨RX9, "traces", "(II)V"⟩
def dkwX9_traces_4 : List UInt8 := [180, 0, 7, 16, 19, 27, 79, 42, 180, 0, 7, 16, 20, 28, 79, 177]
abbrev dktX9_traces_4 : List UInt8 := dkwX9_traces_4 ++ []
def dkwX9_traces_3 : List UInt8 := [96, 42, 180, 0, 7, 16, 19, 5, 29, 104, 96, 4, 100, 46, 79, 132, 3, 255, 167, 255, 199, 42]
abbrev dktX9_traces_3 : List UInt8 := dkwX9_traces_3 ++ dktX9_traces_4
def dkwX9_traces_2 : List UInt8 := [180, 0, 7, 16, 19, 5, 29, 104, 96, 5, 100, 46, 79, 42, 180, 0, 7, 16, 19, 5, 29, 104, 96, 4]
abbrev dktX9_traces_2 : List UInt8 := dkwX9_traces_2 ++ dktX9_traces_3
def dkwX9_traces_1 : List UInt8 := [180, 0, 7, 16, 18, 46, 4, 100, 62, 29, 158, 0, 59, 42, 180, 0, 7, 16, 19, 5, 29, 104, 96, 42]
abbrev dktX9_traces_1 : List UInt8 := dkwX9_traces_1 ++ dktX9_traces_2
def dkwX9_traces_0 : List UInt8 := [42, 180, 0, 7, 16, 18, 46, 16, 20, 162, 0, 14, 42, 180, 0, 7, 16, 18, 92, 46, 4, 96, 79, 42]
abbrev dktX9_traces_0 : List UInt8 := dkwX9_traces_0 ++ dktX9_traces_1
theorem dksX9_traces_0 : cX9_traces.data.toList.drop 0 = dktX9_traces_0 := by decide +kernel
theorem dksX9_traces_1 : cX9_traces.data.toList.drop 24 = dktX9_traces_1 := dk_seg dksX9_traces_0 24 rfl rfl
theorem dksX9_traces_2 : cX9_traces.data.toList.drop 48 = dktX9_traces_2 := dk_seg dksX9_traces_1 24 rfl rfl
theorem dksX9_traces_3 : cX9_traces.data.toList.drop 72 = dktX9_traces_3 := dk_seg dksX9_traces_2 24 rfl rfl
theorem dksX9_traces_4 : cX9_traces.data.toList.drop 94 = dktX9_traces_4 := dk_seg dksX9_traces_3 22 rfl rfl
theorem dX9_traces_0 : decode cX9_traces 0 = .ok (.aload_n 0, 1) := dk_42 (dk_at dksX9_traces_0 0 rfl rfl)
theorem dX9_traces_1 : decode cX9_traces 1 = .ok (.getfield 7, 3) := dk_180 0 7 (dk_at dksX9_traces_0 1 rfl rfl)
theorem dX9_traces_4 : decode cX9_traces 4 = .ok (.bipush 18, 2) := dk_16 18 (dk_at dksX9_traces_0 4 rfl rfl)
theorem dX9_traces_6 : decode cX9_traces 6 = .ok (.iaload, 1) := dk_46 (dk_at dksX9_traces_0 6 rfl rfl)
theorem dX9_traces_7 : decode cX9_traces 7 = .ok (.bipush 20, 2) := dk_16 20 (dk_at dksX9_traces_0 7 rfl rfl)
theorem dX9_traces_9 : decode cX9_traces 9 = .ok (.if_icmp .ge 14, 3) := dk_162 0 14 (dk_at dksX9_traces_0 9 rfl rfl)
theorem dX9_traces_12 : decode cX9_traces 12 = .ok (.aload_n 0, 1) := dk_42 (dk_at dksX9_traces_0 12 rfl rfl)
theorem dX9_traces_13 : decode cX9_traces 13 = .ok (.getfield 7, 3) := dk_180 0 7 (dk_at dksX9_traces_0 13 rfl rfl)
theorem dX9_traces_16 : decode cX9_traces 16 = .ok (.bipush 18, 2) := dk_16 18 (dk_at dksX9_traces_0 16 rfl rfl)
theorem dX9_traces_18 : decode cX9_traces 18 = .ok (.dup2, 1) := dk_92 (dk_at dksX9_traces_0 18 rfl rfl)
theorem dX9_traces_19 : decode cX9_traces 19 = .ok (.iaload, 1) := dk_46 (dk_at dksX9_traces_0 19 rfl rfl)
theorem dX9_traces_20 : decode cX9_traces 20 = .ok (.iconst 1, 1) := dk_4 (dk_at dksX9_traces_0 20 rfl rfl)
theorem dX9_traces_21 : decode cX9_traces 21 = .ok (.iadd, 1) := dk_96 (dk_at dksX9_traces_0 21 rfl rfl)
theorem dX9_traces_22 : decode cX9_traces 22 = .ok (.iastore, 1) := dk_79 (dk_at dksX9_traces_0 22 rfl rfl)
theorem dX9_traces_23 : decode cX9_traces 23 = .ok (.aload_n 0, 1) := dk_42 (dk_at dksX9_traces_0 23 rfl rfl)
theorem dX9_traces_24 : decode cX9_traces 24 = .ok (.getfield 7, 3) := dk_180 0 7 (dk_at dksX9_traces_1 0 rfl rfl)
theorem dX9_traces_27 : decode cX9_traces 27 = .ok (.bipush 18, 2) := dk_16 18 (dk_at dksX9_traces_1 3 rfl rfl)
theorem dX9_traces_29 : decode cX9_traces 29 = .ok (.iaload, 1) := dk_46 (dk_at dksX9_traces_1 5 rfl rfl)
theorem dX9_traces_30 : decode cX9_traces 30 = .ok (.iconst 1, 1) := dk_4 (dk_at dksX9_traces_1 6 rfl rfl)
theorem dX9_traces_31 : decode cX9_traces 31 = .ok (.isub, 1) := dk_100 (dk_at dksX9_traces_1 7 rfl rfl)
theorem dX9_traces_32 : decode cX9_traces 32 = .ok (.istore_n 3, 1) := dk_62 (dk_at dksX9_traces_1 8 rfl rfl)
theorem dX9_traces_33 : decode cX9_traces 33 = .ok (.iload_n 3, 1) := dk_29 (dk_at dksX9_traces_1 9 rfl rfl)
theorem dX9_traces_34 : decode cX9_traces 34 = .ok (.ifCond .le 59, 3) := dk_158 0 59 (dk_at dksX9_traces_1 10 rfl rfl)
theorem dX9_traces_37 : decode cX9_traces 37 = .ok (.aload_n 0, 1) := dk_42 (dk_at dksX9_traces_1 13 rfl rfl)
theorem dX9_traces_38 : decode cX9_traces 38 = .ok (.getfield 7, 3) := dk_180 0 7 (dk_at dksX9_traces_1 14 rfl rfl)
theorem dX9_traces_41 : decode cX9_traces 41 = .ok (.bipush 19, 2) := dk_16 19 (dk_at dksX9_traces_1 17 rfl rfl)
theorem dX9_traces_43 : decode cX9_traces 43 = .ok (.iconst 2, 1) := dk_5 (dk_at dksX9_traces_1 19 rfl rfl)
theorem dX9_traces_44 : decode cX9_traces 44 = .ok (.iload_n 3, 1) := dk_29 (dk_at dksX9_traces_1 20 rfl rfl)
theorem dX9_traces_45 : decode cX9_traces 45 = .ok (.imul, 1) := dk_104 (dk_at dksX9_traces_1 21 rfl rfl)
theorem dX9_traces_46 : decode cX9_traces 46 = .ok (.iadd, 1) := dk_96 (dk_at dksX9_traces_1 22 rfl rfl)
theorem dX9_traces_47 : decode cX9_traces 47 = .ok (.aload_n 0, 1) := dk_42 (dk_at dksX9_traces_1 23 rfl rfl)
theorem dX9_traces_48 : decode cX9_traces 48 = .ok (.getfield 7, 3) := dk_180 0 7 (dk_at dksX9_traces_2 0 rfl rfl)
theorem dX9_traces_51 : decode cX9_traces 51 = .ok (.bipush 19, 2) := dk_16 19 (dk_at dksX9_traces_2 3 rfl rfl)
theorem dX9_traces_53 : decode cX9_traces 53 = .ok (.iconst 2, 1) := dk_5 (dk_at dksX9_traces_2 5 rfl rfl)
theorem dX9_traces_54 : decode cX9_traces 54 = .ok (.iload_n 3, 1) := dk_29 (dk_at dksX9_traces_2 6 rfl rfl)
theorem dX9_traces_55 : decode cX9_traces 55 = .ok (.imul, 1) := dk_104 (dk_at dksX9_traces_2 7 rfl rfl)
theorem dX9_traces_56 : decode cX9_traces 56 = .ok (.iadd, 1) := dk_96 (dk_at dksX9_traces_2 8 rfl rfl)
theorem dX9_traces_57 : decode cX9_traces 57 = .ok (.iconst 2, 1) := dk_5 (dk_at dksX9_traces_2 9 rfl rfl)
theorem dX9_traces_58 : decode cX9_traces 58 = .ok (.isub, 1) := dk_100 (dk_at dksX9_traces_2 10 rfl rfl)
theorem dX9_traces_59 : decode cX9_traces 59 = .ok (.iaload, 1) := dk_46 (dk_at dksX9_traces_2 11 rfl rfl)
theorem dX9_traces_60 : decode cX9_traces 60 = .ok (.iastore, 1) := dk_79 (dk_at dksX9_traces_2 12 rfl rfl)
theorem dX9_traces_61 : decode cX9_traces 61 = .ok (.aload_n 0, 1) := dk_42 (dk_at dksX9_traces_2 13 rfl rfl)
theorem dX9_traces_62 : decode cX9_traces 62 = .ok (.getfield 7, 3) := dk_180 0 7 (dk_at dksX9_traces_2 14 rfl rfl)
theorem dX9_traces_65 : decode cX9_traces 65 = .ok (.bipush 19, 2) := dk_16 19 (dk_at dksX9_traces_2 17 rfl rfl)
theorem dX9_traces_67 : decode cX9_traces 67 = .ok (.iconst 2, 1) := dk_5 (dk_at dksX9_traces_2 19 rfl rfl)
theorem dX9_traces_68 : decode cX9_traces 68 = .ok (.iload_n 3, 1) := dk_29 (dk_at dksX9_traces_2 20 rfl rfl)
theorem dX9_traces_69 : decode cX9_traces 69 = .ok (.imul, 1) := dk_104 (dk_at dksX9_traces_2 21 rfl rfl)
theorem dX9_traces_70 : decode cX9_traces 70 = .ok (.iadd, 1) := dk_96 (dk_at dksX9_traces_2 22 rfl rfl)
theorem dX9_traces_71 : decode cX9_traces 71 = .ok (.iconst 1, 1) := dk_4 (dk_at dksX9_traces_2 23 rfl rfl)
theorem dX9_traces_72 : decode cX9_traces 72 = .ok (.iadd, 1) := dk_96 (dk_at dksX9_traces_3 0 rfl rfl)
theorem dX9_traces_73 : decode cX9_traces 73 = .ok (.aload_n 0, 1) := dk_42 (dk_at dksX9_traces_3 1 rfl rfl)
theorem dX9_traces_74 : decode cX9_traces 74 = .ok (.getfield 7, 3) := dk_180 0 7 (dk_at dksX9_traces_3 2 rfl rfl)
theorem dX9_traces_77 : decode cX9_traces 77 = .ok (.bipush 19, 2) := dk_16 19 (dk_at dksX9_traces_3 5 rfl rfl)
theorem dX9_traces_79 : decode cX9_traces 79 = .ok (.iconst 2, 1) := dk_5 (dk_at dksX9_traces_3 7 rfl rfl)
theorem dX9_traces_80 : decode cX9_traces 80 = .ok (.iload_n 3, 1) := dk_29 (dk_at dksX9_traces_3 8 rfl rfl)
theorem dX9_traces_81 : decode cX9_traces 81 = .ok (.imul, 1) := dk_104 (dk_at dksX9_traces_3 9 rfl rfl)
theorem dX9_traces_82 : decode cX9_traces 82 = .ok (.iadd, 1) := dk_96 (dk_at dksX9_traces_3 10 rfl rfl)
theorem dX9_traces_83 : decode cX9_traces 83 = .ok (.iconst 1, 1) := dk_4 (dk_at dksX9_traces_3 11 rfl rfl)
theorem dX9_traces_84 : decode cX9_traces 84 = .ok (.isub, 1) := dk_100 (dk_at dksX9_traces_3 12 rfl rfl)
theorem dX9_traces_85 : decode cX9_traces 85 = .ok (.iaload, 1) := dk_46 (dk_at dksX9_traces_3 13 rfl rfl)
theorem dX9_traces_86 : decode cX9_traces 86 = .ok (.iastore, 1) := dk_79 (dk_at dksX9_traces_3 14 rfl rfl)
theorem dX9_traces_87 : decode cX9_traces 87 = .ok (.iinc 3 (-1), 3) := dk_132 3 255 (dk_at dksX9_traces_3 15 rfl rfl)
theorem dX9_traces_90 : decode cX9_traces 90 = .ok (.goto (-57), 3) := dk_167 255 199 (dk_at dksX9_traces_3 18 rfl rfl)
theorem dX9_traces_93 : decode cX9_traces 93 = .ok (.aload_n 0, 1) := dk_42 (dk_at dksX9_traces_3 21 rfl rfl)
theorem dX9_traces_94 : decode cX9_traces 94 = .ok (.getfield 7, 3) := dk_180 0 7 (dk_at dksX9_traces_4 0 rfl rfl)
theorem dX9_traces_97 : decode cX9_traces 97 = .ok (.bipush 19, 2) := dk_16 19 (dk_at dksX9_traces_4 3 rfl rfl)
theorem dX9_traces_99 : decode cX9_traces 99 = .ok (.iload_n 1, 1) := dk_27 (dk_at dksX9_traces_4 5 rfl rfl)
theorem dX9_traces_100 : decode cX9_traces 100 = .ok (.iastore, 1) := dk_79 (dk_at dksX9_traces_4 6 rfl rfl)
theorem dX9_traces_101 : decode cX9_traces 101 = .ok (.aload_n 0, 1) := dk_42 (dk_at dksX9_traces_4 7 rfl rfl)
theorem dX9_traces_102 : decode cX9_traces 102 = .ok (.getfield 7, 3) := dk_180 0 7 (dk_at dksX9_traces_4 8 rfl rfl)
theorem dX9_traces_105 : decode cX9_traces 105 = .ok (.bipush 20, 2) := dk_16 20 (dk_at dksX9_traces_4 11 rfl rfl)
theorem dX9_traces_107 : decode cX9_traces 107 = .ok (.iload_n 2, 1) := dk_28 (dk_at dksX9_traces_4 13 rfl rfl)
theorem dX9_traces_108 : decode cX9_traces 108 = .ok (.iastore, 1) := dk_79 (dk_at dksX9_traces_4 14 rfl rfl)
theorem dX9_traces_109 : decode cX9_traces 109 = .ok (.return_, 1) := dk_177 (dk_at dksX9_traces_4 15 rfl rfl)
abbrev cX9_maySet : ByteArray := prog_41_method_37_code
def yX9_maySet : MethodName := ⟨RX9, "maySet", "(II)Z"⟩
def dkwX9_maySet_0 : List UInt8 := [42, 42, 182, 0, 151, 27, 28, 184, 0, 130, 182, 0, 134, 2, 160, 0, 7, 4, 167, 0, 4, 3, 172]
abbrev dktX9_maySet_0 : List UInt8 := dkwX9_maySet_0 ++ []
theorem dksX9_maySet_0 : cX9_maySet.data.toList.drop 0 = dktX9_maySet_0 := by decide +kernel
theorem dX9_maySet_0 : decode cX9_maySet 0 = .ok (.aload_n 0, 1) := dk_42 (dk_at dksX9_maySet_0 0 rfl rfl)
theorem dX9_maySet_1 : decode cX9_maySet 1 = .ok (.aload_n 0, 1) := dk_42 (dk_at dksX9_maySet_0 1 rfl rfl)
theorem dX9_maySet_2 : decode cX9_maySet 2 = .ok (.invokevirtual 151, 3) := dk_182 0 151 (dk_at dksX9_maySet_0 2 rfl rfl)
theorem dX9_maySet_5 : decode cX9_maySet 5 = .ok (.iload_n 1, 1) := dk_27 (dk_at dksX9_maySet_0 5 rfl rfl)
theorem dX9_maySet_6 : decode cX9_maySet 6 = .ok (.iload_n 2, 1) := dk_28 (dk_at dksX9_maySet_0 6 rfl rfl)
theorem dX9_maySet_7 : decode cX9_maySet 7 = .ok (.invokestatic 130, 3) := dk_184 0 130 (dk_at dksX9_maySet_0 7 rfl rfl)
theorem dX9_maySet_10 : decode cX9_maySet 10 = .ok (.invokevirtual 134, 3) := dk_182 0 134 (dk_at dksX9_maySet_0 10 rfl rfl)
theorem dX9_maySet_13 : decode cX9_maySet 13 = .ok (.iconst (-1), 1) := dk_2 (dk_at dksX9_maySet_0 13 rfl rfl)
theorem dX9_maySet_14 : decode cX9_maySet 14 = .ok (.if_icmp .ne 7, 3) := dk_160 0 7 (dk_at dksX9_maySet_0 14 rfl rfl)
theorem dX9_maySet_17 : decode cX9_maySet 17 = .ok (.iconst 1, 1) := dk_4 (dk_at dksX9_maySet_0 17 rfl rfl)
theorem dX9_maySet_18 : decode cX9_maySet 18 = .ok (.goto 4, 3) := dk_167 0 4 (dk_at dksX9_maySet_0 18 rfl rfl)
theorem dX9_maySet_21 : decode cX9_maySet 21 = .ok (.iconst 0, 1) := dk_3 (dk_at dksX9_maySet_0 21 rfl rfl)
theorem dX9_maySet_22 : decode cX9_maySet 22 = .ok (.ireturn, 1) := dk_172 (dk_at dksX9_maySet_0 22 rfl rfl)
abbrev cX9_setsValue : ByteArray := prog_41_method_38_code
def yX9_setsValue : MethodName := ⟨RX9, "setsValue", "(II)I"⟩
def dkwX9_setsValue_0 : List UInt8 := [42, 180, 0, 7, 16, 6, 27, 96, 46, 62, 42, 180, 0, 7, 16, 6, 27, 96, 28, 79, 29, 172]
abbrev dktX9_setsValue_0 : List UInt8 := dkwX9_setsValue_0 ++ []
theorem dksX9_setsValue_0 : cX9_setsValue.data.toList.drop 0 = dktX9_setsValue_0 := by decide +kernel
theorem dX9_setsValue_0 : decode cX9_setsValue 0 = .ok (.aload_n 0, 1) := dk_42 (dk_at dksX9_setsValue_0 0 rfl rfl)
theorem dX9_setsValue_1 : decode cX9_setsValue 1 = .ok (.getfield 7, 3) := dk_180 0 7 (dk_at dksX9_setsValue_0 1 rfl rfl)
theorem dX9_setsValue_4 : decode cX9_setsValue 4 = .ok (.bipush 6, 2) := dk_16 6 (dk_at dksX9_setsValue_0 4 rfl rfl)
theorem dX9_setsValue_6 : decode cX9_setsValue 6 = .ok (.iload_n 1, 1) := dk_27 (dk_at dksX9_setsValue_0 6 rfl rfl)
theorem dX9_setsValue_7 : decode cX9_setsValue 7 = .ok (.iadd, 1) := dk_96 (dk_at dksX9_setsValue_0 7 rfl rfl)
theorem dX9_setsValue_8 : decode cX9_setsValue 8 = .ok (.iaload, 1) := dk_46 (dk_at dksX9_setsValue_0 8 rfl rfl)
theorem dX9_setsValue_9 : decode cX9_setsValue 9 = .ok (.istore_n 3, 1) := dk_62 (dk_at dksX9_setsValue_0 9 rfl rfl)
theorem dX9_setsValue_10 : decode cX9_setsValue 10 = .ok (.aload_n 0, 1) := dk_42 (dk_at dksX9_setsValue_0 10 rfl rfl)
theorem dX9_setsValue_11 : decode cX9_setsValue 11 = .ok (.getfield 7, 3) := dk_180 0 7 (dk_at dksX9_setsValue_0 11 rfl rfl)
theorem dX9_setsValue_14 : decode cX9_setsValue 14 = .ok (.bipush 6, 2) := dk_16 6 (dk_at dksX9_setsValue_0 14 rfl rfl)
theorem dX9_setsValue_16 : decode cX9_setsValue 16 = .ok (.iload_n 1, 1) := dk_27 (dk_at dksX9_setsValue_0 16 rfl rfl)
theorem dX9_setsValue_17 : decode cX9_setsValue 17 = .ok (.iadd, 1) := dk_96 (dk_at dksX9_setsValue_0 17 rfl rfl)
theorem dX9_setsValue_18 : decode cX9_setsValue 18 = .ok (.iload_n 2, 1) := dk_28 (dk_at dksX9_setsValue_0 18 rfl rfl)
theorem dX9_setsValue_19 : decode cX9_setsValue 19 = .ok (.iastore, 1) := dk_79 (dk_at dksX9_setsValue_0 19 rfl rfl)
theorem dX9_setsValue_20 : decode cX9_setsValue 20 = .ok (.iload_n 3, 1) := dk_29 (dk_at dksX9_setsValue_0 20 rfl rfl)
theorem dX9_setsValue_21 : decode cX9_setsValue 21 = .ok (.ireturn, 1) := dk_172 (dk_at dksX9_setsValue_0 21 rfl rfl)
abbrev cX9_resets : ByteArray := prog_41_method_39_code
def yX9_resets : MethodName := ⟨RX9, "resets", "()I"⟩
def dkwX9_resets_0 : List UInt8 := [42, 180, 0, 7, 8, 46, 60, 42, 182, 0, 81, 27, 172]
abbrev dktX9_resets_0 : List UInt8 := dkwX9_resets_0 ++ []
theorem dksX9_resets_0 : cX9_resets.data.toList.drop 0 = dktX9_resets_0 := by decide +kernel
theorem dX9_resets_0 : decode cX9_resets 0 = .ok (.aload_n 0, 1) := dk_42 (dk_at dksX9_resets_0 0 rfl rfl)
theorem dX9_resets_1 : decode cX9_resets 1 = .ok (.getfield 7, 3) := dk_180 0 7 (dk_at dksX9_resets_0 1 rfl rfl)
theorem dX9_resets_4 : decode cX9_resets 4 = .ok (.iconst 5, 1) := dk_8 (dk_at dksX9_resets_0 4 rfl rfl)
theorem dX9_resets_5 : decode cX9_resets 5 = .ok (.iaload, 1) := dk_46 (dk_at dksX9_resets_0 5 rfl rfl)
theorem dX9_resets_6 : decode cX9_resets 6 = .ok (.istore_n 1, 1) := dk_60 (dk_at dksX9_resets_0 6 rfl rfl)
theorem dX9_resets_7 : decode cX9_resets 7 = .ok (.aload_n 0, 1) := dk_42 (dk_at dksX9_resets_0 7 rfl rfl)
theorem dX9_resets_8 : decode cX9_resets 8 = .ok (.invokevirtual 81, 3) := dk_182 0 81 (dk_at dksX9_resets_0 8 rfl rfl)
theorem dX9_resets_11 : decode cX9_resets 11 = .ok (.iload_n 1, 1) := dk_27 (dk_at dksX9_resets_0 11 rfl rfl)
theorem dX9_resets_12 : decode cX9_resets 12 = .ok (.ireturn, 1) := dk_172 (dk_at dksX9_resets_0 12 rfl rfl)
abbrev cX9_clears : ByteArray := prog_41_method_40_code
def yX9_clears : MethodName := ⟨RX9, "clears", "()I"⟩
def dkwX9_clears_3 : List UInt8 := [8, 46, 96, 4, 79, 27, 172]
abbrev dktX9_clears_3 : List UInt8 := dkwX9_clears_3 ++ []
def dkwX9_clears_2 : List UInt8 := [132, 2, 1, 167, 255, 240, 42, 180, 0, 7, 16, 18, 3, 79, 42, 180, 0, 7, 16, 59, 42, 180, 0, 7]
abbrev dktX9_clears_2 : List UInt8 := dkwX9_clears_2 ++ dktX9_clears_3
def dkwX9_clears_1 : List UInt8 := [132, 2, 1, 167, 255, 240, 16, 59, 61, 28, 16, 93, 162, 0, 16, 42, 180, 0, 7, 28, 3, 79]
abbrev dktX9_clears_1 : List UInt8 := dkwX9_clears_1 ++ dktX9_clears_2
def dkwX9_clears_0 : List UInt8 := [42, 180, 0, 7, 16, 12, 46, 60, 16, 12, 61, 28, 16, 17, 163, 0, 16, 42, 180, 0, 7, 28, 3, 79]
abbrev dktX9_clears_0 : List UInt8 := dkwX9_clears_0 ++ dktX9_clears_1
theorem dksX9_clears_0 : cX9_clears.data.toList.drop 0 = dktX9_clears_0 := by decide +kernel
theorem dksX9_clears_1 : cX9_clears.data.toList.drop 24 = dktX9_clears_1 := dk_seg dksX9_clears_0 24 rfl rfl
theorem dksX9_clears_2 : cX9_clears.data.toList.drop 46 = dktX9_clears_2 := dk_seg dksX9_clears_1 22 rfl rfl
theorem dksX9_clears_3 : cX9_clears.data.toList.drop 70 = dktX9_clears_3 := dk_seg dksX9_clears_2 24 rfl rfl
theorem dX9_clears_0 : decode cX9_clears 0 = .ok (.aload_n 0, 1) := dk_42 (dk_at dksX9_clears_0 0 rfl rfl)
theorem dX9_clears_1 : decode cX9_clears 1 = .ok (.getfield 7, 3) := dk_180 0 7 (dk_at dksX9_clears_0 1 rfl rfl)
theorem dX9_clears_4 : decode cX9_clears 4 = .ok (.bipush 12, 2) := dk_16 12 (dk_at dksX9_clears_0 4 rfl rfl)
theorem dX9_clears_6 : decode cX9_clears 6 = .ok (.iaload, 1) := dk_46 (dk_at dksX9_clears_0 6 rfl rfl)
theorem dX9_clears_7 : decode cX9_clears 7 = .ok (.istore_n 1, 1) := dk_60 (dk_at dksX9_clears_0 7 rfl rfl)
theorem dX9_clears_8 : decode cX9_clears 8 = .ok (.bipush 12, 2) := dk_16 12 (dk_at dksX9_clears_0 8 rfl rfl)
theorem dX9_clears_10 : decode cX9_clears 10 = .ok (.istore_n 2, 1) := dk_61 (dk_at dksX9_clears_0 10 rfl rfl)
theorem dX9_clears_11 : decode cX9_clears 11 = .ok (.iload_n 2, 1) := dk_28 (dk_at dksX9_clears_0 11 rfl rfl)
theorem dX9_clears_12 : decode cX9_clears 12 = .ok (.bipush 17, 2) := dk_16 17 (dk_at dksX9_clears_0 12 rfl rfl)
theorem dX9_clears_14 : decode cX9_clears 14 = .ok (.if_icmp .gt 16, 3) := dk_163 0 16 (dk_at dksX9_clears_0 14 rfl rfl)
theorem dX9_clears_17 : decode cX9_clears 17 = .ok (.aload_n 0, 1) := dk_42 (dk_at dksX9_clears_0 17 rfl rfl)
theorem dX9_clears_18 : decode cX9_clears 18 = .ok (.getfield 7, 3) := dk_180 0 7 (dk_at dksX9_clears_0 18 rfl rfl)
theorem dX9_clears_21 : decode cX9_clears 21 = .ok (.iload_n 2, 1) := dk_28 (dk_at dksX9_clears_0 21 rfl rfl)
theorem dX9_clears_22 : decode cX9_clears 22 = .ok (.iconst 0, 1) := dk_3 (dk_at dksX9_clears_0 22 rfl rfl)
theorem dX9_clears_23 : decode cX9_clears 23 = .ok (.iastore, 1) := dk_79 (dk_at dksX9_clears_0 23 rfl rfl)
theorem dX9_clears_24 : decode cX9_clears 24 = .ok (.iinc 2 1, 3) := dk_132 2 1 (dk_at dksX9_clears_1 0 rfl rfl)
theorem dX9_clears_27 : decode cX9_clears 27 = .ok (.goto (-16), 3) := dk_167 255 240 (dk_at dksX9_clears_1 3 rfl rfl)
theorem dX9_clears_30 : decode cX9_clears 30 = .ok (.bipush 59, 2) := dk_16 59 (dk_at dksX9_clears_1 6 rfl rfl)
theorem dX9_clears_32 : decode cX9_clears 32 = .ok (.istore_n 2, 1) := dk_61 (dk_at dksX9_clears_1 8 rfl rfl)
theorem dX9_clears_33 : decode cX9_clears 33 = .ok (.iload_n 2, 1) := dk_28 (dk_at dksX9_clears_1 9 rfl rfl)
theorem dX9_clears_34 : decode cX9_clears 34 = .ok (.bipush 93, 2) := dk_16 93 (dk_at dksX9_clears_1 10 rfl rfl)
theorem dX9_clears_36 : decode cX9_clears 36 = .ok (.if_icmp .ge 16, 3) := dk_162 0 16 (dk_at dksX9_clears_1 12 rfl rfl)
theorem dX9_clears_39 : decode cX9_clears 39 = .ok (.aload_n 0, 1) := dk_42 (dk_at dksX9_clears_1 15 rfl rfl)
theorem dX9_clears_40 : decode cX9_clears 40 = .ok (.getfield 7, 3) := dk_180 0 7 (dk_at dksX9_clears_1 16 rfl rfl)
theorem dX9_clears_43 : decode cX9_clears 43 = .ok (.iload_n 2, 1) := dk_28 (dk_at dksX9_clears_1 19 rfl rfl)
theorem dX9_clears_44 : decode cX9_clears 44 = .ok (.iconst 0, 1) := dk_3 (dk_at dksX9_clears_1 20 rfl rfl)
theorem dX9_clears_45 : decode cX9_clears 45 = .ok (.iastore, 1) := dk_79 (dk_at dksX9_clears_1 21 rfl rfl)
theorem dX9_clears_46 : decode cX9_clears 46 = .ok (.iinc 2 1, 3) := dk_132 2 1 (dk_at dksX9_clears_2 0 rfl rfl)
theorem dX9_clears_49 : decode cX9_clears 49 = .ok (.goto (-16), 3) := dk_167 255 240 (dk_at dksX9_clears_2 3 rfl rfl)
theorem dX9_clears_52 : decode cX9_clears 52 = .ok (.aload_n 0, 1) := dk_42 (dk_at dksX9_clears_2 6 rfl rfl)
theorem dX9_clears_53 : decode cX9_clears 53 = .ok (.getfield 7, 3) := dk_180 0 7 (dk_at dksX9_clears_2 7 rfl rfl)
theorem dX9_clears_56 : decode cX9_clears 56 = .ok (.bipush 18, 2) := dk_16 18 (dk_at dksX9_clears_2 10 rfl rfl)
theorem dX9_clears_58 : decode cX9_clears 58 = .ok (.iconst 0, 1) := dk_3 (dk_at dksX9_clears_2 12 rfl rfl)
theorem dX9_clears_59 : decode cX9_clears 59 = .ok (.iastore, 1) := dk_79 (dk_at dksX9_clears_2 13 rfl rfl)
theorem dX9_clears_60 : decode cX9_clears 60 = .ok (.aload_n 0, 1) := dk_42 (dk_at dksX9_clears_2 14 rfl rfl)
theorem dX9_clears_61 : decode cX9_clears 61 = .ok (.getfield 7, 3) := dk_180 0 7 (dk_at dksX9_clears_2 15 rfl rfl)
theorem dX9_clears_64 : decode cX9_clears 64 = .ok (.bipush 59, 2) := dk_16 59 (dk_at dksX9_clears_2 18 rfl rfl)
theorem dX9_clears_66 : decode cX9_clears 66 = .ok (.aload_n 0, 1) := dk_42 (dk_at dksX9_clears_2 20 rfl rfl)
theorem dX9_clears_67 : decode cX9_clears 67 = .ok (.getfield 7, 3) := dk_180 0 7 (dk_at dksX9_clears_2 21 rfl rfl)
theorem dX9_clears_70 : decode cX9_clears 70 = .ok (.iconst 5, 1) := dk_8 (dk_at dksX9_clears_3 0 rfl rfl)
theorem dX9_clears_71 : decode cX9_clears 71 = .ok (.iaload, 1) := dk_46 (dk_at dksX9_clears_3 1 rfl rfl)
theorem dX9_clears_72 : decode cX9_clears 72 = .ok (.iadd, 1) := dk_96 (dk_at dksX9_clears_3 2 rfl rfl)
theorem dX9_clears_73 : decode cX9_clears 73 = .ok (.iconst 1, 1) := dk_4 (dk_at dksX9_clears_3 3 rfl rfl)
theorem dX9_clears_74 : decode cX9_clears 74 = .ok (.iastore, 1) := dk_79 (dk_at dksX9_clears_3 4 rfl rfl)
theorem dX9_clears_75 : decode cX9_clears 75 = .ok (.iload_n 1, 1) := dk_27 (dk_at dksX9_clears_3 5 rfl rfl)
theorem dX9_clears_76 : decode cX9_clears 76 = .ok (.ireturn, 1) := dk_172 (dk_at dksX9_clears_3 6 rfl rfl)
abbrev cX9_errorCode : ByteArray := prog_41_method_76_code
def yX9_errorCode : MethodName := ⟨RX9, "errorCode", "()I"⟩
def dkwX9_errorCode_0 : List UInt8 := [42, 3, 181, 0, 78, 42, 180, 1, 58, 172]
abbrev dktX9_errorCode_0 : List UInt8 := dkwX9_errorCode_0 ++ []
theorem dksX9_errorCode_0 : cX9_errorCode.data.toList.drop 0 = dktX9_errorCode_0 := by decide +kernel
theorem dX9_errorCode_0 : decode cX9_errorCode 0 = .ok (.aload_n 0, 1) := dk_42 (dk_at dksX9_errorCode_0 0 rfl rfl)
theorem dX9_errorCode_1 : decode cX9_errorCode 1 = .ok (.iconst 0, 1) := dk_3 (dk_at dksX9_errorCode_0 1 rfl rfl)
theorem dX9_errorCode_2 : decode cX9_errorCode 2 = .ok (.putfield 78, 3) := dk_181 0 78 (dk_at dksX9_errorCode_0 2 rfl rfl)
theorem dX9_errorCode_5 : decode cX9_errorCode 5 = .ok (.aload_n 0, 1) := dk_42 (dk_at dksX9_errorCode_0 5 rfl rfl)
theorem dX9_errorCode_6 : decode cX9_errorCode 6 = .ok (.getfield 314, 3) := dk_180 1 58 (dk_at dksX9_errorCode_0 6 rfl rfl)
theorem dX9_errorCode_9 : decode cX9_errorCode 9 = .ok (.ireturn, 1) := dk_172 (dk_at dksX9_errorCode_0 9 rfl rfl)
abbrev cX9_errorOffset : ByteArray := prog_41_method_77_code
def yX9_errorOffset : MethodName := ⟨RX9, "errorOffset", "()I"⟩
def dkwX9_errorOffset_0 : List UInt8 := [42, 3, 181, 0, 78, 42, 180, 0, 31, 172]
abbrev dktX9_errorOffset_0 : List UInt8 := dkwX9_errorOffset_0 ++ []
theorem dksX9_errorOffset_0 : cX9_errorOffset.data.toList.drop 0 = dktX9_errorOffset_0 := by decide +kernel
theorem dX9_errorOffset_0 : decode cX9_errorOffset 0 = .ok (.aload_n 0, 1) := dk_42 (dk_at dksX9_errorOffset_0 0 rfl rfl)
theorem dX9_errorOffset_1 : decode cX9_errorOffset 1 = .ok (.iconst 0, 1) := dk_3 (dk_at dksX9_errorOffset_0 1 rfl rfl)
theorem dX9_errorOffset_2 : decode cX9_errorOffset 2 = .ok (.putfield 78, 3) := dk_181 0 78 (dk_at dksX9_errorOffset_0 2 rfl rfl)
theorem dX9_errorOffset_5 : decode cX9_errorOffset 5 = .ok (.aload_n 0, 1) := dk_42 (dk_at dksX9_errorOffset_0 5 rfl rfl)
theorem dX9_errorOffset_6 : decode cX9_errorOffset 6 = .ok (.getfield 31, 3) := dk_180 0 31 (dk_at dksX9_errorOffset_0 6 rfl rfl)
theorem dX9_errorOffset_9 : decode cX9_errorOffset 9 = .ok (.ireturn, 1) := dk_172 (dk_at dksX9_errorOffset_0 9 rfl rfl)
abbrev cX9_stateCount : ByteArray := prog_41_method_78_code
def yX9_stateCount : MethodName := ⟨RX9, "stateCount", "()I"⟩
def dkwX9_stateCount_0 : List UInt8 := [42, 3, 181, 0, 78, 42, 180, 0, 7, 3, 46, 172]
abbrev dktX9_stateCount_0 : List UInt8 := dkwX9_stateCount_0 ++ []
theorem dksX9_stateCount_0 : cX9_stateCount.data.toList.drop 0 = dktX9_stateCount_0 := by decide +kernel
theorem dX9_stateCount_0 : decode cX9_stateCount 0 = .ok (.aload_n 0, 1) := dk_42 (dk_at dksX9_stateCount_0 0 rfl rfl)
theorem dX9_stateCount_1 : decode cX9_stateCount 1 = .ok (.iconst 0, 1) := dk_3 (dk_at dksX9_stateCount_0 1 rfl rfl)
theorem dX9_stateCount_2 : decode cX9_stateCount 2 = .ok (.putfield 78, 3) := dk_181 0 78 (dk_at dksX9_stateCount_0 2 rfl rfl)
theorem dX9_stateCount_5 : decode cX9_stateCount 5 = .ok (.aload_n 0, 1) := dk_42 (dk_at dksX9_stateCount_0 5 rfl rfl)
theorem dX9_stateCount_6 : decode cX9_stateCount 6 = .ok (.getfield 7, 3) := dk_180 0 7 (dk_at dksX9_stateCount_0 6 rfl rfl)
theorem dX9_stateCount_9 : decode cX9_stateCount 9 = .ok (.iconst 0, 1) := dk_3 (dk_at dksX9_stateCount_0 9 rfl rfl)
theorem dX9_stateCount_10 : decode cX9_stateCount 10 = .ok (.iaload, 1) := dk_46 (dk_at dksX9_stateCount_0 10 rfl rfl)
theorem dX9_stateCount_11 : decode cX9_stateCount 11 = .ok (.ireturn, 1) := dk_172 (dk_at dksX9_stateCount_0 11 rfl rfl)
abbrev cX9_eventCount : ByteArray := prog_41_method_79_code
def yX9_eventCount : MethodName := ⟨RX9, "eventCount", "()I"⟩
def dkwX9_eventCount_0 : List UInt8 := [42, 3, 181, 0, 78, 42, 180, 0, 7, 4, 46, 172]
abbrev dktX9_eventCount_0 : List UInt8 := dkwX9_eventCount_0 ++ []
theorem dksX9_eventCount_0 : cX9_eventCount.data.toList.drop 0 = dktX9_eventCount_0 := by decide +kernel
theorem dX9_eventCount_0 : decode cX9_eventCount 0 = .ok (.aload_n 0, 1) := dk_42 (dk_at dksX9_eventCount_0 0 rfl rfl)
theorem dX9_eventCount_1 : decode cX9_eventCount 1 = .ok (.iconst 0, 1) := dk_3 (dk_at dksX9_eventCount_0 1 rfl rfl)
theorem dX9_eventCount_2 : decode cX9_eventCount 2 = .ok (.putfield 78, 3) := dk_181 0 78 (dk_at dksX9_eventCount_0 2 rfl rfl)
theorem dX9_eventCount_5 : decode cX9_eventCount 5 = .ok (.aload_n 0, 1) := dk_42 (dk_at dksX9_eventCount_0 5 rfl rfl)
theorem dX9_eventCount_6 : decode cX9_eventCount 6 = .ok (.getfield 7, 3) := dk_180 0 7 (dk_at dksX9_eventCount_0 6 rfl rfl)
theorem dX9_eventCount_9 : decode cX9_eventCount 9 = .ok (.iconst 1, 1) := dk_4 (dk_at dksX9_eventCount_0 9 rfl rfl)
theorem dX9_eventCount_10 : decode cX9_eventCount 10 = .ok (.iaload, 1) := dk_46 (dk_at dksX9_eventCount_0 10 rfl rfl)
theorem dX9_eventCount_11 : decode cX9_eventCount 11 = .ok (.ireturn, 1) := dk_172 (dk_at dksX9_eventCount_0 11 rfl rfl)
abbrev cX9_variableCount : ByteArray := prog_41_method_80_code
def yX9_variableCount : MethodName := ⟨RX9, "variableCount", "()I"⟩
def dkwX9_variableCount_0 : List UInt8 := [42, 3, 181, 0, 78, 42, 180, 0, 7, 5, 46, 172]
abbrev dktX9_variableCount_0 : List UInt8 := dkwX9_variableCount_0 ++ []
theorem dksX9_variableCount_0 : cX9_variableCount.data.toList.drop 0 = dktX9_variableCount_0 := by decide +kernel
theorem dX9_variableCount_0 : decode cX9_variableCount 0 = .ok (.aload_n 0, 1) := dk_42 (dk_at dksX9_variableCount_0 0 rfl rfl)
theorem dX9_variableCount_1 : decode cX9_variableCount 1 = .ok (.iconst 0, 1) := dk_3 (dk_at dksX9_variableCount_0 1 rfl rfl)
theorem dX9_variableCount_2 : decode cX9_variableCount 2 = .ok (.putfield 78, 3) := dk_181 0 78 (dk_at dksX9_variableCount_0 2 rfl rfl)
theorem dX9_variableCount_5 : decode cX9_variableCount 5 = .ok (.aload_n 0, 1) := dk_42 (dk_at dksX9_variableCount_0 5 rfl rfl)
theorem dX9_variableCount_6 : decode cX9_variableCount 6 = .ok (.getfield 7, 3) := dk_180 0 7 (dk_at dksX9_variableCount_0 6 rfl rfl)
theorem dX9_variableCount_9 : decode cX9_variableCount 9 = .ok (.iconst 2, 1) := dk_5 (dk_at dksX9_variableCount_0 9 rfl rfl)
theorem dX9_variableCount_10 : decode cX9_variableCount 10 = .ok (.iaload, 1) := dk_46 (dk_at dksX9_variableCount_0 10 rfl rfl)
theorem dX9_variableCount_11 : decode cX9_variableCount 11 = .ok (.ireturn, 1) := dk_172 (dk_at dksX9_variableCount_0 11 rfl rfl)
abbrev cX9_transitionCount : ByteArray := prog_41_method_81_code
def yX9_transitionCount : MethodName := ⟨RX9, "transitionCount", "()I"⟩
def dkwX9_transitionCount_0 : List UInt8 := [42, 3, 181, 0, 78, 42, 180, 0, 7, 6, 46, 172]
abbrev dktX9_transitionCount_0 : List UInt8 := dkwX9_transitionCount_0 ++ []
theorem dksX9_transitionCount_0 : cX9_transitionCount.data.toList.drop 0 = dktX9_transitionCount_0 := by decide +kernel
theorem dX9_transitionCount_0 : decode cX9_transitionCount 0 = .ok (.aload_n 0, 1) := dk_42 (dk_at dksX9_transitionCount_0 0 rfl rfl)
theorem dX9_transitionCount_1 : decode cX9_transitionCount 1 = .ok (.iconst 0, 1) := dk_3 (dk_at dksX9_transitionCount_0 1 rfl rfl)
theorem dX9_transitionCount_2 : decode cX9_transitionCount 2 = .ok (.putfield 78, 3) := dk_181 0 78 (dk_at dksX9_transitionCount_0 2 rfl rfl)
theorem dX9_transitionCount_5 : decode cX9_transitionCount 5 = .ok (.aload_n 0, 1) := dk_42 (dk_at dksX9_transitionCount_0 5 rfl rfl)
theorem dX9_transitionCount_6 : decode cX9_transitionCount 6 = .ok (.getfield 7, 3) := dk_180 0 7 (dk_at dksX9_transitionCount_0 6 rfl rfl)
theorem dX9_transitionCount_9 : decode cX9_transitionCount 9 = .ok (.iconst 3, 1) := dk_6 (dk_at dksX9_transitionCount_0 9 rfl rfl)
theorem dX9_transitionCount_10 : decode cX9_transitionCount 10 = .ok (.iaload, 1) := dk_46 (dk_at dksX9_transitionCount_0 10 rfl rfl)
theorem dX9_transitionCount_11 : decode cX9_transitionCount 11 = .ok (.ireturn, 1) := dk_172 (dk_at dksX9_transitionCount_0 11 rfl rfl)
abbrev cX9_invariantCount : ByteArray := prog_41_method_82_code
def yX9_invariantCount : MethodName := ⟨RX9, "invariantCount", "()I"⟩
def dkwX9_invariantCount_0 : List UInt8 := [42, 3, 181, 0, 78, 42, 180, 0, 7, 7, 46, 172]
abbrev dktX9_invariantCount_0 : List UInt8 := dkwX9_invariantCount_0 ++ []
theorem dksX9_invariantCount_0 : cX9_invariantCount.data.toList.drop 0 = dktX9_invariantCount_0 := by decide +kernel
theorem dX9_invariantCount_0 : decode cX9_invariantCount 0 = .ok (.aload_n 0, 1) := dk_42 (dk_at dksX9_invariantCount_0 0 rfl rfl)
theorem dX9_invariantCount_1 : decode cX9_invariantCount 1 = .ok (.iconst 0, 1) := dk_3 (dk_at dksX9_invariantCount_0 1 rfl rfl)
theorem dX9_invariantCount_2 : decode cX9_invariantCount 2 = .ok (.putfield 78, 3) := dk_181 0 78 (dk_at dksX9_invariantCount_0 2 rfl rfl)
theorem dX9_invariantCount_5 : decode cX9_invariantCount 5 = .ok (.aload_n 0, 1) := dk_42 (dk_at dksX9_invariantCount_0 5 rfl rfl)
theorem dX9_invariantCount_6 : decode cX9_invariantCount 6 = .ok (.getfield 7, 3) := dk_180 0 7 (dk_at dksX9_invariantCount_0 6 rfl rfl)
theorem dX9_invariantCount_9 : decode cX9_invariantCount 9 = .ok (.iconst 4, 1) := dk_7 (dk_at dksX9_invariantCount_0 9 rfl rfl)
theorem dX9_invariantCount_10 : decode cX9_invariantCount 10 = .ok (.iaload, 1) := dk_46 (dk_at dksX9_invariantCount_0 10 rfl rfl)
theorem dX9_invariantCount_11 : decode cX9_invariantCount 11 = .ok (.ireturn, 1) := dk_172 (dk_at dksX9_invariantCount_0 11 rfl rfl)
abbrev cX9_currentState : ByteArray := prog_41_method_83_code
def yX9_currentState : MethodName := ⟨RX9, "currentState", "()I"⟩
def dkwX9_currentState_0 : List UInt8 := [42, 3, 181, 0, 78, 42, 180, 0, 7, 8, 46, 172]
abbrev dktX9_currentState_0 : List UInt8 := dkwX9_currentState_0 ++ []
theorem dksX9_currentState_0 : cX9_currentState.data.toList.drop 0 = dktX9_currentState_0 := by decide +kernel
theorem dX9_currentState_0 : decode cX9_currentState 0 = .ok (.aload_n 0, 1) := dk_42 (dk_at dksX9_currentState_0 0 rfl rfl)
theorem dX9_currentState_1 : decode cX9_currentState 1 = .ok (.iconst 0, 1) := dk_3 (dk_at dksX9_currentState_0 1 rfl rfl)
theorem dX9_currentState_2 : decode cX9_currentState 2 = .ok (.putfield 78, 3) := dk_181 0 78 (dk_at dksX9_currentState_0 2 rfl rfl)
theorem dX9_currentState_5 : decode cX9_currentState 5 = .ok (.aload_n 0, 1) := dk_42 (dk_at dksX9_currentState_0 5 rfl rfl)
theorem dX9_currentState_6 : decode cX9_currentState 6 = .ok (.getfield 7, 3) := dk_180 0 7 (dk_at dksX9_currentState_0 6 rfl rfl)
theorem dX9_currentState_9 : decode cX9_currentState 9 = .ok (.iconst 5, 1) := dk_8 (dk_at dksX9_currentState_0 9 rfl rfl)
theorem dX9_currentState_10 : decode cX9_currentState 10 = .ok (.iaload, 1) := dk_46 (dk_at dksX9_currentState_0 10 rfl rfl)
theorem dX9_currentState_11 : decode cX9_currentState 11 = .ok (.ireturn, 1) := dk_172 (dk_at dksX9_currentState_0 11 rfl rfl)
abbrev cX9_acceptedCount : ByteArray := prog_41_method_84_code
def yX9_acceptedCount : MethodName := ⟨RX9, "acceptedCount", "()I"⟩
def dkwX9_acceptedCount_0 : List UInt8 := [42, 3, 181, 0, 78, 42, 180, 0, 7, 16, 12, 46, 172]
abbrev dktX9_acceptedCount_0 : List UInt8 := dkwX9_acceptedCount_0 ++ []
theorem dksX9_acceptedCount_0 : cX9_acceptedCount.data.toList.drop 0 = dktX9_acceptedCount_0 := by decide +kernel
theorem dX9_acceptedCount_0 : decode cX9_acceptedCount 0 = .ok (.aload_n 0, 1) := dk_42 (dk_at dksX9_acceptedCount_0 0 rfl rfl)
theorem dX9_acceptedCount_1 : decode cX9_acceptedCount 1 = .ok (.iconst 0, 1) := dk_3 (dk_at dksX9_acceptedCount_0 1 rfl rfl)
theorem dX9_acceptedCount_2 : decode cX9_acceptedCount 2 = .ok (.putfield 78, 3) := dk_181 0 78 (dk_at dksX9_acceptedCount_0 2 rfl rfl)
theorem dX9_acceptedCount_5 : decode cX9_acceptedCount 5 = .ok (.aload_n 0, 1) := dk_42 (dk_at dksX9_acceptedCount_0 5 rfl rfl)
theorem dX9_acceptedCount_6 : decode cX9_acceptedCount 6 = .ok (.getfield 7, 3) := dk_180 0 7 (dk_at dksX9_acceptedCount_0 6 rfl rfl)
theorem dX9_acceptedCount_9 : decode cX9_acceptedCount 9 = .ok (.bipush 12, 2) := dk_16 12 (dk_at dksX9_acceptedCount_0 9 rfl rfl)
theorem dX9_acceptedCount_11 : decode cX9_acceptedCount 11 = .ok (.iaload, 1) := dk_46 (dk_at dksX9_acceptedCount_0 11 rfl rfl)
theorem dX9_acceptedCount_12 : decode cX9_acceptedCount 12 = .ok (.ireturn, 1) := dk_172 (dk_at dksX9_acceptedCount_0 12 rfl rfl)
abbrev cX9_rejectedCount : ByteArray := prog_41_method_85_code
def yX9_rejectedCount : MethodName := ⟨RX9, "rejectedCount", "()I"⟩
def dkwX9_rejectedCount_0 : List UInt8 := [42, 3, 181, 0, 78, 42, 180, 0, 7, 16, 17, 46, 172]
abbrev dktX9_rejectedCount_0 : List UInt8 := dkwX9_rejectedCount_0 ++ []
theorem dksX9_rejectedCount_0 : cX9_rejectedCount.data.toList.drop 0 = dktX9_rejectedCount_0 := by decide +kernel
theorem dX9_rejectedCount_0 : decode cX9_rejectedCount 0 = .ok (.aload_n 0, 1) := dk_42 (dk_at dksX9_rejectedCount_0 0 rfl rfl)
theorem dX9_rejectedCount_1 : decode cX9_rejectedCount 1 = .ok (.iconst 0, 1) := dk_3 (dk_at dksX9_rejectedCount_0 1 rfl rfl)
theorem dX9_rejectedCount_2 : decode cX9_rejectedCount 2 = .ok (.putfield 78, 3) := dk_181 0 78 (dk_at dksX9_rejectedCount_0 2 rfl rfl)
theorem dX9_rejectedCount_5 : decode cX9_rejectedCount 5 = .ok (.aload_n 0, 1) := dk_42 (dk_at dksX9_rejectedCount_0 5 rfl rfl)
theorem dX9_rejectedCount_6 : decode cX9_rejectedCount 6 = .ok (.getfield 7, 3) := dk_180 0 7 (dk_at dksX9_rejectedCount_0 6 rfl rfl)
theorem dX9_rejectedCount_9 : decode cX9_rejectedCount 9 = .ok (.bipush 17, 2) := dk_16 17 (dk_at dksX9_rejectedCount_0 9 rfl rfl)
theorem dX9_rejectedCount_11 : decode cX9_rejectedCount 11 = .ok (.iaload, 1) := dk_46 (dk_at dksX9_rejectedCount_0 11 rfl rfl)
theorem dX9_rejectedCount_12 : decode cX9_rejectedCount 12 = .ok (.ireturn, 1) := dk_172 (dk_at dksX9_rejectedCount_0 12 rfl rfl)
abbrev cX9_traceLength : ByteArray := prog_41_method_86_code
def yX9_traceLength : MethodName := ⟨RX9, "traceLength", "()I"⟩
def dkwX9_traceLength_0 : List UInt8 := [42, 3, 181, 0, 78, 42, 180, 0, 7, 16, 18, 46, 172]
abbrev dktX9_traceLength_0 : List UInt8 := dkwX9_traceLength_0 ++ []
theorem dksX9_traceLength_0 : cX9_traceLength.data.toList.drop 0 = dktX9_traceLength_0 := by decide +kernel
theorem dX9_traceLength_0 : decode cX9_traceLength 0 = .ok (.aload_n 0, 1) := dk_42 (dk_at dksX9_traceLength_0 0 rfl rfl)
theorem dX9_traceLength_1 : decode cX9_traceLength 1 = .ok (.iconst 0, 1) := dk_3 (dk_at dksX9_traceLength_0 1 rfl rfl)
theorem dX9_traceLength_2 : decode cX9_traceLength 2 = .ok (.putfield 78, 3) := dk_181 0 78 (dk_at dksX9_traceLength_0 2 rfl rfl)
theorem dX9_traceLength_5 : decode cX9_traceLength 5 = .ok (.aload_n 0, 1) := dk_42 (dk_at dksX9_traceLength_0 5 rfl rfl)
theorem dX9_traceLength_6 : decode cX9_traceLength 6 = .ok (.getfield 7, 3) := dk_180 0 7 (dk_at dksX9_traceLength_0 6 rfl rfl)
theorem dX9_traceLength_9 : decode cX9_traceLength 9 = .ok (.bipush 18, 2) := dk_16 18 (dk_at dksX9_traceLength_0 9 rfl rfl)
theorem dX9_traceLength_11 : decode cX9_traceLength 11 = .ok (.iaload, 1) := dk_46 (dk_at dksX9_traceLength_0 11 rfl rfl)
theorem dX9_traceLength_12 : decode cX9_traceLength 12 = .ok (.ireturn, 1) := dk_172 (dk_at dksX9_traceLength_0 12 rfl rfl)
abbrev cX9_stateNameByte : ByteArray := prog_41_method_89_code
def yX9_stateNameByte : MethodName := ⟨RX9, "stateNameByte", "(II)I"⟩
def dkwX9_stateNameByte_1 : List UInt8 := [27, 104, 96, 28, 182, 1, 117, 172]
abbrev dktX9_stateNameByte_1 : List UInt8 := dkwX9_stateNameByte_1 ++ []
def dkwX9_stateNameByte_0 : List UInt8 := [42, 3, 181, 0, 78, 42, 27, 3, 182, 1, 114, 153, 0, 7, 3, 167, 0, 16, 42, 17, 1, 101, 16, 7]
abbrev dktX9_stateNameByte_0 : List UInt8 := dkwX9_stateNameByte_0 ++ dktX9_stateNameByte_1
theorem dksX9_stateNameByte_0 : cX9_stateNameByte.data.toList.drop 0 = dktX9_stateNameByte_0 := by decide +kernel
theorem dksX9_stateNameByte_1 : cX9_stateNameByte.data.toList.drop 24 = dktX9_stateNameByte_1 := dk_seg dksX9_stateNameByte_0 24 rfl rfl
theorem dX9_stateNameByte_0 : decode cX9_stateNameByte 0 = .ok (.aload_n 0, 1) := dk_42 (dk_at dksX9_stateNameByte_0 0 rfl rfl)
theorem dX9_stateNameByte_1 : decode cX9_stateNameByte 1 = .ok (.iconst 0, 1) := dk_3 (dk_at dksX9_stateNameByte_0 1 rfl rfl)
theorem dX9_stateNameByte_2 : decode cX9_stateNameByte 2 = .ok (.putfield 78, 3) := dk_181 0 78 (dk_at dksX9_stateNameByte_0 2 rfl rfl)
theorem dX9_stateNameByte_5 : decode cX9_stateNameByte 5 = .ok (.aload_n 0, 1) := dk_42 (dk_at dksX9_stateNameByte_0 5 rfl rfl)
theorem dX9_stateNameByte_6 : decode cX9_stateNameByte 6 = .ok (.iload_n 1, 1) := dk_27 (dk_at dksX9_stateNameByte_0 6 rfl rfl)
theorem dX9_stateNameByte_7 : decode cX9_stateNameByte 7 = .ok (.iconst 0, 1) := dk_3 (dk_at dksX9_stateNameByte_0 7 rfl rfl)
theorem dX9_stateNameByte_8 : decode cX9_stateNameByte 8 = .ok (.invokevirtual 370, 3) := dk_182 1 114 (dk_at dksX9_stateNameByte_0 8 rfl rfl)
theorem dX9_stateNameByte_11 : decode cX9_stateNameByte 11 = .ok (.ifCond .eq 7, 3) := dk_153 0 7 (dk_at dksX9_stateNameByte_0 11 rfl rfl)
theorem dX9_stateNameByte_14 : decode cX9_stateNameByte 14 = .ok (.iconst 0, 1) := dk_3 (dk_at dksX9_stateNameByte_0 14 rfl rfl)
theorem dX9_stateNameByte_15 : decode cX9_stateNameByte 15 = .ok (.goto 16, 3) := dk_167 0 16 (dk_at dksX9_stateNameByte_0 15 rfl rfl)
theorem dX9_stateNameByte_18 : decode cX9_stateNameByte 18 = .ok (.aload_n 0, 1) := dk_42 (dk_at dksX9_stateNameByte_0 18 rfl rfl)
theorem dX9_stateNameByte_19 : decode cX9_stateNameByte 19 = .ok (.sipush 357, 3) := dk_17 1 101 (dk_at dksX9_stateNameByte_0 19 rfl rfl)
theorem dX9_stateNameByte_22 : decode cX9_stateNameByte 22 = .ok (.bipush 7, 2) := dk_16 7 (dk_at dksX9_stateNameByte_0 22 rfl rfl)
theorem dX9_stateNameByte_24 : decode cX9_stateNameByte 24 = .ok (.iload_n 1, 1) := dk_27 (dk_at dksX9_stateNameByte_1 0 rfl rfl)
theorem dX9_stateNameByte_25 : decode cX9_stateNameByte 25 = .ok (.imul, 1) := dk_104 (dk_at dksX9_stateNameByte_1 1 rfl rfl)
theorem dX9_stateNameByte_26 : decode cX9_stateNameByte 26 = .ok (.iadd, 1) := dk_96 (dk_at dksX9_stateNameByte_1 2 rfl rfl)
theorem dX9_stateNameByte_27 : decode cX9_stateNameByte 27 = .ok (.iload_n 2, 1) := dk_28 (dk_at dksX9_stateNameByte_1 3 rfl rfl)
theorem dX9_stateNameByte_28 : decode cX9_stateNameByte 28 = .ok (.invokevirtual 373, 3) := dk_182 1 117 (dk_at dksX9_stateNameByte_1 4 rfl rfl)
theorem dX9_stateNameByte_31 : decode cX9_stateNameByte 31 = .ok (.ireturn, 1) := dk_172 (dk_at dksX9_stateNameByte_1 7 rfl rfl)
abbrev cX9_no : ByteArray := prog_41_method_87_code
def yX9_no : MethodName := ⟨RX9, "no", "(II)Z"⟩
def dkwX9_no_1 : List UInt8 := [182, 1, 110, 172]
abbrev dktX9_no_1 : List UInt8 := dkwX9_no_1 ++ []
def dkwX9_no_0 : List UInt8 := [42, 27, 3, 42, 180, 0, 7, 28, 46, 4, 100, 184, 0, 127, 154, 0, 7, 4, 167, 0, 4, 3, 4]
abbrev dktX9_no_0 : List UInt8 := dkwX9_no_0 ++ dktX9_no_1
theorem dksX9_no_0 : cX9_no.data.toList.drop 0 = dktX9_no_0 := by decide +kernel
theorem dksX9_no_1 : cX9_no.data.toList.drop 23 = dktX9_no_1 := dk_seg dksX9_no_0 23 rfl rfl
theorem dX9_no_0 : decode cX9_no 0 = .ok (.aload_n 0, 1) := dk_42 (dk_at dksX9_no_0 0 rfl rfl)
theorem dX9_no_1 : decode cX9_no 1 = .ok (.iload_n 1, 1) := dk_27 (dk_at dksX9_no_0 1 rfl rfl)
theorem dX9_no_2 : decode cX9_no 2 = .ok (.iconst 0, 1) := dk_3 (dk_at dksX9_no_0 2 rfl rfl)
theorem dX9_no_3 : decode cX9_no 3 = .ok (.aload_n 0, 1) := dk_42 (dk_at dksX9_no_0 3 rfl rfl)
theorem dX9_no_4 : decode cX9_no 4 = .ok (.getfield 7, 3) := dk_180 0 7 (dk_at dksX9_no_0 4 rfl rfl)
theorem dX9_no_7 : decode cX9_no 7 = .ok (.iload_n 2, 1) := dk_28 (dk_at dksX9_no_0 7 rfl rfl)
theorem dX9_no_8 : decode cX9_no 8 = .ok (.iaload, 1) := dk_46 (dk_at dksX9_no_0 8 rfl rfl)
theorem dX9_no_9 : decode cX9_no 9 = .ok (.iconst 1, 1) := dk_4 (dk_at dksX9_no_0 9 rfl rfl)
theorem dX9_no_10 : decode cX9_no 10 = .ok (.isub, 1) := dk_100 (dk_at dksX9_no_0 10 rfl rfl)
theorem dX9_no_11 : decode cX9_no 11 = .ok (.invokestatic 127, 3) := dk_184 0 127 (dk_at dksX9_no_0 11 rfl rfl)
theorem dX9_no_14 : decode cX9_no 14 = .ok (.ifCond .ne 7, 3) := dk_154 0 7 (dk_at dksX9_no_0 14 rfl rfl)
theorem dX9_no_17 : decode cX9_no 17 = .ok (.iconst 1, 1) := dk_4 (dk_at dksX9_no_0 17 rfl rfl)
theorem dX9_no_18 : decode cX9_no 18 = .ok (.goto 4, 3) := dk_167 0 4 (dk_at dksX9_no_0 18 rfl rfl)
theorem dX9_no_21 : decode cX9_no 21 = .ok (.iconst 0, 1) := dk_3 (dk_at dksX9_no_0 21 rfl rfl)
theorem dX9_no_22 : decode cX9_no 22 = .ok (.iconst 1, 1) := dk_4 (dk_at dksX9_no_0 22 rfl rfl)
theorem dX9_no_23 : decode cX9_no 23 = .ok (.invokevirtual 366, 3) := dk_182 1 110 (dk_at dksX9_no_1 0 rfl rfl)
theorem dX9_no_26 : decode cX9_no 26 = .ok (.ireturn, 1) := dk_172 (dk_at dksX9_no_1 3 rfl rfl)
abbrev cX9_fails : ByteArray := prog_41_method_5_code
def yX9_fails : MethodName := ⟨RX9, "fails", "(ZI)Z"⟩
def dkwX9_fails_0 : List UInt8 := [27, 153, 0, 8, 42, 28, 181, 0, 78, 27, 172]
abbrev dktX9_fails_0 : List UInt8 := dkwX9_fails_0 ++ []
theorem dksX9_fails_0 : cX9_fails.data.toList.drop 0 = dktX9_fails_0 := by decide +kernel
theorem dX9_fails_0 : decode cX9_fails 0 = .ok (.iload_n 1, 1) := dk_27 (dk_at dksX9_fails_0 0 rfl rfl)
theorem dX9_fails_1 : decode cX9_fails 1 = .ok (.ifCond .eq 8, 3) := dk_153 0 8 (dk_at dksX9_fails_0 1 rfl rfl)
theorem dX9_fails_4 : decode cX9_fails 4 = .ok (.aload_n 0, 1) := dk_42 (dk_at dksX9_fails_0 4 rfl rfl)
theorem dX9_fails_5 : decode cX9_fails 5 = .ok (.iload_n 2, 1) := dk_28 (dk_at dksX9_fails_0 5 rfl rfl)
theorem dX9_fails_6 : decode cX9_fails 6 = .ok (.putfield 78, 3) := dk_181 0 78 (dk_at dksX9_fails_0 6 rfl rfl)
theorem dX9_fails_9 : decode cX9_fails 9 = .ok (.iload_n 1, 1) := dk_27 (dk_at dksX9_fails_0 9 rfl rfl)
theorem dX9_fails_10 : decode cX9_fails 10 = .ok (.ireturn, 1) := dk_172 (dk_at dksX9_fails_0 10 rfl rfl)
abbrev cX9_letter : ByteArray := prog_41_method_88_code
def yX9_letter : MethodName := ⟨RX9, "letter", "(II)I"⟩
def dkwX9_letter_1 : List UInt8 := [96, 46, 167, 0, 4, 2, 172]
abbrev dktX9_letter_1 : List UInt8 := dkwX9_letter_1 ++ []
def dkwX9_letter_0 : List UInt8 := [28, 3, 42, 180, 0, 7, 27, 46, 4, 100, 184, 0, 127, 153, 0, 16, 42, 180, 0, 7, 27, 4, 96, 28]
abbrev dktX9_letter_0 : List UInt8 := dkwX9_letter_0 ++ dktX9_letter_1
theorem dksX9_letter_0 : cX9_letter.data.toList.drop 0 = dktX9_letter_0 := by decide +kernel
theorem dksX9_letter_1 : cX9_letter.data.toList.drop 24 = dktX9_letter_1 := dk_seg dksX9_letter_0 24 rfl rfl
theorem dX9_letter_0 : decode cX9_letter 0 = .ok (.iload_n 2, 1) := dk_28 (dk_at dksX9_letter_0 0 rfl rfl)
theorem dX9_letter_1 : decode cX9_letter 1 = .ok (.iconst 0, 1) := dk_3 (dk_at dksX9_letter_0 1 rfl rfl)
theorem dX9_letter_2 : decode cX9_letter 2 = .ok (.aload_n 0, 1) := dk_42 (dk_at dksX9_letter_0 2 rfl rfl)
theorem dX9_letter_3 : decode cX9_letter 3 = .ok (.getfield 7, 3) := dk_180 0 7 (dk_at dksX9_letter_0 3 rfl rfl)
theorem dX9_letter_6 : decode cX9_letter 6 = .ok (.iload_n 1, 1) := dk_27 (dk_at dksX9_letter_0 6 rfl rfl)
theorem dX9_letter_7 : decode cX9_letter 7 = .ok (.iaload, 1) := dk_46 (dk_at dksX9_letter_0 7 rfl rfl)
theorem dX9_letter_8 : decode cX9_letter 8 = .ok (.iconst 1, 1) := dk_4 (dk_at dksX9_letter_0 8 rfl rfl)
theorem dX9_letter_9 : decode cX9_letter 9 = .ok (.isub, 1) := dk_100 (dk_at dksX9_letter_0 9 rfl rfl)
theorem dX9_letter_10 : decode cX9_letter 10 = .ok (.invokestatic 127, 3) := dk_184 0 127 (dk_at dksX9_letter_0 10 rfl rfl)
theorem dX9_letter_13 : decode cX9_letter 13 = .ok (.ifCond .eq 16, 3) := dk_153 0 16 (dk_at dksX9_letter_0 13 rfl rfl)
theorem dX9_letter_16 : decode cX9_letter 16 = .ok (.aload_n 0, 1) := dk_42 (dk_at dksX9_letter_0 16 rfl rfl)
theorem dX9_letter_17 : decode cX9_letter 17 = .ok (.getfield 7, 3) := dk_180 0 7 (dk_at dksX9_letter_0 17 rfl rfl)
theorem dX9_letter_20 : decode cX9_letter 20 = .ok (.iload_n 1, 1) := dk_27 (dk_at dksX9_letter_0 20 rfl rfl)
theorem dX9_letter_21 : decode cX9_letter 21 = .ok (.iconst 1, 1) := dk_4 (dk_at dksX9_letter_0 21 rfl rfl)
theorem dX9_letter_22 : decode cX9_letter 22 = .ok (.iadd, 1) := dk_96 (dk_at dksX9_letter_0 22 rfl rfl)
theorem dX9_letter_23 : decode cX9_letter 23 = .ok (.iload_n 2, 1) := dk_28 (dk_at dksX9_letter_0 23 rfl rfl)
theorem dX9_letter_24 : decode cX9_letter 24 = .ok (.iadd, 1) := dk_96 (dk_at dksX9_letter_1 0 rfl rfl)
theorem dX9_letter_25 : decode cX9_letter 25 = .ok (.iaload, 1) := dk_46 (dk_at dksX9_letter_1 1 rfl rfl)
theorem dX9_letter_26 : decode cX9_letter 26 = .ok (.goto 4, 3) := dk_167 0 4 (dk_at dksX9_letter_1 2 rfl rfl)
theorem dX9_letter_29 : decode cX9_letter 29 = .ok (.iconst (-1), 1) := dk_2 (dk_at dksX9_letter_1 5 rfl rfl)
theorem dX9_letter_30 : decode cX9_letter 30 = .ok (.ireturn, 1) := dk_172 (dk_at dksX9_letter_1 6 rfl rfl)
abbrev cX9_eventNameByte : ByteArray := prog_41_method_90_code
def yX9_eventNameByte : MethodName := ⟨RX9, "eventNameByte", "(II)I"⟩
def dkwX9_eventNameByte_1 : List UInt8 := [27, 104, 96, 28, 182, 1, 117, 172]
abbrev dktX9_eventNameByte_1 : List UInt8 := dkwX9_eventNameByte_1 ++ []
def dkwX9_eventNameByte_0 : List UInt8 := [42, 3, 181, 0, 78, 42, 27, 4, 182, 1, 114, 153, 0, 7, 3, 167, 0, 16, 42, 17, 1, 171, 16, 7]
abbrev dktX9_eventNameByte_0 : List UInt8 := dkwX9_eventNameByte_0 ++ dktX9_eventNameByte_1
theorem dksX9_eventNameByte_0 : cX9_eventNameByte.data.toList.drop 0 = dktX9_eventNameByte_0 := by decide +kernel
theorem dksX9_eventNameByte_1 : cX9_eventNameByte.data.toList.drop 24 = dktX9_eventNameByte_1 := dk_seg dksX9_eventNameByte_0 24 rfl rfl
theorem dX9_eventNameByte_0 : decode cX9_eventNameByte 0 = .ok (.aload_n 0, 1) := dk_42 (dk_at dksX9_eventNameByte_0 0 rfl rfl)
theorem dX9_eventNameByte_1 : decode cX9_eventNameByte 1 = .ok (.iconst 0, 1) := dk_3 (dk_at dksX9_eventNameByte_0 1 rfl rfl)
theorem dX9_eventNameByte_2 : decode cX9_eventNameByte 2 = .ok (.putfield 78, 3) := dk_181 0 78 (dk_at dksX9_eventNameByte_0 2 rfl rfl)
theorem dX9_eventNameByte_5 : decode cX9_eventNameByte 5 = .ok (.aload_n 0, 1) := dk_42 (dk_at dksX9_eventNameByte_0 5 rfl rfl)
theorem dX9_eventNameByte_6 : decode cX9_eventNameByte 6 = .ok (.iload_n 1, 1) := dk_27 (dk_at dksX9_eventNameByte_0 6 rfl rfl)
theorem dX9_eventNameByte_7 : decode cX9_eventNameByte 7 = .ok (.iconst 1, 1) := dk_4 (dk_at dksX9_eventNameByte_0 7 rfl rfl)
theorem dX9_eventNameByte_8 : decode cX9_eventNameByte 8 = .ok (.invokevirtual 370, 3) := dk_182 1 114 (dk_at dksX9_eventNameByte_0 8 rfl rfl)
theorem dX9_eventNameByte_11 : decode cX9_eventNameByte 11 = .ok (.ifCond .eq 7, 3) := dk_153 0 7 (dk_at dksX9_eventNameByte_0 11 rfl rfl)
theorem dX9_eventNameByte_14 : decode cX9_eventNameByte 14 = .ok (.iconst 0, 1) := dk_3 (dk_at dksX9_eventNameByte_0 14 rfl rfl)
theorem dX9_eventNameByte_15 : decode cX9_eventNameByte 15 = .ok (.goto 16, 3) := dk_167 0 16 (dk_at dksX9_eventNameByte_0 15 rfl rfl)
theorem dX9_eventNameByte_18 : decode cX9_eventNameByte 18 = .ok (.aload_n 0, 1) := dk_42 (dk_at dksX9_eventNameByte_0 18 rfl rfl)
theorem dX9_eventNameByte_19 : decode cX9_eventNameByte 19 = .ok (.sipush 427, 3) := dk_17 1 171 (dk_at dksX9_eventNameByte_0 19 rfl rfl)
theorem dX9_eventNameByte_22 : decode cX9_eventNameByte 22 = .ok (.bipush 7, 2) := dk_16 7 (dk_at dksX9_eventNameByte_0 22 rfl rfl)
theorem dX9_eventNameByte_24 : decode cX9_eventNameByte 24 = .ok (.iload_n 1, 1) := dk_27 (dk_at dksX9_eventNameByte_1 0 rfl rfl)
theorem dX9_eventNameByte_25 : decode cX9_eventNameByte 25 = .ok (.imul, 1) := dk_104 (dk_at dksX9_eventNameByte_1 1 rfl rfl)
theorem dX9_eventNameByte_26 : decode cX9_eventNameByte 26 = .ok (.iadd, 1) := dk_96 (dk_at dksX9_eventNameByte_1 2 rfl rfl)
theorem dX9_eventNameByte_27 : decode cX9_eventNameByte 27 = .ok (.iload_n 2, 1) := dk_28 (dk_at dksX9_eventNameByte_1 3 rfl rfl)
theorem dX9_eventNameByte_28 : decode cX9_eventNameByte 28 = .ok (.invokevirtual 373, 3) := dk_182 1 117 (dk_at dksX9_eventNameByte_1 4 rfl rfl)
theorem dX9_eventNameByte_31 : decode cX9_eventNameByte 31 = .ok (.ireturn, 1) := dk_172 (dk_at dksX9_eventNameByte_1 7 rfl rfl)
abbrev cX9_variableNameByte : ByteArray := prog_41_method_91_code
def yX9_variableNameByte : MethodName := ⟨RX9, "variableNameByte", "(II)I"⟩
def dkwX9_variableNameByte_1 : List UInt8 := [27, 104, 96, 28, 182, 1, 117, 172]
abbrev dktX9_variableNameByte_1 : List UInt8 := dkwX9_variableNameByte_1 ++ []
def dkwX9_variableNameByte_0 : List UInt8 := [42, 3, 181, 0, 78, 42, 27, 5, 182, 1, 114, 153, 0, 7, 3, 167, 0, 16, 42, 17, 1, 227, 16, 7]
abbrev dktX9_variableNameByte_0 : List UInt8 := dkwX9_variableNameByte_0 ++ dktX9_variableNameByte_1
theorem dksX9_variableNameByte_0 : cX9_variableNameByte.data.toList.drop 0 = dktX9_variableNameByte_0 := by decide +kernel
theorem dksX9_variableNameByte_1 : cX9_variableNameByte.data.toList.drop 24 = dktX9_variableNameByte_1 := dk_seg dksX9_variableNameByte_0 24 rfl rfl
theorem dX9_variableNameByte_0 : decode cX9_variableNameByte 0 = .ok (.aload_n 0, 1) := dk_42 (dk_at dksX9_variableNameByte_0 0 rfl rfl)
theorem dX9_variableNameByte_1 : decode cX9_variableNameByte 1 = .ok (.iconst 0, 1) := dk_3 (dk_at dksX9_variableNameByte_0 1 rfl rfl)
theorem dX9_variableNameByte_2 : decode cX9_variableNameByte 2 = .ok (.putfield 78, 3) := dk_181 0 78 (dk_at dksX9_variableNameByte_0 2 rfl rfl)
theorem dX9_variableNameByte_5 : decode cX9_variableNameByte 5 = .ok (.aload_n 0, 1) := dk_42 (dk_at dksX9_variableNameByte_0 5 rfl rfl)
theorem dX9_variableNameByte_6 : decode cX9_variableNameByte 6 = .ok (.iload_n 1, 1) := dk_27 (dk_at dksX9_variableNameByte_0 6 rfl rfl)
theorem dX9_variableNameByte_7 : decode cX9_variableNameByte 7 = .ok (.iconst 2, 1) := dk_5 (dk_at dksX9_variableNameByte_0 7 rfl rfl)
theorem dX9_variableNameByte_8 : decode cX9_variableNameByte 8 = .ok (.invokevirtual 370, 3) := dk_182 1 114 (dk_at dksX9_variableNameByte_0 8 rfl rfl)
theorem dX9_variableNameByte_11 : decode cX9_variableNameByte 11 = .ok (.ifCond .eq 7, 3) := dk_153 0 7 (dk_at dksX9_variableNameByte_0 11 rfl rfl)
theorem dX9_variableNameByte_14 : decode cX9_variableNameByte 14 = .ok (.iconst 0, 1) := dk_3 (dk_at dksX9_variableNameByte_0 14 rfl rfl)
theorem dX9_variableNameByte_15 : decode cX9_variableNameByte 15 = .ok (.goto 16, 3) := dk_167 0 16 (dk_at dksX9_variableNameByte_0 15 rfl rfl)
theorem dX9_variableNameByte_18 : decode cX9_variableNameByte 18 = .ok (.aload_n 0, 1) := dk_42 (dk_at dksX9_variableNameByte_0 18 rfl rfl)
theorem dX9_variableNameByte_19 : decode cX9_variableNameByte 19 = .ok (.sipush 483, 3) := dk_17 1 227 (dk_at dksX9_variableNameByte_0 19 rfl rfl)
theorem dX9_variableNameByte_22 : decode cX9_variableNameByte 22 = .ok (.bipush 7, 2) := dk_16 7 (dk_at dksX9_variableNameByte_0 22 rfl rfl)
theorem dX9_variableNameByte_24 : decode cX9_variableNameByte 24 = .ok (.iload_n 1, 1) := dk_27 (dk_at dksX9_variableNameByte_1 0 rfl rfl)
theorem dX9_variableNameByte_25 : decode cX9_variableNameByte 25 = .ok (.imul, 1) := dk_104 (dk_at dksX9_variableNameByte_1 1 rfl rfl)
theorem dX9_variableNameByte_26 : decode cX9_variableNameByte 26 = .ok (.iadd, 1) := dk_96 (dk_at dksX9_variableNameByte_1 2 rfl rfl)
theorem dX9_variableNameByte_27 : decode cX9_variableNameByte 27 = .ok (.iload_n 2, 1) := dk_28 (dk_at dksX9_variableNameByte_1 3 rfl rfl)
theorem dX9_variableNameByte_28 : decode cX9_variableNameByte 28 = .ok (.invokevirtual 373, 3) := dk_182 1 117 (dk_at dksX9_variableNameByte_1 4 rfl rfl)
theorem dX9_variableNameByte_31 : decode cX9_variableNameByte 31 = .ok (.ireturn, 1) := dk_172 (dk_at dksX9_variableNameByte_1 7 rfl rfl)
abbrev cX9_sourceOf : ByteArray := prog_41_method_92_code
def yX9_sourceOf : MethodName := ⟨RX9, "sourceOf", "(I)I"⟩
def dkwX9_sourceOf_1 : List UInt8 := [172]
abbrev dktX9_sourceOf_1 : List UInt8 := dkwX9_sourceOf_1 ++ []
def dkwX9_sourceOf_0 : List UInt8 := [42, 3, 181, 0, 78, 42, 27, 6, 182, 1, 114, 153, 0, 7, 3, 167, 0, 9, 42, 27, 3, 182, 0, 109]
abbrev dktX9_sourceOf_0 : List UInt8 := dkwX9_sourceOf_0 ++ dktX9_sourceOf_1
theorem dksX9_sourceOf_0 : cX9_sourceOf.data.toList.drop 0 = dktX9_sourceOf_0 := by decide +kernel
theorem dksX9_sourceOf_1 : cX9_sourceOf.data.toList.drop 24 = dktX9_sourceOf_1 := dk_seg dksX9_sourceOf_0 24 rfl rfl
theorem dX9_sourceOf_0 : decode cX9_sourceOf 0 = .ok (.aload_n 0, 1) := dk_42 (dk_at dksX9_sourceOf_0 0 rfl rfl)
theorem dX9_sourceOf_1 : decode cX9_sourceOf 1 = .ok (.iconst 0, 1) := dk_3 (dk_at dksX9_sourceOf_0 1 rfl rfl)
theorem dX9_sourceOf_2 : decode cX9_sourceOf 2 = .ok (.putfield 78, 3) := dk_181 0 78 (dk_at dksX9_sourceOf_0 2 rfl rfl)
theorem dX9_sourceOf_5 : decode cX9_sourceOf 5 = .ok (.aload_n 0, 1) := dk_42 (dk_at dksX9_sourceOf_0 5 rfl rfl)
theorem dX9_sourceOf_6 : decode cX9_sourceOf 6 = .ok (.iload_n 1, 1) := dk_27 (dk_at dksX9_sourceOf_0 6 rfl rfl)
theorem dX9_sourceOf_7 : decode cX9_sourceOf 7 = .ok (.iconst 3, 1) := dk_6 (dk_at dksX9_sourceOf_0 7 rfl rfl)
theorem dX9_sourceOf_8 : decode cX9_sourceOf 8 = .ok (.invokevirtual 370, 3) := dk_182 1 114 (dk_at dksX9_sourceOf_0 8 rfl rfl)
theorem dX9_sourceOf_11 : decode cX9_sourceOf 11 = .ok (.ifCond .eq 7, 3) := dk_153 0 7 (dk_at dksX9_sourceOf_0 11 rfl rfl)
theorem dX9_sourceOf_14 : decode cX9_sourceOf 14 = .ok (.iconst 0, 1) := dk_3 (dk_at dksX9_sourceOf_0 14 rfl rfl)
theorem dX9_sourceOf_15 : decode cX9_sourceOf 15 = .ok (.goto 9, 3) := dk_167 0 9 (dk_at dksX9_sourceOf_0 15 rfl rfl)
theorem dX9_sourceOf_18 : decode cX9_sourceOf 18 = .ok (.aload_n 0, 1) := dk_42 (dk_at dksX9_sourceOf_0 18 rfl rfl)
theorem dX9_sourceOf_19 : decode cX9_sourceOf 19 = .ok (.iload_n 1, 1) := dk_27 (dk_at dksX9_sourceOf_0 19 rfl rfl)
theorem dX9_sourceOf_20 : decode cX9_sourceOf 20 = .ok (.iconst 0, 1) := dk_3 (dk_at dksX9_sourceOf_0 20 rfl rfl)
theorem dX9_sourceOf_21 : decode cX9_sourceOf 21 = .ok (.invokevirtual 109, 3) := dk_182 0 109 (dk_at dksX9_sourceOf_0 21 rfl rfl)
theorem dX9_sourceOf_24 : decode cX9_sourceOf 24 = .ok (.ireturn, 1) := dk_172 (dk_at dksX9_sourceOf_1 0 rfl rfl)
abbrev cX9_eventOf : ByteArray := prog_41_method_93_code
def yX9_eventOf : MethodName := ⟨RX9, "eventOf", "(I)I"⟩
def dkwX9_eventOf_1 : List UInt8 := [172]
abbrev dktX9_eventOf_1 : List UInt8 := dkwX9_eventOf_1 ++ []
def dkwX9_eventOf_0 : List UInt8 := [42, 3, 181, 0, 78, 42, 27, 6, 182, 1, 114, 153, 0, 7, 3, 167, 0, 9, 42, 27, 4, 182, 0, 109]
abbrev dktX9_eventOf_0 : List UInt8 := dkwX9_eventOf_0 ++ dktX9_eventOf_1
theorem dksX9_eventOf_0 : cX9_eventOf.data.toList.drop 0 = dktX9_eventOf_0 := by decide +kernel
theorem dksX9_eventOf_1 : cX9_eventOf.data.toList.drop 24 = dktX9_eventOf_1 := dk_seg dksX9_eventOf_0 24 rfl rfl
theorem dX9_eventOf_0 : decode cX9_eventOf 0 = .ok (.aload_n 0, 1) := dk_42 (dk_at dksX9_eventOf_0 0 rfl rfl)
theorem dX9_eventOf_1 : decode cX9_eventOf 1 = .ok (.iconst 0, 1) := dk_3 (dk_at dksX9_eventOf_0 1 rfl rfl)
theorem dX9_eventOf_2 : decode cX9_eventOf 2 = .ok (.putfield 78, 3) := dk_181 0 78 (dk_at dksX9_eventOf_0 2 rfl rfl)
theorem dX9_eventOf_5 : decode cX9_eventOf 5 = .ok (.aload_n 0, 1) := dk_42 (dk_at dksX9_eventOf_0 5 rfl rfl)
theorem dX9_eventOf_6 : decode cX9_eventOf 6 = .ok (.iload_n 1, 1) := dk_27 (dk_at dksX9_eventOf_0 6 rfl rfl)
theorem dX9_eventOf_7 : decode cX9_eventOf 7 = .ok (.iconst 3, 1) := dk_6 (dk_at dksX9_eventOf_0 7 rfl rfl)
theorem dX9_eventOf_8 : decode cX9_eventOf 8 = .ok (.invokevirtual 370, 3) := dk_182 1 114 (dk_at dksX9_eventOf_0 8 rfl rfl)
theorem dX9_eventOf_11 : decode cX9_eventOf 11 = .ok (.ifCond .eq 7, 3) := dk_153 0 7 (dk_at dksX9_eventOf_0 11 rfl rfl)
theorem dX9_eventOf_14 : decode cX9_eventOf 14 = .ok (.iconst 0, 1) := dk_3 (dk_at dksX9_eventOf_0 14 rfl rfl)
theorem dX9_eventOf_15 : decode cX9_eventOf 15 = .ok (.goto 9, 3) := dk_167 0 9 (dk_at dksX9_eventOf_0 15 rfl rfl)
theorem dX9_eventOf_18 : decode cX9_eventOf 18 = .ok (.aload_n 0, 1) := dk_42 (dk_at dksX9_eventOf_0 18 rfl rfl)
theorem dX9_eventOf_19 : decode cX9_eventOf 19 = .ok (.iload_n 1, 1) := dk_27 (dk_at dksX9_eventOf_0 19 rfl rfl)
theorem dX9_eventOf_20 : decode cX9_eventOf 20 = .ok (.iconst 1, 1) := dk_4 (dk_at dksX9_eventOf_0 20 rfl rfl)
theorem dX9_eventOf_21 : decode cX9_eventOf 21 = .ok (.invokevirtual 109, 3) := dk_182 0 109 (dk_at dksX9_eventOf_0 21 rfl rfl)
theorem dX9_eventOf_24 : decode cX9_eventOf 24 = .ok (.ireturn, 1) := dk_172 (dk_at dksX9_eventOf_1 0 rfl rfl)
abbrev cX9_targetOf : ByteArray := prog_41_method_94_code
def yX9_targetOf : MethodName := ⟨RX9, "targetOf", "(I)I"⟩
def dkwX9_targetOf_1 : List UInt8 := [172]
abbrev dktX9_targetOf_1 : List UInt8 := dkwX9_targetOf_1 ++ []
def dkwX9_targetOf_0 : List UInt8 := [42, 3, 181, 0, 78, 42, 27, 6, 182, 1, 114, 153, 0, 7, 3, 167, 0, 9, 42, 27, 5, 182, 0, 109]
abbrev dktX9_targetOf_0 : List UInt8 := dkwX9_targetOf_0 ++ dktX9_targetOf_1
theorem dksX9_targetOf_0 : cX9_targetOf.data.toList.drop 0 = dktX9_targetOf_0 := by decide +kernel
theorem dksX9_targetOf_1 : cX9_targetOf.data.toList.drop 24 = dktX9_targetOf_1 := dk_seg dksX9_targetOf_0 24 rfl rfl
theorem dX9_targetOf_0 : decode cX9_targetOf 0 = .ok (.aload_n 0, 1) := dk_42 (dk_at dksX9_targetOf_0 0 rfl rfl)
theorem dX9_targetOf_1 : decode cX9_targetOf 1 = .ok (.iconst 0, 1) := dk_3 (dk_at dksX9_targetOf_0 1 rfl rfl)
theorem dX9_targetOf_2 : decode cX9_targetOf 2 = .ok (.putfield 78, 3) := dk_181 0 78 (dk_at dksX9_targetOf_0 2 rfl rfl)
theorem dX9_targetOf_5 : decode cX9_targetOf 5 = .ok (.aload_n 0, 1) := dk_42 (dk_at dksX9_targetOf_0 5 rfl rfl)
theorem dX9_targetOf_6 : decode cX9_targetOf 6 = .ok (.iload_n 1, 1) := dk_27 (dk_at dksX9_targetOf_0 6 rfl rfl)
theorem dX9_targetOf_7 : decode cX9_targetOf 7 = .ok (.iconst 3, 1) := dk_6 (dk_at dksX9_targetOf_0 7 rfl rfl)
theorem dX9_targetOf_8 : decode cX9_targetOf 8 = .ok (.invokevirtual 370, 3) := dk_182 1 114 (dk_at dksX9_targetOf_0 8 rfl rfl)
theorem dX9_targetOf_11 : decode cX9_targetOf 11 = .ok (.ifCond .eq 7, 3) := dk_153 0 7 (dk_at dksX9_targetOf_0 11 rfl rfl)
theorem dX9_targetOf_14 : decode cX9_targetOf 14 = .ok (.iconst 0, 1) := dk_3 (dk_at dksX9_targetOf_0 14 rfl rfl)
theorem dX9_targetOf_15 : decode cX9_targetOf 15 = .ok (.goto 9, 3) := dk_167 0 9 (dk_at dksX9_targetOf_0 15 rfl rfl)
theorem dX9_targetOf_18 : decode cX9_targetOf 18 = .ok (.aload_n 0, 1) := dk_42 (dk_at dksX9_targetOf_0 18 rfl rfl)
theorem dX9_targetOf_19 : decode cX9_targetOf 19 = .ok (.iload_n 1, 1) := dk_27 (dk_at dksX9_targetOf_0 19 rfl rfl)
theorem dX9_targetOf_20 : decode cX9_targetOf 20 = .ok (.iconst 2, 1) := dk_5 (dk_at dksX9_targetOf_0 20 rfl rfl)
theorem dX9_targetOf_21 : decode cX9_targetOf 21 = .ok (.invokevirtual 109, 3) := dk_182 0 109 (dk_at dksX9_targetOf_0 21 rfl rfl)
theorem dX9_targetOf_24 : decode cX9_targetOf 24 = .ok (.ireturn, 1) := dk_172 (dk_at dksX9_targetOf_1 0 rfl rfl)
abbrev cX9_timesTaken : ByteArray := prog_41_method_95_code
def yX9_timesTaken : MethodName := ⟨RX9, "timesTaken", "(I)I"⟩
def dkwX9_timesTaken_1 : List UInt8 := [27, 96, 46, 172]
abbrev dktX9_timesTaken_1 : List UInt8 := dkwX9_timesTaken_1 ++ []
def dkwX9_timesTaken_0 : List UInt8 := [42, 3, 181, 0, 78, 42, 27, 6, 182, 1, 114, 153, 0, 7, 3, 167, 0, 12, 42, 180, 0, 7, 16, 69]
abbrev dktX9_timesTaken_0 : List UInt8 := dkwX9_timesTaken_0 ++ dktX9_timesTaken_1
theorem dksX9_timesTaken_0 : cX9_timesTaken.data.toList.drop 0 = dktX9_timesTaken_0 := by decide +kernel
theorem dksX9_timesTaken_1 : cX9_timesTaken.data.toList.drop 24 = dktX9_timesTaken_1 := dk_seg dksX9_timesTaken_0 24 rfl rfl
theorem dX9_timesTaken_0 : decode cX9_timesTaken 0 = .ok (.aload_n 0, 1) := dk_42 (dk_at dksX9_timesTaken_0 0 rfl rfl)
theorem dX9_timesTaken_1 : decode cX9_timesTaken 1 = .ok (.iconst 0, 1) := dk_3 (dk_at dksX9_timesTaken_0 1 rfl rfl)
theorem dX9_timesTaken_2 : decode cX9_timesTaken 2 = .ok (.putfield 78, 3) := dk_181 0 78 (dk_at dksX9_timesTaken_0 2 rfl rfl)
theorem dX9_timesTaken_5 : decode cX9_timesTaken 5 = .ok (.aload_n 0, 1) := dk_42 (dk_at dksX9_timesTaken_0 5 rfl rfl)
theorem dX9_timesTaken_6 : decode cX9_timesTaken 6 = .ok (.iload_n 1, 1) := dk_27 (dk_at dksX9_timesTaken_0 6 rfl rfl)
theorem dX9_timesTaken_7 : decode cX9_timesTaken 7 = .ok (.iconst 3, 1) := dk_6 (dk_at dksX9_timesTaken_0 7 rfl rfl)
theorem dX9_timesTaken_8 : decode cX9_timesTaken 8 = .ok (.invokevirtual 370, 3) := dk_182 1 114 (dk_at dksX9_timesTaken_0 8 rfl rfl)
theorem dX9_timesTaken_11 : decode cX9_timesTaken 11 = .ok (.ifCond .eq 7, 3) := dk_153 0 7 (dk_at dksX9_timesTaken_0 11 rfl rfl)
theorem dX9_timesTaken_14 : decode cX9_timesTaken 14 = .ok (.iconst 0, 1) := dk_3 (dk_at dksX9_timesTaken_0 14 rfl rfl)
theorem dX9_timesTaken_15 : decode cX9_timesTaken 15 = .ok (.goto 12, 3) := dk_167 0 12 (dk_at dksX9_timesTaken_0 15 rfl rfl)
theorem dX9_timesTaken_18 : decode cX9_timesTaken 18 = .ok (.aload_n 0, 1) := dk_42 (dk_at dksX9_timesTaken_0 18 rfl rfl)
theorem dX9_timesTaken_19 : decode cX9_timesTaken 19 = .ok (.getfield 7, 3) := dk_180 0 7 (dk_at dksX9_timesTaken_0 19 rfl rfl)
theorem dX9_timesTaken_22 : decode cX9_timesTaken 22 = .ok (.bipush 69, 2) := dk_16 69 (dk_at dksX9_timesTaken_0 22 rfl rfl)
theorem dX9_timesTaken_24 : decode cX9_timesTaken 24 = .ok (.iload_n 1, 1) := dk_27 (dk_at dksX9_timesTaken_1 0 rfl rfl)
theorem dX9_timesTaken_25 : decode cX9_timesTaken 25 = .ok (.iadd, 1) := dk_96 (dk_at dksX9_timesTaken_1 1 rfl rfl)
theorem dX9_timesTaken_26 : decode cX9_timesTaken 26 = .ok (.iaload, 1) := dk_46 (dk_at dksX9_timesTaken_1 2 rfl rfl)
theorem dX9_timesTaken_27 : decode cX9_timesTaken 27 = .ok (.ireturn, 1) := dk_172 (dk_at dksX9_timesTaken_1 3 rfl rfl)
abbrev cX9_valueOf : ByteArray := prog_41_method_96_code
def yX9_valueOf : MethodName := ⟨RX9, "valueOf", "(I)I"⟩
def dkwX9_valueOf_1 : List UInt8 := [27, 96, 46, 172]
abbrev dktX9_valueOf_1 : List UInt8 := dkwX9_valueOf_1 ++ []
def dkwX9_valueOf_0 : List UInt8 := [42, 3, 181, 0, 78, 42, 27, 5, 182, 1, 114, 153, 0, 7, 3, 167, 0, 12, 42, 180, 0, 7, 16, 6]
abbrev dktX9_valueOf_0 : List UInt8 := dkwX9_valueOf_0 ++ dktX9_valueOf_1
theorem dksX9_valueOf_0 : cX9_valueOf.data.toList.drop 0 = dktX9_valueOf_0 := by decide +kernel
theorem dksX9_valueOf_1 : cX9_valueOf.data.toList.drop 24 = dktX9_valueOf_1 := dk_seg dksX9_valueOf_0 24 rfl rfl
theorem dX9_valueOf_0 : decode cX9_valueOf 0 = .ok (.aload_n 0, 1) := dk_42 (dk_at dksX9_valueOf_0 0 rfl rfl)
theorem dX9_valueOf_1 : decode cX9_valueOf 1 = .ok (.iconst 0, 1) := dk_3 (dk_at dksX9_valueOf_0 1 rfl rfl)
theorem dX9_valueOf_2 : decode cX9_valueOf 2 = .ok (.putfield 78, 3) := dk_181 0 78 (dk_at dksX9_valueOf_0 2 rfl rfl)
theorem dX9_valueOf_5 : decode cX9_valueOf 5 = .ok (.aload_n 0, 1) := dk_42 (dk_at dksX9_valueOf_0 5 rfl rfl)
theorem dX9_valueOf_6 : decode cX9_valueOf 6 = .ok (.iload_n 1, 1) := dk_27 (dk_at dksX9_valueOf_0 6 rfl rfl)
theorem dX9_valueOf_7 : decode cX9_valueOf 7 = .ok (.iconst 2, 1) := dk_5 (dk_at dksX9_valueOf_0 7 rfl rfl)
theorem dX9_valueOf_8 : decode cX9_valueOf 8 = .ok (.invokevirtual 370, 3) := dk_182 1 114 (dk_at dksX9_valueOf_0 8 rfl rfl)
theorem dX9_valueOf_11 : decode cX9_valueOf 11 = .ok (.ifCond .eq 7, 3) := dk_153 0 7 (dk_at dksX9_valueOf_0 11 rfl rfl)
theorem dX9_valueOf_14 : decode cX9_valueOf 14 = .ok (.iconst 0, 1) := dk_3 (dk_at dksX9_valueOf_0 14 rfl rfl)
theorem dX9_valueOf_15 : decode cX9_valueOf 15 = .ok (.goto 12, 3) := dk_167 0 12 (dk_at dksX9_valueOf_0 15 rfl rfl)
theorem dX9_valueOf_18 : decode cX9_valueOf 18 = .ok (.aload_n 0, 1) := dk_42 (dk_at dksX9_valueOf_0 18 rfl rfl)
theorem dX9_valueOf_19 : decode cX9_valueOf 19 = .ok (.getfield 7, 3) := dk_180 0 7 (dk_at dksX9_valueOf_0 19 rfl rfl)
theorem dX9_valueOf_22 : decode cX9_valueOf 22 = .ok (.bipush 6, 2) := dk_16 6 (dk_at dksX9_valueOf_0 22 rfl rfl)
theorem dX9_valueOf_24 : decode cX9_valueOf 24 = .ok (.iload_n 1, 1) := dk_27 (dk_at dksX9_valueOf_1 0 rfl rfl)
theorem dX9_valueOf_25 : decode cX9_valueOf 25 = .ok (.iadd, 1) := dk_96 (dk_at dksX9_valueOf_1 1 rfl rfl)
theorem dX9_valueOf_26 : decode cX9_valueOf 26 = .ok (.iaload, 1) := dk_46 (dk_at dksX9_valueOf_1 2 rfl rfl)
theorem dX9_valueOf_27 : decode cX9_valueOf 27 = .ok (.ireturn, 1) := dk_172 (dk_at dksX9_valueOf_1 3 rfl rfl)
abbrev cX9_initialValueOf : ByteArray := prog_41_method_97_code
def yX9_initialValueOf : MethodName := ⟨RX9, "initialValueOf", "(I)I"⟩
def dkwX9_initialValueOf_1 : List UInt8 := [27, 96, 46, 172]
abbrev dktX9_initialValueOf_1 : List UInt8 := dkwX9_initialValueOf_1 ++ []
def dkwX9_initialValueOf_0 : List UInt8 := [42, 3, 181, 0, 78, 42, 27, 5, 182, 1, 114, 153, 0, 7, 3, 167, 0, 12, 42, 180, 0, 7, 16, 9]
abbrev dktX9_initialValueOf_0 : List UInt8 := dkwX9_initialValueOf_0 ++ dktX9_initialValueOf_1
theorem dksX9_initialValueOf_0 : cX9_initialValueOf.data.toList.drop 0 = dktX9_initialValueOf_0 := by decide +kernel
theorem dksX9_initialValueOf_1 : cX9_initialValueOf.data.toList.drop 24 = dktX9_initialValueOf_1 := dk_seg dksX9_initialValueOf_0 24 rfl rfl
theorem dX9_initialValueOf_0 : decode cX9_initialValueOf 0 = .ok (.aload_n 0, 1) := dk_42 (dk_at dksX9_initialValueOf_0 0 rfl rfl)
theorem dX9_initialValueOf_1 : decode cX9_initialValueOf 1 = .ok (.iconst 0, 1) := dk_3 (dk_at dksX9_initialValueOf_0 1 rfl rfl)
theorem dX9_initialValueOf_2 : decode cX9_initialValueOf 2 = .ok (.putfield 78, 3) := dk_181 0 78 (dk_at dksX9_initialValueOf_0 2 rfl rfl)
theorem dX9_initialValueOf_5 : decode cX9_initialValueOf 5 = .ok (.aload_n 0, 1) := dk_42 (dk_at dksX9_initialValueOf_0 5 rfl rfl)
theorem dX9_initialValueOf_6 : decode cX9_initialValueOf 6 = .ok (.iload_n 1, 1) := dk_27 (dk_at dksX9_initialValueOf_0 6 rfl rfl)
theorem dX9_initialValueOf_7 : decode cX9_initialValueOf 7 = .ok (.iconst 2, 1) := dk_5 (dk_at dksX9_initialValueOf_0 7 rfl rfl)
theorem dX9_initialValueOf_8 : decode cX9_initialValueOf 8 = .ok (.invokevirtual 370, 3) := dk_182 1 114 (dk_at dksX9_initialValueOf_0 8 rfl rfl)
theorem dX9_initialValueOf_11 : decode cX9_initialValueOf 11 = .ok (.ifCond .eq 7, 3) := dk_153 0 7 (dk_at dksX9_initialValueOf_0 11 rfl rfl)
theorem dX9_initialValueOf_14 : decode cX9_initialValueOf 14 = .ok (.iconst 0, 1) := dk_3 (dk_at dksX9_initialValueOf_0 14 rfl rfl)
theorem dX9_initialValueOf_15 : decode cX9_initialValueOf 15 = .ok (.goto 12, 3) := dk_167 0 12 (dk_at dksX9_initialValueOf_0 15 rfl rfl)
theorem dX9_initialValueOf_18 : decode cX9_initialValueOf 18 = .ok (.aload_n 0, 1) := dk_42 (dk_at dksX9_initialValueOf_0 18 rfl rfl)
theorem dX9_initialValueOf_19 : decode cX9_initialValueOf 19 = .ok (.getfield 7, 3) := dk_180 0 7 (dk_at dksX9_initialValueOf_0 19 rfl rfl)
theorem dX9_initialValueOf_22 : decode cX9_initialValueOf 22 = .ok (.bipush 9, 2) := dk_16 9 (dk_at dksX9_initialValueOf_0 22 rfl rfl)
theorem dX9_initialValueOf_24 : decode cX9_initialValueOf 24 = .ok (.iload_n 1, 1) := dk_27 (dk_at dksX9_initialValueOf_1 0 rfl rfl)
theorem dX9_initialValueOf_25 : decode cX9_initialValueOf 25 = .ok (.iadd, 1) := dk_96 (dk_at dksX9_initialValueOf_1 1 rfl rfl)
theorem dX9_initialValueOf_26 : decode cX9_initialValueOf 26 = .ok (.iaload, 1) := dk_46 (dk_at dksX9_initialValueOf_1 2 rfl rfl)
theorem dX9_initialValueOf_27 : decode cX9_initialValueOf 27 = .ok (.ireturn, 1) := dk_172 (dk_at dksX9_initialValueOf_1 3 rfl rfl)
abbrev cX9_hasGuard : ByteArray := prog_41_method_98_code
def yX9_hasGuard : MethodName := ⟨RX9, "hasGuard", "(I)Z"⟩
def dkwX9_hasGuard_1 : List UInt8 := [4, 167, 0, 4, 3, 172]
abbrev dktX9_hasGuard_1 : List UInt8 := dkwX9_hasGuard_1 ++ []
def dkwX9_hasGuard_0 : List UInt8 := [42, 3, 181, 0, 78, 42, 27, 6, 182, 1, 114, 154, 0, 17, 42, 27, 6, 182, 0, 109, 2, 159, 0, 7]
abbrev dktX9_hasGuard_0 : List UInt8 := dkwX9_hasGuard_0 ++ dktX9_hasGuard_1
theorem dksX9_hasGuard_0 : cX9_hasGuard.data.toList.drop 0 = dktX9_hasGuard_0 := by decide +kernel
theorem dksX9_hasGuard_1 : cX9_hasGuard.data.toList.drop 24 = dktX9_hasGuard_1 := dk_seg dksX9_hasGuard_0 24 rfl rfl
theorem dX9_hasGuard_0 : decode cX9_hasGuard 0 = .ok (.aload_n 0, 1) := dk_42 (dk_at dksX9_hasGuard_0 0 rfl rfl)
theorem dX9_hasGuard_1 : decode cX9_hasGuard 1 = .ok (.iconst 0, 1) := dk_3 (dk_at dksX9_hasGuard_0 1 rfl rfl)
theorem dX9_hasGuard_2 : decode cX9_hasGuard 2 = .ok (.putfield 78, 3) := dk_181 0 78 (dk_at dksX9_hasGuard_0 2 rfl rfl)
theorem dX9_hasGuard_5 : decode cX9_hasGuard 5 = .ok (.aload_n 0, 1) := dk_42 (dk_at dksX9_hasGuard_0 5 rfl rfl)
theorem dX9_hasGuard_6 : decode cX9_hasGuard 6 = .ok (.iload_n 1, 1) := dk_27 (dk_at dksX9_hasGuard_0 6 rfl rfl)
theorem dX9_hasGuard_7 : decode cX9_hasGuard 7 = .ok (.iconst 3, 1) := dk_6 (dk_at dksX9_hasGuard_0 7 rfl rfl)
theorem dX9_hasGuard_8 : decode cX9_hasGuard 8 = .ok (.invokevirtual 370, 3) := dk_182 1 114 (dk_at dksX9_hasGuard_0 8 rfl rfl)
theorem dX9_hasGuard_11 : decode cX9_hasGuard 11 = .ok (.ifCond .ne 17, 3) := dk_154 0 17 (dk_at dksX9_hasGuard_0 11 rfl rfl)
theorem dX9_hasGuard_14 : decode cX9_hasGuard 14 = .ok (.aload_n 0, 1) := dk_42 (dk_at dksX9_hasGuard_0 14 rfl rfl)
theorem dX9_hasGuard_15 : decode cX9_hasGuard 15 = .ok (.iload_n 1, 1) := dk_27 (dk_at dksX9_hasGuard_0 15 rfl rfl)
theorem dX9_hasGuard_16 : decode cX9_hasGuard 16 = .ok (.iconst 3, 1) := dk_6 (dk_at dksX9_hasGuard_0 16 rfl rfl)
theorem dX9_hasGuard_17 : decode cX9_hasGuard 17 = .ok (.invokevirtual 109, 3) := dk_182 0 109 (dk_at dksX9_hasGuard_0 17 rfl rfl)
theorem dX9_hasGuard_20 : decode cX9_hasGuard 20 = .ok (.iconst (-1), 1) := dk_2 (dk_at dksX9_hasGuard_0 20 rfl rfl)
theorem dX9_hasGuard_21 : decode cX9_hasGuard 21 = .ok (.if_icmp .eq 7, 3) := dk_159 0 7 (dk_at dksX9_hasGuard_0 21 rfl rfl)
theorem dX9_hasGuard_24 : decode cX9_hasGuard 24 = .ok (.iconst 1, 1) := dk_4 (dk_at dksX9_hasGuard_1 0 rfl rfl)
theorem dX9_hasGuard_25 : decode cX9_hasGuard 25 = .ok (.goto 4, 3) := dk_167 0 4 (dk_at dksX9_hasGuard_1 1 rfl rfl)
theorem dX9_hasGuard_28 : decode cX9_hasGuard 28 = .ok (.iconst 0, 1) := dk_3 (dk_at dksX9_hasGuard_1 4 rfl rfl)
theorem dX9_hasGuard_29 : decode cX9_hasGuard 29 = .ok (.ireturn, 1) := dk_172 (dk_at dksX9_hasGuard_1 5 rfl rfl)
abbrev cX9_guardHolds : ByteArray := prog_41_method_99_code
def yX9_guardHolds : MethodName := ⟨RX9, "guardHolds", "(I)Z"⟩
def dkwX9_guardHolds_1 : List UInt8 := [153, 0, 7, 4, 167, 0, 4, 3, 172]
abbrev dktX9_guardHolds_1 : List UInt8 := dkwX9_guardHolds_1 ++ []
def dkwX9_guardHolds_0 : List UInt8 := [42, 3, 181, 0, 78, 42, 27, 6, 182, 1, 114, 154, 0, 19, 42, 27, 42, 182, 0, 151, 182, 0, 115]
abbrev dktX9_guardHolds_0 : List UInt8 := dkwX9_guardHolds_0 ++ dktX9_guardHolds_1
theorem dksX9_guardHolds_0 : cX9_guardHolds.data.toList.drop 0 = dktX9_guardHolds_0 := by decide +kernel
theorem dksX9_guardHolds_1 : cX9_guardHolds.data.toList.drop 23 = dktX9_guardHolds_1 := dk_seg dksX9_guardHolds_0 23 rfl rfl
theorem dX9_guardHolds_0 : decode cX9_guardHolds 0 = .ok (.aload_n 0, 1) := dk_42 (dk_at dksX9_guardHolds_0 0 rfl rfl)
theorem dX9_guardHolds_1 : decode cX9_guardHolds 1 = .ok (.iconst 0, 1) := dk_3 (dk_at dksX9_guardHolds_0 1 rfl rfl)
theorem dX9_guardHolds_2 : decode cX9_guardHolds 2 = .ok (.putfield 78, 3) := dk_181 0 78 (dk_at dksX9_guardHolds_0 2 rfl rfl)
theorem dX9_guardHolds_5 : decode cX9_guardHolds 5 = .ok (.aload_n 0, 1) := dk_42 (dk_at dksX9_guardHolds_0 5 rfl rfl)
theorem dX9_guardHolds_6 : decode cX9_guardHolds 6 = .ok (.iload_n 1, 1) := dk_27 (dk_at dksX9_guardHolds_0 6 rfl rfl)
theorem dX9_guardHolds_7 : decode cX9_guardHolds 7 = .ok (.iconst 3, 1) := dk_6 (dk_at dksX9_guardHolds_0 7 rfl rfl)
theorem dX9_guardHolds_8 : decode cX9_guardHolds 8 = .ok (.invokevirtual 370, 3) := dk_182 1 114 (dk_at dksX9_guardHolds_0 8 rfl rfl)
theorem dX9_guardHolds_11 : decode cX9_guardHolds 11 = .ok (.ifCond .ne 19, 3) := dk_154 0 19 (dk_at dksX9_guardHolds_0 11 rfl rfl)
theorem dX9_guardHolds_14 : decode cX9_guardHolds 14 = .ok (.aload_n 0, 1) := dk_42 (dk_at dksX9_guardHolds_0 14 rfl rfl)
theorem dX9_guardHolds_15 : decode cX9_guardHolds 15 = .ok (.iload_n 1, 1) := dk_27 (dk_at dksX9_guardHolds_0 15 rfl rfl)
theorem dX9_guardHolds_16 : decode cX9_guardHolds 16 = .ok (.aload_n 0, 1) := dk_42 (dk_at dksX9_guardHolds_0 16 rfl rfl)
theorem dX9_guardHolds_17 : decode cX9_guardHolds 17 = .ok (.invokevirtual 151, 3) := dk_182 0 151 (dk_at dksX9_guardHolds_0 17 rfl rfl)
theorem dX9_guardHolds_20 : decode cX9_guardHolds 20 = .ok (.invokevirtual 115, 3) := dk_182 0 115 (dk_at dksX9_guardHolds_0 20 rfl rfl)
theorem dX9_guardHolds_23 : decode cX9_guardHolds 23 = .ok (.ifCond .eq 7, 3) := dk_153 0 7 (dk_at dksX9_guardHolds_1 0 rfl rfl)
theorem dX9_guardHolds_26 : decode cX9_guardHolds 26 = .ok (.iconst 1, 1) := dk_4 (dk_at dksX9_guardHolds_1 3 rfl rfl)
theorem dX9_guardHolds_27 : decode cX9_guardHolds 27 = .ok (.goto 4, 3) := dk_167 0 4 (dk_at dksX9_guardHolds_1 4 rfl rfl)
theorem dX9_guardHolds_30 : decode cX9_guardHolds 30 = .ok (.iconst 0, 1) := dk_3 (dk_at dksX9_guardHolds_1 7 rfl rfl)
theorem dX9_guardHolds_31 : decode cX9_guardHolds 31 = .ok (.ireturn, 1) := dk_172 (dk_at dksX9_guardHolds_1 8 rfl rfl)
abbrev cX9_stateOfInvariant : ByteArray := prog_41_method_100_code
def yX9_stateOfInvariant : MethodName := ⟨RX9, "stateOfInvariant", "(I)I"⟩
def dkwX9_stateOfInvariant_1 : List UInt8 := [172]
abbrev dktX9_stateOfInvariant_1 : List UInt8 := dkwX9_stateOfInvariant_1 ++ []
def dkwX9_stateOfInvariant_0 : List UInt8 := [42, 3, 181, 0, 78, 42, 27, 7, 182, 1, 114, 153, 0, 7, 3, 167, 0, 9, 42, 27, 3, 182, 0, 92]
abbrev dktX9_stateOfInvariant_0 : List UInt8 := dkwX9_stateOfInvariant_0 ++ dktX9_stateOfInvariant_1
theorem dksX9_stateOfInvariant_0 : cX9_stateOfInvariant.data.toList.drop 0 = dktX9_stateOfInvariant_0 := by decide +kernel
theorem dksX9_stateOfInvariant_1 : cX9_stateOfInvariant.data.toList.drop 24 = dktX9_stateOfInvariant_1 := dk_seg dksX9_stateOfInvariant_0 24 rfl rfl
theorem dX9_stateOfInvariant_0 : decode cX9_stateOfInvariant 0 = .ok (.aload_n 0, 1) := dk_42 (dk_at dksX9_stateOfInvariant_0 0 rfl rfl)
theorem dX9_stateOfInvariant_1 : decode cX9_stateOfInvariant 1 = .ok (.iconst 0, 1) := dk_3 (dk_at dksX9_stateOfInvariant_0 1 rfl rfl)
theorem dX9_stateOfInvariant_2 : decode cX9_stateOfInvariant 2 = .ok (.putfield 78, 3) := dk_181 0 78 (dk_at dksX9_stateOfInvariant_0 2 rfl rfl)
theorem dX9_stateOfInvariant_5 : decode cX9_stateOfInvariant 5 = .ok (.aload_n 0, 1) := dk_42 (dk_at dksX9_stateOfInvariant_0 5 rfl rfl)
theorem dX9_stateOfInvariant_6 : decode cX9_stateOfInvariant 6 = .ok (.iload_n 1, 1) := dk_27 (dk_at dksX9_stateOfInvariant_0 6 rfl rfl)
theorem dX9_stateOfInvariant_7 : decode cX9_stateOfInvariant 7 = .ok (.iconst 4, 1) := dk_7 (dk_at dksX9_stateOfInvariant_0 7 rfl rfl)
theorem dX9_stateOfInvariant_8 : decode cX9_stateOfInvariant 8 = .ok (.invokevirtual 370, 3) := dk_182 1 114 (dk_at dksX9_stateOfInvariant_0 8 rfl rfl)
theorem dX9_stateOfInvariant_11 : decode cX9_stateOfInvariant 11 = .ok (.ifCond .eq 7, 3) := dk_153 0 7 (dk_at dksX9_stateOfInvariant_0 11 rfl rfl)
theorem dX9_stateOfInvariant_14 : decode cX9_stateOfInvariant 14 = .ok (.iconst 0, 1) := dk_3 (dk_at dksX9_stateOfInvariant_0 14 rfl rfl)
theorem dX9_stateOfInvariant_15 : decode cX9_stateOfInvariant 15 = .ok (.goto 9, 3) := dk_167 0 9 (dk_at dksX9_stateOfInvariant_0 15 rfl rfl)
theorem dX9_stateOfInvariant_18 : decode cX9_stateOfInvariant 18 = .ok (.aload_n 0, 1) := dk_42 (dk_at dksX9_stateOfInvariant_0 18 rfl rfl)
theorem dX9_stateOfInvariant_19 : decode cX9_stateOfInvariant 19 = .ok (.iload_n 1, 1) := dk_27 (dk_at dksX9_stateOfInvariant_0 19 rfl rfl)
theorem dX9_stateOfInvariant_20 : decode cX9_stateOfInvariant 20 = .ok (.iconst 0, 1) := dk_3 (dk_at dksX9_stateOfInvariant_0 20 rfl rfl)
theorem dX9_stateOfInvariant_21 : decode cX9_stateOfInvariant 21 = .ok (.invokevirtual 92, 3) := dk_182 0 92 (dk_at dksX9_stateOfInvariant_0 21 rfl rfl)
theorem dX9_stateOfInvariant_24 : decode cX9_stateOfInvariant 24 = .ok (.ireturn, 1) := dk_172 (dk_at dksX9_stateOfInvariant_1 0 rfl rfl)
abbrev cX9_comparisonHolds : ByteArray := prog_41_method_101_code
def yX9_comparisonHolds : MethodName := ⟨RX9, "comparisonHolds", "(I)Z"⟩
def dkwX9_comparisonHolds_1 : List UInt8 := [153, 0, 7, 4, 167, 0, 4, 3, 172]
abbrev dktX9_comparisonHolds_1 : List UInt8 := dkwX9_comparisonHolds_1 ++ []
def dkwX9_comparisonHolds_0 : List UInt8 := [42, 3, 181, 0, 78, 42, 27, 7, 182, 1, 114, 154, 0, 19, 42, 27, 42, 182, 0, 151, 182, 0, 102]
abbrev dktX9_comparisonHolds_0 : List UInt8 := dkwX9_comparisonHolds_0 ++ dktX9_comparisonHolds_1
theorem dksX9_comparisonHolds_0 : cX9_comparisonHolds.data.toList.drop 0 = dktX9_comparisonHolds_0 := by decide +kernel
theorem dksX9_comparisonHolds_1 : cX9_comparisonHolds.data.toList.drop 23 = dktX9_comparisonHolds_1 := dk_seg dksX9_comparisonHolds_0 23 rfl rfl
theorem dX9_comparisonHolds_0 : decode cX9_comparisonHolds 0 = .ok (.aload_n 0, 1) := dk_42 (dk_at dksX9_comparisonHolds_0 0 rfl rfl)
theorem dX9_comparisonHolds_1 : decode cX9_comparisonHolds 1 = .ok (.iconst 0, 1) := dk_3 (dk_at dksX9_comparisonHolds_0 1 rfl rfl)
theorem dX9_comparisonHolds_2 : decode cX9_comparisonHolds 2 = .ok (.putfield 78, 3) := dk_181 0 78 (dk_at dksX9_comparisonHolds_0 2 rfl rfl)
theorem dX9_comparisonHolds_5 : decode cX9_comparisonHolds 5 = .ok (.aload_n 0, 1) := dk_42 (dk_at dksX9_comparisonHolds_0 5 rfl rfl)
theorem dX9_comparisonHolds_6 : decode cX9_comparisonHolds 6 = .ok (.iload_n 1, 1) := dk_27 (dk_at dksX9_comparisonHolds_0 6 rfl rfl)
theorem dX9_comparisonHolds_7 : decode cX9_comparisonHolds 7 = .ok (.iconst 4, 1) := dk_7 (dk_at dksX9_comparisonHolds_0 7 rfl rfl)
theorem dX9_comparisonHolds_8 : decode cX9_comparisonHolds 8 = .ok (.invokevirtual 370, 3) := dk_182 1 114 (dk_at dksX9_comparisonHolds_0 8 rfl rfl)
theorem dX9_comparisonHolds_11 : decode cX9_comparisonHolds 11 = .ok (.ifCond .ne 19, 3) := dk_154 0 19 (dk_at dksX9_comparisonHolds_0 11 rfl rfl)
theorem dX9_comparisonHolds_14 : decode cX9_comparisonHolds 14 = .ok (.aload_n 0, 1) := dk_42 (dk_at dksX9_comparisonHolds_0 14 rfl rfl)
theorem dX9_comparisonHolds_15 : decode cX9_comparisonHolds 15 = .ok (.iload_n 1, 1) := dk_27 (dk_at dksX9_comparisonHolds_0 15 rfl rfl)
theorem dX9_comparisonHolds_16 : decode cX9_comparisonHolds 16 = .ok (.aload_n 0, 1) := dk_42 (dk_at dksX9_comparisonHolds_0 16 rfl rfl)
theorem dX9_comparisonHolds_17 : decode cX9_comparisonHolds 17 = .ok (.invokevirtual 151, 3) := dk_182 0 151 (dk_at dksX9_comparisonHolds_0 17 rfl rfl)
theorem dX9_comparisonHolds_20 : decode cX9_comparisonHolds 20 = .ok (.invokevirtual 102, 3) := dk_182 0 102 (dk_at dksX9_comparisonHolds_0 20 rfl rfl)
theorem dX9_comparisonHolds_23 : decode cX9_comparisonHolds 23 = .ok (.ifCond .eq 7, 3) := dk_153 0 7 (dk_at dksX9_comparisonHolds_1 0 rfl rfl)
theorem dX9_comparisonHolds_26 : decode cX9_comparisonHolds 26 = .ok (.iconst 1, 1) := dk_4 (dk_at dksX9_comparisonHolds_1 3 rfl rfl)
theorem dX9_comparisonHolds_27 : decode cX9_comparisonHolds 27 = .ok (.goto 4, 3) := dk_167 0 4 (dk_at dksX9_comparisonHolds_1 4 rfl rfl)
theorem dX9_comparisonHolds_30 : decode cX9_comparisonHolds 30 = .ok (.iconst 0, 1) := dk_3 (dk_at dksX9_comparisonHolds_1 7 rfl rfl)
theorem dX9_comparisonHolds_31 : decode cX9_comparisonHolds 31 = .ok (.ireturn, 1) := dk_172 (dk_at dksX9_comparisonHolds_1 8 rfl rfl)
abbrev cX9_verdictOf : ByteArray := prog_41_method_102_code
def yX9_verdictOf : MethodName := ⟨RX9, "verdictOf", "(I)I"⟩
def dkwX9_verdictOf_1 : List UInt8 := [182, 0, 137, 172]
abbrev dktX9_verdictOf_1 : List UInt8 := dkwX9_verdictOf_1 ++ []
def dkwX9_verdictOf_0 : List UInt8 := [42, 3, 181, 0, 78, 42, 27, 4, 182, 1, 114, 153, 0, 7, 3, 167, 0, 12, 42, 42, 182, 0, 151, 27]
abbrev dktX9_verdictOf_0 : List UInt8 := dkwX9_verdictOf_0 ++ dktX9_verdictOf_1
theorem dksX9_verdictOf_0 : cX9_verdictOf.data.toList.drop 0 = dktX9_verdictOf_0 := by decide +kernel
theorem dksX9_verdictOf_1 : cX9_verdictOf.data.toList.drop 24 = dktX9_verdictOf_1 := dk_seg dksX9_verdictOf_0 24 rfl rfl
theorem dX9_verdictOf_0 : decode cX9_verdictOf 0 = .ok (.aload_n 0, 1) := dk_42 (dk_at dksX9_verdictOf_0 0 rfl rfl)
theorem dX9_verdictOf_1 : decode cX9_verdictOf 1 = .ok (.iconst 0, 1) := dk_3 (dk_at dksX9_verdictOf_0 1 rfl rfl)
theorem dX9_verdictOf_2 : decode cX9_verdictOf 2 = .ok (.putfield 78, 3) := dk_181 0 78 (dk_at dksX9_verdictOf_0 2 rfl rfl)
theorem dX9_verdictOf_5 : decode cX9_verdictOf 5 = .ok (.aload_n 0, 1) := dk_42 (dk_at dksX9_verdictOf_0 5 rfl rfl)
theorem dX9_verdictOf_6 : decode cX9_verdictOf 6 = .ok (.iload_n 1, 1) := dk_27 (dk_at dksX9_verdictOf_0 6 rfl rfl)
theorem dX9_verdictOf_7 : decode cX9_verdictOf 7 = .ok (.iconst 1, 1) := dk_4 (dk_at dksX9_verdictOf_0 7 rfl rfl)
theorem dX9_verdictOf_8 : decode cX9_verdictOf 8 = .ok (.invokevirtual 370, 3) := dk_182 1 114 (dk_at dksX9_verdictOf_0 8 rfl rfl)
theorem dX9_verdictOf_11 : decode cX9_verdictOf 11 = .ok (.ifCond .eq 7, 3) := dk_153 0 7 (dk_at dksX9_verdictOf_0 11 rfl rfl)
theorem dX9_verdictOf_14 : decode cX9_verdictOf 14 = .ok (.iconst 0, 1) := dk_3 (dk_at dksX9_verdictOf_0 14 rfl rfl)
theorem dX9_verdictOf_15 : decode cX9_verdictOf 15 = .ok (.goto 12, 3) := dk_167 0 12 (dk_at dksX9_verdictOf_0 15 rfl rfl)
theorem dX9_verdictOf_18 : decode cX9_verdictOf 18 = .ok (.aload_n 0, 1) := dk_42 (dk_at dksX9_verdictOf_0 18 rfl rfl)
theorem dX9_verdictOf_19 : decode cX9_verdictOf 19 = .ok (.aload_n 0, 1) := dk_42 (dk_at dksX9_verdictOf_0 19 rfl rfl)
theorem dX9_verdictOf_20 : decode cX9_verdictOf 20 = .ok (.invokevirtual 151, 3) := dk_182 0 151 (dk_at dksX9_verdictOf_0 20 rfl rfl)
theorem dX9_verdictOf_23 : decode cX9_verdictOf 23 = .ok (.iload_n 1, 1) := dk_27 (dk_at dksX9_verdictOf_0 23 rfl rfl)
theorem dX9_verdictOf_24 : decode cX9_verdictOf 24 = .ok (.invokevirtual 137, 3) := dk_182 0 137 (dk_at dksX9_verdictOf_1 0 rfl rfl)
theorem dX9_verdictOf_27 : decode cX9_verdictOf 27 = .ok (.ireturn, 1) := dk_172 (dk_at dksX9_verdictOf_1 3 rfl rfl)
abbrev cX9_chosenTransition : ByteArray := prog_41_method_103_code
def yX9_chosenTransition : MethodName := ⟨RX9, "chosenTransition", "(I)I"⟩
def dkwX9_chosenTransition_1 : List UInt8 := [182, 0, 137, 61, 42, 180, 0, 112, 172]
abbrev dktX9_chosenTransition_1 : List UInt8 := dkwX9_chosenTransition_1 ++ []
def dkwX9_chosenTransition_0 : List UInt8 := [42, 3, 181, 0, 78, 42, 27, 4, 182, 1, 114, 153, 0, 5, 3, 172, 42, 42, 182, 0, 151, 27]
abbrev dktX9_chosenTransition_0 : List UInt8 := dkwX9_chosenTransition_0 ++ dktX9_chosenTransition_1
theorem dksX9_chosenTransition_0 : cX9_chosenTransition.data.toList.drop 0 = dktX9_chosenTransition_0 := by decide +kernel
theorem dksX9_chosenTransition_1 : cX9_chosenTransition.data.toList.drop 22 = dktX9_chosenTransition_1 := dk_seg dksX9_chosenTransition_0 22 rfl rfl
theorem dX9_chosenTransition_0 : decode cX9_chosenTransition 0 = .ok (.aload_n 0, 1) := dk_42 (dk_at dksX9_chosenTransition_0 0 rfl rfl)
theorem dX9_chosenTransition_1 : decode cX9_chosenTransition 1 = .ok (.iconst 0, 1) := dk_3 (dk_at dksX9_chosenTransition_0 1 rfl rfl)
theorem dX9_chosenTransition_2 : decode cX9_chosenTransition 2 = .ok (.putfield 78, 3) := dk_181 0 78 (dk_at dksX9_chosenTransition_0 2 rfl rfl)
theorem dX9_chosenTransition_5 : decode cX9_chosenTransition 5 = .ok (.aload_n 0, 1) := dk_42 (dk_at dksX9_chosenTransition_0 5 rfl rfl)
theorem dX9_chosenTransition_6 : decode cX9_chosenTransition 6 = .ok (.iload_n 1, 1) := dk_27 (dk_at dksX9_chosenTransition_0 6 rfl rfl)
theorem dX9_chosenTransition_7 : decode cX9_chosenTransition 7 = .ok (.iconst 1, 1) := dk_4 (dk_at dksX9_chosenTransition_0 7 rfl rfl)
theorem dX9_chosenTransition_8 : decode cX9_chosenTransition 8 = .ok (.invokevirtual 370, 3) := dk_182 1 114 (dk_at dksX9_chosenTransition_0 8 rfl rfl)
theorem dX9_chosenTransition_11 : decode cX9_chosenTransition 11 = .ok (.ifCond .eq 5, 3) := dk_153 0 5 (dk_at dksX9_chosenTransition_0 11 rfl rfl)
theorem dX9_chosenTransition_14 : decode cX9_chosenTransition 14 = .ok (.iconst 0, 1) := dk_3 (dk_at dksX9_chosenTransition_0 14 rfl rfl)
theorem dX9_chosenTransition_15 : decode cX9_chosenTransition 15 = .ok (.ireturn, 1) := dk_172 (dk_at dksX9_chosenTransition_0 15 rfl rfl)
theorem dX9_chosenTransition_16 : decode cX9_chosenTransition 16 = .ok (.aload_n 0, 1) := dk_42 (dk_at dksX9_chosenTransition_0 16 rfl rfl)
theorem dX9_chosenTransition_17 : decode cX9_chosenTransition 17 = .ok (.aload_n 0, 1) := dk_42 (dk_at dksX9_chosenTransition_0 17 rfl rfl)
theorem dX9_chosenTransition_18 : decode cX9_chosenTransition 18 = .ok (.invokevirtual 151, 3) := dk_182 0 151 (dk_at dksX9_chosenTransition_0 18 rfl rfl)
theorem dX9_chosenTransition_21 : decode cX9_chosenTransition 21 = .ok (.iload_n 1, 1) := dk_27 (dk_at dksX9_chosenTransition_0 21 rfl rfl)
theorem dX9_chosenTransition_22 : decode cX9_chosenTransition 22 = .ok (.invokevirtual 137, 3) := dk_182 0 137 (dk_at dksX9_chosenTransition_1 0 rfl rfl)
theorem dX9_chosenTransition_25 : decode cX9_chosenTransition 25 = .ok (.istore_n 2, 1) := dk_61 (dk_at dksX9_chosenTransition_1 3 rfl rfl)
theorem dX9_chosenTransition_26 : decode cX9_chosenTransition 26 = .ok (.aload_n 0, 1) := dk_42 (dk_at dksX9_chosenTransition_1 4 rfl rfl)
theorem dX9_chosenTransition_27 : decode cX9_chosenTransition 27 = .ok (.getfield 112, 3) := dk_180 0 112 (dk_at dksX9_chosenTransition_1 5 rfl rfl)
theorem dX9_chosenTransition_30 : decode cX9_chosenTransition 30 = .ok (.ireturn, 1) := dk_172 (dk_at dksX9_chosenTransition_1 8 rfl rfl)
abbrev cX9_brokenInvariant : ByteArray := prog_41_method_104_code
def yX9_brokenInvariant : MethodName := ⟨RX9, "brokenInvariant", "(I)I"⟩
def dkwX9_brokenInvariant_1 : List UInt8 := [182, 0, 137, 7, 160, 0, 14, 42, 42, 180, 0, 118, 182, 0, 134, 167, 0, 4, 2, 172]
abbrev dktX9_brokenInvariant_1 : List UInt8 := dkwX9_brokenInvariant_1 ++ []
def dkwX9_brokenInvariant_0 : List UInt8 := [42, 3, 181, 0, 78, 42, 27, 4, 182, 1, 114, 153, 0, 5, 3, 172, 42, 42, 182, 0, 151, 27]
abbrev dktX9_brokenInvariant_0 : List UInt8 := dkwX9_brokenInvariant_0 ++ dktX9_brokenInvariant_1
theorem dksX9_brokenInvariant_0 : cX9_brokenInvariant.data.toList.drop 0 = dktX9_brokenInvariant_0 := by decide +kernel
theorem dksX9_brokenInvariant_1 : cX9_brokenInvariant.data.toList.drop 22 = dktX9_brokenInvariant_1 := dk_seg dksX9_brokenInvariant_0 22 rfl rfl
theorem dX9_brokenInvariant_0 : decode cX9_brokenInvariant 0 = .ok (.aload_n 0, 1) := dk_42 (dk_at dksX9_brokenInvariant_0 0 rfl rfl)
theorem dX9_brokenInvariant_1 : decode cX9_brokenInvariant 1 = .ok (.iconst 0, 1) := dk_3 (dk_at dksX9_brokenInvariant_0 1 rfl rfl)
theorem dX9_brokenInvariant_2 : decode cX9_brokenInvariant 2 = .ok (.putfield 78, 3) := dk_181 0 78 (dk_at dksX9_brokenInvariant_0 2 rfl rfl)
theorem dX9_brokenInvariant_5 : decode cX9_brokenInvariant 5 = .ok (.aload_n 0, 1) := dk_42 (dk_at dksX9_brokenInvariant_0 5 rfl rfl)
theorem dX9_brokenInvariant_6 : decode cX9_brokenInvariant 6 = .ok (.iload_n 1, 1) := dk_27 (dk_at dksX9_brokenInvariant_0 6 rfl rfl)
theorem dX9_brokenInvariant_7 : decode cX9_brokenInvariant 7 = .ok (.iconst 1, 1) := dk_4 (dk_at dksX9_brokenInvariant_0 7 rfl rfl)
theorem dX9_brokenInvariant_8 : decode cX9_brokenInvariant 8 = .ok (.invokevirtual 370, 3) := dk_182 1 114 (dk_at dksX9_brokenInvariant_0 8 rfl rfl)
theorem dX9_brokenInvariant_11 : decode cX9_brokenInvariant 11 = .ok (.ifCond .eq 5, 3) := dk_153 0 5 (dk_at dksX9_brokenInvariant_0 11 rfl rfl)
theorem dX9_brokenInvariant_14 : decode cX9_brokenInvariant 14 = .ok (.iconst 0, 1) := dk_3 (dk_at dksX9_brokenInvariant_0 14 rfl rfl)
theorem dX9_brokenInvariant_15 : decode cX9_brokenInvariant 15 = .ok (.ireturn, 1) := dk_172 (dk_at dksX9_brokenInvariant_0 15 rfl rfl)
theorem dX9_brokenInvariant_16 : decode cX9_brokenInvariant 16 = .ok (.aload_n 0, 1) := dk_42 (dk_at dksX9_brokenInvariant_0 16 rfl rfl)
theorem dX9_brokenInvariant_17 : decode cX9_brokenInvariant 17 = .ok (.aload_n 0, 1) := dk_42 (dk_at dksX9_brokenInvariant_0 17 rfl rfl)
theorem dX9_brokenInvariant_18 : decode cX9_brokenInvariant 18 = .ok (.invokevirtual 151, 3) := dk_182 0 151 (dk_at dksX9_brokenInvariant_0 18 rfl rfl)
theorem dX9_brokenInvariant_21 : decode cX9_brokenInvariant 21 = .ok (.iload_n 1, 1) := dk_27 (dk_at dksX9_brokenInvariant_0 21 rfl rfl)
theorem dX9_brokenInvariant_22 : decode cX9_brokenInvariant 22 = .ok (.invokevirtual 137, 3) := dk_182 0 137 (dk_at dksX9_brokenInvariant_1 0 rfl rfl)
theorem dX9_brokenInvariant_25 : decode cX9_brokenInvariant 25 = .ok (.iconst 4, 1) := dk_7 (dk_at dksX9_brokenInvariant_1 3 rfl rfl)
theorem dX9_brokenInvariant_26 : decode cX9_brokenInvariant 26 = .ok (.if_icmp .ne 14, 3) := dk_160 0 14 (dk_at dksX9_brokenInvariant_1 4 rfl rfl)
theorem dX9_brokenInvariant_29 : decode cX9_brokenInvariant 29 = .ok (.aload_n 0, 1) := dk_42 (dk_at dksX9_brokenInvariant_1 7 rfl rfl)
theorem dX9_brokenInvariant_30 : decode cX9_brokenInvariant 30 = .ok (.aload_n 0, 1) := dk_42 (dk_at dksX9_brokenInvariant_1 8 rfl rfl)
theorem dX9_brokenInvariant_31 : decode cX9_brokenInvariant 31 = .ok (.getfield 118, 3) := dk_180 0 118 (dk_at dksX9_brokenInvariant_1 9 rfl rfl)
theorem dX9_brokenInvariant_34 : decode cX9_brokenInvariant 34 = .ok (.invokevirtual 134, 3) := dk_182 0 134 (dk_at dksX9_brokenInvariant_1 12 rfl rfl)
theorem dX9_brokenInvariant_37 : decode cX9_brokenInvariant 37 = .ok (.goto 4, 3) := dk_167 0 4 (dk_at dksX9_brokenInvariant_1 15 rfl rfl)
theorem dX9_brokenInvariant_40 : decode cX9_brokenInvariant 40 = .ok (.iconst (-1), 1) := dk_2 (dk_at dksX9_brokenInvariant_1 18 rfl rfl)
theorem dX9_brokenInvariant_41 : decode cX9_brokenInvariant 41 = .ok (.ireturn, 1) := dk_172 (dk_at dksX9_brokenInvariant_1 19 rfl rfl)
abbrev cX9_isDeadlocked : ByteArray := prog_41_method_105_code
def yX9_isDeadlocked : MethodName := ⟨RX9, "isDeadlocked", "()Z"⟩
def dkwX9_isDeadlocked_0 : List UInt8 := [42, 3, 181, 0, 78, 42, 42, 182, 0, 151, 182, 1, 120, 172]
abbrev dktX9_isDeadlocked_0 : List UInt8 := dkwX9_isDeadlocked_0 ++ []
theorem dksX9_isDeadlocked_0 : cX9_isDeadlocked.data.toList.drop 0 = dktX9_isDeadlocked_0 := by decide +kernel
theorem dX9_isDeadlocked_0 : decode cX9_isDeadlocked 0 = .ok (.aload_n 0, 1) := dk_42 (dk_at dksX9_isDeadlocked_0 0 rfl rfl)
theorem dX9_isDeadlocked_1 : decode cX9_isDeadlocked 1 = .ok (.iconst 0, 1) := dk_3 (dk_at dksX9_isDeadlocked_0 1 rfl rfl)
theorem dX9_isDeadlocked_2 : decode cX9_isDeadlocked 2 = .ok (.putfield 78, 3) := dk_181 0 78 (dk_at dksX9_isDeadlocked_0 2 rfl rfl)
theorem dX9_isDeadlocked_5 : decode cX9_isDeadlocked 5 = .ok (.aload_n 0, 1) := dk_42 (dk_at dksX9_isDeadlocked_0 5 rfl rfl)
theorem dX9_isDeadlocked_6 : decode cX9_isDeadlocked 6 = .ok (.aload_n 0, 1) := dk_42 (dk_at dksX9_isDeadlocked_0 6 rfl rfl)
theorem dX9_isDeadlocked_7 : decode cX9_isDeadlocked 7 = .ok (.invokevirtual 151, 3) := dk_182 0 151 (dk_at dksX9_isDeadlocked_0 7 rfl rfl)
theorem dX9_isDeadlocked_10 : decode cX9_isDeadlocked 10 = .ok (.invokevirtual 376, 3) := dk_182 1 120 (dk_at dksX9_isDeadlocked_0 10 rfl rfl)
theorem dX9_isDeadlocked_13 : decode cX9_isDeadlocked 13 = .ok (.ireturn, 1) := dk_172 (dk_at dksX9_isDeadlocked_0 13 rfl rfl)
abbrev cX9_isStuck : ByteArray := prog_41_method_31_code
def yX9_isStuck : MethodName := ⟨RX9, "isStuck", "(I)Z"⟩
def dkwX9_isStuck_1 : List UInt8 := [132, 2, 1, 167, 255, 232, 4, 172]
abbrev dktX9_isStuck_1 : List UInt8 := dkwX9_isStuck_1 ++ []
def dkwX9_isStuck_0 : List UInt8 := [3, 61, 28, 42, 180, 0, 7, 4, 46, 162, 0, 20, 42, 27, 28, 182, 0, 137, 154, 0, 5, 3, 172]
abbrev dktX9_isStuck_0 : List UInt8 := dkwX9_isStuck_0 ++ dktX9_isStuck_1
theorem dksX9_isStuck_0 : cX9_isStuck.data.toList.drop 0 = dktX9_isStuck_0 := by decide +kernel
theorem dksX9_isStuck_1 : cX9_isStuck.data.toList.drop 23 = dktX9_isStuck_1 := dk_seg dksX9_isStuck_0 23 rfl rfl
theorem dX9_isStuck_0 : decode cX9_isStuck 0 = .ok (.iconst 0, 1) := dk_3 (dk_at dksX9_isStuck_0 0 rfl rfl)
theorem dX9_isStuck_1 : decode cX9_isStuck 1 = .ok (.istore_n 2, 1) := dk_61 (dk_at dksX9_isStuck_0 1 rfl rfl)
theorem dX9_isStuck_2 : decode cX9_isStuck 2 = .ok (.iload_n 2, 1) := dk_28 (dk_at dksX9_isStuck_0 2 rfl rfl)
theorem dX9_isStuck_3 : decode cX9_isStuck 3 = .ok (.aload_n 0, 1) := dk_42 (dk_at dksX9_isStuck_0 3 rfl rfl)
theorem dX9_isStuck_4 : decode cX9_isStuck 4 = .ok (.getfield 7, 3) := dk_180 0 7 (dk_at dksX9_isStuck_0 4 rfl rfl)
theorem dX9_isStuck_7 : decode cX9_isStuck 7 = .ok (.iconst 1, 1) := dk_4 (dk_at dksX9_isStuck_0 7 rfl rfl)
theorem dX9_isStuck_8 : decode cX9_isStuck 8 = .ok (.iaload, 1) := dk_46 (dk_at dksX9_isStuck_0 8 rfl rfl)
theorem dX9_isStuck_9 : decode cX9_isStuck 9 = .ok (.if_icmp .ge 20, 3) := dk_162 0 20 (dk_at dksX9_isStuck_0 9 rfl rfl)
theorem dX9_isStuck_12 : decode cX9_isStuck 12 = .ok (.aload_n 0, 1) := dk_42 (dk_at dksX9_isStuck_0 12 rfl rfl)
theorem dX9_isStuck_13 : decode cX9_isStuck 13 = .ok (.iload_n 1, 1) := dk_27 (dk_at dksX9_isStuck_0 13 rfl rfl)
theorem dX9_isStuck_14 : decode cX9_isStuck 14 = .ok (.iload_n 2, 1) := dk_28 (dk_at dksX9_isStuck_0 14 rfl rfl)
theorem dX9_isStuck_15 : decode cX9_isStuck 15 = .ok (.invokevirtual 137, 3) := dk_182 0 137 (dk_at dksX9_isStuck_0 15 rfl rfl)
theorem dX9_isStuck_18 : decode cX9_isStuck 18 = .ok (.ifCond .ne 5, 3) := dk_154 0 5 (dk_at dksX9_isStuck_0 18 rfl rfl)
theorem dX9_isStuck_21 : decode cX9_isStuck 21 = .ok (.iconst 0, 1) := dk_3 (dk_at dksX9_isStuck_0 21 rfl rfl)
theorem dX9_isStuck_22 : decode cX9_isStuck 22 = .ok (.ireturn, 1) := dk_172 (dk_at dksX9_isStuck_0 22 rfl rfl)
theorem dX9_isStuck_23 : decode cX9_isStuck 23 = .ok (.iinc 2 1, 3) := dk_132 2 1 (dk_at dksX9_isStuck_1 0 rfl rfl)
theorem dX9_isStuck_26 : decode cX9_isStuck 26 = .ok (.goto (-24), 3) := dk_167 255 232 (dk_at dksX9_isStuck_1 3 rfl rfl)
theorem dX9_isStuck_29 : decode cX9_isStuck 29 = .ok (.iconst 1, 1) := dk_4 (dk_at dksX9_isStuck_1 6 rfl rfl)
theorem dX9_isStuck_30 : decode cX9_isStuck 30 = .ok (.ireturn, 1) := dk_172 (dk_at dksX9_isStuck_1 7 rfl rfl)
abbrev cX9_visitsOf : ByteArray := prog_41_method_106_code
def yX9_visitsOf : MethodName := ⟨RX9, "visitsOf", "(I)I"⟩
def dkwX9_visitsOf_1 : List UInt8 := [27, 96, 46, 172]
abbrev dktX9_visitsOf_1 : List UInt8 := dkwX9_visitsOf_1 ++ []
def dkwX9_visitsOf_0 : List UInt8 := [42, 3, 181, 0, 78, 42, 27, 3, 182, 1, 114, 153, 0, 7, 3, 167, 0, 12, 42, 180, 0, 7, 16, 59]
abbrev dktX9_visitsOf_0 : List UInt8 := dkwX9_visitsOf_0 ++ dktX9_visitsOf_1
theorem dksX9_visitsOf_0 : cX9_visitsOf.data.toList.drop 0 = dktX9_visitsOf_0 := by decide +kernel
theorem dksX9_visitsOf_1 : cX9_visitsOf.data.toList.drop 24 = dktX9_visitsOf_1 := dk_seg dksX9_visitsOf_0 24 rfl rfl
theorem dX9_visitsOf_0 : decode cX9_visitsOf 0 = .ok (.aload_n 0, 1) := dk_42 (dk_at dksX9_visitsOf_0 0 rfl rfl)
theorem dX9_visitsOf_1 : decode cX9_visitsOf 1 = .ok (.iconst 0, 1) := dk_3 (dk_at dksX9_visitsOf_0 1 rfl rfl)
theorem dX9_visitsOf_2 : decode cX9_visitsOf 2 = .ok (.putfield 78, 3) := dk_181 0 78 (dk_at dksX9_visitsOf_0 2 rfl rfl)
theorem dX9_visitsOf_5 : decode cX9_visitsOf 5 = .ok (.aload_n 0, 1) := dk_42 (dk_at dksX9_visitsOf_0 5 rfl rfl)
theorem dX9_visitsOf_6 : decode cX9_visitsOf 6 = .ok (.iload_n 1, 1) := dk_27 (dk_at dksX9_visitsOf_0 6 rfl rfl)
theorem dX9_visitsOf_7 : decode cX9_visitsOf 7 = .ok (.iconst 0, 1) := dk_3 (dk_at dksX9_visitsOf_0 7 rfl rfl)
theorem dX9_visitsOf_8 : decode cX9_visitsOf 8 = .ok (.invokevirtual 370, 3) := dk_182 1 114 (dk_at dksX9_visitsOf_0 8 rfl rfl)
theorem dX9_visitsOf_11 : decode cX9_visitsOf 11 = .ok (.ifCond .eq 7, 3) := dk_153 0 7 (dk_at dksX9_visitsOf_0 11 rfl rfl)
theorem dX9_visitsOf_14 : decode cX9_visitsOf 14 = .ok (.iconst 0, 1) := dk_3 (dk_at dksX9_visitsOf_0 14 rfl rfl)
theorem dX9_visitsOf_15 : decode cX9_visitsOf 15 = .ok (.goto 12, 3) := dk_167 0 12 (dk_at dksX9_visitsOf_0 15 rfl rfl)
theorem dX9_visitsOf_18 : decode cX9_visitsOf 18 = .ok (.aload_n 0, 1) := dk_42 (dk_at dksX9_visitsOf_0 18 rfl rfl)
theorem dX9_visitsOf_19 : decode cX9_visitsOf 19 = .ok (.getfield 7, 3) := dk_180 0 7 (dk_at dksX9_visitsOf_0 19 rfl rfl)
theorem dX9_visitsOf_22 : decode cX9_visitsOf 22 = .ok (.bipush 59, 2) := dk_16 59 (dk_at dksX9_visitsOf_0 22 rfl rfl)
theorem dX9_visitsOf_24 : decode cX9_visitsOf 24 = .ok (.iload_n 1, 1) := dk_27 (dk_at dksX9_visitsOf_1 0 rfl rfl)
theorem dX9_visitsOf_25 : decode cX9_visitsOf 25 = .ok (.iadd, 1) := dk_96 (dk_at dksX9_visitsOf_1 1 rfl rfl)
theorem dX9_visitsOf_26 : decode cX9_visitsOf 26 = .ok (.iaload, 1) := dk_46 (dk_at dksX9_visitsOf_1 2 rfl rfl)
theorem dX9_visitsOf_27 : decode cX9_visitsOf 27 = .ok (.ireturn, 1) := dk_172 (dk_at dksX9_visitsOf_1 3 rfl rfl)
abbrev cX9_rejectedWith : ByteArray := prog_41_method_107_code
def yX9_rejectedWith : MethodName := ⟨RX9, "rejectedWith", "(I)I"⟩
def dkwX9_rejectedWith_1 : List UInt8 := [153, 0, 7, 3, 167, 0, 12, 42, 180, 0, 7, 16, 12, 27, 96, 46, 172]
abbrev dktX9_rejectedWith_1 : List UInt8 := dkwX9_rejectedWith_1 ++ []
def dkwX9_rejectedWith_0 : List UInt8 := [42, 3, 181, 0, 78, 42, 27, 4, 7, 184, 0, 127, 154, 0, 7, 4, 167, 0, 4, 3, 4, 182, 1, 110]
abbrev dktX9_rejectedWith_0 : List UInt8 := dkwX9_rejectedWith_0 ++ dktX9_rejectedWith_1
theorem dksX9_rejectedWith_0 : cX9_rejectedWith.data.toList.drop 0 = dktX9_rejectedWith_0 := by decide +kernel
theorem dksX9_rejectedWith_1 : cX9_rejectedWith.data.toList.drop 24 = dktX9_rejectedWith_1 := dk_seg dksX9_rejectedWith_0 24 rfl rfl
theorem dX9_rejectedWith_0 : decode cX9_rejectedWith 0 = .ok (.aload_n 0, 1) := dk_42 (dk_at dksX9_rejectedWith_0 0 rfl rfl)
theorem dX9_rejectedWith_1 : decode cX9_rejectedWith 1 = .ok (.iconst 0, 1) := dk_3 (dk_at dksX9_rejectedWith_0 1 rfl rfl)
theorem dX9_rejectedWith_2 : decode cX9_rejectedWith 2 = .ok (.putfield 78, 3) := dk_181 0 78 (dk_at dksX9_rejectedWith_0 2 rfl rfl)
theorem dX9_rejectedWith_5 : decode cX9_rejectedWith 5 = .ok (.aload_n 0, 1) := dk_42 (dk_at dksX9_rejectedWith_0 5 rfl rfl)
theorem dX9_rejectedWith_6 : decode cX9_rejectedWith 6 = .ok (.iload_n 1, 1) := dk_27 (dk_at dksX9_rejectedWith_0 6 rfl rfl)
theorem dX9_rejectedWith_7 : decode cX9_rejectedWith 7 = .ok (.iconst 1, 1) := dk_4 (dk_at dksX9_rejectedWith_0 7 rfl rfl)
theorem dX9_rejectedWith_8 : decode cX9_rejectedWith 8 = .ok (.iconst 4, 1) := dk_7 (dk_at dksX9_rejectedWith_0 8 rfl rfl)
theorem dX9_rejectedWith_9 : decode cX9_rejectedWith 9 = .ok (.invokestatic 127, 3) := dk_184 0 127 (dk_at dksX9_rejectedWith_0 9 rfl rfl)
theorem dX9_rejectedWith_12 : decode cX9_rejectedWith 12 = .ok (.ifCond .ne 7, 3) := dk_154 0 7 (dk_at dksX9_rejectedWith_0 12 rfl rfl)
theorem dX9_rejectedWith_15 : decode cX9_rejectedWith 15 = .ok (.iconst 1, 1) := dk_4 (dk_at dksX9_rejectedWith_0 15 rfl rfl)
theorem dX9_rejectedWith_16 : decode cX9_rejectedWith 16 = .ok (.goto 4, 3) := dk_167 0 4 (dk_at dksX9_rejectedWith_0 16 rfl rfl)
theorem dX9_rejectedWith_19 : decode cX9_rejectedWith 19 = .ok (.iconst 0, 1) := dk_3 (dk_at dksX9_rejectedWith_0 19 rfl rfl)
theorem dX9_rejectedWith_20 : decode cX9_rejectedWith 20 = .ok (.iconst 1, 1) := dk_4 (dk_at dksX9_rejectedWith_0 20 rfl rfl)
theorem dX9_rejectedWith_21 : decode cX9_rejectedWith 21 = .ok (.invokevirtual 366, 3) := dk_182 1 110 (dk_at dksX9_rejectedWith_0 21 rfl rfl)
theorem dX9_rejectedWith_24 : decode cX9_rejectedWith 24 = .ok (.ifCond .eq 7, 3) := dk_153 0 7 (dk_at dksX9_rejectedWith_1 0 rfl rfl)
theorem dX9_rejectedWith_27 : decode cX9_rejectedWith 27 = .ok (.iconst 0, 1) := dk_3 (dk_at dksX9_rejectedWith_1 3 rfl rfl)
theorem dX9_rejectedWith_28 : decode cX9_rejectedWith 28 = .ok (.goto 12, 3) := dk_167 0 12 (dk_at dksX9_rejectedWith_1 4 rfl rfl)
theorem dX9_rejectedWith_31 : decode cX9_rejectedWith 31 = .ok (.aload_n 0, 1) := dk_42 (dk_at dksX9_rejectedWith_1 7 rfl rfl)
theorem dX9_rejectedWith_32 : decode cX9_rejectedWith 32 = .ok (.getfield 7, 3) := dk_180 0 7 (dk_at dksX9_rejectedWith_1 8 rfl rfl)
theorem dX9_rejectedWith_35 : decode cX9_rejectedWith 35 = .ok (.bipush 12, 2) := dk_16 12 (dk_at dksX9_rejectedWith_1 11 rfl rfl)
theorem dX9_rejectedWith_37 : decode cX9_rejectedWith 37 = .ok (.iload_n 1, 1) := dk_27 (dk_at dksX9_rejectedWith_1 13 rfl rfl)
theorem dX9_rejectedWith_38 : decode cX9_rejectedWith 38 = .ok (.iadd, 1) := dk_96 (dk_at dksX9_rejectedWith_1 14 rfl rfl)
theorem dX9_rejectedWith_39 : decode cX9_rejectedWith 39 = .ok (.iaload, 1) := dk_46 (dk_at dksX9_rejectedWith_1 15 rfl rfl)
theorem dX9_rejectedWith_40 : decode cX9_rejectedWith 40 = .ok (.ireturn, 1) := dk_172 (dk_at dksX9_rejectedWith_1 16 rfl rfl)
abbrev cX9_stateCoverage : ByteArray := prog_41_method_110_code
def yX9_stateCoverage : MethodName := ⟨RX9, "stateCoverage", "()F"⟩
def dkwX9_stateCoverage_0 : List UInt8 := [42, 3, 181, 0, 78, 42, 16, 59, 3, 182, 1, 127, 134, 42, 180, 0, 7, 3, 46, 134, 110, 174]
abbrev dktX9_stateCoverage_0 : List UInt8 := dkwX9_stateCoverage_0 ++ []
theorem dksX9_stateCoverage_0 : cX9_stateCoverage.data.toList.drop 0 = dktX9_stateCoverage_0 := by decide +kernel
theorem dX9_stateCoverage_0 : decode cX9_stateCoverage 0 = .ok (.aload_n 0, 1) := dk_42 (dk_at dksX9_stateCoverage_0 0 rfl rfl)
theorem dX9_stateCoverage_1 : decode cX9_stateCoverage 1 = .ok (.iconst 0, 1) := dk_3 (dk_at dksX9_stateCoverage_0 1 rfl rfl)
theorem dX9_stateCoverage_2 : decode cX9_stateCoverage 2 = .ok (.putfield 78, 3) := dk_181 0 78 (dk_at dksX9_stateCoverage_0 2 rfl rfl)
theorem dX9_stateCoverage_5 : decode cX9_stateCoverage 5 = .ok (.aload_n 0, 1) := dk_42 (dk_at dksX9_stateCoverage_0 5 rfl rfl)
theorem dX9_stateCoverage_6 : decode cX9_stateCoverage 6 = .ok (.bipush 59, 2) := dk_16 59 (dk_at dksX9_stateCoverage_0 6 rfl rfl)
theorem dX9_stateCoverage_8 : decode cX9_stateCoverage 8 = .ok (.iconst 0, 1) := dk_3 (dk_at dksX9_stateCoverage_0 8 rfl rfl)
theorem dX9_stateCoverage_9 : decode cX9_stateCoverage 9 = .ok (.invokevirtual 383, 3) := dk_182 1 127 (dk_at dksX9_stateCoverage_0 9 rfl rfl)
theorem dX9_stateCoverage_12 : decode cX9_stateCoverage 12 = .ok (.i2f, 1) := dk_134 (dk_at dksX9_stateCoverage_0 12 rfl rfl)
theorem dX9_stateCoverage_13 : decode cX9_stateCoverage 13 = .ok (.aload_n 0, 1) := dk_42 (dk_at dksX9_stateCoverage_0 13 rfl rfl)
theorem dX9_stateCoverage_14 : decode cX9_stateCoverage 14 = .ok (.getfield 7, 3) := dk_180 0 7 (dk_at dksX9_stateCoverage_0 14 rfl rfl)
theorem dX9_stateCoverage_17 : decode cX9_stateCoverage 17 = .ok (.iconst 0, 1) := dk_3 (dk_at dksX9_stateCoverage_0 17 rfl rfl)
theorem dX9_stateCoverage_18 : decode cX9_stateCoverage 18 = .ok (.iaload, 1) := dk_46 (dk_at dksX9_stateCoverage_0 18 rfl rfl)
theorem dX9_stateCoverage_19 : decode cX9_stateCoverage 19 = .ok (.i2f, 1) := dk_134 (dk_at dksX9_stateCoverage_0 19 rfl rfl)
theorem dX9_stateCoverage_20 : decode cX9_stateCoverage 20 = .ok (.fdiv, 1) := dk_110 (dk_at dksX9_stateCoverage_0 20 rfl rfl)
theorem dX9_stateCoverage_21 : decode cX9_stateCoverage 21 = .ok (.freturn, 1) := dk_174 (dk_at dksX9_stateCoverage_0 21 rfl rfl)
abbrev cX9_counted : ByteArray := prog_41_method_108_code
def yX9_counted : MethodName := ⟨RX9, "counted", "(II)I"⟩
def dkwX9_counted_1 : List UInt8 := [96, 46, 158, 0, 7, 4, 167, 0, 4, 3, 184, 1, 123, 96, 62, 132, 4, 1, 167, 255, 219, 29, 172]
abbrev dktX9_counted_1 : List UInt8 := dkwX9_counted_1 ++ []
def dkwX9_counted_0 : List UInt8 := [3, 62, 3, 54, 4, 21, 4, 42, 180, 0, 7, 28, 46, 162, 0, 32, 29, 42, 180, 0, 7, 27, 21, 4]
abbrev dktX9_counted_0 : List UInt8 := dkwX9_counted_0 ++ dktX9_counted_1
theorem dksX9_counted_0 : cX9_counted.data.toList.drop 0 = dktX9_counted_0 := by decide +kernel
theorem dksX9_counted_1 : cX9_counted.data.toList.drop 24 = dktX9_counted_1 := dk_seg dksX9_counted_0 24 rfl rfl
theorem dX9_counted_0 : decode cX9_counted 0 = .ok (.iconst 0, 1) := dk_3 (dk_at dksX9_counted_0 0 rfl rfl)
theorem dX9_counted_1 : decode cX9_counted 1 = .ok (.istore_n 3, 1) := dk_62 (dk_at dksX9_counted_0 1 rfl rfl)
theorem dX9_counted_2 : decode cX9_counted 2 = .ok (.iconst 0, 1) := dk_3 (dk_at dksX9_counted_0 2 rfl rfl)
theorem dX9_counted_3 : decode cX9_counted 3 = .ok (.istore 4, 2) := dk_54 4 (dk_at dksX9_counted_0 3 rfl rfl)
theorem dX9_counted_5 : decode cX9_counted 5 = .ok (.iload 4, 2) := dk_21 4 (dk_at dksX9_counted_0 5 rfl rfl)
theorem dX9_counted_7 : decode cX9_counted 7 = .ok (.aload_n 0, 1) := dk_42 (dk_at dksX9_counted_0 7 rfl rfl)
theorem dX9_counted_8 : decode cX9_counted 8 = .ok (.getfield 7, 3) := dk_180 0 7 (dk_at dksX9_counted_0 8 rfl rfl)
theorem dX9_counted_11 : decode cX9_counted 11 = .ok (.iload_n 2, 1) := dk_28 (dk_at dksX9_counted_0 11 rfl rfl)
theorem dX9_counted_12 : decode cX9_counted 12 = .ok (.iaload, 1) := dk_46 (dk_at dksX9_counted_0 12 rfl rfl)
theorem dX9_counted_13 : decode cX9_counted 13 = .ok (.if_icmp .ge 32, 3) := dk_162 0 32 (dk_at dksX9_counted_0 13 rfl rfl)
theorem dX9_counted_16 : decode cX9_counted 16 = .ok (.iload_n 3, 1) := dk_29 (dk_at dksX9_counted_0 16 rfl rfl)
theorem dX9_counted_17 : decode cX9_counted 17 = .ok (.aload_n 0, 1) := dk_42 (dk_at dksX9_counted_0 17 rfl rfl)
theorem dX9_counted_18 : decode cX9_counted 18 = .ok (.getfield 7, 3) := dk_180 0 7 (dk_at dksX9_counted_0 18 rfl rfl)
theorem dX9_counted_21 : decode cX9_counted 21 = .ok (.iload_n 1, 1) := dk_27 (dk_at dksX9_counted_0 21 rfl rfl)
theorem dX9_counted_22 : decode cX9_counted 22 = .ok (.iload 4, 2) := dk_21 4 (dk_at dksX9_counted_0 22 rfl rfl)
theorem dX9_counted_24 : decode cX9_counted 24 = .ok (.iadd, 1) := dk_96 (dk_at dksX9_counted_1 0 rfl rfl)
theorem dX9_counted_25 : decode cX9_counted 25 = .ok (.iaload, 1) := dk_46 (dk_at dksX9_counted_1 1 rfl rfl)
theorem dX9_counted_26 : decode cX9_counted 26 = .ok (.ifCond .le 7, 3) := dk_158 0 7 (dk_at dksX9_counted_1 2 rfl rfl)
theorem dX9_counted_29 : decode cX9_counted 29 = .ok (.iconst 1, 1) := dk_4 (dk_at dksX9_counted_1 5 rfl rfl)
theorem dX9_counted_30 : decode cX9_counted 30 = .ok (.goto 4, 3) := dk_167 0 4 (dk_at dksX9_counted_1 6 rfl rfl)
theorem dX9_counted_33 : decode cX9_counted 33 = .ok (.iconst 0, 1) := dk_3 (dk_at dksX9_counted_1 9 rfl rfl)
theorem dX9_counted_34 : decode cX9_counted 34 = .ok (.invokestatic 379, 3) := dk_184 1 123 (dk_at dksX9_counted_1 10 rfl rfl)
theorem dX9_counted_37 : decode cX9_counted 37 = .ok (.iadd, 1) := dk_96 (dk_at dksX9_counted_1 13 rfl rfl)
theorem dX9_counted_38 : decode cX9_counted 38 = .ok (.istore_n 3, 1) := dk_62 (dk_at dksX9_counted_1 14 rfl rfl)
theorem dX9_counted_39 : decode cX9_counted 39 = .ok (.iinc 4 1, 3) := dk_132 4 1 (dk_at dksX9_counted_1 15 rfl rfl)
theorem dX9_counted_42 : decode cX9_counted 42 = .ok (.goto (-37), 3) := dk_167 255 219 (dk_at dksX9_counted_1 18 rfl rfl)
theorem dX9_counted_45 : decode cX9_counted 45 = .ok (.iload_n 3, 1) := dk_29 (dk_at dksX9_counted_1 21 rfl rfl)
theorem dX9_counted_46 : decode cX9_counted 46 = .ok (.ireturn, 1) := dk_172 (dk_at dksX9_counted_1 22 rfl rfl)
abbrev cX9_one : ByteArray := prog_41_method_4_code
def yX9_one : MethodName := ⟨RX9, "one", "(Z)I"⟩
def dkwX9_one_0 : List UInt8 := [26, 153, 0, 7, 4, 167, 0, 4, 3, 172]
abbrev dktX9_one_0 : List UInt8 := dkwX9_one_0 ++ []
theorem dksX9_one_0 : cX9_one.data.toList.drop 0 = dktX9_one_0 := by decide +kernel
theorem dX9_one_0 : decode cX9_one 0 = .ok (.iload_n 0, 1) := dk_26 (dk_at dksX9_one_0 0 rfl rfl)
theorem dX9_one_1 : decode cX9_one 1 = .ok (.ifCond .eq 7, 3) := dk_153 0 7 (dk_at dksX9_one_0 1 rfl rfl)
theorem dX9_one_4 : decode cX9_one 4 = .ok (.iconst 1, 1) := dk_4 (dk_at dksX9_one_0 4 rfl rfl)
theorem dX9_one_5 : decode cX9_one 5 = .ok (.goto 4, 3) := dk_167 0 4 (dk_at dksX9_one_0 5 rfl rfl)
theorem dX9_one_8 : decode cX9_one 8 = .ok (.iconst 0, 1) := dk_3 (dk_at dksX9_one_0 8 rfl rfl)
theorem dX9_one_9 : decode cX9_one 9 = .ok (.ireturn, 1) := dk_172 (dk_at dksX9_one_0 9 rfl rfl)
abbrev cX9_transitionCoverage : ByteArray := prog_41_method_111_code
def yX9_transitionCoverage : MethodName := ⟨RX9, "transitionCoverage", "()F"⟩
def dkwX9_transitionCoverage_1 : List UInt8 := [182, 1, 127, 134, 42, 180, 0, 7, 6, 46, 134, 110, 174]
abbrev dktX9_transitionCoverage_1 : List UInt8 := dkwX9_transitionCoverage_1 ++ []
def dkwX9_transitionCoverage_0 : List UInt8 := [42, 3, 181, 0, 78, 42, 180, 0, 7, 6, 46, 154, 0, 7, 12, 167, 0, 19, 42, 16, 69, 6]
abbrev dktX9_transitionCoverage_0 : List UInt8 := dkwX9_transitionCoverage_0 ++ dktX9_transitionCoverage_1
theorem dksX9_transitionCoverage_0 : cX9_transitionCoverage.data.toList.drop 0 = dktX9_transitionCoverage_0 := by decide +kernel
theorem dksX9_transitionCoverage_1 : cX9_transitionCoverage.data.toList.drop 22 = dktX9_transitionCoverage_1 := dk_seg dksX9_transitionCoverage_0 22 rfl rfl
theorem dX9_transitionCoverage_0 : decode cX9_transitionCoverage 0 = .ok (.aload_n 0, 1) := dk_42 (dk_at dksX9_transitionCoverage_0 0 rfl rfl)
theorem dX9_transitionCoverage_1 : decode cX9_transitionCoverage 1 = .ok (.iconst 0, 1) := dk_3 (dk_at dksX9_transitionCoverage_0 1 rfl rfl)
theorem dX9_transitionCoverage_2 : decode cX9_transitionCoverage 2 = .ok (.putfield 78, 3) := dk_181 0 78 (dk_at dksX9_transitionCoverage_0 2 rfl rfl)
theorem dX9_transitionCoverage_5 : decode cX9_transitionCoverage 5 = .ok (.aload_n 0, 1) := dk_42 (dk_at dksX9_transitionCoverage_0 5 rfl rfl)
theorem dX9_transitionCoverage_6 : decode cX9_transitionCoverage 6 = .ok (.getfield 7, 3) := dk_180 0 7 (dk_at dksX9_transitionCoverage_0 6 rfl rfl)
theorem dX9_transitionCoverage_9 : decode cX9_transitionCoverage 9 = .ok (.iconst 3, 1) := dk_6 (dk_at dksX9_transitionCoverage_0 9 rfl rfl)
theorem dX9_transitionCoverage_10 : decode cX9_transitionCoverage 10 = .ok (.iaload, 1) := dk_46 (dk_at dksX9_transitionCoverage_0 10 rfl rfl)
theorem dX9_transitionCoverage_11 : decode cX9_transitionCoverage 11 = .ok (.ifCond .ne 7, 3) := dk_154 0 7 (dk_at dksX9_transitionCoverage_0 11 rfl rfl)
theorem dX9_transitionCoverage_14 : decode cX9_transitionCoverage 14 = .ok (.fconst 1, 1) := dk_12 (dk_at dksX9_transitionCoverage_0 14 rfl rfl)
theorem dX9_transitionCoverage_15 : decode cX9_transitionCoverage 15 = .ok (.goto 19, 3) := dk_167 0 19 (dk_at dksX9_transitionCoverage_0 15 rfl rfl)
theorem dX9_transitionCoverage_18 : decode cX9_transitionCoverage 18 = .ok (.aload_n 0, 1) := dk_42 (dk_at dksX9_transitionCoverage_0 18 rfl rfl)
theorem dX9_transitionCoverage_19 : decode cX9_transitionCoverage 19 = .ok (.bipush 69, 2) := dk_16 69 (dk_at dksX9_transitionCoverage_0 19 rfl rfl)
theorem dX9_transitionCoverage_21 : decode cX9_transitionCoverage 21 = .ok (.iconst 3, 1) := dk_6 (dk_at dksX9_transitionCoverage_0 21 rfl rfl)
theorem dX9_transitionCoverage_22 : decode cX9_transitionCoverage 22 = .ok (.invokevirtual 383, 3) := dk_182 1 127 (dk_at dksX9_transitionCoverage_1 0 rfl rfl)
theorem dX9_transitionCoverage_25 : decode cX9_transitionCoverage 25 = .ok (.i2f, 1) := dk_134 (dk_at dksX9_transitionCoverage_1 3 rfl rfl)
theorem dX9_transitionCoverage_26 : decode cX9_transitionCoverage 26 = .ok (.aload_n 0, 1) := dk_42 (dk_at dksX9_transitionCoverage_1 4 rfl rfl)
theorem dX9_transitionCoverage_27 : decode cX9_transitionCoverage 27 = .ok (.getfield 7, 3) := dk_180 0 7 (dk_at dksX9_transitionCoverage_1 5 rfl rfl)
theorem dX9_transitionCoverage_30 : decode cX9_transitionCoverage 30 = .ok (.iconst 3, 1) := dk_6 (dk_at dksX9_transitionCoverage_1 8 rfl rfl)
theorem dX9_transitionCoverage_31 : decode cX9_transitionCoverage 31 = .ok (.iaload, 1) := dk_46 (dk_at dksX9_transitionCoverage_1 9 rfl rfl)
theorem dX9_transitionCoverage_32 : decode cX9_transitionCoverage 32 = .ok (.i2f, 1) := dk_134 (dk_at dksX9_transitionCoverage_1 10 rfl rfl)
theorem dX9_transitionCoverage_33 : decode cX9_transitionCoverage 33 = .ok (.fdiv, 1) := dk_110 (dk_at dksX9_transitionCoverage_1 11 rfl rfl)
theorem dX9_transitionCoverage_34 : decode cX9_transitionCoverage 34 = .ok (.freturn, 1) := dk_174 (dk_at dksX9_transitionCoverage_1 12 rfl rfl)
abbrev cX9_firstUncovered : ByteArray := prog_41_method_112_code
def yX9_firstUncovered : MethodName := ⟨RX9, "firstUncovered", "()I"⟩
def dkwX9_firstUncovered_1 : List UInt8 := [96, 46, 154, 0, 5, 27, 172, 132, 1, 1, 167, 255, 229, 2, 172]
abbrev dktX9_firstUncovered_1 : List UInt8 := dkwX9_firstUncovered_1 ++ []
def dkwX9_firstUncovered_0 : List UInt8 := [42, 3, 181, 0, 78, 3, 60, 27, 42, 180, 0, 7, 6, 46, 162, 0, 23, 42, 180, 0, 7, 16, 69, 27]
abbrev dktX9_firstUncovered_0 : List UInt8 := dkwX9_firstUncovered_0 ++ dktX9_firstUncovered_1
theorem dksX9_firstUncovered_0 : cX9_firstUncovered.data.toList.drop 0 = dktX9_firstUncovered_0 := by decide +kernel
theorem dksX9_firstUncovered_1 : cX9_firstUncovered.data.toList.drop 24 = dktX9_firstUncovered_1 := dk_seg dksX9_firstUncovered_0 24 rfl rfl
theorem dX9_firstUncovered_0 : decode cX9_firstUncovered 0 = .ok (.aload_n 0, 1) := dk_42 (dk_at dksX9_firstUncovered_0 0 rfl rfl)
theorem dX9_firstUncovered_1 : decode cX9_firstUncovered 1 = .ok (.iconst 0, 1) := dk_3 (dk_at dksX9_firstUncovered_0 1 rfl rfl)
theorem dX9_firstUncovered_2 : decode cX9_firstUncovered 2 = .ok (.putfield 78, 3) := dk_181 0 78 (dk_at dksX9_firstUncovered_0 2 rfl rfl)
theorem dX9_firstUncovered_5 : decode cX9_firstUncovered 5 = .ok (.iconst 0, 1) := dk_3 (dk_at dksX9_firstUncovered_0 5 rfl rfl)
theorem dX9_firstUncovered_6 : decode cX9_firstUncovered 6 = .ok (.istore_n 1, 1) := dk_60 (dk_at dksX9_firstUncovered_0 6 rfl rfl)
theorem dX9_firstUncovered_7 : decode cX9_firstUncovered 7 = .ok (.iload_n 1, 1) := dk_27 (dk_at dksX9_firstUncovered_0 7 rfl rfl)
theorem dX9_firstUncovered_8 : decode cX9_firstUncovered 8 = .ok (.aload_n 0, 1) := dk_42 (dk_at dksX9_firstUncovered_0 8 rfl rfl)
theorem dX9_firstUncovered_9 : decode cX9_firstUncovered 9 = .ok (.getfield 7, 3) := dk_180 0 7 (dk_at dksX9_firstUncovered_0 9 rfl rfl)
theorem dX9_firstUncovered_12 : decode cX9_firstUncovered 12 = .ok (.iconst 3, 1) := dk_6 (dk_at dksX9_firstUncovered_0 12 rfl rfl)
theorem dX9_firstUncovered_13 : decode cX9_firstUncovered 13 = .ok (.iaload, 1) := dk_46 (dk_at dksX9_firstUncovered_0 13 rfl rfl)
theorem dX9_firstUncovered_14 : decode cX9_firstUncovered 14 = .ok (.if_icmp .ge 23, 3) := dk_162 0 23 (dk_at dksX9_firstUncovered_0 14 rfl rfl)
theorem dX9_firstUncovered_17 : decode cX9_firstUncovered 17 = .ok (.aload_n 0, 1) := dk_42 (dk_at dksX9_firstUncovered_0 17 rfl rfl)
theorem dX9_firstUncovered_18 : decode cX9_firstUncovered 18 = .ok (.getfield 7, 3) := dk_180 0 7 (dk_at dksX9_firstUncovered_0 18 rfl rfl)
theorem dX9_firstUncovered_21 : decode cX9_firstUncovered 21 = .ok (.bipush 69, 2) := dk_16 69 (dk_at dksX9_firstUncovered_0 21 rfl rfl)
theorem dX9_firstUncovered_23 : decode cX9_firstUncovered 23 = .ok (.iload_n 1, 1) := dk_27 (dk_at dksX9_firstUncovered_0 23 rfl rfl)
theorem dX9_firstUncovered_24 : decode cX9_firstUncovered 24 = .ok (.iadd, 1) := dk_96 (dk_at dksX9_firstUncovered_1 0 rfl rfl)
theorem dX9_firstUncovered_25 : decode cX9_firstUncovered 25 = .ok (.iaload, 1) := dk_46 (dk_at dksX9_firstUncovered_1 1 rfl rfl)
theorem dX9_firstUncovered_26 : decode cX9_firstUncovered 26 = .ok (.ifCond .ne 5, 3) := dk_154 0 5 (dk_at dksX9_firstUncovered_1 2 rfl rfl)
theorem dX9_firstUncovered_29 : decode cX9_firstUncovered 29 = .ok (.iload_n 1, 1) := dk_27 (dk_at dksX9_firstUncovered_1 5 rfl rfl)
theorem dX9_firstUncovered_30 : decode cX9_firstUncovered 30 = .ok (.ireturn, 1) := dk_172 (dk_at dksX9_firstUncovered_1 6 rfl rfl)
theorem dX9_firstUncovered_31 : decode cX9_firstUncovered 31 = .ok (.iinc 1 1, 3) := dk_132 1 1 (dk_at dksX9_firstUncovered_1 7 rfl rfl)
theorem dX9_firstUncovered_34 : decode cX9_firstUncovered 34 = .ok (.goto (-27), 3) := dk_167 255 229 (dk_at dksX9_firstUncovered_1 10 rfl rfl)
theorem dX9_firstUncovered_37 : decode cX9_firstUncovered 37 = .ok (.iconst (-1), 1) := dk_2 (dk_at dksX9_firstUncovered_1 13 rfl rfl)
theorem dX9_firstUncovered_38 : decode cX9_firstUncovered 38 = .ok (.ireturn, 1) := dk_172 (dk_at dksX9_firstUncovered_1 14 rfl rfl)
abbrev cX9_mostVisitedState : ByteArray := prog_41_method_113_code
def yX9_mostVisitedState : MethodName := ⟨RX9, "mostVisitedState", "()I"⟩
def dkwX9_mostVisitedState_2 : List UInt8 := [167, 255, 220, 27, 172]
abbrev dktX9_mostVisitedState_2 : List UInt8 := dkwX9_mostVisitedState_2 ++ []
def dkwX9_mostVisitedState_1 : List UInt8 := [16, 59, 28, 96, 46, 42, 180, 0, 7, 16, 59, 27, 96, 46, 164, 0, 5, 28, 60, 132, 2, 1]
abbrev dktX9_mostVisitedState_1 : List UInt8 := dkwX9_mostVisitedState_1 ++ dktX9_mostVisitedState_2
def dkwX9_mostVisitedState_0 : List UInt8 := [42, 3, 181, 0, 78, 3, 60, 4, 61, 28, 42, 180, 0, 7, 3, 46, 162, 0, 32, 42, 180, 0, 7]
abbrev dktX9_mostVisitedState_0 : List UInt8 := dkwX9_mostVisitedState_0 ++ dktX9_mostVisitedState_1
theorem dksX9_mostVisitedState_0 : cX9_mostVisitedState.data.toList.drop 0 = dktX9_mostVisitedState_0 := by decide +kernel
theorem dksX9_mostVisitedState_1 : cX9_mostVisitedState.data.toList.drop 23 = dktX9_mostVisitedState_1 := dk_seg dksX9_mostVisitedState_0 23 rfl rfl
theorem dksX9_mostVisitedState_2 : cX9_mostVisitedState.data.toList.drop 45 = dktX9_mostVisitedState_2 := dk_seg dksX9_mostVisitedState_1 22 rfl rfl
theorem dX9_mostVisitedState_0 : decode cX9_mostVisitedState 0 = .ok (.aload_n 0, 1) := dk_42 (dk_at dksX9_mostVisitedState_0 0 rfl rfl)
theorem dX9_mostVisitedState_1 : decode cX9_mostVisitedState 1 = .ok (.iconst 0, 1) := dk_3 (dk_at dksX9_mostVisitedState_0 1 rfl rfl)
theorem dX9_mostVisitedState_2 : decode cX9_mostVisitedState 2 = .ok (.putfield 78, 3) := dk_181 0 78 (dk_at dksX9_mostVisitedState_0 2 rfl rfl)
theorem dX9_mostVisitedState_5 : decode cX9_mostVisitedState 5 = .ok (.iconst 0, 1) := dk_3 (dk_at dksX9_mostVisitedState_0 5 rfl rfl)
theorem dX9_mostVisitedState_6 : decode cX9_mostVisitedState 6 = .ok (.istore_n 1, 1) := dk_60 (dk_at dksX9_mostVisitedState_0 6 rfl rfl)
theorem dX9_mostVisitedState_7 : decode cX9_mostVisitedState 7 = .ok (.iconst 1, 1) := dk_4 (dk_at dksX9_mostVisitedState_0 7 rfl rfl)
theorem dX9_mostVisitedState_8 : decode cX9_mostVisitedState 8 = .ok (.istore_n 2, 1) := dk_61 (dk_at dksX9_mostVisitedState_0 8 rfl rfl)
theorem dX9_mostVisitedState_9 : decode cX9_mostVisitedState 9 = .ok (.iload_n 2, 1) := dk_28 (dk_at dksX9_mostVisitedState_0 9 rfl rfl)
theorem dX9_mostVisitedState_10 : decode cX9_mostVisitedState 10 = .ok (.aload_n 0, 1) := dk_42 (dk_at dksX9_mostVisitedState_0 10 rfl rfl)
theorem dX9_mostVisitedState_11 : decode cX9_mostVisitedState 11 = .ok (.getfield 7, 3) := dk_180 0 7 (dk_at dksX9_mostVisitedState_0 11 rfl rfl)
theorem dX9_mostVisitedState_14 : decode cX9_mostVisitedState 14 = .ok (.iconst 0, 1) := dk_3 (dk_at dksX9_mostVisitedState_0 14 rfl rfl)
theorem dX9_mostVisitedState_15 : decode cX9_mostVisitedState 15 = .ok (.iaload, 1) := dk_46 (dk_at dksX9_mostVisitedState_0 15 rfl rfl)
theorem dX9_mostVisitedState_16 : decode cX9_mostVisitedState 16 = .ok (.if_icmp .ge 32, 3) := dk_162 0 32 (dk_at dksX9_mostVisitedState_0 16 rfl rfl)
theorem dX9_mostVisitedState_19 : decode cX9_mostVisitedState 19 = .ok (.aload_n 0, 1) := dk_42 (dk_at dksX9_mostVisitedState_0 19 rfl rfl)
theorem dX9_mostVisitedState_20 : decode cX9_mostVisitedState 20 = .ok (.getfield 7, 3) := dk_180 0 7 (dk_at dksX9_mostVisitedState_0 20 rfl rfl)
theorem dX9_mostVisitedState_23 : decode cX9_mostVisitedState 23 = .ok (.bipush 59, 2) := dk_16 59 (dk_at dksX9_mostVisitedState_1 0 rfl rfl)
theorem dX9_mostVisitedState_25 : decode cX9_mostVisitedState 25 = .ok (.iload_n 2, 1) := dk_28 (dk_at dksX9_mostVisitedState_1 2 rfl rfl)
theorem dX9_mostVisitedState_26 : decode cX9_mostVisitedState 26 = .ok (.iadd, 1) := dk_96 (dk_at dksX9_mostVisitedState_1 3 rfl rfl)
theorem dX9_mostVisitedState_27 : decode cX9_mostVisitedState 27 = .ok (.iaload, 1) := dk_46 (dk_at dksX9_mostVisitedState_1 4 rfl rfl)
theorem dX9_mostVisitedState_28 : decode cX9_mostVisitedState 28 = .ok (.aload_n 0, 1) := dk_42 (dk_at dksX9_mostVisitedState_1 5 rfl rfl)
theorem dX9_mostVisitedState_29 : decode cX9_mostVisitedState 29 = .ok (.getfield 7, 3) := dk_180 0 7 (dk_at dksX9_mostVisitedState_1 6 rfl rfl)
theorem dX9_mostVisitedState_32 : decode cX9_mostVisitedState 32 = .ok (.bipush 59, 2) := dk_16 59 (dk_at dksX9_mostVisitedState_1 9 rfl rfl)
theorem dX9_mostVisitedState_34 : decode cX9_mostVisitedState 34 = .ok (.iload_n 1, 1) := dk_27 (dk_at dksX9_mostVisitedState_1 11 rfl rfl)
theorem dX9_mostVisitedState_35 : decode cX9_mostVisitedState 35 = .ok (.iadd, 1) := dk_96 (dk_at dksX9_mostVisitedState_1 12 rfl rfl)
theorem dX9_mostVisitedState_36 : decode cX9_mostVisitedState 36 = .ok (.iaload, 1) := dk_46 (dk_at dksX9_mostVisitedState_1 13 rfl rfl)
theorem dX9_mostVisitedState_37 : decode cX9_mostVisitedState 37 = .ok (.if_icmp .le 5, 3) := dk_164 0 5 (dk_at dksX9_mostVisitedState_1 14 rfl rfl)
theorem dX9_mostVisitedState_40 : decode cX9_mostVisitedState 40 = .ok (.iload_n 2, 1) := dk_28 (dk_at dksX9_mostVisitedState_1 17 rfl rfl)
theorem dX9_mostVisitedState_41 : decode cX9_mostVisitedState 41 = .ok (.istore_n 1, 1) := dk_60 (dk_at dksX9_mostVisitedState_1 18 rfl rfl)
theorem dX9_mostVisitedState_42 : decode cX9_mostVisitedState 42 = .ok (.iinc 2 1, 3) := dk_132 2 1 (dk_at dksX9_mostVisitedState_1 19 rfl rfl)
theorem dX9_mostVisitedState_45 : decode cX9_mostVisitedState 45 = .ok (.goto (-36), 3) := dk_167 255 220 (dk_at dksX9_mostVisitedState_2 0 rfl rfl)
theorem dX9_mostVisitedState_48 : decode cX9_mostVisitedState 48 = .ok (.iload_n 1, 1) := dk_27 (dk_at dksX9_mostVisitedState_2 3 rfl rfl)
theorem dX9_mostVisitedState_49 : decode cX9_mostVisitedState 49 = .ok (.ireturn, 1) := dk_172 (dk_at dksX9_mostVisitedState_2 4 rfl rfl)
abbrev cX9_traceEvent : ByteArray := prog_41_method_114_code
def yX9_traceEvent : MethodName := ⟨RX9, "traceEvent", "(I)I"⟩
def dkwX9_traceEvent_1 : List UInt8 := [180, 0, 7, 16, 19, 5, 27, 104, 96, 46, 167, 0, 4, 2, 172]
abbrev dktX9_traceEvent_1 : List UInt8 := dkwX9_traceEvent_1 ++ []
def dkwX9_traceEvent_0 : List UInt8 := [42, 3, 181, 0, 78, 27, 3, 42, 180, 0, 7, 16, 18, 46, 4, 100, 184, 0, 127, 153, 0, 17, 42]
abbrev dktX9_traceEvent_0 : List UInt8 := dkwX9_traceEvent_0 ++ dktX9_traceEvent_1
theorem dksX9_traceEvent_0 : cX9_traceEvent.data.toList.drop 0 = dktX9_traceEvent_0 := by decide +kernel
theorem dksX9_traceEvent_1 : cX9_traceEvent.data.toList.drop 23 = dktX9_traceEvent_1 := dk_seg dksX9_traceEvent_0 23 rfl rfl
theorem dX9_traceEvent_0 : decode cX9_traceEvent 0 = .ok (.aload_n 0, 1) := dk_42 (dk_at dksX9_traceEvent_0 0 rfl rfl)
theorem dX9_traceEvent_1 : decode cX9_traceEvent 1 = .ok (.iconst 0, 1) := dk_3 (dk_at dksX9_traceEvent_0 1 rfl rfl)
theorem dX9_traceEvent_2 : decode cX9_traceEvent 2 = .ok (.putfield 78, 3) := dk_181 0 78 (dk_at dksX9_traceEvent_0 2 rfl rfl)
theorem dX9_traceEvent_5 : decode cX9_traceEvent 5 = .ok (.iload_n 1, 1) := dk_27 (dk_at dksX9_traceEvent_0 5 rfl rfl)
theorem dX9_traceEvent_6 : decode cX9_traceEvent 6 = .ok (.iconst 0, 1) := dk_3 (dk_at dksX9_traceEvent_0 6 rfl rfl)
theorem dX9_traceEvent_7 : decode cX9_traceEvent 7 = .ok (.aload_n 0, 1) := dk_42 (dk_at dksX9_traceEvent_0 7 rfl rfl)
theorem dX9_traceEvent_8 : decode cX9_traceEvent 8 = .ok (.getfield 7, 3) := dk_180 0 7 (dk_at dksX9_traceEvent_0 8 rfl rfl)
theorem dX9_traceEvent_11 : decode cX9_traceEvent 11 = .ok (.bipush 18, 2) := dk_16 18 (dk_at dksX9_traceEvent_0 11 rfl rfl)
theorem dX9_traceEvent_13 : decode cX9_traceEvent 13 = .ok (.iaload, 1) := dk_46 (dk_at dksX9_traceEvent_0 13 rfl rfl)
theorem dX9_traceEvent_14 : decode cX9_traceEvent 14 = .ok (.iconst 1, 1) := dk_4 (dk_at dksX9_traceEvent_0 14 rfl rfl)
theorem dX9_traceEvent_15 : decode cX9_traceEvent 15 = .ok (.isub, 1) := dk_100 (dk_at dksX9_traceEvent_0 15 rfl rfl)
theorem dX9_traceEvent_16 : decode cX9_traceEvent 16 = .ok (.invokestatic 127, 3) := dk_184 0 127 (dk_at dksX9_traceEvent_0 16 rfl rfl)
theorem dX9_traceEvent_19 : decode cX9_traceEvent 19 = .ok (.ifCond .eq 17, 3) := dk_153 0 17 (dk_at dksX9_traceEvent_0 19 rfl rfl)
theorem dX9_traceEvent_22 : decode cX9_traceEvent 22 = .ok (.aload_n 0, 1) := dk_42 (dk_at dksX9_traceEvent_0 22 rfl rfl)
theorem dX9_traceEvent_23 : decode cX9_traceEvent 23 = .ok (.getfield 7, 3) := dk_180 0 7 (dk_at dksX9_traceEvent_1 0 rfl rfl)
theorem dX9_traceEvent_26 : decode cX9_traceEvent 26 = .ok (.bipush 19, 2) := dk_16 19 (dk_at dksX9_traceEvent_1 3 rfl rfl)
theorem dX9_traceEvent_28 : decode cX9_traceEvent 28 = .ok (.iconst 2, 1) := dk_5 (dk_at dksX9_traceEvent_1 5 rfl rfl)
theorem dX9_traceEvent_29 : decode cX9_traceEvent 29 = .ok (.iload_n 1, 1) := dk_27 (dk_at dksX9_traceEvent_1 6 rfl rfl)
theorem dX9_traceEvent_30 : decode cX9_traceEvent 30 = .ok (.imul, 1) := dk_104 (dk_at dksX9_traceEvent_1 7 rfl rfl)
theorem dX9_traceEvent_31 : decode cX9_traceEvent 31 = .ok (.iadd, 1) := dk_96 (dk_at dksX9_traceEvent_1 8 rfl rfl)
theorem dX9_traceEvent_32 : decode cX9_traceEvent 32 = .ok (.iaload, 1) := dk_46 (dk_at dksX9_traceEvent_1 9 rfl rfl)
theorem dX9_traceEvent_33 : decode cX9_traceEvent 33 = .ok (.goto 4, 3) := dk_167 0 4 (dk_at dksX9_traceEvent_1 10 rfl rfl)
theorem dX9_traceEvent_36 : decode cX9_traceEvent 36 = .ok (.iconst (-1), 1) := dk_2 (dk_at dksX9_traceEvent_1 13 rfl rfl)
theorem dX9_traceEvent_37 : decode cX9_traceEvent 37 = .ok (.ireturn, 1) := dk_172 (dk_at dksX9_traceEvent_1 14 rfl rfl)
abbrev cX9_traceTransition : ByteArray := prog_41_method_115_code
def yX9_traceTransition : MethodName := ⟨RX9, "traceTransition", "(I)I"⟩
def dkwX9_traceTransition_1 : List UInt8 := [180, 0, 7, 16, 19, 5, 27, 104, 96, 4, 96, 46, 167, 0, 4, 2, 172]
abbrev dktX9_traceTransition_1 : List UInt8 := dkwX9_traceTransition_1 ++ []
def dkwX9_traceTransition_0 : List UInt8 := [42, 3, 181, 0, 78, 27, 3, 42, 180, 0, 7, 16, 18, 46, 4, 100, 184, 0, 127, 153, 0, 19, 42]
abbrev dktX9_traceTransition_0 : List UInt8 := dkwX9_traceTransition_0 ++ dktX9_traceTransition_1
theorem dksX9_traceTransition_0 : cX9_traceTransition.data.toList.drop 0 = dktX9_traceTransition_0 := by decide +kernel
theorem dksX9_traceTransition_1 : cX9_traceTransition.data.toList.drop 23 = dktX9_traceTransition_1 := dk_seg dksX9_traceTransition_0 23 rfl rfl
theorem dX9_traceTransition_0 : decode cX9_traceTransition 0 = .ok (.aload_n 0, 1) := dk_42 (dk_at dksX9_traceTransition_0 0 rfl rfl)
theorem dX9_traceTransition_1 : decode cX9_traceTransition 1 = .ok (.iconst 0, 1) := dk_3 (dk_at dksX9_traceTransition_0 1 rfl rfl)
theorem dX9_traceTransition_2 : decode cX9_traceTransition 2 = .ok (.putfield 78, 3) := dk_181 0 78 (dk_at dksX9_traceTransition_0 2 rfl rfl)
theorem dX9_traceTransition_5 : decode cX9_traceTransition 5 = .ok (.iload_n 1, 1) := dk_27 (dk_at dksX9_traceTransition_0 5 rfl rfl)
theorem dX9_traceTransition_6 : decode cX9_traceTransition 6 = .ok (.iconst 0, 1) := dk_3 (dk_at dksX9_traceTransition_0 6 rfl rfl)
theorem dX9_traceTransition_7 : decode cX9_traceTransition 7 = .ok (.aload_n 0, 1) := dk_42 (dk_at dksX9_traceTransition_0 7 rfl rfl)
theorem dX9_traceTransition_8 : decode cX9_traceTransition 8 = .ok (.getfield 7, 3) := dk_180 0 7 (dk_at dksX9_traceTransition_0 8 rfl rfl)
theorem dX9_traceTransition_11 : decode cX9_traceTransition 11 = .ok (.bipush 18, 2) := dk_16 18 (dk_at dksX9_traceTransition_0 11 rfl rfl)
theorem dX9_traceTransition_13 : decode cX9_traceTransition 13 = .ok (.iaload, 1) := dk_46 (dk_at dksX9_traceTransition_0 13 rfl rfl)
theorem dX9_traceTransition_14 : decode cX9_traceTransition 14 = .ok (.iconst 1, 1) := dk_4 (dk_at dksX9_traceTransition_0 14 rfl rfl)
theorem dX9_traceTransition_15 : decode cX9_traceTransition 15 = .ok (.isub, 1) := dk_100 (dk_at dksX9_traceTransition_0 15 rfl rfl)
theorem dX9_traceTransition_16 : decode cX9_traceTransition 16 = .ok (.invokestatic 127, 3) := dk_184 0 127 (dk_at dksX9_traceTransition_0 16 rfl rfl)
theorem dX9_traceTransition_19 : decode cX9_traceTransition 19 = .ok (.ifCond .eq 19, 3) := dk_153 0 19 (dk_at dksX9_traceTransition_0 19 rfl rfl)
theorem dX9_traceTransition_22 : decode cX9_traceTransition 22 = .ok (.aload_n 0, 1) := dk_42 (dk_at dksX9_traceTransition_0 22 rfl rfl)
theorem dX9_traceTransition_23 : decode cX9_traceTransition 23 = .ok (.getfield 7, 3) := dk_180 0 7 (dk_at dksX9_traceTransition_1 0 rfl rfl)
theorem dX9_traceTransition_26 : decode cX9_traceTransition 26 = .ok (.bipush 19, 2) := dk_16 19 (dk_at dksX9_traceTransition_1 3 rfl rfl)
theorem dX9_traceTransition_28 : decode cX9_traceTransition 28 = .ok (.iconst 2, 1) := dk_5 (dk_at dksX9_traceTransition_1 5 rfl rfl)
theorem dX9_traceTransition_29 : decode cX9_traceTransition 29 = .ok (.iload_n 1, 1) := dk_27 (dk_at dksX9_traceTransition_1 6 rfl rfl)
theorem dX9_traceTransition_30 : decode cX9_traceTransition 30 = .ok (.imul, 1) := dk_104 (dk_at dksX9_traceTransition_1 7 rfl rfl)
theorem dX9_traceTransition_31 : decode cX9_traceTransition 31 = .ok (.iadd, 1) := dk_96 (dk_at dksX9_traceTransition_1 8 rfl rfl)
theorem dX9_traceTransition_32 : decode cX9_traceTransition 32 = .ok (.iconst 1, 1) := dk_4 (dk_at dksX9_traceTransition_1 9 rfl rfl)
theorem dX9_traceTransition_33 : decode cX9_traceTransition 33 = .ok (.iadd, 1) := dk_96 (dk_at dksX9_traceTransition_1 10 rfl rfl)
theorem dX9_traceTransition_34 : decode cX9_traceTransition 34 = .ok (.iaload, 1) := dk_46 (dk_at dksX9_traceTransition_1 11 rfl rfl)
theorem dX9_traceTransition_35 : decode cX9_traceTransition 35 = .ok (.goto 4, 3) := dk_167 0 4 (dk_at dksX9_traceTransition_1 12 rfl rfl)
theorem dX9_traceTransition_38 : decode cX9_traceTransition 38 = .ok (.iconst (-1), 1) := dk_2 (dk_at dksX9_traceTransition_1 15 rfl rfl)
theorem dX9_traceTransition_39 : decode cX9_traceTransition 39 = .ok (.ireturn, 1) := dk_172 (dk_at dksX9_traceTransition_1 16 rfl rfl)
abbrev cX9_reachableCount : ByteArray := prog_41_method_116_code
def yX9_reachableCount : MethodName := ⟨RX9, "reachableCount", "()I"⟩
def dkwX9_reachableCount_0 : List UInt8 := [42, 3, 181, 0, 78, 42, 42, 182, 0, 151, 182, 0, 147, 42, 180, 0, 140, 172]
abbrev dktX9_reachableCount_0 : List UInt8 := dkwX9_reachableCount_0 ++ []
theorem dksX9_reachableCount_0 : cX9_reachableCount.data.toList.drop 0 = dktX9_reachableCount_0 := by decide +kernel
theorem dX9_reachableCount_0 : decode cX9_reachableCount 0 = .ok (.aload_n 0, 1) := dk_42 (dk_at dksX9_reachableCount_0 0 rfl rfl)
theorem dX9_reachableCount_1 : decode cX9_reachableCount 1 = .ok (.iconst 0, 1) := dk_3 (dk_at dksX9_reachableCount_0 1 rfl rfl)
theorem dX9_reachableCount_2 : decode cX9_reachableCount 2 = .ok (.putfield 78, 3) := dk_181 0 78 (dk_at dksX9_reachableCount_0 2 rfl rfl)
theorem dX9_reachableCount_5 : decode cX9_reachableCount 5 = .ok (.aload_n 0, 1) := dk_42 (dk_at dksX9_reachableCount_0 5 rfl rfl)
theorem dX9_reachableCount_6 : decode cX9_reachableCount 6 = .ok (.aload_n 0, 1) := dk_42 (dk_at dksX9_reachableCount_0 6 rfl rfl)
theorem dX9_reachableCount_7 : decode cX9_reachableCount 7 = .ok (.invokevirtual 151, 3) := dk_182 0 151 (dk_at dksX9_reachableCount_0 7 rfl rfl)
theorem dX9_reachableCount_10 : decode cX9_reachableCount 10 = .ok (.invokevirtual 147, 3) := dk_182 0 147 (dk_at dksX9_reachableCount_0 10 rfl rfl)
theorem dX9_reachableCount_13 : decode cX9_reachableCount 13 = .ok (.aload_n 0, 1) := dk_42 (dk_at dksX9_reachableCount_0 13 rfl rfl)
theorem dX9_reachableCount_14 : decode cX9_reachableCount 14 = .ok (.getfield 140, 3) := dk_180 0 140 (dk_at dksX9_reachableCount_0 14 rfl rfl)
theorem dX9_reachableCount_17 : decode cX9_reachableCount 17 = .ok (.ireturn, 1) := dk_172 (dk_at dksX9_reachableCount_0 17 rfl rfl)
abbrev cX9_searches : ByteArray := prog_41_method_33_code
def yX9_searches : MethodName := ⟨RX9, "searches", "(I)V"⟩
def dkwX9_searches_4 : List UInt8 := [167, 255, 216, 132, 2, 1, 167, 255, 192, 177]
abbrev dktX9_searches_4 : List UInt8 := dkwX9_searches_4 ++ []
def dkwX9_searches_3 : List UInt8 := [154, 0, 19, 42, 42, 180, 0, 118, 42, 180, 0, 22, 29, 46, 4, 96, 182, 0, 143, 132, 4, 1]
abbrev dktX9_searches_3 : List UInt8 := dkwX9_searches_3 ++ dktX9_searches_4
def dkwX9_searches_2 : List UInt8 := [46, 62, 3, 54, 4, 21, 4, 42, 180, 0, 7, 4, 46, 162, 0, 35, 42, 29, 21, 4, 182, 0, 137]
abbrev dktX9_searches_2 : List UInt8 := dkwX9_searches_2 ++ dktX9_searches_3
def dkwX9_searches_1 : List UInt8 := [181, 0, 140, 42, 27, 3, 182, 0, 143, 3, 61, 28, 42, 180, 0, 140, 162, 0, 62, 42, 180, 0, 25, 28]
abbrev dktX9_searches_1 : List UInt8 := dkwX9_searches_1 ++ dktX9_searches_2
def dkwX9_searches_0 : List UInt8 := [3, 61, 28, 17, 39, 16, 162, 0, 16, 42, 180, 0, 22, 28, 2, 79, 132, 2, 1, 167, 255, 239, 42, 3]
abbrev dktX9_searches_0 : List UInt8 := dkwX9_searches_0 ++ dktX9_searches_1
theorem dksX9_searches_0 : cX9_searches.data.toList.drop 0 = dktX9_searches_0 := by decide +kernel
theorem dksX9_searches_1 : cX9_searches.data.toList.drop 24 = dktX9_searches_1 := dk_seg dksX9_searches_0 24 rfl rfl
theorem dksX9_searches_2 : cX9_searches.data.toList.drop 48 = dktX9_searches_2 := dk_seg dksX9_searches_1 24 rfl rfl
theorem dksX9_searches_3 : cX9_searches.data.toList.drop 71 = dktX9_searches_3 := dk_seg dksX9_searches_2 23 rfl rfl
theorem dksX9_searches_4 : cX9_searches.data.toList.drop 93 = dktX9_searches_4 := dk_seg dksX9_searches_3 22 rfl rfl
theorem dX9_searches_0 : decode cX9_searches 0 = .ok (.iconst 0, 1) := dk_3 (dk_at dksX9_searches_0 0 rfl rfl)
theorem dX9_searches_1 : decode cX9_searches 1 = .ok (.istore_n 2, 1) := dk_61 (dk_at dksX9_searches_0 1 rfl rfl)
theorem dX9_searches_2 : decode cX9_searches 2 = .ok (.iload_n 2, 1) := dk_28 (dk_at dksX9_searches_0 2 rfl rfl)
theorem dX9_searches_3 : decode cX9_searches 3 = .ok (.sipush 10000, 3) := dk_17 39 16 (dk_at dksX9_searches_0 3 rfl rfl)
theorem dX9_searches_6 : decode cX9_searches 6 = .ok (.if_icmp .ge 16, 3) := dk_162 0 16 (dk_at dksX9_searches_0 6 rfl rfl)
theorem dX9_searches_9 : decode cX9_searches 9 = .ok (.aload_n 0, 1) := dk_42 (dk_at dksX9_searches_0 9 rfl rfl)
theorem dX9_searches_10 : decode cX9_searches 10 = .ok (.getfield 22, 3) := dk_180 0 22 (dk_at dksX9_searches_0 10 rfl rfl)
theorem dX9_searches_13 : decode cX9_searches 13 = .ok (.iload_n 2, 1) := dk_28 (dk_at dksX9_searches_0 13 rfl rfl)
theorem dX9_searches_14 : decode cX9_searches 14 = .ok (.iconst (-1), 1) := dk_2 (dk_at dksX9_searches_0 14 rfl rfl)
theorem dX9_searches_15 : decode cX9_searches 15 = .ok (.iastore, 1) := dk_79 (dk_at dksX9_searches_0 15 rfl rfl)
theorem dX9_searches_16 : decode cX9_searches 16 = .ok (.iinc 2 1, 3) := dk_132 2 1 (dk_at dksX9_searches_0 16 rfl rfl)
theorem dX9_searches_19 : decode cX9_searches 19 = .ok (.goto (-17), 3) := dk_167 255 239 (dk_at dksX9_searches_0 19 rfl rfl)
theorem dX9_searches_22 : decode cX9_searches 22 = .ok (.aload_n 0, 1) := dk_42 (dk_at dksX9_searches_0 22 rfl rfl)
theorem dX9_searches_23 : decode cX9_searches 23 = .ok (.iconst 0, 1) := dk_3 (dk_at dksX9_searches_0 23 rfl rfl)
theorem dX9_searches_24 : decode cX9_searches 24 = .ok (.putfield 140, 3) := dk_181 0 140 (dk_at dksX9_searches_1 0 rfl rfl)
theorem dX9_searches_27 : decode cX9_searches 27 = .ok (.aload_n 0, 1) := dk_42 (dk_at dksX9_searches_1 3 rfl rfl)
theorem dX9_searches_28 : decode cX9_searches 28 = .ok (.iload_n 1, 1) := dk_27 (dk_at dksX9_searches_1 4 rfl rfl)
theorem dX9_searches_29 : decode cX9_searches 29 = .ok (.iconst 0, 1) := dk_3 (dk_at dksX9_searches_1 5 rfl rfl)
theorem dX9_searches_30 : decode cX9_searches 30 = .ok (.invokevirtual 143, 3) := dk_182 0 143 (dk_at dksX9_searches_1 6 rfl rfl)
theorem dX9_searches_33 : decode cX9_searches 33 = .ok (.iconst 0, 1) := dk_3 (dk_at dksX9_searches_1 9 rfl rfl)
theorem dX9_searches_34 : decode cX9_searches 34 = .ok (.istore_n 2, 1) := dk_61 (dk_at dksX9_searches_1 10 rfl rfl)
theorem dX9_searches_35 : decode cX9_searches 35 = .ok (.iload_n 2, 1) := dk_28 (dk_at dksX9_searches_1 11 rfl rfl)
theorem dX9_searches_36 : decode cX9_searches 36 = .ok (.aload_n 0, 1) := dk_42 (dk_at dksX9_searches_1 12 rfl rfl)
theorem dX9_searches_37 : decode cX9_searches 37 = .ok (.getfield 140, 3) := dk_180 0 140 (dk_at dksX9_searches_1 13 rfl rfl)
theorem dX9_searches_40 : decode cX9_searches 40 = .ok (.if_icmp .ge 62, 3) := dk_162 0 62 (dk_at dksX9_searches_1 16 rfl rfl)
theorem dX9_searches_43 : decode cX9_searches 43 = .ok (.aload_n 0, 1) := dk_42 (dk_at dksX9_searches_1 19 rfl rfl)
theorem dX9_searches_44 : decode cX9_searches 44 = .ok (.getfield 25, 3) := dk_180 0 25 (dk_at dksX9_searches_1 20 rfl rfl)
theorem dX9_searches_47 : decode cX9_searches 47 = .ok (.iload_n 2, 1) := dk_28 (dk_at dksX9_searches_1 23 rfl rfl)
theorem dX9_searches_48 : decode cX9_searches 48 = .ok (.iaload, 1) := dk_46 (dk_at dksX9_searches_2 0 rfl rfl)
theorem dX9_searches_49 : decode cX9_searches 49 = .ok (.istore_n 3, 1) := dk_62 (dk_at dksX9_searches_2 1 rfl rfl)
theorem dX9_searches_50 : decode cX9_searches 50 = .ok (.iconst 0, 1) := dk_3 (dk_at dksX9_searches_2 2 rfl rfl)
theorem dX9_searches_51 : decode cX9_searches 51 = .ok (.istore 4, 2) := dk_54 4 (dk_at dksX9_searches_2 3 rfl rfl)
theorem dX9_searches_53 : decode cX9_searches 53 = .ok (.iload 4, 2) := dk_21 4 (dk_at dksX9_searches_2 5 rfl rfl)
theorem dX9_searches_55 : decode cX9_searches 55 = .ok (.aload_n 0, 1) := dk_42 (dk_at dksX9_searches_2 7 rfl rfl)
theorem dX9_searches_56 : decode cX9_searches 56 = .ok (.getfield 7, 3) := dk_180 0 7 (dk_at dksX9_searches_2 8 rfl rfl)
theorem dX9_searches_59 : decode cX9_searches 59 = .ok (.iconst 1, 1) := dk_4 (dk_at dksX9_searches_2 11 rfl rfl)
theorem dX9_searches_60 : decode cX9_searches 60 = .ok (.iaload, 1) := dk_46 (dk_at dksX9_searches_2 12 rfl rfl)
theorem dX9_searches_61 : decode cX9_searches 61 = .ok (.if_icmp .ge 35, 3) := dk_162 0 35 (dk_at dksX9_searches_2 13 rfl rfl)
theorem dX9_searches_64 : decode cX9_searches 64 = .ok (.aload_n 0, 1) := dk_42 (dk_at dksX9_searches_2 16 rfl rfl)
theorem dX9_searches_65 : decode cX9_searches 65 = .ok (.iload_n 3, 1) := dk_29 (dk_at dksX9_searches_2 17 rfl rfl)
theorem dX9_searches_66 : decode cX9_searches 66 = .ok (.iload 4, 2) := dk_21 4 (dk_at dksX9_searches_2 18 rfl rfl)
theorem dX9_searches_68 : decode cX9_searches 68 = .ok (.invokevirtual 137, 3) := dk_182 0 137 (dk_at dksX9_searches_2 20 rfl rfl)
theorem dX9_searches_71 : decode cX9_searches 71 = .ok (.ifCond .ne 19, 3) := dk_154 0 19 (dk_at dksX9_searches_3 0 rfl rfl)
theorem dX9_searches_74 : decode cX9_searches 74 = .ok (.aload_n 0, 1) := dk_42 (dk_at dksX9_searches_3 3 rfl rfl)
theorem dX9_searches_75 : decode cX9_searches 75 = .ok (.aload_n 0, 1) := dk_42 (dk_at dksX9_searches_3 4 rfl rfl)
theorem dX9_searches_76 : decode cX9_searches 76 = .ok (.getfield 118, 3) := dk_180 0 118 (dk_at dksX9_searches_3 5 rfl rfl)
theorem dX9_searches_79 : decode cX9_searches 79 = .ok (.aload_n 0, 1) := dk_42 (dk_at dksX9_searches_3 8 rfl rfl)
theorem dX9_searches_80 : decode cX9_searches 80 = .ok (.getfield 22, 3) := dk_180 0 22 (dk_at dksX9_searches_3 9 rfl rfl)
theorem dX9_searches_83 : decode cX9_searches 83 = .ok (.iload_n 3, 1) := dk_29 (dk_at dksX9_searches_3 12 rfl rfl)
theorem dX9_searches_84 : decode cX9_searches 84 = .ok (.iaload, 1) := dk_46 (dk_at dksX9_searches_3 13 rfl rfl)
theorem dX9_searches_85 : decode cX9_searches 85 = .ok (.iconst 1, 1) := dk_4 (dk_at dksX9_searches_3 14 rfl rfl)
theorem dX9_searches_86 : decode cX9_searches 86 = .ok (.iadd, 1) := dk_96 (dk_at dksX9_searches_3 15 rfl rfl)
theorem dX9_searches_87 : decode cX9_searches 87 = .ok (.invokevirtual 143, 3) := dk_182 0 143 (dk_at dksX9_searches_3 16 rfl rfl)
theorem dX9_searches_90 : decode cX9_searches 90 = .ok (.iinc 4 1, 3) := dk_132 4 1 (dk_at dksX9_searches_3 19 rfl rfl)
theorem dX9_searches_93 : decode cX9_searches 93 = .ok (.goto (-40), 3) := dk_167 255 216 (dk_at dksX9_searches_4 0 rfl rfl)
theorem dX9_searches_96 : decode cX9_searches 96 = .ok (.iinc 2 1, 3) := dk_132 2 1 (dk_at dksX9_searches_4 3 rfl rfl)
theorem dX9_searches_99 : decode cX9_searches 99 = .ok (.goto (-64), 3) := dk_167 255 192 (dk_at dksX9_searches_4 6 rfl rfl)
theorem dX9_searches_102 : decode cX9_searches 102 = .ok (.return_, 1) := dk_177 (dk_at dksX9_searches_4 9 rfl rfl)
abbrev cX9_reaches : ByteArray := prog_41_method_32_code
def yX9_reaches : MethodName := ⟨RX9, "reaches", "(II)V"⟩
def dkwX9_reaches_1 : List UInt8 := [180, 0, 140, 27, 79, 42, 89, 180, 0, 140, 4, 96, 181, 0, 140, 177]
abbrev dktX9_reaches_1 : List UInt8 := dkwX9_reaches_1 ++ []
def dkwX9_reaches_0 : List UInt8 := [42, 180, 0, 22, 27, 46, 2, 159, 0, 4, 177, 42, 180, 0, 22, 27, 28, 79, 42, 180, 0, 25, 42]
abbrev dktX9_reaches_0 : List UInt8 := dkwX9_reaches_0 ++ dktX9_reaches_1
theorem dksX9_reaches_0 : cX9_reaches.data.toList.drop 0 = dktX9_reaches_0 := by decide +kernel
theorem dksX9_reaches_1 : cX9_reaches.data.toList.drop 23 = dktX9_reaches_1 := dk_seg dksX9_reaches_0 23 rfl rfl
theorem dX9_reaches_0 : decode cX9_reaches 0 = .ok (.aload_n 0, 1) := dk_42 (dk_at dksX9_reaches_0 0 rfl rfl)
theorem dX9_reaches_1 : decode cX9_reaches 1 = .ok (.getfield 22, 3) := dk_180 0 22 (dk_at dksX9_reaches_0 1 rfl rfl)
theorem dX9_reaches_4 : decode cX9_reaches 4 = .ok (.iload_n 1, 1) := dk_27 (dk_at dksX9_reaches_0 4 rfl rfl)
theorem dX9_reaches_5 : decode cX9_reaches 5 = .ok (.iaload, 1) := dk_46 (dk_at dksX9_reaches_0 5 rfl rfl)
theorem dX9_reaches_6 : decode cX9_reaches 6 = .ok (.iconst (-1), 1) := dk_2 (dk_at dksX9_reaches_0 6 rfl rfl)
theorem dX9_reaches_7 : decode cX9_reaches 7 = .ok (.if_icmp .eq 4, 3) := dk_159 0 4 (dk_at dksX9_reaches_0 7 rfl rfl)
theorem dX9_reaches_10 : decode cX9_reaches 10 = .ok (.return_, 1) := dk_177 (dk_at dksX9_reaches_0 10 rfl rfl)
theorem dX9_reaches_11 : decode cX9_reaches 11 = .ok (.aload_n 0, 1) := dk_42 (dk_at dksX9_reaches_0 11 rfl rfl)
theorem dX9_reaches_12 : decode cX9_reaches 12 = .ok (.getfield 22, 3) := dk_180 0 22 (dk_at dksX9_reaches_0 12 rfl rfl)
theorem dX9_reaches_15 : decode cX9_reaches 15 = .ok (.iload_n 1, 1) := dk_27 (dk_at dksX9_reaches_0 15 rfl rfl)
theorem dX9_reaches_16 : decode cX9_reaches 16 = .ok (.iload_n 2, 1) := dk_28 (dk_at dksX9_reaches_0 16 rfl rfl)
theorem dX9_reaches_17 : decode cX9_reaches 17 = .ok (.iastore, 1) := dk_79 (dk_at dksX9_reaches_0 17 rfl rfl)
theorem dX9_reaches_18 : decode cX9_reaches 18 = .ok (.aload_n 0, 1) := dk_42 (dk_at dksX9_reaches_0 18 rfl rfl)
theorem dX9_reaches_19 : decode cX9_reaches 19 = .ok (.getfield 25, 3) := dk_180 0 25 (dk_at dksX9_reaches_0 19 rfl rfl)
theorem dX9_reaches_22 : decode cX9_reaches 22 = .ok (.aload_n 0, 1) := dk_42 (dk_at dksX9_reaches_0 22 rfl rfl)
theorem dX9_reaches_23 : decode cX9_reaches 23 = .ok (.getfield 140, 3) := dk_180 0 140 (dk_at dksX9_reaches_1 0 rfl rfl)
theorem dX9_reaches_26 : decode cX9_reaches 26 = .ok (.iload_n 1, 1) := dk_27 (dk_at dksX9_reaches_1 3 rfl rfl)
theorem dX9_reaches_27 : decode cX9_reaches 27 = .ok (.iastore, 1) := dk_79 (dk_at dksX9_reaches_1 4 rfl rfl)
theorem dX9_reaches_28 : decode cX9_reaches 28 = .ok (.aload_n 0, 1) := dk_42 (dk_at dksX9_reaches_1 5 rfl rfl)
theorem dX9_reaches_29 : decode cX9_reaches 29 = .ok (.dup, 1) := dk_89 (dk_at dksX9_reaches_1 6 rfl rfl)
theorem dX9_reaches_30 : decode cX9_reaches 30 = .ok (.getfield 140, 3) := dk_180 0 140 (dk_at dksX9_reaches_1 7 rfl rfl)
theorem dX9_reaches_33 : decode cX9_reaches 33 = .ok (.iconst 1, 1) := dk_4 (dk_at dksX9_reaches_1 10 rfl rfl)
theorem dX9_reaches_34 : decode cX9_reaches 34 = .ok (.iadd, 1) := dk_96 (dk_at dksX9_reaches_1 11 rfl rfl)
theorem dX9_reaches_35 : decode cX9_reaches 35 = .ok (.putfield 140, 3) := dk_181 0 140 (dk_at dksX9_reaches_1 12 rfl rfl)
theorem dX9_reaches_38 : decode cX9_reaches 38 = .ok (.return_, 1) := dk_177 (dk_at dksX9_reaches_1 15 rfl rfl)
abbrev cX9_isReachable : ByteArray := prog_41_method_117_code
def yX9_isReachable : MethodName := ⟨RX9, "isReachable", "(I)Z"⟩
def dkwX9_isReachable_1 : List UInt8 := [159, 0, 7, 4, 167, 0, 4, 3, 172]
abbrev dktX9_isReachable_1 : List UInt8 := dkwX9_isReachable_1 ++ []
def dkwX9_isReachable_0 : List UInt8 := [42, 3, 181, 0, 78, 42, 27, 3, 182, 1, 114, 154, 0, 20, 42, 42, 182, 0, 151, 27, 182, 1, 130, 2]
abbrev dktX9_isReachable_0 : List UInt8 := dkwX9_isReachable_0 ++ dktX9_isReachable_1
theorem dksX9_isReachable_0 : cX9_isReachable.data.toList.drop 0 = dktX9_isReachable_0 := by decide +kernel
theorem dksX9_isReachable_1 : cX9_isReachable.data.toList.drop 24 = dktX9_isReachable_1 := dk_seg dksX9_isReachable_0 24 rfl rfl
theorem dX9_isReachable_0 : decode cX9_isReachable 0 = .ok (.aload_n 0, 1) := dk_42 (dk_at dksX9_isReachable_0 0 rfl rfl)
theorem dX9_isReachable_1 : decode cX9_isReachable 1 = .ok (.iconst 0, 1) := dk_3 (dk_at dksX9_isReachable_0 1 rfl rfl)
theorem dX9_isReachable_2 : decode cX9_isReachable 2 = .ok (.putfield 78, 3) := dk_181 0 78 (dk_at dksX9_isReachable_0 2 rfl rfl)
theorem dX9_isReachable_5 : decode cX9_isReachable 5 = .ok (.aload_n 0, 1) := dk_42 (dk_at dksX9_isReachable_0 5 rfl rfl)
theorem dX9_isReachable_6 : decode cX9_isReachable 6 = .ok (.iload_n 1, 1) := dk_27 (dk_at dksX9_isReachable_0 6 rfl rfl)
theorem dX9_isReachable_7 : decode cX9_isReachable 7 = .ok (.iconst 0, 1) := dk_3 (dk_at dksX9_isReachable_0 7 rfl rfl)
theorem dX9_isReachable_8 : decode cX9_isReachable 8 = .ok (.invokevirtual 370, 3) := dk_182 1 114 (dk_at dksX9_isReachable_0 8 rfl rfl)
theorem dX9_isReachable_11 : decode cX9_isReachable 11 = .ok (.ifCond .ne 20, 3) := dk_154 0 20 (dk_at dksX9_isReachable_0 11 rfl rfl)
theorem dX9_isReachable_14 : decode cX9_isReachable 14 = .ok (.aload_n 0, 1) := dk_42 (dk_at dksX9_isReachable_0 14 rfl rfl)
theorem dX9_isReachable_15 : decode cX9_isReachable 15 = .ok (.aload_n 0, 1) := dk_42 (dk_at dksX9_isReachable_0 15 rfl rfl)
theorem dX9_isReachable_16 : decode cX9_isReachable 16 = .ok (.invokevirtual 151, 3) := dk_182 0 151 (dk_at dksX9_isReachable_0 16 rfl rfl)
theorem dX9_isReachable_19 : decode cX9_isReachable 19 = .ok (.iload_n 1, 1) := dk_27 (dk_at dksX9_isReachable_0 19 rfl rfl)
theorem dX9_isReachable_20 : decode cX9_isReachable 20 = .ok (.invokevirtual 386, 3) := dk_182 1 130 (dk_at dksX9_isReachable_0 20 rfl rfl)
theorem dX9_isReachable_23 : decode cX9_isReachable 23 = .ok (.iconst (-1), 1) := dk_2 (dk_at dksX9_isReachable_0 23 rfl rfl)
theorem dX9_isReachable_24 : decode cX9_isReachable 24 = .ok (.if_icmp .eq 7, 3) := dk_159 0 7 (dk_at dksX9_isReachable_1 0 rfl rfl)
theorem dX9_isReachable_27 : decode cX9_isReachable 27 = .ok (.iconst 1, 1) := dk_4 (dk_at dksX9_isReachable_1 3 rfl rfl)
theorem dX9_isReachable_28 : decode cX9_isReachable 28 = .ok (.goto 4, 3) := dk_167 0 4 (dk_at dksX9_isReachable_1 4 rfl rfl)
theorem dX9_isReachable_31 : decode cX9_isReachable 31 = .ok (.iconst 0, 1) := dk_3 (dk_at dksX9_isReachable_1 7 rfl rfl)
theorem dX9_isReachable_32 : decode cX9_isReachable 32 = .ok (.ireturn, 1) := dk_172 (dk_at dksX9_isReachable_1 8 rfl rfl)
abbrev cX9_stepsBetween : ByteArray := prog_41_method_34_code
def yX9_stepsBetween : MethodName := ⟨RX9, "stepsBetween", "(II)I"⟩
def dkwX9_stepsBetween_1 : List UInt8 := [28, 160, 0, 15, 42, 180, 0, 22, 42, 180, 0, 25, 29, 46, 46, 172, 132, 3, 1, 167, 255, 220, 2, 172]
abbrev dktX9_stepsBetween_1 : List UInt8 := dkwX9_stepsBetween_1 ++ []
def dkwX9_stepsBetween_0 : List UInt8 := [42, 27, 182, 0, 147, 3, 62, 29, 42, 180, 0, 140, 162, 0, 34, 42, 180, 0, 25, 29, 46, 184, 0, 99]
abbrev dktX9_stepsBetween_0 : List UInt8 := dkwX9_stepsBetween_0 ++ dktX9_stepsBetween_1
theorem dksX9_stepsBetween_0 : cX9_stepsBetween.data.toList.drop 0 = dktX9_stepsBetween_0 := by decide +kernel
theorem dksX9_stepsBetween_1 : cX9_stepsBetween.data.toList.drop 24 = dktX9_stepsBetween_1 := dk_seg dksX9_stepsBetween_0 24 rfl rfl
theorem dX9_stepsBetween_0 : decode cX9_stepsBetween 0 = .ok (.aload_n 0, 1) := dk_42 (dk_at dksX9_stepsBetween_0 0 rfl rfl)
theorem dX9_stepsBetween_1 : decode cX9_stepsBetween 1 = .ok (.iload_n 1, 1) := dk_27 (dk_at dksX9_stepsBetween_0 1 rfl rfl)
theorem dX9_stepsBetween_2 : decode cX9_stepsBetween 2 = .ok (.invokevirtual 147, 3) := dk_182 0 147 (dk_at dksX9_stepsBetween_0 2 rfl rfl)
theorem dX9_stepsBetween_5 : decode cX9_stepsBetween 5 = .ok (.iconst 0, 1) := dk_3 (dk_at dksX9_stepsBetween_0 5 rfl rfl)
theorem dX9_stepsBetween_6 : decode cX9_stepsBetween 6 = .ok (.istore_n 3, 1) := dk_62 (dk_at dksX9_stepsBetween_0 6 rfl rfl)
theorem dX9_stepsBetween_7 : decode cX9_stepsBetween 7 = .ok (.iload_n 3, 1) := dk_29 (dk_at dksX9_stepsBetween_0 7 rfl rfl)
theorem dX9_stepsBetween_8 : decode cX9_stepsBetween 8 = .ok (.aload_n 0, 1) := dk_42 (dk_at dksX9_stepsBetween_0 8 rfl rfl)
theorem dX9_stepsBetween_9 : decode cX9_stepsBetween 9 = .ok (.getfield 140, 3) := dk_180 0 140 (dk_at dksX9_stepsBetween_0 9 rfl rfl)
theorem dX9_stepsBetween_12 : decode cX9_stepsBetween 12 = .ok (.if_icmp .ge 34, 3) := dk_162 0 34 (dk_at dksX9_stepsBetween_0 12 rfl rfl)
theorem dX9_stepsBetween_15 : decode cX9_stepsBetween 15 = .ok (.aload_n 0, 1) := dk_42 (dk_at dksX9_stepsBetween_0 15 rfl rfl)
theorem dX9_stepsBetween_16 : decode cX9_stepsBetween 16 = .ok (.getfield 25, 3) := dk_180 0 25 (dk_at dksX9_stepsBetween_0 16 rfl rfl)
theorem dX9_stepsBetween_19 : decode cX9_stepsBetween 19 = .ok (.iload_n 3, 1) := dk_29 (dk_at dksX9_stepsBetween_0 19 rfl rfl)
theorem dX9_stepsBetween_20 : decode cX9_stepsBetween 20 = .ok (.iaload, 1) := dk_46 (dk_at dksX9_stepsBetween_0 20 rfl rfl)
theorem dX9_stepsBetween_21 : decode cX9_stepsBetween 21 = .ok (.invokestatic 99, 3) := dk_184 0 99 (dk_at dksX9_stepsBetween_0 21 rfl rfl)
theorem dX9_stepsBetween_24 : decode cX9_stepsBetween 24 = .ok (.iload_n 2, 1) := dk_28 (dk_at dksX9_stepsBetween_1 0 rfl rfl)
theorem dX9_stepsBetween_25 : decode cX9_stepsBetween 25 = .ok (.if_icmp .ne 15, 3) := dk_160 0 15 (dk_at dksX9_stepsBetween_1 1 rfl rfl)
theorem dX9_stepsBetween_28 : decode cX9_stepsBetween 28 = .ok (.aload_n 0, 1) := dk_42 (dk_at dksX9_stepsBetween_1 4 rfl rfl)
theorem dX9_stepsBetween_29 : decode cX9_stepsBetween 29 = .ok (.getfield 22, 3) := dk_180 0 22 (dk_at dksX9_stepsBetween_1 5 rfl rfl)
theorem dX9_stepsBetween_32 : decode cX9_stepsBetween 32 = .ok (.aload_n 0, 1) := dk_42 (dk_at dksX9_stepsBetween_1 8 rfl rfl)
theorem dX9_stepsBetween_33 : decode cX9_stepsBetween 33 = .ok (.getfield 25, 3) := dk_180 0 25 (dk_at dksX9_stepsBetween_1 9 rfl rfl)
theorem dX9_stepsBetween_36 : decode cX9_stepsBetween 36 = .ok (.iload_n 3, 1) := dk_29 (dk_at dksX9_stepsBetween_1 12 rfl rfl)
theorem dX9_stepsBetween_37 : decode cX9_stepsBetween 37 = .ok (.iaload, 1) := dk_46 (dk_at dksX9_stepsBetween_1 13 rfl rfl)
theorem dX9_stepsBetween_38 : decode cX9_stepsBetween 38 = .ok (.iaload, 1) := dk_46 (dk_at dksX9_stepsBetween_1 14 rfl rfl)
theorem dX9_stepsBetween_39 : decode cX9_stepsBetween 39 = .ok (.ireturn, 1) := dk_172 (dk_at dksX9_stepsBetween_1 15 rfl rfl)
theorem dX9_stepsBetween_40 : decode cX9_stepsBetween 40 = .ok (.iinc 3 1, 3) := dk_132 3 1 (dk_at dksX9_stepsBetween_1 16 rfl rfl)
theorem dX9_stepsBetween_43 : decode cX9_stepsBetween 43 = .ok (.goto (-36), 3) := dk_167 255 220 (dk_at dksX9_stepsBetween_1 19 rfl rfl)
theorem dX9_stepsBetween_46 : decode cX9_stepsBetween 46 = .ok (.iconst (-1), 1) := dk_2 (dk_at dksX9_stepsBetween_1 22 rfl rfl)
theorem dX9_stepsBetween_47 : decode cX9_stepsBetween 47 = .ok (.ireturn, 1) := dk_172 (dk_at dksX9_stepsBetween_1 23 rfl rfl)
abbrev cX9_canBeTaken : ByteArray := prog_41_method_118_code
def yX9_canBeTaken : MethodName := ⟨RX9, "canBeTaken", "(I)Z"⟩
def dkwX9_canBeTaken_2 : List UInt8 := [182, 0, 137, 154, 0, 13, 42, 180, 0, 112, 27, 160, 0, 5, 4, 172, 132, 2, 1, 167, 255, 216, 3, 172]
abbrev dktX9_canBeTaken_2 : List UInt8 := dkwX9_canBeTaken_2 ++ []
def dkwX9_canBeTaken_1 : List UInt8 := [3, 61, 28, 42, 180, 0, 140, 162, 0, 38, 42, 42, 180, 0, 25, 28, 46, 42, 27, 4, 182, 0, 109]
abbrev dktX9_canBeTaken_1 : List UInt8 := dkwX9_canBeTaken_1 ++ dktX9_canBeTaken_2
def dkwX9_canBeTaken_0 : List UInt8 := [42, 3, 181, 0, 78, 42, 27, 6, 182, 1, 114, 153, 0, 5, 3, 172, 42, 42, 182, 0, 151, 182, 0, 147]
abbrev dktX9_canBeTaken_0 : List UInt8 := dkwX9_canBeTaken_0 ++ dktX9_canBeTaken_1
theorem dksX9_canBeTaken_0 : cX9_canBeTaken.data.toList.drop 0 = dktX9_canBeTaken_0 := by decide +kernel
theorem dksX9_canBeTaken_1 : cX9_canBeTaken.data.toList.drop 24 = dktX9_canBeTaken_1 := dk_seg dksX9_canBeTaken_0 24 rfl rfl
theorem dksX9_canBeTaken_2 : cX9_canBeTaken.data.toList.drop 47 = dktX9_canBeTaken_2 := dk_seg dksX9_canBeTaken_1 23 rfl rfl
theorem dX9_canBeTaken_0 : decode cX9_canBeTaken 0 = .ok (.aload_n 0, 1) := dk_42 (dk_at dksX9_canBeTaken_0 0 rfl rfl)
theorem dX9_canBeTaken_1 : decode cX9_canBeTaken 1 = .ok (.iconst 0, 1) := dk_3 (dk_at dksX9_canBeTaken_0 1 rfl rfl)
theorem dX9_canBeTaken_2 : decode cX9_canBeTaken 2 = .ok (.putfield 78, 3) := dk_181 0 78 (dk_at dksX9_canBeTaken_0 2 rfl rfl)
theorem dX9_canBeTaken_5 : decode cX9_canBeTaken 5 = .ok (.aload_n 0, 1) := dk_42 (dk_at dksX9_canBeTaken_0 5 rfl rfl)
theorem dX9_canBeTaken_6 : decode cX9_canBeTaken 6 = .ok (.iload_n 1, 1) := dk_27 (dk_at dksX9_canBeTaken_0 6 rfl rfl)
theorem dX9_canBeTaken_7 : decode cX9_canBeTaken 7 = .ok (.iconst 3, 1) := dk_6 (dk_at dksX9_canBeTaken_0 7 rfl rfl)
theorem dX9_canBeTaken_8 : decode cX9_canBeTaken 8 = .ok (.invokevirtual 370, 3) := dk_182 1 114 (dk_at dksX9_canBeTaken_0 8 rfl rfl)
theorem dX9_canBeTaken_11 : decode cX9_canBeTaken 11 = .ok (.ifCond .eq 5, 3) := dk_153 0 5 (dk_at dksX9_canBeTaken_0 11 rfl rfl)
theorem dX9_canBeTaken_14 : decode cX9_canBeTaken 14 = .ok (.iconst 0, 1) := dk_3 (dk_at dksX9_canBeTaken_0 14 rfl rfl)
theorem dX9_canBeTaken_15 : decode cX9_canBeTaken 15 = .ok (.ireturn, 1) := dk_172 (dk_at dksX9_canBeTaken_0 15 rfl rfl)
theorem dX9_canBeTaken_16 : decode cX9_canBeTaken 16 = .ok (.aload_n 0, 1) := dk_42 (dk_at dksX9_canBeTaken_0 16 rfl rfl)
theorem dX9_canBeTaken_17 : decode cX9_canBeTaken 17 = .ok (.aload_n 0, 1) := dk_42 (dk_at dksX9_canBeTaken_0 17 rfl rfl)
theorem dX9_canBeTaken_18 : decode cX9_canBeTaken 18 = .ok (.invokevirtual 151, 3) := dk_182 0 151 (dk_at dksX9_canBeTaken_0 18 rfl rfl)
theorem dX9_canBeTaken_21 : decode cX9_canBeTaken 21 = .ok (.invokevirtual 147, 3) := dk_182 0 147 (dk_at dksX9_canBeTaken_0 21 rfl rfl)
theorem dX9_canBeTaken_24 : decode cX9_canBeTaken 24 = .ok (.iconst 0, 1) := dk_3 (dk_at dksX9_canBeTaken_1 0 rfl rfl)
theorem dX9_canBeTaken_25 : decode cX9_canBeTaken 25 = .ok (.istore_n 2, 1) := dk_61 (dk_at dksX9_canBeTaken_1 1 rfl rfl)
theorem dX9_canBeTaken_26 : decode cX9_canBeTaken 26 = .ok (.iload_n 2, 1) := dk_28 (dk_at dksX9_canBeTaken_1 2 rfl rfl)
theorem dX9_canBeTaken_27 : decode cX9_canBeTaken 27 = .ok (.aload_n 0, 1) := dk_42 (dk_at dksX9_canBeTaken_1 3 rfl rfl)
theorem dX9_canBeTaken_28 : decode cX9_canBeTaken 28 = .ok (.getfield 140, 3) := dk_180 0 140 (dk_at dksX9_canBeTaken_1 4 rfl rfl)
theorem dX9_canBeTaken_31 : decode cX9_canBeTaken 31 = .ok (.if_icmp .ge 38, 3) := dk_162 0 38 (dk_at dksX9_canBeTaken_1 7 rfl rfl)
theorem dX9_canBeTaken_34 : decode cX9_canBeTaken 34 = .ok (.aload_n 0, 1) := dk_42 (dk_at dksX9_canBeTaken_1 10 rfl rfl)
theorem dX9_canBeTaken_35 : decode cX9_canBeTaken 35 = .ok (.aload_n 0, 1) := dk_42 (dk_at dksX9_canBeTaken_1 11 rfl rfl)
theorem dX9_canBeTaken_36 : decode cX9_canBeTaken 36 = .ok (.getfield 25, 3) := dk_180 0 25 (dk_at dksX9_canBeTaken_1 12 rfl rfl)
theorem dX9_canBeTaken_39 : decode cX9_canBeTaken 39 = .ok (.iload_n 2, 1) := dk_28 (dk_at dksX9_canBeTaken_1 15 rfl rfl)
theorem dX9_canBeTaken_40 : decode cX9_canBeTaken 40 = .ok (.iaload, 1) := dk_46 (dk_at dksX9_canBeTaken_1 16 rfl rfl)
theorem dX9_canBeTaken_41 : decode cX9_canBeTaken 41 = .ok (.aload_n 0, 1) := dk_42 (dk_at dksX9_canBeTaken_1 17 rfl rfl)
theorem dX9_canBeTaken_42 : decode cX9_canBeTaken 42 = .ok (.iload_n 1, 1) := dk_27 (dk_at dksX9_canBeTaken_1 18 rfl rfl)
theorem dX9_canBeTaken_43 : decode cX9_canBeTaken 43 = .ok (.iconst 1, 1) := dk_4 (dk_at dksX9_canBeTaken_1 19 rfl rfl)
theorem dX9_canBeTaken_44 : decode cX9_canBeTaken 44 = .ok (.invokevirtual 109, 3) := dk_182 0 109 (dk_at dksX9_canBeTaken_1 20 rfl rfl)
theorem dX9_canBeTaken_47 : decode cX9_canBeTaken 47 = .ok (.invokevirtual 137, 3) := dk_182 0 137 (dk_at dksX9_canBeTaken_2 0 rfl rfl)
theorem dX9_canBeTaken_50 : decode cX9_canBeTaken 50 = .ok (.ifCond .ne 13, 3) := dk_154 0 13 (dk_at dksX9_canBeTaken_2 3 rfl rfl)
theorem dX9_canBeTaken_53 : decode cX9_canBeTaken 53 = .ok (.aload_n 0, 1) := dk_42 (dk_at dksX9_canBeTaken_2 6 rfl rfl)
theorem dX9_canBeTaken_54 : decode cX9_canBeTaken 54 = .ok (.getfield 112, 3) := dk_180 0 112 (dk_at dksX9_canBeTaken_2 7 rfl rfl)
theorem dX9_canBeTaken_57 : decode cX9_canBeTaken 57 = .ok (.iload_n 1, 1) := dk_27 (dk_at dksX9_canBeTaken_2 10 rfl rfl)
theorem dX9_canBeTaken_58 : decode cX9_canBeTaken 58 = .ok (.if_icmp .ne 5, 3) := dk_160 0 5 (dk_at dksX9_canBeTaken_2 11 rfl rfl)
theorem dX9_canBeTaken_61 : decode cX9_canBeTaken 61 = .ok (.iconst 1, 1) := dk_4 (dk_at dksX9_canBeTaken_2 14 rfl rfl)
theorem dX9_canBeTaken_62 : decode cX9_canBeTaken 62 = .ok (.ireturn, 1) := dk_172 (dk_at dksX9_canBeTaken_2 15 rfl rfl)
theorem dX9_canBeTaken_63 : decode cX9_canBeTaken 63 = .ok (.iinc 2 1, 3) := dk_132 2 1 (dk_at dksX9_canBeTaken_2 16 rfl rfl)
theorem dX9_canBeTaken_66 : decode cX9_canBeTaken 66 = .ok (.goto (-40), 3) := dk_167 255 216 (dk_at dksX9_canBeTaken_2 19 rfl rfl)
theorem dX9_canBeTaken_69 : decode cX9_canBeTaken 69 = .ok (.iconst 0, 1) := dk_3 (dk_at dksX9_canBeTaken_2 22 rfl rfl)
theorem dX9_canBeTaken_70 : decode cX9_canBeTaken 70 = .ok (.ireturn, 1) := dk_172 (dk_at dksX9_canBeTaken_2 23 rfl rfl)
abbrev cX9_stepsTo : ByteArray := prog_41_method_119_code
def yX9_stepsTo : MethodName := ⟨RX9, "stepsTo", "(I)I"⟩
def dkwX9_stepsTo_1 : List UInt8 := [182, 1, 130, 172]
abbrev dktX9_stepsTo_1 : List UInt8 := dkwX9_stepsTo_1 ++ []
def dkwX9_stepsTo_0 : List UInt8 := [42, 3, 181, 0, 78, 42, 27, 3, 182, 1, 114, 153, 0, 7, 3, 167, 0, 12, 42, 42, 182, 0, 151, 27]
abbrev dktX9_stepsTo_0 : List UInt8 := dkwX9_stepsTo_0 ++ dktX9_stepsTo_1
theorem dksX9_stepsTo_0 : cX9_stepsTo.data.toList.drop 0 = dktX9_stepsTo_0 := by decide +kernel
theorem dksX9_stepsTo_1 : cX9_stepsTo.data.toList.drop 24 = dktX9_stepsTo_1 := dk_seg dksX9_stepsTo_0 24 rfl rfl
theorem dX9_stepsTo_0 : decode cX9_stepsTo 0 = .ok (.aload_n 0, 1) := dk_42 (dk_at dksX9_stepsTo_0 0 rfl rfl)
theorem dX9_stepsTo_1 : decode cX9_stepsTo 1 = .ok (.iconst 0, 1) := dk_3 (dk_at dksX9_stepsTo_0 1 rfl rfl)
theorem dX9_stepsTo_2 : decode cX9_stepsTo 2 = .ok (.putfield 78, 3) := dk_181 0 78 (dk_at dksX9_stepsTo_0 2 rfl rfl)
theorem dX9_stepsTo_5 : decode cX9_stepsTo 5 = .ok (.aload_n 0, 1) := dk_42 (dk_at dksX9_stepsTo_0 5 rfl rfl)
theorem dX9_stepsTo_6 : decode cX9_stepsTo 6 = .ok (.iload_n 1, 1) := dk_27 (dk_at dksX9_stepsTo_0 6 rfl rfl)
theorem dX9_stepsTo_7 : decode cX9_stepsTo 7 = .ok (.iconst 0, 1) := dk_3 (dk_at dksX9_stepsTo_0 7 rfl rfl)
theorem dX9_stepsTo_8 : decode cX9_stepsTo 8 = .ok (.invokevirtual 370, 3) := dk_182 1 114 (dk_at dksX9_stepsTo_0 8 rfl rfl)
theorem dX9_stepsTo_11 : decode cX9_stepsTo 11 = .ok (.ifCond .eq 7, 3) := dk_153 0 7 (dk_at dksX9_stepsTo_0 11 rfl rfl)
theorem dX9_stepsTo_14 : decode cX9_stepsTo 14 = .ok (.iconst 0, 1) := dk_3 (dk_at dksX9_stepsTo_0 14 rfl rfl)
theorem dX9_stepsTo_15 : decode cX9_stepsTo 15 = .ok (.goto 12, 3) := dk_167 0 12 (dk_at dksX9_stepsTo_0 15 rfl rfl)
theorem dX9_stepsTo_18 : decode cX9_stepsTo 18 = .ok (.aload_n 0, 1) := dk_42 (dk_at dksX9_stepsTo_0 18 rfl rfl)
theorem dX9_stepsTo_19 : decode cX9_stepsTo 19 = .ok (.aload_n 0, 1) := dk_42 (dk_at dksX9_stepsTo_0 19 rfl rfl)
theorem dX9_stepsTo_20 : decode cX9_stepsTo 20 = .ok (.invokevirtual 151, 3) := dk_182 0 151 (dk_at dksX9_stepsTo_0 20 rfl rfl)
theorem dX9_stepsTo_23 : decode cX9_stepsTo 23 = .ok (.iload_n 1, 1) := dk_27 (dk_at dksX9_stepsTo_0 23 rfl rfl)
theorem dX9_stepsTo_24 : decode cX9_stepsTo 24 = .ok (.invokevirtual 386, 3) := dk_182 1 130 (dk_at dksX9_stepsTo_1 0 rfl rfl)
theorem dX9_stepsTo_27 : decode cX9_stepsTo 27 = .ok (.ireturn, 1) := dk_172 (dk_at dksX9_stepsTo_1 3 rfl rfl)
abbrev cX9_firstEventTo : ByteArray := prog_41_method_120_code
def yX9_firstEventTo : MethodName := ⟨RX9, "firstEventTo", "(I)I"⟩
def dkwX9_firstEventTo_3 : List UInt8 := [100, 160, 0, 5, 29, 172, 132, 3, 1, 167, 255, 211, 2, 172]
abbrev dktX9_firstEventTo_3 : List UInt8 := dkwX9_firstEventTo_3 ++ []
def dkwX9_firstEventTo_2 : List UInt8 := [182, 0, 151, 29, 182, 0, 137, 153, 0, 6, 167, 0, 20, 42, 42, 180, 0, 118, 27, 182, 1, 130, 28, 4]
abbrev dktX9_firstEventTo_2 : List UInt8 := dkwX9_firstEventTo_2 ++ dktX9_firstEventTo_3
def dkwX9_firstEventTo_1 : List UInt8 := [182, 1, 130, 61, 28, 157, 0, 5, 2, 172, 3, 62, 29, 42, 180, 0, 7, 4, 46, 162, 0, 41, 42, 42]
abbrev dktX9_firstEventTo_1 : List UInt8 := dkwX9_firstEventTo_1 ++ dktX9_firstEventTo_2
def dkwX9_firstEventTo_0 : List UInt8 := [42, 3, 181, 0, 78, 42, 27, 3, 182, 1, 114, 153, 0, 5, 3, 172, 42, 42, 182, 0, 151, 27]
abbrev dktX9_firstEventTo_0 : List UInt8 := dkwX9_firstEventTo_0 ++ dktX9_firstEventTo_1
theorem dksX9_firstEventTo_0 : cX9_firstEventTo.data.toList.drop 0 = dktX9_firstEventTo_0 := by decide +kernel
theorem dksX9_firstEventTo_1 : cX9_firstEventTo.data.toList.drop 22 = dktX9_firstEventTo_1 := dk_seg dksX9_firstEventTo_0 22 rfl rfl
theorem dksX9_firstEventTo_2 : cX9_firstEventTo.data.toList.drop 46 = dktX9_firstEventTo_2 := dk_seg dksX9_firstEventTo_1 24 rfl rfl
theorem dksX9_firstEventTo_3 : cX9_firstEventTo.data.toList.drop 70 = dktX9_firstEventTo_3 := dk_seg dksX9_firstEventTo_2 24 rfl rfl
theorem dX9_firstEventTo_0 : decode cX9_firstEventTo 0 = .ok (.aload_n 0, 1) := dk_42 (dk_at dksX9_firstEventTo_0 0 rfl rfl)
theorem dX9_firstEventTo_1 : decode cX9_firstEventTo 1 = .ok (.iconst 0, 1) := dk_3 (dk_at dksX9_firstEventTo_0 1 rfl rfl)
theorem dX9_firstEventTo_2 : decode cX9_firstEventTo 2 = .ok (.putfield 78, 3) := dk_181 0 78 (dk_at dksX9_firstEventTo_0 2 rfl rfl)
theorem dX9_firstEventTo_5 : decode cX9_firstEventTo 5 = .ok (.aload_n 0, 1) := dk_42 (dk_at dksX9_firstEventTo_0 5 rfl rfl)
theorem dX9_firstEventTo_6 : decode cX9_firstEventTo 6 = .ok (.iload_n 1, 1) := dk_27 (dk_at dksX9_firstEventTo_0 6 rfl rfl)
theorem dX9_firstEventTo_7 : decode cX9_firstEventTo 7 = .ok (.iconst 0, 1) := dk_3 (dk_at dksX9_firstEventTo_0 7 rfl rfl)
theorem dX9_firstEventTo_8 : decode cX9_firstEventTo 8 = .ok (.invokevirtual 370, 3) := dk_182 1 114 (dk_at dksX9_firstEventTo_0 8 rfl rfl)
theorem dX9_firstEventTo_11 : decode cX9_firstEventTo 11 = .ok (.ifCond .eq 5, 3) := dk_153 0 5 (dk_at dksX9_firstEventTo_0 11 rfl rfl)
theorem dX9_firstEventTo_14 : decode cX9_firstEventTo 14 = .ok (.iconst 0, 1) := dk_3 (dk_at dksX9_firstEventTo_0 14 rfl rfl)
theorem dX9_firstEventTo_15 : decode cX9_firstEventTo 15 = .ok (.ireturn, 1) := dk_172 (dk_at dksX9_firstEventTo_0 15 rfl rfl)
theorem dX9_firstEventTo_16 : decode cX9_firstEventTo 16 = .ok (.aload_n 0, 1) := dk_42 (dk_at dksX9_firstEventTo_0 16 rfl rfl)
theorem dX9_firstEventTo_17 : decode cX9_firstEventTo 17 = .ok (.aload_n 0, 1) := dk_42 (dk_at dksX9_firstEventTo_0 17 rfl rfl)
theorem dX9_firstEventTo_18 : decode cX9_firstEventTo 18 = .ok (.invokevirtual 151, 3) := dk_182 0 151 (dk_at dksX9_firstEventTo_0 18 rfl rfl)
theorem dX9_firstEventTo_21 : decode cX9_firstEventTo 21 = .ok (.iload_n 1, 1) := dk_27 (dk_at dksX9_firstEventTo_0 21 rfl rfl)
theorem dX9_firstEventTo_22 : decode cX9_firstEventTo 22 = .ok (.invokevirtual 386, 3) := dk_182 1 130 (dk_at dksX9_firstEventTo_1 0 rfl rfl)
theorem dX9_firstEventTo_25 : decode cX9_firstEventTo 25 = .ok (.istore_n 2, 1) := dk_61 (dk_at dksX9_firstEventTo_1 3 rfl rfl)
theorem dX9_firstEventTo_26 : decode cX9_firstEventTo 26 = .ok (.iload_n 2, 1) := dk_28 (dk_at dksX9_firstEventTo_1 4 rfl rfl)
theorem dX9_firstEventTo_27 : decode cX9_firstEventTo 27 = .ok (.ifCond .gt 5, 3) := dk_157 0 5 (dk_at dksX9_firstEventTo_1 5 rfl rfl)
theorem dX9_firstEventTo_30 : decode cX9_firstEventTo 30 = .ok (.iconst (-1), 1) := dk_2 (dk_at dksX9_firstEventTo_1 8 rfl rfl)
theorem dX9_firstEventTo_31 : decode cX9_firstEventTo 31 = .ok (.ireturn, 1) := dk_172 (dk_at dksX9_firstEventTo_1 9 rfl rfl)
theorem dX9_firstEventTo_32 : decode cX9_firstEventTo 32 = .ok (.iconst 0, 1) := dk_3 (dk_at dksX9_firstEventTo_1 10 rfl rfl)
theorem dX9_firstEventTo_33 : decode cX9_firstEventTo 33 = .ok (.istore_n 3, 1) := dk_62 (dk_at dksX9_firstEventTo_1 11 rfl rfl)
theorem dX9_firstEventTo_34 : decode cX9_firstEventTo 34 = .ok (.iload_n 3, 1) := dk_29 (dk_at dksX9_firstEventTo_1 12 rfl rfl)
theorem dX9_firstEventTo_35 : decode cX9_firstEventTo 35 = .ok (.aload_n 0, 1) := dk_42 (dk_at dksX9_firstEventTo_1 13 rfl rfl)
theorem dX9_firstEventTo_36 : decode cX9_firstEventTo 36 = .ok (.getfield 7, 3) := dk_180 0 7 (dk_at dksX9_firstEventTo_1 14 rfl rfl)
theorem dX9_firstEventTo_39 : decode cX9_firstEventTo 39 = .ok (.iconst 1, 1) := dk_4 (dk_at dksX9_firstEventTo_1 17 rfl rfl)
theorem dX9_firstEventTo_40 : decode cX9_firstEventTo 40 = .ok (.iaload, 1) := dk_46 (dk_at dksX9_firstEventTo_1 18 rfl rfl)
theorem dX9_firstEventTo_41 : decode cX9_firstEventTo 41 = .ok (.if_icmp .ge 41, 3) := dk_162 0 41 (dk_at dksX9_firstEventTo_1 19 rfl rfl)
theorem dX9_firstEventTo_44 : decode cX9_firstEventTo 44 = .ok (.aload_n 0, 1) := dk_42 (dk_at dksX9_firstEventTo_1 22 rfl rfl)
theorem dX9_firstEventTo_45 : decode cX9_firstEventTo 45 = .ok (.aload_n 0, 1) := dk_42 (dk_at dksX9_firstEventTo_1 23 rfl rfl)
theorem dX9_firstEventTo_46 : decode cX9_firstEventTo 46 = .ok (.invokevirtual 151, 3) := dk_182 0 151 (dk_at dksX9_firstEventTo_2 0 rfl rfl)
theorem dX9_firstEventTo_49 : decode cX9_firstEventTo 49 = .ok (.iload_n 3, 1) := dk_29 (dk_at dksX9_firstEventTo_2 3 rfl rfl)
theorem dX9_firstEventTo_50 : decode cX9_firstEventTo 50 = .ok (.invokevirtual 137, 3) := dk_182 0 137 (dk_at dksX9_firstEventTo_2 4 rfl rfl)
theorem dX9_firstEventTo_53 : decode cX9_firstEventTo 53 = .ok (.ifCond .eq 6, 3) := dk_153 0 6 (dk_at dksX9_firstEventTo_2 7 rfl rfl)
theorem dX9_firstEventTo_56 : decode cX9_firstEventTo 56 = .ok (.goto 20, 3) := dk_167 0 20 (dk_at dksX9_firstEventTo_2 10 rfl rfl)
theorem dX9_firstEventTo_59 : decode cX9_firstEventTo 59 = .ok (.aload_n 0, 1) := dk_42 (dk_at dksX9_firstEventTo_2 13 rfl rfl)
theorem dX9_firstEventTo_60 : decode cX9_firstEventTo 60 = .ok (.aload_n 0, 1) := dk_42 (dk_at dksX9_firstEventTo_2 14 rfl rfl)
theorem dX9_firstEventTo_61 : decode cX9_firstEventTo 61 = .ok (.getfield 118, 3) := dk_180 0 118 (dk_at dksX9_firstEventTo_2 15 rfl rfl)
theorem dX9_firstEventTo_64 : decode cX9_firstEventTo 64 = .ok (.iload_n 1, 1) := dk_27 (dk_at dksX9_firstEventTo_2 18 rfl rfl)
theorem dX9_firstEventTo_65 : decode cX9_firstEventTo 65 = .ok (.invokevirtual 386, 3) := dk_182 1 130 (dk_at dksX9_firstEventTo_2 19 rfl rfl)
theorem dX9_firstEventTo_68 : decode cX9_firstEventTo 68 = .ok (.iload_n 2, 1) := dk_28 (dk_at dksX9_firstEventTo_2 22 rfl rfl)
theorem dX9_firstEventTo_69 : decode cX9_firstEventTo 69 = .ok (.iconst 1, 1) := dk_4 (dk_at dksX9_firstEventTo_2 23 rfl rfl)
theorem dX9_firstEventTo_70 : decode cX9_firstEventTo 70 = .ok (.isub, 1) := dk_100 (dk_at dksX9_firstEventTo_3 0 rfl rfl)
theorem dX9_firstEventTo_71 : decode cX9_firstEventTo 71 = .ok (.if_icmp .ne 5, 3) := dk_160 0 5 (dk_at dksX9_firstEventTo_3 1 rfl rfl)
theorem dX9_firstEventTo_74 : decode cX9_firstEventTo 74 = .ok (.iload_n 3, 1) := dk_29 (dk_at dksX9_firstEventTo_3 4 rfl rfl)
theorem dX9_firstEventTo_75 : decode cX9_firstEventTo 75 = .ok (.ireturn, 1) := dk_172 (dk_at dksX9_firstEventTo_3 5 rfl rfl)
theorem dX9_firstEventTo_76 : decode cX9_firstEventTo 76 = .ok (.iinc 3 1, 3) := dk_132 3 1 (dk_at dksX9_firstEventTo_3 6 rfl rfl)
theorem dX9_firstEventTo_79 : decode cX9_firstEventTo 79 = .ok (.goto (-45), 3) := dk_167 255 211 (dk_at dksX9_firstEventTo_3 9 rfl rfl)
theorem dX9_firstEventTo_82 : decode cX9_firstEventTo 82 = .ok (.iconst (-1), 1) := dk_2 (dk_at dksX9_firstEventTo_3 12 rfl rfl)
theorem dX9_firstEventTo_83 : decode cX9_firstEventTo 83 = .ok (.ireturn, 1) := dk_172 (dk_at dksX9_firstEventTo_3 13 rfl rfl)
abbrev cX9_deadlockCount : ByteArray := prog_41_method_121_code
def yX9_deadlockCount : MethodName := ⟨RX9, "deadlockCount", "()I"⟩
def dkwX9_deadlockCount_2 : List UInt8 := [167, 255, 229, 27, 172]
abbrev dktX9_deadlockCount_2 : List UInt8 := dkwX9_deadlockCount_2 ++ []
def dkwX9_deadlockCount_1 : List UInt8 := [162, 0, 25, 27, 42, 42, 180, 0, 25, 28, 46, 182, 1, 120, 184, 1, 123, 96, 60, 132, 2, 1]
abbrev dktX9_deadlockCount_1 : List UInt8 := dkwX9_deadlockCount_1 ++ dktX9_deadlockCount_2
def dkwX9_deadlockCount_0 : List UInt8 := [42, 3, 181, 0, 78, 42, 42, 182, 0, 151, 182, 0, 147, 3, 60, 3, 61, 28, 42, 180, 0, 140]
abbrev dktX9_deadlockCount_0 : List UInt8 := dkwX9_deadlockCount_0 ++ dktX9_deadlockCount_1
theorem dksX9_deadlockCount_0 : cX9_deadlockCount.data.toList.drop 0 = dktX9_deadlockCount_0 := by decide +kernel
theorem dksX9_deadlockCount_1 : cX9_deadlockCount.data.toList.drop 22 = dktX9_deadlockCount_1 := dk_seg dksX9_deadlockCount_0 22 rfl rfl
theorem dksX9_deadlockCount_2 : cX9_deadlockCount.data.toList.drop 44 = dktX9_deadlockCount_2 := dk_seg dksX9_deadlockCount_1 22 rfl rfl
theorem dX9_deadlockCount_0 : decode cX9_deadlockCount 0 = .ok (.aload_n 0, 1) := dk_42 (dk_at dksX9_deadlockCount_0 0 rfl rfl)
theorem dX9_deadlockCount_1 : decode cX9_deadlockCount 1 = .ok (.iconst 0, 1) := dk_3 (dk_at dksX9_deadlockCount_0 1 rfl rfl)
theorem dX9_deadlockCount_2 : decode cX9_deadlockCount 2 = .ok (.putfield 78, 3) := dk_181 0 78 (dk_at dksX9_deadlockCount_0 2 rfl rfl)
theorem dX9_deadlockCount_5 : decode cX9_deadlockCount 5 = .ok (.aload_n 0, 1) := dk_42 (dk_at dksX9_deadlockCount_0 5 rfl rfl)
theorem dX9_deadlockCount_6 : decode cX9_deadlockCount 6 = .ok (.aload_n 0, 1) := dk_42 (dk_at dksX9_deadlockCount_0 6 rfl rfl)
theorem dX9_deadlockCount_7 : decode cX9_deadlockCount 7 = .ok (.invokevirtual 151, 3) := dk_182 0 151 (dk_at dksX9_deadlockCount_0 7 rfl rfl)
theorem dX9_deadlockCount_10 : decode cX9_deadlockCount 10 = .ok (.invokevirtual 147, 3) := dk_182 0 147 (dk_at dksX9_deadlockCount_0 10 rfl rfl)
theorem dX9_deadlockCount_13 : decode cX9_deadlockCount 13 = .ok (.iconst 0, 1) := dk_3 (dk_at dksX9_deadlockCount_0 13 rfl rfl)
theorem dX9_deadlockCount_14 : decode cX9_deadlockCount 14 = .ok (.istore_n 1, 1) := dk_60 (dk_at dksX9_deadlockCount_0 14 rfl rfl)
theorem dX9_deadlockCount_15 : decode cX9_deadlockCount 15 = .ok (.iconst 0, 1) := dk_3 (dk_at dksX9_deadlockCount_0 15 rfl rfl)
theorem dX9_deadlockCount_16 : decode cX9_deadlockCount 16 = .ok (.istore_n 2, 1) := dk_61 (dk_at dksX9_deadlockCount_0 16 rfl rfl)
theorem dX9_deadlockCount_17 : decode cX9_deadlockCount 17 = .ok (.iload_n 2, 1) := dk_28 (dk_at dksX9_deadlockCount_0 17 rfl rfl)
theorem dX9_deadlockCount_18 : decode cX9_deadlockCount 18 = .ok (.aload_n 0, 1) := dk_42 (dk_at dksX9_deadlockCount_0 18 rfl rfl)
theorem dX9_deadlockCount_19 : decode cX9_deadlockCount 19 = .ok (.getfield 140, 3) := dk_180 0 140 (dk_at dksX9_deadlockCount_0 19 rfl rfl)
theorem dX9_deadlockCount_22 : decode cX9_deadlockCount 22 = .ok (.if_icmp .ge 25, 3) := dk_162 0 25 (dk_at dksX9_deadlockCount_1 0 rfl rfl)
theorem dX9_deadlockCount_25 : decode cX9_deadlockCount 25 = .ok (.iload_n 1, 1) := dk_27 (dk_at dksX9_deadlockCount_1 3 rfl rfl)
theorem dX9_deadlockCount_26 : decode cX9_deadlockCount 26 = .ok (.aload_n 0, 1) := dk_42 (dk_at dksX9_deadlockCount_1 4 rfl rfl)
theorem dX9_deadlockCount_27 : decode cX9_deadlockCount 27 = .ok (.aload_n 0, 1) := dk_42 (dk_at dksX9_deadlockCount_1 5 rfl rfl)
theorem dX9_deadlockCount_28 : decode cX9_deadlockCount 28 = .ok (.getfield 25, 3) := dk_180 0 25 (dk_at dksX9_deadlockCount_1 6 rfl rfl)
theorem dX9_deadlockCount_31 : decode cX9_deadlockCount 31 = .ok (.iload_n 2, 1) := dk_28 (dk_at dksX9_deadlockCount_1 9 rfl rfl)
theorem dX9_deadlockCount_32 : decode cX9_deadlockCount 32 = .ok (.iaload, 1) := dk_46 (dk_at dksX9_deadlockCount_1 10 rfl rfl)
theorem dX9_deadlockCount_33 : decode cX9_deadlockCount 33 = .ok (.invokevirtual 376, 3) := dk_182 1 120 (dk_at dksX9_deadlockCount_1 11 rfl rfl)
theorem dX9_deadlockCount_36 : decode cX9_deadlockCount 36 = .ok (.invokestatic 379, 3) := dk_184 1 123 (dk_at dksX9_deadlockCount_1 14 rfl rfl)
theorem dX9_deadlockCount_39 : decode cX9_deadlockCount 39 = .ok (.iadd, 1) := dk_96 (dk_at dksX9_deadlockCount_1 17 rfl rfl)
theorem dX9_deadlockCount_40 : decode cX9_deadlockCount 40 = .ok (.istore_n 1, 1) := dk_60 (dk_at dksX9_deadlockCount_1 18 rfl rfl)
theorem dX9_deadlockCount_41 : decode cX9_deadlockCount 41 = .ok (.iinc 2 1, 3) := dk_132 2 1 (dk_at dksX9_deadlockCount_1 19 rfl rfl)
theorem dX9_deadlockCount_44 : decode cX9_deadlockCount 44 = .ok (.goto (-27), 3) := dk_167 255 229 (dk_at dksX9_deadlockCount_2 0 rfl rfl)
theorem dX9_deadlockCount_47 : decode cX9_deadlockCount 47 = .ok (.iload_n 1, 1) := dk_27 (dk_at dksX9_deadlockCount_2 3 rfl rfl)
theorem dX9_deadlockCount_48 : decode cX9_deadlockCount 48 = .ok (.ireturn, 1) := dk_172 (dk_at dksX9_deadlockCount_2 4 rfl rfl)
abbrev cX9_stepsToDeadlock : ByteArray := prog_41_method_122_code
def yX9_stepsToDeadlock : MethodName := ⟨RX9, "stepsToDeadlock", "()I"⟩
def dkwX9_stepsToDeadlock_2 : List UInt8 := [132, 1, 1, 167, 255, 220, 2, 172]
abbrev dktX9_stepsToDeadlock_2 : List UInt8 := dkwX9_stepsToDeadlock_2 ++ []
def dkwX9_stepsToDeadlock_1 : List UInt8 := [42, 180, 0, 25, 27, 46, 182, 1, 120, 153, 0, 15, 42, 180, 0, 22, 42, 180, 0, 25, 27, 46, 46, 172]
abbrev dktX9_stepsToDeadlock_1 : List UInt8 := dkwX9_stepsToDeadlock_1 ++ dktX9_stepsToDeadlock_2
def dkwX9_stepsToDeadlock_0 : List UInt8 := [42, 3, 181, 0, 78, 42, 42, 182, 0, 151, 182, 0, 147, 3, 60, 27, 42, 180, 0, 140, 162, 0, 34, 42]
abbrev dktX9_stepsToDeadlock_0 : List UInt8 := dkwX9_stepsToDeadlock_0 ++ dktX9_stepsToDeadlock_1
theorem dksX9_stepsToDeadlock_0 : cX9_stepsToDeadlock.data.toList.drop 0 = dktX9_stepsToDeadlock_0 := by decide +kernel
theorem dksX9_stepsToDeadlock_1 : cX9_stepsToDeadlock.data.toList.drop 24 = dktX9_stepsToDeadlock_1 := dk_seg dksX9_stepsToDeadlock_0 24 rfl rfl
theorem dksX9_stepsToDeadlock_2 : cX9_stepsToDeadlock.data.toList.drop 48 = dktX9_stepsToDeadlock_2 := dk_seg dksX9_stepsToDeadlock_1 24 rfl rfl
theorem dX9_stepsToDeadlock_0 : decode cX9_stepsToDeadlock 0 = .ok (.aload_n 0, 1) := dk_42 (dk_at dksX9_stepsToDeadlock_0 0 rfl rfl)
theorem dX9_stepsToDeadlock_1 : decode cX9_stepsToDeadlock 1 = .ok (.iconst 0, 1) := dk_3 (dk_at dksX9_stepsToDeadlock_0 1 rfl rfl)
theorem dX9_stepsToDeadlock_2 : decode cX9_stepsToDeadlock 2 = .ok (.putfield 78, 3) := dk_181 0 78 (dk_at dksX9_stepsToDeadlock_0 2 rfl rfl)
theorem dX9_stepsToDeadlock_5 : decode cX9_stepsToDeadlock 5 = .ok (.aload_n 0, 1) := dk_42 (dk_at dksX9_stepsToDeadlock_0 5 rfl rfl)
theorem dX9_stepsToDeadlock_6 : decode cX9_stepsToDeadlock 6 = .ok (.aload_n 0, 1) := dk_42 (dk_at dksX9_stepsToDeadlock_0 6 rfl rfl)
theorem dX9_stepsToDeadlock_7 : decode cX9_stepsToDeadlock 7 = .ok (.invokevirtual 151, 3) := dk_182 0 151 (dk_at dksX9_stepsToDeadlock_0 7 rfl rfl)
theorem dX9_stepsToDeadlock_10 : decode cX9_stepsToDeadlock 10 = .ok (.invokevirtual 147, 3) := dk_182 0 147 (dk_at dksX9_stepsToDeadlock_0 10 rfl rfl)
theorem dX9_stepsToDeadlock_13 : decode cX9_stepsToDeadlock 13 = .ok (.iconst 0, 1) := dk_3 (dk_at dksX9_stepsToDeadlock_0 13 rfl rfl)
theorem dX9_stepsToDeadlock_14 : decode cX9_stepsToDeadlock 14 = .ok (.istore_n 1, 1) := dk_60 (dk_at dksX9_stepsToDeadlock_0 14 rfl rfl)
theorem dX9_stepsToDeadlock_15 : decode cX9_stepsToDeadlock 15 = .ok (.iload_n 1, 1) := dk_27 (dk_at dksX9_stepsToDeadlock_0 15 rfl rfl)
theorem dX9_stepsToDeadlock_16 : decode cX9_stepsToDeadlock 16 = .ok (.aload_n 0, 1) := dk_42 (dk_at dksX9_stepsToDeadlock_0 16 rfl rfl)
theorem dX9_stepsToDeadlock_17 : decode cX9_stepsToDeadlock 17 = .ok (.getfield 140, 3) := dk_180 0 140 (dk_at dksX9_stepsToDeadlock_0 17 rfl rfl)
theorem dX9_stepsToDeadlock_20 : decode cX9_stepsToDeadlock 20 = .ok (.if_icmp .ge 34, 3) := dk_162 0 34 (dk_at dksX9_stepsToDeadlock_0 20 rfl rfl)
theorem dX9_stepsToDeadlock_23 : decode cX9_stepsToDeadlock 23 = .ok (.aload_n 0, 1) := dk_42 (dk_at dksX9_stepsToDeadlock_0 23 rfl rfl)
theorem dX9_stepsToDeadlock_24 : decode cX9_stepsToDeadlock 24 = .ok (.aload_n 0, 1) := dk_42 (dk_at dksX9_stepsToDeadlock_1 0 rfl rfl)
theorem dX9_stepsToDeadlock_25 : decode cX9_stepsToDeadlock 25 = .ok (.getfield 25, 3) := dk_180 0 25 (dk_at dksX9_stepsToDeadlock_1 1 rfl rfl)
theorem dX9_stepsToDeadlock_28 : decode cX9_stepsToDeadlock 28 = .ok (.iload_n 1, 1) := dk_27 (dk_at dksX9_stepsToDeadlock_1 4 rfl rfl)
theorem dX9_stepsToDeadlock_29 : decode cX9_stepsToDeadlock 29 = .ok (.iaload, 1) := dk_46 (dk_at dksX9_stepsToDeadlock_1 5 rfl rfl)
theorem dX9_stepsToDeadlock_30 : decode cX9_stepsToDeadlock 30 = .ok (.invokevirtual 376, 3) := dk_182 1 120 (dk_at dksX9_stepsToDeadlock_1 6 rfl rfl)
theorem dX9_stepsToDeadlock_33 : decode cX9_stepsToDeadlock 33 = .ok (.ifCond .eq 15, 3) := dk_153 0 15 (dk_at dksX9_stepsToDeadlock_1 9 rfl rfl)
theorem dX9_stepsToDeadlock_36 : decode cX9_stepsToDeadlock 36 = .ok (.aload_n 0, 1) := dk_42 (dk_at dksX9_stepsToDeadlock_1 12 rfl rfl)
theorem dX9_stepsToDeadlock_37 : decode cX9_stepsToDeadlock 37 = .ok (.getfield 22, 3) := dk_180 0 22 (dk_at dksX9_stepsToDeadlock_1 13 rfl rfl)
theorem dX9_stepsToDeadlock_40 : decode cX9_stepsToDeadlock 40 = .ok (.aload_n 0, 1) := dk_42 (dk_at dksX9_stepsToDeadlock_1 16 rfl rfl)
theorem dX9_stepsToDeadlock_41 : decode cX9_stepsToDeadlock 41 = .ok (.getfield 25, 3) := dk_180 0 25 (dk_at dksX9_stepsToDeadlock_1 17 rfl rfl)
theorem dX9_stepsToDeadlock_44 : decode cX9_stepsToDeadlock 44 = .ok (.iload_n 1, 1) := dk_27 (dk_at dksX9_stepsToDeadlock_1 20 rfl rfl)
theorem dX9_stepsToDeadlock_45 : decode cX9_stepsToDeadlock 45 = .ok (.iaload, 1) := dk_46 (dk_at dksX9_stepsToDeadlock_1 21 rfl rfl)
theorem dX9_stepsToDeadlock_46 : decode cX9_stepsToDeadlock 46 = .ok (.iaload, 1) := dk_46 (dk_at dksX9_stepsToDeadlock_1 22 rfl rfl)
theorem dX9_stepsToDeadlock_47 : decode cX9_stepsToDeadlock 47 = .ok (.ireturn, 1) := dk_172 (dk_at dksX9_stepsToDeadlock_1 23 rfl rfl)
theorem dX9_stepsToDeadlock_48 : decode cX9_stepsToDeadlock 48 = .ok (.iinc 1 1, 3) := dk_132 1 1 (dk_at dksX9_stepsToDeadlock_2 0 rfl rfl)
theorem dX9_stepsToDeadlock_51 : decode cX9_stepsToDeadlock 51 = .ok (.goto (-36), 3) := dk_167 255 220 (dk_at dksX9_stepsToDeadlock_2 3 rfl rfl)
theorem dX9_stepsToDeadlock_54 : decode cX9_stepsToDeadlock 54 = .ok (.iconst (-1), 1) := dk_2 (dk_at dksX9_stepsToDeadlock_2 6 rfl rfl)
theorem dX9_stepsToDeadlock_55 : decode cX9_stepsToDeadlock 55 = .ok (.ireturn, 1) := dk_172 (dk_at dksX9_stepsToDeadlock_2 7 rfl rfl)
abbrev cX9_isConsistent : ByteArray := prog_41_method_124_code
def yX9_isConsistent : MethodName := ⟨RX9, "isConsistent", "()Z"⟩
def dkwX9_isConsistent_4 : List UInt8 := [16, 17, 46, 160, 0, 18, 42, 180, 0, 140, 42, 182, 1, 136, 160, 0, 7, 4, 167, 0, 4, 3, 172]
abbrev dktX9_isConsistent_4 : List UInt8 := dkwX9_isConsistent_4 ++ []
def dkwX9_isConsistent_3 : List UInt8 := [96, 46, 96, 60, 132, 2, 1, 167, 255, 236, 42, 42, 182, 0, 151, 182, 0, 147, 27, 42, 180, 0, 7]
abbrev dktX9_isConsistent_3 : List UInt8 := dkwX9_isConsistent_3 ++ dktX9_isConsistent_4
def dkwX9_isConsistent_2 : List UInt8 := [4, 96, 159, 0, 5, 3, 172, 3, 60, 4, 61, 28, 7, 163, 0, 21, 27, 42, 180, 0, 7, 16, 12, 28]
abbrev dktX9_isConsistent_2 : List UInt8 := dkwX9_isConsistent_2 ++ dktX9_isConsistent_3
def dkwX9_isConsistent_1 : List UInt8 := [42, 180, 0, 7, 16, 12, 46, 160, 0, 22, 42, 16, 59, 3, 182, 1, 133, 42, 180, 0, 7, 16, 12, 46]
abbrev dktX9_isConsistent_1 : List UInt8 := dkwX9_isConsistent_1 ++ dktX9_isConsistent_2
def dkwX9_isConsistent_0 : List UInt8 := [42, 3, 181, 0, 78, 42, 42, 182, 0, 151, 182, 0, 134, 2, 160, 0, 39, 42, 16, 69, 6, 182, 1, 133]
abbrev dktX9_isConsistent_0 : List UInt8 := dkwX9_isConsistent_0 ++ dktX9_isConsistent_1
theorem dksX9_isConsistent_0 : cX9_isConsistent.data.toList.drop 0 = dktX9_isConsistent_0 := by decide +kernel
theorem dksX9_isConsistent_1 : cX9_isConsistent.data.toList.drop 24 = dktX9_isConsistent_1 := dk_seg dksX9_isConsistent_0 24 rfl rfl
theorem dksX9_isConsistent_2 : cX9_isConsistent.data.toList.drop 48 = dktX9_isConsistent_2 := dk_seg dksX9_isConsistent_1 24 rfl rfl
theorem dksX9_isConsistent_3 : cX9_isConsistent.data.toList.drop 72 = dktX9_isConsistent_3 := dk_seg dksX9_isConsistent_2 24 rfl rfl
theorem dksX9_isConsistent_4 : cX9_isConsistent.data.toList.drop 95 = dktX9_isConsistent_4 := dk_seg dksX9_isConsistent_3 23 rfl rfl
theorem dX9_isConsistent_0 : decode cX9_isConsistent 0 = .ok (.aload_n 0, 1) := dk_42 (dk_at dksX9_isConsistent_0 0 rfl rfl)
theorem dX9_isConsistent_1 : decode cX9_isConsistent 1 = .ok (.iconst 0, 1) := dk_3 (dk_at dksX9_isConsistent_0 1 rfl rfl)
theorem dX9_isConsistent_2 : decode cX9_isConsistent 2 = .ok (.putfield 78, 3) := dk_181 0 78 (dk_at dksX9_isConsistent_0 2 rfl rfl)
theorem dX9_isConsistent_5 : decode cX9_isConsistent 5 = .ok (.aload_n 0, 1) := dk_42 (dk_at dksX9_isConsistent_0 5 rfl rfl)
theorem dX9_isConsistent_6 : decode cX9_isConsistent 6 = .ok (.aload_n 0, 1) := dk_42 (dk_at dksX9_isConsistent_0 6 rfl rfl)
theorem dX9_isConsistent_7 : decode cX9_isConsistent 7 = .ok (.invokevirtual 151, 3) := dk_182 0 151 (dk_at dksX9_isConsistent_0 7 rfl rfl)
theorem dX9_isConsistent_10 : decode cX9_isConsistent 10 = .ok (.invokevirtual 134, 3) := dk_182 0 134 (dk_at dksX9_isConsistent_0 10 rfl rfl)
theorem dX9_isConsistent_13 : decode cX9_isConsistent 13 = .ok (.iconst (-1), 1) := dk_2 (dk_at dksX9_isConsistent_0 13 rfl rfl)
theorem dX9_isConsistent_14 : decode cX9_isConsistent 14 = .ok (.if_icmp .ne 39, 3) := dk_160 0 39 (dk_at dksX9_isConsistent_0 14 rfl rfl)
theorem dX9_isConsistent_17 : decode cX9_isConsistent 17 = .ok (.aload_n 0, 1) := dk_42 (dk_at dksX9_isConsistent_0 17 rfl rfl)
theorem dX9_isConsistent_18 : decode cX9_isConsistent 18 = .ok (.bipush 69, 2) := dk_16 69 (dk_at dksX9_isConsistent_0 18 rfl rfl)
theorem dX9_isConsistent_20 : decode cX9_isConsistent 20 = .ok (.iconst 3, 1) := dk_6 (dk_at dksX9_isConsistent_0 20 rfl rfl)
theorem dX9_isConsistent_21 : decode cX9_isConsistent 21 = .ok (.invokevirtual 389, 3) := dk_182 1 133 (dk_at dksX9_isConsistent_0 21 rfl rfl)
theorem dX9_isConsistent_24 : decode cX9_isConsistent 24 = .ok (.aload_n 0, 1) := dk_42 (dk_at dksX9_isConsistent_1 0 rfl rfl)
theorem dX9_isConsistent_25 : decode cX9_isConsistent 25 = .ok (.getfield 7, 3) := dk_180 0 7 (dk_at dksX9_isConsistent_1 1 rfl rfl)
theorem dX9_isConsistent_28 : decode cX9_isConsistent 28 = .ok (.bipush 12, 2) := dk_16 12 (dk_at dksX9_isConsistent_1 4 rfl rfl)
theorem dX9_isConsistent_30 : decode cX9_isConsistent 30 = .ok (.iaload, 1) := dk_46 (dk_at dksX9_isConsistent_1 6 rfl rfl)
theorem dX9_isConsistent_31 : decode cX9_isConsistent 31 = .ok (.if_icmp .ne 22, 3) := dk_160 0 22 (dk_at dksX9_isConsistent_1 7 rfl rfl)
theorem dX9_isConsistent_34 : decode cX9_isConsistent 34 = .ok (.aload_n 0, 1) := dk_42 (dk_at dksX9_isConsistent_1 10 rfl rfl)
theorem dX9_isConsistent_35 : decode cX9_isConsistent 35 = .ok (.bipush 59, 2) := dk_16 59 (dk_at dksX9_isConsistent_1 11 rfl rfl)
theorem dX9_isConsistent_37 : decode cX9_isConsistent 37 = .ok (.iconst 0, 1) := dk_3 (dk_at dksX9_isConsistent_1 13 rfl rfl)
theorem dX9_isConsistent_38 : decode cX9_isConsistent 38 = .ok (.invokevirtual 389, 3) := dk_182 1 133 (dk_at dksX9_isConsistent_1 14 rfl rfl)
theorem dX9_isConsistent_41 : decode cX9_isConsistent 41 = .ok (.aload_n 0, 1) := dk_42 (dk_at dksX9_isConsistent_1 17 rfl rfl)
theorem dX9_isConsistent_42 : decode cX9_isConsistent 42 = .ok (.getfield 7, 3) := dk_180 0 7 (dk_at dksX9_isConsistent_1 18 rfl rfl)
theorem dX9_isConsistent_45 : decode cX9_isConsistent 45 = .ok (.bipush 12, 2) := dk_16 12 (dk_at dksX9_isConsistent_1 21 rfl rfl)
theorem dX9_isConsistent_47 : decode cX9_isConsistent 47 = .ok (.iaload, 1) := dk_46 (dk_at dksX9_isConsistent_1 23 rfl rfl)
theorem dX9_isConsistent_48 : decode cX9_isConsistent 48 = .ok (.iconst 1, 1) := dk_4 (dk_at dksX9_isConsistent_2 0 rfl rfl)
theorem dX9_isConsistent_49 : decode cX9_isConsistent 49 = .ok (.iadd, 1) := dk_96 (dk_at dksX9_isConsistent_2 1 rfl rfl)
theorem dX9_isConsistent_50 : decode cX9_isConsistent 50 = .ok (.if_icmp .eq 5, 3) := dk_159 0 5 (dk_at dksX9_isConsistent_2 2 rfl rfl)
theorem dX9_isConsistent_53 : decode cX9_isConsistent 53 = .ok (.iconst 0, 1) := dk_3 (dk_at dksX9_isConsistent_2 5 rfl rfl)
theorem dX9_isConsistent_54 : decode cX9_isConsistent 54 = .ok (.ireturn, 1) := dk_172 (dk_at dksX9_isConsistent_2 6 rfl rfl)
theorem dX9_isConsistent_55 : decode cX9_isConsistent 55 = .ok (.iconst 0, 1) := dk_3 (dk_at dksX9_isConsistent_2 7 rfl rfl)
theorem dX9_isConsistent_56 : decode cX9_isConsistent 56 = .ok (.istore_n 1, 1) := dk_60 (dk_at dksX9_isConsistent_2 8 rfl rfl)
theorem dX9_isConsistent_57 : decode cX9_isConsistent 57 = .ok (.iconst 1, 1) := dk_4 (dk_at dksX9_isConsistent_2 9 rfl rfl)
theorem dX9_isConsistent_58 : decode cX9_isConsistent 58 = .ok (.istore_n 2, 1) := dk_61 (dk_at dksX9_isConsistent_2 10 rfl rfl)
theorem dX9_isConsistent_59 : decode cX9_isConsistent 59 = .ok (.iload_n 2, 1) := dk_28 (dk_at dksX9_isConsistent_2 11 rfl rfl)
theorem dX9_isConsistent_60 : decode cX9_isConsistent 60 = .ok (.iconst 4, 1) := dk_7 (dk_at dksX9_isConsistent_2 12 rfl rfl)
theorem dX9_isConsistent_61 : decode cX9_isConsistent 61 = .ok (.if_icmp .gt 21, 3) := dk_163 0 21 (dk_at dksX9_isConsistent_2 13 rfl rfl)
theorem dX9_isConsistent_64 : decode cX9_isConsistent 64 = .ok (.iload_n 1, 1) := dk_27 (dk_at dksX9_isConsistent_2 16 rfl rfl)
theorem dX9_isConsistent_65 : decode cX9_isConsistent 65 = .ok (.aload_n 0, 1) := dk_42 (dk_at dksX9_isConsistent_2 17 rfl rfl)
theorem dX9_isConsistent_66 : decode cX9_isConsistent 66 = .ok (.getfield 7, 3) := dk_180 0 7 (dk_at dksX9_isConsistent_2 18 rfl rfl)
theorem dX9_isConsistent_69 : decode cX9_isConsistent 69 = .ok (.bipush 12, 2) := dk_16 12 (dk_at dksX9_isConsistent_2 21 rfl rfl)
theorem dX9_isConsistent_71 : decode cX9_isConsistent 71 = .ok (.iload_n 2, 1) := dk_28 (dk_at dksX9_isConsistent_2 23 rfl rfl)
theorem dX9_isConsistent_72 : decode cX9_isConsistent 72 = .ok (.iadd, 1) := dk_96 (dk_at dksX9_isConsistent_3 0 rfl rfl)
theorem dX9_isConsistent_73 : decode cX9_isConsistent 73 = .ok (.iaload, 1) := dk_46 (dk_at dksX9_isConsistent_3 1 rfl rfl)
theorem dX9_isConsistent_74 : decode cX9_isConsistent 74 = .ok (.iadd, 1) := dk_96 (dk_at dksX9_isConsistent_3 2 rfl rfl)
theorem dX9_isConsistent_75 : decode cX9_isConsistent 75 = .ok (.istore_n 1, 1) := dk_60 (dk_at dksX9_isConsistent_3 3 rfl rfl)
theorem dX9_isConsistent_76 : decode cX9_isConsistent 76 = .ok (.iinc 2 1, 3) := dk_132 2 1 (dk_at dksX9_isConsistent_3 4 rfl rfl)
theorem dX9_isConsistent_79 : decode cX9_isConsistent 79 = .ok (.goto (-20), 3) := dk_167 255 236 (dk_at dksX9_isConsistent_3 7 rfl rfl)
theorem dX9_isConsistent_82 : decode cX9_isConsistent 82 = .ok (.aload_n 0, 1) := dk_42 (dk_at dksX9_isConsistent_3 10 rfl rfl)
theorem dX9_isConsistent_83 : decode cX9_isConsistent 83 = .ok (.aload_n 0, 1) := dk_42 (dk_at dksX9_isConsistent_3 11 rfl rfl)
theorem dX9_isConsistent_84 : decode cX9_isConsistent 84 = .ok (.invokevirtual 151, 3) := dk_182 0 151 (dk_at dksX9_isConsistent_3 12 rfl rfl)
theorem dX9_isConsistent_87 : decode cX9_isConsistent 87 = .ok (.invokevirtual 147, 3) := dk_182 0 147 (dk_at dksX9_isConsistent_3 15 rfl rfl)
theorem dX9_isConsistent_90 : decode cX9_isConsistent 90 = .ok (.iload_n 1, 1) := dk_27 (dk_at dksX9_isConsistent_3 18 rfl rfl)
theorem dX9_isConsistent_91 : decode cX9_isConsistent 91 = .ok (.aload_n 0, 1) := dk_42 (dk_at dksX9_isConsistent_3 19 rfl rfl)
theorem dX9_isConsistent_92 : decode cX9_isConsistent 92 = .ok (.getfield 7, 3) := dk_180 0 7 (dk_at dksX9_isConsistent_3 20 rfl rfl)
theorem dX9_isConsistent_95 : decode cX9_isConsistent 95 = .ok (.bipush 17, 2) := dk_16 17 (dk_at dksX9_isConsistent_4 0 rfl rfl)
theorem dX9_isConsistent_97 : decode cX9_isConsistent 97 = .ok (.iaload, 1) := dk_46 (dk_at dksX9_isConsistent_4 2 rfl rfl)
theorem dX9_isConsistent_98 : decode cX9_isConsistent 98 = .ok (.if_icmp .ne 18, 3) := dk_160 0 18 (dk_at dksX9_isConsistent_4 3 rfl rfl)
theorem dX9_isConsistent_101 : decode cX9_isConsistent 101 = .ok (.aload_n 0, 1) := dk_42 (dk_at dksX9_isConsistent_4 6 rfl rfl)
theorem dX9_isConsistent_102 : decode cX9_isConsistent 102 = .ok (.getfield 140, 3) := dk_180 0 140 (dk_at dksX9_isConsistent_4 7 rfl rfl)
theorem dX9_isConsistent_105 : decode cX9_isConsistent 105 = .ok (.aload_n 0, 1) := dk_42 (dk_at dksX9_isConsistent_4 10 rfl rfl)
theorem dX9_isConsistent_106 : decode cX9_isConsistent 106 = .ok (.invokevirtual 392, 3) := dk_182 1 136 (dk_at dksX9_isConsistent_4 11 rfl rfl)
theorem dX9_isConsistent_109 : decode cX9_isConsistent 109 = .ok (.if_icmp .ne 7, 3) := dk_160 0 7 (dk_at dksX9_isConsistent_4 14 rfl rfl)
theorem dX9_isConsistent_112 : decode cX9_isConsistent 112 = .ok (.iconst 1, 1) := dk_4 (dk_at dksX9_isConsistent_4 17 rfl rfl)
theorem dX9_isConsistent_113 : decode cX9_isConsistent 113 = .ok (.goto 4, 3) := dk_167 0 4 (dk_at dksX9_isConsistent_4 18 rfl rfl)
theorem dX9_isConsistent_116 : decode cX9_isConsistent 116 = .ok (.iconst 0, 1) := dk_3 (dk_at dksX9_isConsistent_4 21 rfl rfl)
theorem dX9_isConsistent_117 : decode cX9_isConsistent 117 = .ok (.ireturn, 1) := dk_172 (dk_at dksX9_isConsistent_4 22 rfl rfl)
abbrev cX9_sumOf : ByteArray := prog_41_method_109_code
def yX9_sumOf : MethodName := ⟨RX9, "sumOf", "(II)I"⟩
def dkwX9_sumOf_1 : List UInt8 := [96, 46, 96, 62, 132, 4, 1, 167, 255, 230, 29, 172]
abbrev dktX9_sumOf_1 : List UInt8 := dkwX9_sumOf_1 ++ []
def dkwX9_sumOf_0 : List UInt8 := [3, 62, 3, 54, 4, 21, 4, 42, 180, 0, 7, 28, 46, 162, 0, 21, 29, 42, 180, 0, 7, 27, 21, 4]
abbrev dktX9_sumOf_0 : List UInt8 := dkwX9_sumOf_0 ++ dktX9_sumOf_1
theorem dksX9_sumOf_0 : cX9_sumOf.data.toList.drop 0 = dktX9_sumOf_0 := by decide +kernel
theorem dksX9_sumOf_1 : cX9_sumOf.data.toList.drop 24 = dktX9_sumOf_1 := dk_seg dksX9_sumOf_0 24 rfl rfl
theorem dX9_sumOf_0 : decode cX9_sumOf 0 = .ok (.iconst 0, 1) := dk_3 (dk_at dksX9_sumOf_0 0 rfl rfl)
theorem dX9_sumOf_1 : decode cX9_sumOf 1 = .ok (.istore_n 3, 1) := dk_62 (dk_at dksX9_sumOf_0 1 rfl rfl)
theorem dX9_sumOf_2 : decode cX9_sumOf 2 = .ok (.iconst 0, 1) := dk_3 (dk_at dksX9_sumOf_0 2 rfl rfl)
theorem dX9_sumOf_3 : decode cX9_sumOf 3 = .ok (.istore 4, 2) := dk_54 4 (dk_at dksX9_sumOf_0 3 rfl rfl)
theorem dX9_sumOf_5 : decode cX9_sumOf 5 = .ok (.iload 4, 2) := dk_21 4 (dk_at dksX9_sumOf_0 5 rfl rfl)
theorem dX9_sumOf_7 : decode cX9_sumOf 7 = .ok (.aload_n 0, 1) := dk_42 (dk_at dksX9_sumOf_0 7 rfl rfl)
theorem dX9_sumOf_8 : decode cX9_sumOf 8 = .ok (.getfield 7, 3) := dk_180 0 7 (dk_at dksX9_sumOf_0 8 rfl rfl)
theorem dX9_sumOf_11 : decode cX9_sumOf 11 = .ok (.iload_n 2, 1) := dk_28 (dk_at dksX9_sumOf_0 11 rfl rfl)
theorem dX9_sumOf_12 : decode cX9_sumOf 12 = .ok (.iaload, 1) := dk_46 (dk_at dksX9_sumOf_0 12 rfl rfl)
theorem dX9_sumOf_13 : decode cX9_sumOf 13 = .ok (.if_icmp .ge 21, 3) := dk_162 0 21 (dk_at dksX9_sumOf_0 13 rfl rfl)
theorem dX9_sumOf_16 : decode cX9_sumOf 16 = .ok (.iload_n 3, 1) := dk_29 (dk_at dksX9_sumOf_0 16 rfl rfl)
theorem dX9_sumOf_17 : decode cX9_sumOf 17 = .ok (.aload_n 0, 1) := dk_42 (dk_at dksX9_sumOf_0 17 rfl rfl)
theorem dX9_sumOf_18 : decode cX9_sumOf 18 = .ok (.getfield 7, 3) := dk_180 0 7 (dk_at dksX9_sumOf_0 18 rfl rfl)
theorem dX9_sumOf_21 : decode cX9_sumOf 21 = .ok (.iload_n 1, 1) := dk_27 (dk_at dksX9_sumOf_0 21 rfl rfl)
theorem dX9_sumOf_22 : decode cX9_sumOf 22 = .ok (.iload 4, 2) := dk_21 4 (dk_at dksX9_sumOf_0 22 rfl rfl)
theorem dX9_sumOf_24 : decode cX9_sumOf 24 = .ok (.iadd, 1) := dk_96 (dk_at dksX9_sumOf_1 0 rfl rfl)
theorem dX9_sumOf_25 : decode cX9_sumOf 25 = .ok (.iaload, 1) := dk_46 (dk_at dksX9_sumOf_1 1 rfl rfl)
theorem dX9_sumOf_26 : decode cX9_sumOf 26 = .ok (.iadd, 1) := dk_96 (dk_at dksX9_sumOf_1 2 rfl rfl)
theorem dX9_sumOf_27 : decode cX9_sumOf 27 = .ok (.istore_n 3, 1) := dk_62 (dk_at dksX9_sumOf_1 3 rfl rfl)
theorem dX9_sumOf_28 : decode cX9_sumOf 28 = .ok (.iinc 4 1, 3) := dk_132 4 1 (dk_at dksX9_sumOf_1 4 rfl rfl)
theorem dX9_sumOf_31 : decode cX9_sumOf 31 = .ok (.goto (-26), 3) := dk_167 255 230 (dk_at dksX9_sumOf_1 7 rfl rfl)
theorem dX9_sumOf_34 : decode cX9_sumOf 34 = .ok (.iload_n 3, 1) := dk_29 (dk_at dksX9_sumOf_1 10 rfl rfl)
theorem dX9_sumOf_35 : decode cX9_sumOf 35 = .ok (.ireturn, 1) := dk_172 (dk_at dksX9_sumOf_1 11 rfl rfl)
abbrev cX9_deepCount : ByteArray := prog_41_method_123_code
def yX9_deepCount : MethodName := ⟨RX9, "deepCount", "()I"⟩
def dkwX9_deepCount_5 : List UInt8 := [180, 0, 118, 79, 132, 1, 1, 132, 2, 1, 132, 4, 1, 167, 255, 191, 167, 255, 171, 28, 172]
abbrev dktX9_deepCount_5 : List UInt8 := dkwX9_deepCount_5 ++ []
def dkwX9_deepCount_4 : List UInt8 := [153, 0, 6, 167, 0, 29, 42, 180, 0, 44, 42, 180, 0, 118, 4, 84, 42, 180, 0, 48, 27, 42]
abbrev dktX9_deepCount_4 : List UInt8 := dkwX9_deepCount_4 ++ dktX9_deepCount_5
def dkwX9_deepCount_3 : List UInt8 := [162, 0, 60, 42, 29, 21, 4, 182, 0, 137, 154, 0, 44, 42, 180, 0, 44, 42, 180, 0, 118, 51]
abbrev dktX9_deepCount_3 : List UInt8 := dkwX9_deepCount_3 ++ dktX9_deepCount_4
def dkwX9_deepCount_2 : List UInt8 := [158, 0, 87, 132, 1, 255, 42, 180, 0, 48, 27, 46, 62, 3, 54, 4, 21, 4, 42, 180, 0, 7, 4, 46]
abbrev dktX9_deepCount_2 : List UInt8 := dkwX9_deepCount_2 ++ dktX9_deepCount_3
def dkwX9_deepCount_1 : List UInt8 := [4, 61, 42, 180, 0, 48, 3, 42, 182, 0, 151, 79, 42, 180, 0, 44, 42, 182, 0, 151, 4, 84, 27]
abbrev dktX9_deepCount_1 : List UInt8 := dkwX9_deepCount_1 ++ dktX9_deepCount_2
def dkwX9_deepCount_0 : List UInt8 := [3, 60, 27, 17, 39, 16, 162, 0, 16, 42, 180, 0, 44, 27, 3, 84, 132, 1, 1, 167, 255, 239, 4, 60]
abbrev dktX9_deepCount_0 : List UInt8 := dkwX9_deepCount_0 ++ dktX9_deepCount_1
theorem dksX9_deepCount_0 : cX9_deepCount.data.toList.drop 0 = dktX9_deepCount_0 := by decide +kernel
theorem dksX9_deepCount_1 : cX9_deepCount.data.toList.drop 24 = dktX9_deepCount_1 := dk_seg dksX9_deepCount_0 24 rfl rfl
theorem dksX9_deepCount_2 : cX9_deepCount.data.toList.drop 47 = dktX9_deepCount_2 := dk_seg dksX9_deepCount_1 23 rfl rfl
theorem dksX9_deepCount_3 : cX9_deepCount.data.toList.drop 71 = dktX9_deepCount_3 := dk_seg dksX9_deepCount_2 24 rfl rfl
theorem dksX9_deepCount_4 : cX9_deepCount.data.toList.drop 93 = dktX9_deepCount_4 := dk_seg dksX9_deepCount_3 22 rfl rfl
theorem dksX9_deepCount_5 : cX9_deepCount.data.toList.drop 115 = dktX9_deepCount_5 := dk_seg dksX9_deepCount_4 22 rfl rfl
theorem dX9_deepCount_0 : decode cX9_deepCount 0 = .ok (.iconst 0, 1) := dk_3 (dk_at dksX9_deepCount_0 0 rfl rfl)
theorem dX9_deepCount_1 : decode cX9_deepCount 1 = .ok (.istore_n 1, 1) := dk_60 (dk_at dksX9_deepCount_0 1 rfl rfl)
theorem dX9_deepCount_2 : decode cX9_deepCount 2 = .ok (.iload_n 1, 1) := dk_27 (dk_at dksX9_deepCount_0 2 rfl rfl)
theorem dX9_deepCount_3 : decode cX9_deepCount 3 = .ok (.sipush 10000, 3) := dk_17 39 16 (dk_at dksX9_deepCount_0 3 rfl rfl)
theorem dX9_deepCount_6 : decode cX9_deepCount 6 = .ok (.if_icmp .ge 16, 3) := dk_162 0 16 (dk_at dksX9_deepCount_0 6 rfl rfl)
theorem dX9_deepCount_9 : decode cX9_deepCount 9 = .ok (.aload_n 0, 1) := dk_42 (dk_at dksX9_deepCount_0 9 rfl rfl)
theorem dX9_deepCount_10 : decode cX9_deepCount 10 = .ok (.getfield 44, 3) := dk_180 0 44 (dk_at dksX9_deepCount_0 10 rfl rfl)
theorem dX9_deepCount_13 : decode cX9_deepCount 13 = .ok (.iload_n 1, 1) := dk_27 (dk_at dksX9_deepCount_0 13 rfl rfl)
theorem dX9_deepCount_14 : decode cX9_deepCount 14 = .ok (.iconst 0, 1) := dk_3 (dk_at dksX9_deepCount_0 14 rfl rfl)
theorem dX9_deepCount_15 : decode cX9_deepCount 15 = .ok (.bastore, 1) := dk_84 (dk_at dksX9_deepCount_0 15 rfl rfl)
theorem dX9_deepCount_16 : decode cX9_deepCount 16 = .ok (.iinc 1 1, 3) := dk_132 1 1 (dk_at dksX9_deepCount_0 16 rfl rfl)
theorem dX9_deepCount_19 : decode cX9_deepCount 19 = .ok (.goto (-17), 3) := dk_167 255 239 (dk_at dksX9_deepCount_0 19 rfl rfl)
theorem dX9_deepCount_22 : decode cX9_deepCount 22 = .ok (.iconst 1, 1) := dk_4 (dk_at dksX9_deepCount_0 22 rfl rfl)
theorem dX9_deepCount_23 : decode cX9_deepCount 23 = .ok (.istore_n 1, 1) := dk_60 (dk_at dksX9_deepCount_0 23 rfl rfl)
theorem dX9_deepCount_24 : decode cX9_deepCount 24 = .ok (.iconst 1, 1) := dk_4 (dk_at dksX9_deepCount_1 0 rfl rfl)
theorem dX9_deepCount_25 : decode cX9_deepCount 25 = .ok (.istore_n 2, 1) := dk_61 (dk_at dksX9_deepCount_1 1 rfl rfl)
theorem dX9_deepCount_26 : decode cX9_deepCount 26 = .ok (.aload_n 0, 1) := dk_42 (dk_at dksX9_deepCount_1 2 rfl rfl)
theorem dX9_deepCount_27 : decode cX9_deepCount 27 = .ok (.getfield 48, 3) := dk_180 0 48 (dk_at dksX9_deepCount_1 3 rfl rfl)
theorem dX9_deepCount_30 : decode cX9_deepCount 30 = .ok (.iconst 0, 1) := dk_3 (dk_at dksX9_deepCount_1 6 rfl rfl)
theorem dX9_deepCount_31 : decode cX9_deepCount 31 = .ok (.aload_n 0, 1) := dk_42 (dk_at dksX9_deepCount_1 7 rfl rfl)
theorem dX9_deepCount_32 : decode cX9_deepCount 32 = .ok (.invokevirtual 151, 3) := dk_182 0 151 (dk_at dksX9_deepCount_1 8 rfl rfl)
theorem dX9_deepCount_35 : decode cX9_deepCount 35 = .ok (.iastore, 1) := dk_79 (dk_at dksX9_deepCount_1 11 rfl rfl)
theorem dX9_deepCount_36 : decode cX9_deepCount 36 = .ok (.aload_n 0, 1) := dk_42 (dk_at dksX9_deepCount_1 12 rfl rfl)
theorem dX9_deepCount_37 : decode cX9_deepCount 37 = .ok (.getfield 44, 3) := dk_180 0 44 (dk_at dksX9_deepCount_1 13 rfl rfl)
theorem dX9_deepCount_40 : decode cX9_deepCount 40 = .ok (.aload_n 0, 1) := dk_42 (dk_at dksX9_deepCount_1 16 rfl rfl)
theorem dX9_deepCount_41 : decode cX9_deepCount 41 = .ok (.invokevirtual 151, 3) := dk_182 0 151 (dk_at dksX9_deepCount_1 17 rfl rfl)
theorem dX9_deepCount_44 : decode cX9_deepCount 44 = .ok (.iconst 1, 1) := dk_4 (dk_at dksX9_deepCount_1 20 rfl rfl)
theorem dX9_deepCount_45 : decode cX9_deepCount 45 = .ok (.bastore, 1) := dk_84 (dk_at dksX9_deepCount_1 21 rfl rfl)
theorem dX9_deepCount_46 : decode cX9_deepCount 46 = .ok (.iload_n 1, 1) := dk_27 (dk_at dksX9_deepCount_1 22 rfl rfl)
theorem dX9_deepCount_47 : decode cX9_deepCount 47 = .ok (.ifCond .le 87, 3) := dk_158 0 87 (dk_at dksX9_deepCount_2 0 rfl rfl)
theorem dX9_deepCount_50 : decode cX9_deepCount 50 = .ok (.iinc 1 (-1), 3) := dk_132 1 255 (dk_at dksX9_deepCount_2 3 rfl rfl)
theorem dX9_deepCount_53 : decode cX9_deepCount 53 = .ok (.aload_n 0, 1) := dk_42 (dk_at dksX9_deepCount_2 6 rfl rfl)
theorem dX9_deepCount_54 : decode cX9_deepCount 54 = .ok (.getfield 48, 3) := dk_180 0 48 (dk_at dksX9_deepCount_2 7 rfl rfl)
theorem dX9_deepCount_57 : decode cX9_deepCount 57 = .ok (.iload_n 1, 1) := dk_27 (dk_at dksX9_deepCount_2 10 rfl rfl)
theorem dX9_deepCount_58 : decode cX9_deepCount 58 = .ok (.iaload, 1) := dk_46 (dk_at dksX9_deepCount_2 11 rfl rfl)
theorem dX9_deepCount_59 : decode cX9_deepCount 59 = .ok (.istore_n 3, 1) := dk_62 (dk_at dksX9_deepCount_2 12 rfl rfl)
theorem dX9_deepCount_60 : decode cX9_deepCount 60 = .ok (.iconst 0, 1) := dk_3 (dk_at dksX9_deepCount_2 13 rfl rfl)
theorem dX9_deepCount_61 : decode cX9_deepCount 61 = .ok (.istore 4, 2) := dk_54 4 (dk_at dksX9_deepCount_2 14 rfl rfl)
theorem dX9_deepCount_63 : decode cX9_deepCount 63 = .ok (.iload 4, 2) := dk_21 4 (dk_at dksX9_deepCount_2 16 rfl rfl)
theorem dX9_deepCount_65 : decode cX9_deepCount 65 = .ok (.aload_n 0, 1) := dk_42 (dk_at dksX9_deepCount_2 18 rfl rfl)
theorem dX9_deepCount_66 : decode cX9_deepCount 66 = .ok (.getfield 7, 3) := dk_180 0 7 (dk_at dksX9_deepCount_2 19 rfl rfl)
theorem dX9_deepCount_69 : decode cX9_deepCount 69 = .ok (.iconst 1, 1) := dk_4 (dk_at dksX9_deepCount_2 22 rfl rfl)
theorem dX9_deepCount_70 : decode cX9_deepCount 70 = .ok (.iaload, 1) := dk_46 (dk_at dksX9_deepCount_2 23 rfl rfl)
theorem dX9_deepCount_71 : decode cX9_deepCount 71 = .ok (.if_icmp .ge 60, 3) := dk_162 0 60 (dk_at dksX9_deepCount_3 0 rfl rfl)
theorem dX9_deepCount_74 : decode cX9_deepCount 74 = .ok (.aload_n 0, 1) := dk_42 (dk_at dksX9_deepCount_3 3 rfl rfl)
theorem dX9_deepCount_75 : decode cX9_deepCount 75 = .ok (.iload_n 3, 1) := dk_29 (dk_at dksX9_deepCount_3 4 rfl rfl)
theorem dX9_deepCount_76 : decode cX9_deepCount 76 = .ok (.iload 4, 2) := dk_21 4 (dk_at dksX9_deepCount_3 5 rfl rfl)
theorem dX9_deepCount_78 : decode cX9_deepCount 78 = .ok (.invokevirtual 137, 3) := dk_182 0 137 (dk_at dksX9_deepCount_3 7 rfl rfl)
theorem dX9_deepCount_81 : decode cX9_deepCount 81 = .ok (.ifCond .ne 44, 3) := dk_154 0 44 (dk_at dksX9_deepCount_3 10 rfl rfl)
theorem dX9_deepCount_84 : decode cX9_deepCount 84 = .ok (.aload_n 0, 1) := dk_42 (dk_at dksX9_deepCount_3 13 rfl rfl)
theorem dX9_deepCount_85 : decode cX9_deepCount 85 = .ok (.getfield 44, 3) := dk_180 0 44 (dk_at dksX9_deepCount_3 14 rfl rfl)
theorem dX9_deepCount_88 : decode cX9_deepCount 88 = .ok (.aload_n 0, 1) := dk_42 (dk_at dksX9_deepCount_3 17 rfl rfl)
theorem dX9_deepCount_89 : decode cX9_deepCount 89 = .ok (.getfield 118, 3) := dk_180 0 118 (dk_at dksX9_deepCount_3 18 rfl rfl)
theorem dX9_deepCount_92 : decode cX9_deepCount 92 = .ok (.baload, 1) := dk_51 (dk_at dksX9_deepCount_3 21 rfl rfl)
theorem dX9_deepCount_93 : decode cX9_deepCount 93 = .ok (.ifCond .eq 6, 3) := dk_153 0 6 (dk_at dksX9_deepCount_4 0 rfl rfl)
theorem dX9_deepCount_96 : decode cX9_deepCount 96 = .ok (.goto 29, 3) := dk_167 0 29 (dk_at dksX9_deepCount_4 3 rfl rfl)
theorem dX9_deepCount_99 : decode cX9_deepCount 99 = .ok (.aload_n 0, 1) := dk_42 (dk_at dksX9_deepCount_4 6 rfl rfl)
theorem dX9_deepCount_100 : decode cX9_deepCount 100 = .ok (.getfield 44, 3) := dk_180 0 44 (dk_at dksX9_deepCount_4 7 rfl rfl)
theorem dX9_deepCount_103 : decode cX9_deepCount 103 = .ok (.aload_n 0, 1) := dk_42 (dk_at dksX9_deepCount_4 10 rfl rfl)
theorem dX9_deepCount_104 : decode cX9_deepCount 104 = .ok (.getfield 118, 3) := dk_180 0 118 (dk_at dksX9_deepCount_4 11 rfl rfl)
theorem dX9_deepCount_107 : decode cX9_deepCount 107 = .ok (.iconst 1, 1) := dk_4 (dk_at dksX9_deepCount_4 14 rfl rfl)
theorem dX9_deepCount_108 : decode cX9_deepCount 108 = .ok (.bastore, 1) := dk_84 (dk_at dksX9_deepCount_4 15 rfl rfl)
theorem dX9_deepCount_109 : decode cX9_deepCount 109 = .ok (.aload_n 0, 1) := dk_42 (dk_at dksX9_deepCount_4 16 rfl rfl)
theorem dX9_deepCount_110 : decode cX9_deepCount 110 = .ok (.getfield 48, 3) := dk_180 0 48 (dk_at dksX9_deepCount_4 17 rfl rfl)
theorem dX9_deepCount_113 : decode cX9_deepCount 113 = .ok (.iload_n 1, 1) := dk_27 (dk_at dksX9_deepCount_4 20 rfl rfl)
theorem dX9_deepCount_114 : decode cX9_deepCount 114 = .ok (.aload_n 0, 1) := dk_42 (dk_at dksX9_deepCount_4 21 rfl rfl)
theorem dX9_deepCount_115 : decode cX9_deepCount 115 = .ok (.getfield 118, 3) := dk_180 0 118 (dk_at dksX9_deepCount_5 0 rfl rfl)
theorem dX9_deepCount_118 : decode cX9_deepCount 118 = .ok (.iastore, 1) := dk_79 (dk_at dksX9_deepCount_5 3 rfl rfl)
theorem dX9_deepCount_119 : decode cX9_deepCount 119 = .ok (.iinc 1 1, 3) := dk_132 1 1 (dk_at dksX9_deepCount_5 4 rfl rfl)
theorem dX9_deepCount_122 : decode cX9_deepCount 122 = .ok (.iinc 2 1, 3) := dk_132 2 1 (dk_at dksX9_deepCount_5 7 rfl rfl)
theorem dX9_deepCount_125 : decode cX9_deepCount 125 = .ok (.iinc 4 1, 3) := dk_132 4 1 (dk_at dksX9_deepCount_5 10 rfl rfl)
theorem dX9_deepCount_128 : decode cX9_deepCount 128 = .ok (.goto (-65), 3) := dk_167 255 191 (dk_at dksX9_deepCount_5 13 rfl rfl)
theorem dX9_deepCount_131 : decode cX9_deepCount 131 = .ok (.goto (-85), 3) := dk_167 255 171 (dk_at dksX9_deepCount_5 16 rfl rfl)
theorem dX9_deepCount_134 : decode cX9_deepCount 134 = .ok (.iload_n 2, 1) := dk_28 (dk_at dksX9_deepCount_5 19 rfl rfl)
theorem dX9_deepCount_135 : decode cX9_deepCount 135 = .ok (.ireturn, 1) := dk_172 (dk_at dksX9_deepCount_5 20 rfl rfl)
abbrev cX9_meanValue : ByteArray := prog_41_method_125_code
def yX9_meanValue : MethodName := ⟨RX9, "meanValue", "()D"⟩
def dkwX9_meanValue_0 : List UInt8 := [42, 3, 181, 0, 78, 42, 16, 6, 5, 182, 1, 133, 135, 42, 180, 0, 7, 5, 46, 135, 111, 175]
abbrev dktX9_meanValue_0 : List UInt8 := dkwX9_meanValue_0 ++ []
theorem dksX9_meanValue_0 : cX9_meanValue.data.toList.drop 0 = dktX9_meanValue_0 := by decide +kernel
theorem dX9_meanValue_0 : decode cX9_meanValue 0 = .ok (.aload_n 0, 1) := dk_42 (dk_at dksX9_meanValue_0 0 rfl rfl)
theorem dX9_meanValue_1 : decode cX9_meanValue 1 = .ok (.iconst 0, 1) := dk_3 (dk_at dksX9_meanValue_0 1 rfl rfl)
theorem dX9_meanValue_2 : decode cX9_meanValue 2 = .ok (.putfield 78, 3) := dk_181 0 78 (dk_at dksX9_meanValue_0 2 rfl rfl)
theorem dX9_meanValue_5 : decode cX9_meanValue 5 = .ok (.aload_n 0, 1) := dk_42 (dk_at dksX9_meanValue_0 5 rfl rfl)
theorem dX9_meanValue_6 : decode cX9_meanValue 6 = .ok (.bipush 6, 2) := dk_16 6 (dk_at dksX9_meanValue_0 6 rfl rfl)
theorem dX9_meanValue_8 : decode cX9_meanValue 8 = .ok (.iconst 2, 1) := dk_5 (dk_at dksX9_meanValue_0 8 rfl rfl)
theorem dX9_meanValue_9 : decode cX9_meanValue 9 = .ok (.invokevirtual 389, 3) := dk_182 1 133 (dk_at dksX9_meanValue_0 9 rfl rfl)
theorem dX9_meanValue_12 : decode cX9_meanValue 12 = .ok (.i2d, 1) := dk_135 (dk_at dksX9_meanValue_0 12 rfl rfl)
theorem dX9_meanValue_13 : decode cX9_meanValue 13 = .ok (.aload_n 0, 1) := dk_42 (dk_at dksX9_meanValue_0 13 rfl rfl)
theorem dX9_meanValue_14 : decode cX9_meanValue 14 = .ok (.getfield 7, 3) := dk_180 0 7 (dk_at dksX9_meanValue_0 14 rfl rfl)
theorem dX9_meanValue_17 : decode cX9_meanValue 17 = .ok (.iconst 2, 1) := dk_5 (dk_at dksX9_meanValue_0 17 rfl rfl)
theorem dX9_meanValue_18 : decode cX9_meanValue 18 = .ok (.iaload, 1) := dk_46 (dk_at dksX9_meanValue_0 18 rfl rfl)
theorem dX9_meanValue_19 : decode cX9_meanValue 19 = .ok (.i2d, 1) := dk_135 (dk_at dksX9_meanValue_0 19 rfl rfl)
theorem dX9_meanValue_20 : decode cX9_meanValue 20 = .ok (.ddiv, 1) := dk_111 (dk_at dksX9_meanValue_0 20 rfl rfl)
theorem dX9_meanValue_21 : decode cX9_meanValue 21 = .ok (.dreturn, 1) := dk_175 (dk_at dksX9_meanValue_0 21 rfl rfl)
abbrev cX9_fire : ByteArray := prog_41_method_126_code
def yX9_fire : MethodName := ⟨RX9, "fire", "(I)I"⟩
def dkwX9_fire_1 : List UInt8 := [182, 1, 86, 172]
abbrev dktX9_fire_1 : List UInt8 := dkwX9_fire_1 ++ []
def dkwX9_fire_0 : List UInt8 := [42, 3, 181, 0, 78, 42, 27, 4, 182, 1, 114, 153, 0, 5, 3, 172, 42, 182, 1, 104, 42, 27]
abbrev dktX9_fire_0 : List UInt8 := dkwX9_fire_0 ++ dktX9_fire_1
theorem dksX9_fire_0 : cX9_fire.data.toList.drop 0 = dktX9_fire_0 := by decide +kernel
theorem dksX9_fire_1 : cX9_fire.data.toList.drop 22 = dktX9_fire_1 := dk_seg dksX9_fire_0 22 rfl rfl
theorem dX9_fire_0 : decode cX9_fire 0 = .ok (.aload_n 0, 1) := dk_42 (dk_at dksX9_fire_0 0 rfl rfl)
theorem dX9_fire_1 : decode cX9_fire 1 = .ok (.iconst 0, 1) := dk_3 (dk_at dksX9_fire_0 1 rfl rfl)
theorem dX9_fire_2 : decode cX9_fire 2 = .ok (.putfield 78, 3) := dk_181 0 78 (dk_at dksX9_fire_0 2 rfl rfl)
theorem dX9_fire_5 : decode cX9_fire 5 = .ok (.aload_n 0, 1) := dk_42 (dk_at dksX9_fire_0 5 rfl rfl)
theorem dX9_fire_6 : decode cX9_fire 6 = .ok (.iload_n 1, 1) := dk_27 (dk_at dksX9_fire_0 6 rfl rfl)
theorem dX9_fire_7 : decode cX9_fire 7 = .ok (.iconst 1, 1) := dk_4 (dk_at dksX9_fire_0 7 rfl rfl)
theorem dX9_fire_8 : decode cX9_fire 8 = .ok (.invokevirtual 370, 3) := dk_182 1 114 (dk_at dksX9_fire_0 8 rfl rfl)
theorem dX9_fire_11 : decode cX9_fire 11 = .ok (.ifCond .eq 5, 3) := dk_153 0 5 (dk_at dksX9_fire_0 11 rfl rfl)
theorem dX9_fire_14 : decode cX9_fire 14 = .ok (.iconst 0, 1) := dk_3 (dk_at dksX9_fire_0 14 rfl rfl)
theorem dX9_fire_15 : decode cX9_fire 15 = .ok (.ireturn, 1) := dk_172 (dk_at dksX9_fire_0 15 rfl rfl)
theorem dX9_fire_16 : decode cX9_fire 16 = .ok (.aload_n 0, 1) := dk_42 (dk_at dksX9_fire_0 16 rfl rfl)
theorem dX9_fire_17 : decode cX9_fire 17 = .ok (.invokevirtual 360, 3) := dk_182 1 104 (dk_at dksX9_fire_0 17 rfl rfl)
theorem dX9_fire_20 : decode cX9_fire 20 = .ok (.aload_n 0, 1) := dk_42 (dk_at dksX9_fire_0 20 rfl rfl)
theorem dX9_fire_21 : decode cX9_fire 21 = .ok (.iload_n 1, 1) := dk_27 (dk_at dksX9_fire_0 21 rfl rfl)
theorem dX9_fire_22 : decode cX9_fire 22 = .ok (.invokevirtual 342, 3) := dk_182 1 86 (dk_at dksX9_fire_1 0 rfl rfl)
theorem dX9_fire_25 : decode cX9_fire 25 = .ok (.ireturn, 1) := dk_172 (dk_at dksX9_fire_1 3 rfl rfl)
abbrev cX9_setValue : ByteArray := prog_41_method_127_code
def yX9_setValue : MethodName := ⟨RX9, "setValue", "(II)I"⟩
def dkwX9_setValue_3 : List UInt8 := [182, 1, 92, 172]
abbrev dktX9_setValue_3 : List UInt8 := dkwX9_setValue_3 ++ []
def dkwX9_setValue_2 : List UInt8 := [154, 0, 7, 4, 167, 0, 4, 3, 6, 182, 1, 110, 153, 0, 5, 3, 172, 42, 182, 1, 104, 42, 27, 28]
abbrev dktX9_setValue_2 : List UInt8 := dkwX9_setValue_2 ++ dktX9_setValue_3
def dkwX9_setValue_1 : List UInt8 := [154, 0, 7, 4, 167, 0, 4, 3, 5, 182, 1, 110, 154, 0, 25, 42, 42, 27, 28, 182, 1, 89]
abbrev dktX9_setValue_1 : List UInt8 := dkwX9_setValue_1 ++ dktX9_setValue_2
def dkwX9_setValue_0 : List UInt8 := [42, 3, 181, 0, 78, 42, 27, 5, 182, 1, 114, 154, 0, 48, 42, 28, 3, 16, 9, 184, 0, 127]
abbrev dktX9_setValue_0 : List UInt8 := dkwX9_setValue_0 ++ dktX9_setValue_1
theorem dksX9_setValue_0 : cX9_setValue.data.toList.drop 0 = dktX9_setValue_0 := by decide +kernel
theorem dksX9_setValue_1 : cX9_setValue.data.toList.drop 22 = dktX9_setValue_1 := dk_seg dksX9_setValue_0 22 rfl rfl
theorem dksX9_setValue_2 : cX9_setValue.data.toList.drop 44 = dktX9_setValue_2 := dk_seg dksX9_setValue_1 22 rfl rfl
theorem dksX9_setValue_3 : cX9_setValue.data.toList.drop 68 = dktX9_setValue_3 := dk_seg dksX9_setValue_2 24 rfl rfl
theorem dX9_setValue_0 : decode cX9_setValue 0 = .ok (.aload_n 0, 1) := dk_42 (dk_at dksX9_setValue_0 0 rfl rfl)
theorem dX9_setValue_1 : decode cX9_setValue 1 = .ok (.iconst 0, 1) := dk_3 (dk_at dksX9_setValue_0 1 rfl rfl)
theorem dX9_setValue_2 : decode cX9_setValue 2 = .ok (.putfield 78, 3) := dk_181 0 78 (dk_at dksX9_setValue_0 2 rfl rfl)
theorem dX9_setValue_5 : decode cX9_setValue 5 = .ok (.aload_n 0, 1) := dk_42 (dk_at dksX9_setValue_0 5 rfl rfl)
theorem dX9_setValue_6 : decode cX9_setValue 6 = .ok (.iload_n 1, 1) := dk_27 (dk_at dksX9_setValue_0 6 rfl rfl)
theorem dX9_setValue_7 : decode cX9_setValue 7 = .ok (.iconst 2, 1) := dk_5 (dk_at dksX9_setValue_0 7 rfl rfl)
theorem dX9_setValue_8 : decode cX9_setValue 8 = .ok (.invokevirtual 370, 3) := dk_182 1 114 (dk_at dksX9_setValue_0 8 rfl rfl)
theorem dX9_setValue_11 : decode cX9_setValue 11 = .ok (.ifCond .ne 48, 3) := dk_154 0 48 (dk_at dksX9_setValue_0 11 rfl rfl)
theorem dX9_setValue_14 : decode cX9_setValue 14 = .ok (.aload_n 0, 1) := dk_42 (dk_at dksX9_setValue_0 14 rfl rfl)
theorem dX9_setValue_15 : decode cX9_setValue 15 = .ok (.iload_n 2, 1) := dk_28 (dk_at dksX9_setValue_0 15 rfl rfl)
theorem dX9_setValue_16 : decode cX9_setValue 16 = .ok (.iconst 0, 1) := dk_3 (dk_at dksX9_setValue_0 16 rfl rfl)
theorem dX9_setValue_17 : decode cX9_setValue 17 = .ok (.bipush 9, 2) := dk_16 9 (dk_at dksX9_setValue_0 17 rfl rfl)
theorem dX9_setValue_19 : decode cX9_setValue 19 = .ok (.invokestatic 127, 3) := dk_184 0 127 (dk_at dksX9_setValue_0 19 rfl rfl)
theorem dX9_setValue_22 : decode cX9_setValue 22 = .ok (.ifCond .ne 7, 3) := dk_154 0 7 (dk_at dksX9_setValue_1 0 rfl rfl)
theorem dX9_setValue_25 : decode cX9_setValue 25 = .ok (.iconst 1, 1) := dk_4 (dk_at dksX9_setValue_1 3 rfl rfl)
theorem dX9_setValue_26 : decode cX9_setValue 26 = .ok (.goto 4, 3) := dk_167 0 4 (dk_at dksX9_setValue_1 4 rfl rfl)
theorem dX9_setValue_29 : decode cX9_setValue 29 = .ok (.iconst 0, 1) := dk_3 (dk_at dksX9_setValue_1 7 rfl rfl)
theorem dX9_setValue_30 : decode cX9_setValue 30 = .ok (.iconst 2, 1) := dk_5 (dk_at dksX9_setValue_1 8 rfl rfl)
theorem dX9_setValue_31 : decode cX9_setValue 31 = .ok (.invokevirtual 366, 3) := dk_182 1 110 (dk_at dksX9_setValue_1 9 rfl rfl)
theorem dX9_setValue_34 : decode cX9_setValue 34 = .ok (.ifCond .ne 25, 3) := dk_154 0 25 (dk_at dksX9_setValue_1 12 rfl rfl)
theorem dX9_setValue_37 : decode cX9_setValue 37 = .ok (.aload_n 0, 1) := dk_42 (dk_at dksX9_setValue_1 15 rfl rfl)
theorem dX9_setValue_38 : decode cX9_setValue 38 = .ok (.aload_n 0, 1) := dk_42 (dk_at dksX9_setValue_1 16 rfl rfl)
theorem dX9_setValue_39 : decode cX9_setValue 39 = .ok (.iload_n 1, 1) := dk_27 (dk_at dksX9_setValue_1 17 rfl rfl)
theorem dX9_setValue_40 : decode cX9_setValue 40 = .ok (.iload_n 2, 1) := dk_28 (dk_at dksX9_setValue_1 18 rfl rfl)
theorem dX9_setValue_41 : decode cX9_setValue 41 = .ok (.invokevirtual 345, 3) := dk_182 1 89 (dk_at dksX9_setValue_1 19 rfl rfl)
theorem dX9_setValue_44 : decode cX9_setValue 44 = .ok (.ifCond .ne 7, 3) := dk_154 0 7 (dk_at dksX9_setValue_2 0 rfl rfl)
theorem dX9_setValue_47 : decode cX9_setValue 47 = .ok (.iconst 1, 1) := dk_4 (dk_at dksX9_setValue_2 3 rfl rfl)
theorem dX9_setValue_48 : decode cX9_setValue 48 = .ok (.goto 4, 3) := dk_167 0 4 (dk_at dksX9_setValue_2 4 rfl rfl)
theorem dX9_setValue_51 : decode cX9_setValue 51 = .ok (.iconst 0, 1) := dk_3 (dk_at dksX9_setValue_2 7 rfl rfl)
theorem dX9_setValue_52 : decode cX9_setValue 52 = .ok (.iconst 3, 1) := dk_6 (dk_at dksX9_setValue_2 8 rfl rfl)
theorem dX9_setValue_53 : decode cX9_setValue 53 = .ok (.invokevirtual 366, 3) := dk_182 1 110 (dk_at dksX9_setValue_2 9 rfl rfl)
theorem dX9_setValue_56 : decode cX9_setValue 56 = .ok (.ifCond .eq 5, 3) := dk_153 0 5 (dk_at dksX9_setValue_2 12 rfl rfl)
theorem dX9_setValue_59 : decode cX9_setValue 59 = .ok (.iconst 0, 1) := dk_3 (dk_at dksX9_setValue_2 15 rfl rfl)
theorem dX9_setValue_60 : decode cX9_setValue 60 = .ok (.ireturn, 1) := dk_172 (dk_at dksX9_setValue_2 16 rfl rfl)
theorem dX9_setValue_61 : decode cX9_setValue 61 = .ok (.aload_n 0, 1) := dk_42 (dk_at dksX9_setValue_2 17 rfl rfl)
theorem dX9_setValue_62 : decode cX9_setValue 62 = .ok (.invokevirtual 360, 3) := dk_182 1 104 (dk_at dksX9_setValue_2 18 rfl rfl)
theorem dX9_setValue_65 : decode cX9_setValue 65 = .ok (.aload_n 0, 1) := dk_42 (dk_at dksX9_setValue_2 21 rfl rfl)
theorem dX9_setValue_66 : decode cX9_setValue 66 = .ok (.iload_n 1, 1) := dk_27 (dk_at dksX9_setValue_2 22 rfl rfl)
theorem dX9_setValue_67 : decode cX9_setValue 67 = .ok (.iload_n 2, 1) := dk_28 (dk_at dksX9_setValue_2 23 rfl rfl)
theorem dX9_setValue_68 : decode cX9_setValue 68 = .ok (.invokevirtual 348, 3) := dk_182 1 92 (dk_at dksX9_setValue_3 0 rfl rfl)
theorem dX9_setValue_71 : decode cX9_setValue 71 = .ok (.ireturn, 1) := dk_172 (dk_at dksX9_setValue_3 3 rfl rfl)
abbrev cX9_reset : ByteArray := prog_41_method_128_code
def yX9_reset : MethodName := ⟨RX9, "reset", "()I"⟩
def dkwX9_reset_0 : List UInt8 := [42, 3, 181, 0, 78, 42, 182, 1, 104, 42, 182, 1, 95, 172]
abbrev dktX9_reset_0 : List UInt8 := dkwX9_reset_0 ++ []
theorem dksX9_reset_0 : cX9_reset.data.toList.drop 0 = dktX9_reset_0 := by decide +kernel
theorem dX9_reset_0 : decode cX9_reset 0 = .ok (.aload_n 0, 1) := dk_42 (dk_at dksX9_reset_0 0 rfl rfl)
theorem dX9_reset_1 : decode cX9_reset 1 = .ok (.iconst 0, 1) := dk_3 (dk_at dksX9_reset_0 1 rfl rfl)
theorem dX9_reset_2 : decode cX9_reset 2 = .ok (.putfield 78, 3) := dk_181 0 78 (dk_at dksX9_reset_0 2 rfl rfl)
theorem dX9_reset_5 : decode cX9_reset 5 = .ok (.aload_n 0, 1) := dk_42 (dk_at dksX9_reset_0 5 rfl rfl)
theorem dX9_reset_6 : decode cX9_reset 6 = .ok (.invokevirtual 360, 3) := dk_182 1 104 (dk_at dksX9_reset_0 6 rfl rfl)
theorem dX9_reset_9 : decode cX9_reset 9 = .ok (.aload_n 0, 1) := dk_42 (dk_at dksX9_reset_0 9 rfl rfl)
theorem dX9_reset_10 : decode cX9_reset 10 = .ok (.invokevirtual 351, 3) := dk_182 1 95 (dk_at dksX9_reset_0 10 rfl rfl)
theorem dX9_reset_13 : decode cX9_reset 13 = .ok (.ireturn, 1) := dk_172 (dk_at dksX9_reset_0 13 rfl rfl)
abbrev cX9_clearCoverage : ByteArray := prog_41_method_129_code
def yX9_clearCoverage : MethodName := ⟨RX9, "clearCoverage", "()I"⟩
def dkwX9_clearCoverage_0 : List UInt8 := [42, 3, 181, 0, 78, 42, 182, 1, 104, 42, 182, 1, 98, 172]
abbrev dktX9_clearCoverage_0 : List UInt8 := dkwX9_clearCoverage_0 ++ []
theorem dksX9_clearCoverage_0 : cX9_clearCoverage.data.toList.drop 0 = dktX9_clearCoverage_0 := by decide +kernel
theorem dX9_clearCoverage_0 : decode cX9_clearCoverage 0 = .ok (.aload_n 0, 1) := dk_42 (dk_at dksX9_clearCoverage_0 0 rfl rfl)
theorem dX9_clearCoverage_1 : decode cX9_clearCoverage 1 = .ok (.iconst 0, 1) := dk_3 (dk_at dksX9_clearCoverage_0 1 rfl rfl)
theorem dX9_clearCoverage_2 : decode cX9_clearCoverage 2 = .ok (.putfield 78, 3) := dk_181 0 78 (dk_at dksX9_clearCoverage_0 2 rfl rfl)
theorem dX9_clearCoverage_5 : decode cX9_clearCoverage 5 = .ok (.aload_n 0, 1) := dk_42 (dk_at dksX9_clearCoverage_0 5 rfl rfl)
theorem dX9_clearCoverage_6 : decode cX9_clearCoverage 6 = .ok (.invokevirtual 360, 3) := dk_182 1 104 (dk_at dksX9_clearCoverage_0 6 rfl rfl)
theorem dX9_clearCoverage_9 : decode cX9_clearCoverage 9 = .ok (.aload_n 0, 1) := dk_42 (dk_at dksX9_clearCoverage_0 9 rfl rfl)
theorem dX9_clearCoverage_10 : decode cX9_clearCoverage 10 = .ok (.invokevirtual 354, 3) := dk_182 1 98 (dk_at dksX9_clearCoverage_0 10 rfl rfl)
theorem dX9_clearCoverage_13 : decode cX9_clearCoverage 13 = .ok (.ireturn, 1) := dk_172 (dk_at dksX9_clearCoverage_0 13 rfl rfl)
abbrev cX9_addAlways : ByteArray := prog_41_method_131_code
def yX9_addAlways : MethodName := ⟨RX9, "addAlways", "(III)I"⟩
def dkwX9_addAlways_3 : List UInt8 := [172, 42, 182, 1, 104, 42, 2, 27, 28, 29, 182, 0, 71, 172]
abbrev dktX9_addAlways_3 : List UInt8 := dkwX9_addAlways_3 ++ []
def dkwX9_addAlways_2 : List UInt8 := [42, 42, 27, 28, 29, 182, 1, 139, 154, 0, 7, 4, 167, 0, 4, 3, 6, 182, 1, 110, 153, 0, 5, 3]
abbrev dktX9_addAlways_2 : List UInt8 := dkwX9_addAlways_2 ++ dktX9_addAlways_3
def dkwX9_addAlways_1 : List UInt8 := [29, 3, 16, 9, 184, 0, 127, 154, 0, 7, 4, 167, 0, 4, 3, 5, 182, 1, 110, 153, 0, 5, 3, 172]
abbrev dktX9_addAlways_1 : List UInt8 := dkwX9_addAlways_1 ++ dktX9_addAlways_2
def dkwX9_addAlways_0 : List UInt8 := [42, 3, 181, 0, 78, 42, 27, 5, 182, 1, 114, 154, 0, 35, 42, 28, 3, 8, 184, 0, 127, 153, 0, 13]
abbrev dktX9_addAlways_0 : List UInt8 := dkwX9_addAlways_0 ++ dktX9_addAlways_1
theorem dksX9_addAlways_0 : cX9_addAlways.data.toList.drop 0 = dktX9_addAlways_0 := by decide +kernel
theorem dksX9_addAlways_1 : cX9_addAlways.data.toList.drop 24 = dktX9_addAlways_1 := dk_seg dksX9_addAlways_0 24 rfl rfl
theorem dksX9_addAlways_2 : cX9_addAlways.data.toList.drop 48 = dktX9_addAlways_2 := dk_seg dksX9_addAlways_1 24 rfl rfl
theorem dksX9_addAlways_3 : cX9_addAlways.data.toList.drop 72 = dktX9_addAlways_3 := dk_seg dksX9_addAlways_2 24 rfl rfl
theorem dX9_addAlways_0 : decode cX9_addAlways 0 = .ok (.aload_n 0, 1) := dk_42 (dk_at dksX9_addAlways_0 0 rfl rfl)
theorem dX9_addAlways_1 : decode cX9_addAlways 1 = .ok (.iconst 0, 1) := dk_3 (dk_at dksX9_addAlways_0 1 rfl rfl)
theorem dX9_addAlways_2 : decode cX9_addAlways 2 = .ok (.putfield 78, 3) := dk_181 0 78 (dk_at dksX9_addAlways_0 2 rfl rfl)
theorem dX9_addAlways_5 : decode cX9_addAlways 5 = .ok (.aload_n 0, 1) := dk_42 (dk_at dksX9_addAlways_0 5 rfl rfl)
theorem dX9_addAlways_6 : decode cX9_addAlways 6 = .ok (.iload_n 1, 1) := dk_27 (dk_at dksX9_addAlways_0 6 rfl rfl)
theorem dX9_addAlways_7 : decode cX9_addAlways 7 = .ok (.iconst 2, 1) := dk_5 (dk_at dksX9_addAlways_0 7 rfl rfl)
theorem dX9_addAlways_8 : decode cX9_addAlways 8 = .ok (.invokevirtual 370, 3) := dk_182 1 114 (dk_at dksX9_addAlways_0 8 rfl rfl)
theorem dX9_addAlways_11 : decode cX9_addAlways 11 = .ok (.ifCond .ne 35, 3) := dk_154 0 35 (dk_at dksX9_addAlways_0 11 rfl rfl)
theorem dX9_addAlways_14 : decode cX9_addAlways 14 = .ok (.aload_n 0, 1) := dk_42 (dk_at dksX9_addAlways_0 14 rfl rfl)
theorem dX9_addAlways_15 : decode cX9_addAlways 15 = .ok (.iload_n 2, 1) := dk_28 (dk_at dksX9_addAlways_0 15 rfl rfl)
theorem dX9_addAlways_16 : decode cX9_addAlways 16 = .ok (.iconst 0, 1) := dk_3 (dk_at dksX9_addAlways_0 16 rfl rfl)
theorem dX9_addAlways_17 : decode cX9_addAlways 17 = .ok (.iconst 5, 1) := dk_8 (dk_at dksX9_addAlways_0 17 rfl rfl)
theorem dX9_addAlways_18 : decode cX9_addAlways 18 = .ok (.invokestatic 127, 3) := dk_184 0 127 (dk_at dksX9_addAlways_0 18 rfl rfl)
theorem dX9_addAlways_21 : decode cX9_addAlways 21 = .ok (.ifCond .eq 13, 3) := dk_153 0 13 (dk_at dksX9_addAlways_0 21 rfl rfl)
theorem dX9_addAlways_24 : decode cX9_addAlways 24 = .ok (.iload_n 3, 1) := dk_29 (dk_at dksX9_addAlways_1 0 rfl rfl)
theorem dX9_addAlways_25 : decode cX9_addAlways 25 = .ok (.iconst 0, 1) := dk_3 (dk_at dksX9_addAlways_1 1 rfl rfl)
theorem dX9_addAlways_26 : decode cX9_addAlways 26 = .ok (.bipush 9, 2) := dk_16 9 (dk_at dksX9_addAlways_1 2 rfl rfl)
theorem dX9_addAlways_28 : decode cX9_addAlways 28 = .ok (.invokestatic 127, 3) := dk_184 0 127 (dk_at dksX9_addAlways_1 4 rfl rfl)
theorem dX9_addAlways_31 : decode cX9_addAlways 31 = .ok (.ifCond .ne 7, 3) := dk_154 0 7 (dk_at dksX9_addAlways_1 7 rfl rfl)
theorem dX9_addAlways_34 : decode cX9_addAlways 34 = .ok (.iconst 1, 1) := dk_4 (dk_at dksX9_addAlways_1 10 rfl rfl)
theorem dX9_addAlways_35 : decode cX9_addAlways 35 = .ok (.goto 4, 3) := dk_167 0 4 (dk_at dksX9_addAlways_1 11 rfl rfl)
theorem dX9_addAlways_38 : decode cX9_addAlways 38 = .ok (.iconst 0, 1) := dk_3 (dk_at dksX9_addAlways_1 14 rfl rfl)
theorem dX9_addAlways_39 : decode cX9_addAlways 39 = .ok (.iconst 2, 1) := dk_5 (dk_at dksX9_addAlways_1 15 rfl rfl)
theorem dX9_addAlways_40 : decode cX9_addAlways 40 = .ok (.invokevirtual 366, 3) := dk_182 1 110 (dk_at dksX9_addAlways_1 16 rfl rfl)
theorem dX9_addAlways_43 : decode cX9_addAlways 43 = .ok (.ifCond .eq 5, 3) := dk_153 0 5 (dk_at dksX9_addAlways_1 19 rfl rfl)
theorem dX9_addAlways_46 : decode cX9_addAlways 46 = .ok (.iconst 0, 1) := dk_3 (dk_at dksX9_addAlways_1 22 rfl rfl)
theorem dX9_addAlways_47 : decode cX9_addAlways 47 = .ok (.ireturn, 1) := dk_172 (dk_at dksX9_addAlways_1 23 rfl rfl)
theorem dX9_addAlways_48 : decode cX9_addAlways 48 = .ok (.aload_n 0, 1) := dk_42 (dk_at dksX9_addAlways_2 0 rfl rfl)
theorem dX9_addAlways_49 : decode cX9_addAlways 49 = .ok (.aload_n 0, 1) := dk_42 (dk_at dksX9_addAlways_2 1 rfl rfl)
theorem dX9_addAlways_50 : decode cX9_addAlways 50 = .ok (.iload_n 1, 1) := dk_27 (dk_at dksX9_addAlways_2 2 rfl rfl)
theorem dX9_addAlways_51 : decode cX9_addAlways 51 = .ok (.iload_n 2, 1) := dk_28 (dk_at dksX9_addAlways_2 3 rfl rfl)
theorem dX9_addAlways_52 : decode cX9_addAlways 52 = .ok (.iload_n 3, 1) := dk_29 (dk_at dksX9_addAlways_2 4 rfl rfl)
theorem dX9_addAlways_53 : decode cX9_addAlways 53 = .ok (.invokevirtual 395, 3) := dk_182 1 139 (dk_at dksX9_addAlways_2 5 rfl rfl)
theorem dX9_addAlways_56 : decode cX9_addAlways 56 = .ok (.ifCond .ne 7, 3) := dk_154 0 7 (dk_at dksX9_addAlways_2 8 rfl rfl)
theorem dX9_addAlways_59 : decode cX9_addAlways 59 = .ok (.iconst 1, 1) := dk_4 (dk_at dksX9_addAlways_2 11 rfl rfl)
theorem dX9_addAlways_60 : decode cX9_addAlways 60 = .ok (.goto 4, 3) := dk_167 0 4 (dk_at dksX9_addAlways_2 12 rfl rfl)
theorem dX9_addAlways_63 : decode cX9_addAlways 63 = .ok (.iconst 0, 1) := dk_3 (dk_at dksX9_addAlways_2 15 rfl rfl)
theorem dX9_addAlways_64 : decode cX9_addAlways 64 = .ok (.iconst 3, 1) := dk_6 (dk_at dksX9_addAlways_2 16 rfl rfl)
theorem dX9_addAlways_65 : decode cX9_addAlways 65 = .ok (.invokevirtual 366, 3) := dk_182 1 110 (dk_at dksX9_addAlways_2 17 rfl rfl)
theorem dX9_addAlways_68 : decode cX9_addAlways 68 = .ok (.ifCond .eq 5, 3) := dk_153 0 5 (dk_at dksX9_addAlways_2 20 rfl rfl)
theorem dX9_addAlways_71 : decode cX9_addAlways 71 = .ok (.iconst 0, 1) := dk_3 (dk_at dksX9_addAlways_2 23 rfl rfl)
theorem dX9_addAlways_72 : decode cX9_addAlways 72 = .ok (.ireturn, 1) := dk_172 (dk_at dksX9_addAlways_3 0 rfl rfl)
theorem dX9_addAlways_73 : decode cX9_addAlways 73 = .ok (.aload_n 0, 1) := dk_42 (dk_at dksX9_addAlways_3 1 rfl rfl)
theorem dX9_addAlways_74 : decode cX9_addAlways 74 = .ok (.invokevirtual 360, 3) := dk_182 1 104 (dk_at dksX9_addAlways_3 2 rfl rfl)
theorem dX9_addAlways_77 : decode cX9_addAlways 77 = .ok (.aload_n 0, 1) := dk_42 (dk_at dksX9_addAlways_3 5 rfl rfl)
theorem dX9_addAlways_78 : decode cX9_addAlways 78 = .ok (.iconst (-1), 1) := dk_2 (dk_at dksX9_addAlways_3 6 rfl rfl)
theorem dX9_addAlways_79 : decode cX9_addAlways 79 = .ok (.iload_n 1, 1) := dk_27 (dk_at dksX9_addAlways_3 7 rfl rfl)
theorem dX9_addAlways_80 : decode cX9_addAlways 80 = .ok (.iload_n 2, 1) := dk_28 (dk_at dksX9_addAlways_3 8 rfl rfl)
theorem dX9_addAlways_81 : decode cX9_addAlways 81 = .ok (.iload_n 3, 1) := dk_29 (dk_at dksX9_addAlways_3 9 rfl rfl)
theorem dX9_addAlways_82 : decode cX9_addAlways 82 = .ok (.invokevirtual 71, 3) := dk_182 0 71 (dk_at dksX9_addAlways_3 10 rfl rfl)
theorem dX9_addAlways_85 : decode cX9_addAlways 85 = .ok (.ireturn, 1) := dk_172 (dk_at dksX9_addAlways_3 13 rfl rfl)
abbrev cX9_mayKeep : ByteArray := prog_41_method_130_code
def yX9_mayKeep : MethodName := ⟨RX9, "mayKeep", "(III)Z"⟩
def dkwX9_mayKeep_2 : List UInt8 := [167, 0, 4, 3, 172]
abbrev dktX9_mayKeep_2 : List UInt8 := dkwX9_mayKeep_2 ++ []
def dkwX9_mayKeep_1 : List UInt8 := [184, 0, 95, 153, 0, 24, 42, 180, 0, 7, 16, 9, 27, 96, 46, 28, 29, 184, 0, 95, 153, 0, 7, 4]
abbrev dktX9_mayKeep_1 : List UInt8 := dkwX9_mayKeep_1 ++ dktX9_mayKeep_2
def dkwX9_mayKeep_0 : List UInt8 := [42, 180, 0, 7, 7, 46, 16, 12, 160, 0, 5, 3, 172, 42, 180, 0, 7, 16, 6, 27, 96, 46, 28, 29]
abbrev dktX9_mayKeep_0 : List UInt8 := dkwX9_mayKeep_0 ++ dktX9_mayKeep_1
theorem dksX9_mayKeep_0 : cX9_mayKeep.data.toList.drop 0 = dktX9_mayKeep_0 := by decide +kernel
theorem dksX9_mayKeep_1 : cX9_mayKeep.data.toList.drop 24 = dktX9_mayKeep_1 := dk_seg dksX9_mayKeep_0 24 rfl rfl
theorem dksX9_mayKeep_2 : cX9_mayKeep.data.toList.drop 48 = dktX9_mayKeep_2 := dk_seg dksX9_mayKeep_1 24 rfl rfl
theorem dX9_mayKeep_0 : decode cX9_mayKeep 0 = .ok (.aload_n 0, 1) := dk_42 (dk_at dksX9_mayKeep_0 0 rfl rfl)
theorem dX9_mayKeep_1 : decode cX9_mayKeep 1 = .ok (.getfield 7, 3) := dk_180 0 7 (dk_at dksX9_mayKeep_0 1 rfl rfl)
theorem dX9_mayKeep_4 : decode cX9_mayKeep 4 = .ok (.iconst 4, 1) := dk_7 (dk_at dksX9_mayKeep_0 4 rfl rfl)
theorem dX9_mayKeep_5 : decode cX9_mayKeep 5 = .ok (.iaload, 1) := dk_46 (dk_at dksX9_mayKeep_0 5 rfl rfl)
theorem dX9_mayKeep_6 : decode cX9_mayKeep 6 = .ok (.bipush 12, 2) := dk_16 12 (dk_at dksX9_mayKeep_0 6 rfl rfl)
theorem dX9_mayKeep_8 : decode cX9_mayKeep 8 = .ok (.if_icmp .ne 5, 3) := dk_160 0 5 (dk_at dksX9_mayKeep_0 8 rfl rfl)
theorem dX9_mayKeep_11 : decode cX9_mayKeep 11 = .ok (.iconst 0, 1) := dk_3 (dk_at dksX9_mayKeep_0 11 rfl rfl)
theorem dX9_mayKeep_12 : decode cX9_mayKeep 12 = .ok (.ireturn, 1) := dk_172 (dk_at dksX9_mayKeep_0 12 rfl rfl)
theorem dX9_mayKeep_13 : decode cX9_mayKeep 13 = .ok (.aload_n 0, 1) := dk_42 (dk_at dksX9_mayKeep_0 13 rfl rfl)
theorem dX9_mayKeep_14 : decode cX9_mayKeep 14 = .ok (.getfield 7, 3) := dk_180 0 7 (dk_at dksX9_mayKeep_0 14 rfl rfl)
theorem dX9_mayKeep_17 : decode cX9_mayKeep 17 = .ok (.bipush 6, 2) := dk_16 6 (dk_at dksX9_mayKeep_0 17 rfl rfl)
theorem dX9_mayKeep_19 : decode cX9_mayKeep 19 = .ok (.iload_n 1, 1) := dk_27 (dk_at dksX9_mayKeep_0 19 rfl rfl)
theorem dX9_mayKeep_20 : decode cX9_mayKeep 20 = .ok (.iadd, 1) := dk_96 (dk_at dksX9_mayKeep_0 20 rfl rfl)
theorem dX9_mayKeep_21 : decode cX9_mayKeep 21 = .ok (.iaload, 1) := dk_46 (dk_at dksX9_mayKeep_0 21 rfl rfl)
theorem dX9_mayKeep_22 : decode cX9_mayKeep 22 = .ok (.iload_n 2, 1) := dk_28 (dk_at dksX9_mayKeep_0 22 rfl rfl)
theorem dX9_mayKeep_23 : decode cX9_mayKeep 23 = .ok (.iload_n 3, 1) := dk_29 (dk_at dksX9_mayKeep_0 23 rfl rfl)
theorem dX9_mayKeep_24 : decode cX9_mayKeep 24 = .ok (.invokestatic 95, 3) := dk_184 0 95 (dk_at dksX9_mayKeep_1 0 rfl rfl)
theorem dX9_mayKeep_27 : decode cX9_mayKeep 27 = .ok (.ifCond .eq 24, 3) := dk_153 0 24 (dk_at dksX9_mayKeep_1 3 rfl rfl)
theorem dX9_mayKeep_30 : decode cX9_mayKeep 30 = .ok (.aload_n 0, 1) := dk_42 (dk_at dksX9_mayKeep_1 6 rfl rfl)
theorem dX9_mayKeep_31 : decode cX9_mayKeep 31 = .ok (.getfield 7, 3) := dk_180 0 7 (dk_at dksX9_mayKeep_1 7 rfl rfl)
theorem dX9_mayKeep_34 : decode cX9_mayKeep 34 = .ok (.bipush 9, 2) := dk_16 9 (dk_at dksX9_mayKeep_1 10 rfl rfl)
theorem dX9_mayKeep_36 : decode cX9_mayKeep 36 = .ok (.iload_n 1, 1) := dk_27 (dk_at dksX9_mayKeep_1 12 rfl rfl)
theorem dX9_mayKeep_37 : decode cX9_mayKeep 37 = .ok (.iadd, 1) := dk_96 (dk_at dksX9_mayKeep_1 13 rfl rfl)
theorem dX9_mayKeep_38 : decode cX9_mayKeep 38 = .ok (.iaload, 1) := dk_46 (dk_at dksX9_mayKeep_1 14 rfl rfl)
theorem dX9_mayKeep_39 : decode cX9_mayKeep 39 = .ok (.iload_n 2, 1) := dk_28 (dk_at dksX9_mayKeep_1 15 rfl rfl)
theorem dX9_mayKeep_40 : decode cX9_mayKeep 40 = .ok (.iload_n 3, 1) := dk_29 (dk_at dksX9_mayKeep_1 16 rfl rfl)
theorem dX9_mayKeep_41 : decode cX9_mayKeep 41 = .ok (.invokestatic 95, 3) := dk_184 0 95 (dk_at dksX9_mayKeep_1 17 rfl rfl)
theorem dX9_mayKeep_44 : decode cX9_mayKeep 44 = .ok (.ifCond .eq 7, 3) := dk_153 0 7 (dk_at dksX9_mayKeep_1 20 rfl rfl)
theorem dX9_mayKeep_47 : decode cX9_mayKeep 47 = .ok (.iconst 1, 1) := dk_4 (dk_at dksX9_mayKeep_1 23 rfl rfl)
theorem dX9_mayKeep_48 : decode cX9_mayKeep 48 = .ok (.goto 4, 3) := dk_167 0 4 (dk_at dksX9_mayKeep_2 0 rfl rfl)
theorem dX9_mayKeep_51 : decode cX9_mayKeep 51 = .ok (.iconst 0, 1) := dk_3 (dk_at dksX9_mayKeep_2 3 rfl rfl)
theorem dX9_mayKeep_52 : decode cX9_mayKeep 52 = .ok (.ireturn, 1) := dk_172 (dk_at dksX9_mayKeep_2 4 rfl rfl)
abbrev cX9_undo : ByteArray := prog_41_method_132_code
def yX9_undo : MethodName := ⟨RX9, "undo", "()I"⟩
def dkwX9_undo_2 : List UInt8 := [180, 0, 158, 104, 42, 180, 0, 7, 3, 184, 0, 161, 42, 180, 0, 158, 172]
abbrev dktX9_undo_2 : List UInt8 := dkwX9_undo_2 ++ []
def dkwX9_undo_1 : List UInt8 := [153, 0, 5, 3, 172, 42, 89, 180, 0, 158, 4, 100, 181, 0, 158, 42, 180, 0, 19, 17, 1, 248, 42]
abbrev dktX9_undo_1 : List UInt8 := dkwX9_undo_1 ++ dktX9_undo_2
def dkwX9_undo_0 : List UInt8 := [42, 3, 181, 0, 78, 42, 42, 180, 0, 158, 154, 0, 7, 4, 167, 0, 4, 3, 4, 182, 1, 110]
abbrev dktX9_undo_0 : List UInt8 := dkwX9_undo_0 ++ dktX9_undo_1
theorem dksX9_undo_0 : cX9_undo.data.toList.drop 0 = dktX9_undo_0 := by decide +kernel
theorem dksX9_undo_1 : cX9_undo.data.toList.drop 22 = dktX9_undo_1 := dk_seg dksX9_undo_0 22 rfl rfl
theorem dksX9_undo_2 : cX9_undo.data.toList.drop 45 = dktX9_undo_2 := dk_seg dksX9_undo_1 23 rfl rfl
theorem dX9_undo_0 : decode cX9_undo 0 = .ok (.aload_n 0, 1) := dk_42 (dk_at dksX9_undo_0 0 rfl rfl)
theorem dX9_undo_1 : decode cX9_undo 1 = .ok (.iconst 0, 1) := dk_3 (dk_at dksX9_undo_0 1 rfl rfl)
theorem dX9_undo_2 : decode cX9_undo 2 = .ok (.putfield 78, 3) := dk_181 0 78 (dk_at dksX9_undo_0 2 rfl rfl)
theorem dX9_undo_5 : decode cX9_undo 5 = .ok (.aload_n 0, 1) := dk_42 (dk_at dksX9_undo_0 5 rfl rfl)
theorem dX9_undo_6 : decode cX9_undo 6 = .ok (.aload_n 0, 1) := dk_42 (dk_at dksX9_undo_0 6 rfl rfl)
theorem dX9_undo_7 : decode cX9_undo 7 = .ok (.getfield 158, 3) := dk_180 0 158 (dk_at dksX9_undo_0 7 rfl rfl)
theorem dX9_undo_10 : decode cX9_undo 10 = .ok (.ifCond .ne 7, 3) := dk_154 0 7 (dk_at dksX9_undo_0 10 rfl rfl)
theorem dX9_undo_13 : decode cX9_undo 13 = .ok (.iconst 1, 1) := dk_4 (dk_at dksX9_undo_0 13 rfl rfl)
theorem dX9_undo_14 : decode cX9_undo 14 = .ok (.goto 4, 3) := dk_167 0 4 (dk_at dksX9_undo_0 14 rfl rfl)
theorem dX9_undo_17 : decode cX9_undo 17 = .ok (.iconst 0, 1) := dk_3 (dk_at dksX9_undo_0 17 rfl rfl)
theorem dX9_undo_18 : decode cX9_undo 18 = .ok (.iconst 1, 1) := dk_4 (dk_at dksX9_undo_0 18 rfl rfl)
theorem dX9_undo_19 : decode cX9_undo 19 = .ok (.invokevirtual 366, 3) := dk_182 1 110 (dk_at dksX9_undo_0 19 rfl rfl)
theorem dX9_undo_22 : decode cX9_undo 22 = .ok (.ifCond .eq 5, 3) := dk_153 0 5 (dk_at dksX9_undo_1 0 rfl rfl)
theorem dX9_undo_25 : decode cX9_undo 25 = .ok (.iconst 0, 1) := dk_3 (dk_at dksX9_undo_1 3 rfl rfl)
theorem dX9_undo_26 : decode cX9_undo 26 = .ok (.ireturn, 1) := dk_172 (dk_at dksX9_undo_1 4 rfl rfl)
theorem dX9_undo_27 : decode cX9_undo 27 = .ok (.aload_n 0, 1) := dk_42 (dk_at dksX9_undo_1 5 rfl rfl)
theorem dX9_undo_28 : decode cX9_undo 28 = .ok (.dup, 1) := dk_89 (dk_at dksX9_undo_1 6 rfl rfl)
theorem dX9_undo_29 : decode cX9_undo 29 = .ok (.getfield 158, 3) := dk_180 0 158 (dk_at dksX9_undo_1 7 rfl rfl)
theorem dX9_undo_32 : decode cX9_undo 32 = .ok (.iconst 1, 1) := dk_4 (dk_at dksX9_undo_1 10 rfl rfl)
theorem dX9_undo_33 : decode cX9_undo 33 = .ok (.isub, 1) := dk_100 (dk_at dksX9_undo_1 11 rfl rfl)
theorem dX9_undo_34 : decode cX9_undo 34 = .ok (.putfield 158, 3) := dk_181 0 158 (dk_at dksX9_undo_1 12 rfl rfl)
theorem dX9_undo_37 : decode cX9_undo 37 = .ok (.aload_n 0, 1) := dk_42 (dk_at dksX9_undo_1 15 rfl rfl)
theorem dX9_undo_38 : decode cX9_undo 38 = .ok (.getfield 19, 3) := dk_180 0 19 (dk_at dksX9_undo_1 16 rfl rfl)
theorem dX9_undo_41 : decode cX9_undo 41 = .ok (.sipush 504, 3) := dk_17 1 248 (dk_at dksX9_undo_1 19 rfl rfl)
theorem dX9_undo_44 : decode cX9_undo 44 = .ok (.aload_n 0, 1) := dk_42 (dk_at dksX9_undo_1 22 rfl rfl)
theorem dX9_undo_45 : decode cX9_undo 45 = .ok (.getfield 158, 3) := dk_180 0 158 (dk_at dksX9_undo_2 0 rfl rfl)
theorem dX9_undo_48 : decode cX9_undo 48 = .ok (.imul, 1) := dk_104 (dk_at dksX9_undo_2 3 rfl rfl)
theorem dX9_undo_49 : decode cX9_undo 49 = .ok (.aload_n 0, 1) := dk_42 (dk_at dksX9_undo_2 4 rfl rfl)
theorem dX9_undo_50 : decode cX9_undo 50 = .ok (.getfield 7, 3) := dk_180 0 7 (dk_at dksX9_undo_2 5 rfl rfl)
theorem dX9_undo_53 : decode cX9_undo 53 = .ok (.iconst 0, 1) := dk_3 (dk_at dksX9_undo_2 8 rfl rfl)
theorem dX9_undo_54 : decode cX9_undo 54 = .ok (.invokestatic 161, 3) := dk_184 0 161 (dk_at dksX9_undo_2 9 rfl rfl)
theorem dX9_undo_57 : decode cX9_undo 57 = .ok (.aload_n 0, 1) := dk_42 (dk_at dksX9_undo_2 12 rfl rfl)
theorem dX9_undo_58 : decode cX9_undo 58 = .ok (.getfield 158, 3) := dk_180 0 158 (dk_at dksX9_undo_2 13 rfl rfl)
theorem dX9_undo_61 : decode cX9_undo 61 = .ok (.ireturn, 1) := dk_172 (dk_at dksX9_undo_2 16 rfl rfl)
abbrev cX9_writeConfiguration : ByteArray := prog_41_method_135_code
def yX9_writeConfiguration : MethodName := ⟨RX9, "writeConfiguration", "()I"⟩
def dkwX9_writeConfiguration_3 : List UInt8 := [16, 6, 27, 96, 46, 96, 182, 1, 145, 132, 1, 1, 167, 255, 203, 42, 180, 1, 142, 172]
abbrev dktX9_writeConfiguration_3 : List UInt8 := dkwX9_writeConfiguration_3 ++ []
def dkwX9_writeConfiguration_2 : List UInt8 := [17, 1, 227, 16, 7, 27, 104, 96, 182, 1, 148, 42, 16, 61, 182, 1, 145, 42, 16, 48, 42, 180, 0, 7]
abbrev dktX9_writeConfiguration_2 : List UInt8 := dkwX9_writeConfiguration_2 ++ dktX9_writeConfiguration_3
def dkwX9_writeConfiguration_1 : List UInt8 := [182, 1, 148, 3, 60, 27, 42, 180, 0, 7, 5, 46, 162, 0, 49, 42, 16, 32, 182, 1, 145, 42]
abbrev dktX9_writeConfiguration_1 : List UInt8 := dkwX9_writeConfiguration_1 ++ dktX9_writeConfiguration_2
def dkwX9_writeConfiguration_0 : List UInt8 := [42, 3, 181, 0, 78, 42, 3, 181, 1, 142, 42, 17, 1, 101, 16, 7, 42, 180, 0, 7, 8, 46, 104, 96]
abbrev dktX9_writeConfiguration_0 : List UInt8 := dkwX9_writeConfiguration_0 ++ dktX9_writeConfiguration_1
theorem dksX9_writeConfiguration_0 : cX9_writeConfiguration.data.toList.drop 0 = dktX9_writeConfiguration_0 := by decide +kernel
theorem dksX9_writeConfiguration_1 : cX9_writeConfiguration.data.toList.drop 24 = dktX9_writeConfiguration_1 := dk_seg dksX9_writeConfiguration_0 24 rfl rfl
theorem dksX9_writeConfiguration_2 : cX9_writeConfiguration.data.toList.drop 46 = dktX9_writeConfiguration_2 := dk_seg dksX9_writeConfiguration_1 22 rfl rfl
theorem dksX9_writeConfiguration_3 : cX9_writeConfiguration.data.toList.drop 70 = dktX9_writeConfiguration_3 := dk_seg dksX9_writeConfiguration_2 24 rfl rfl
theorem dX9_writeConfiguration_0 : decode cX9_writeConfiguration 0 = .ok (.aload_n 0, 1) := dk_42 (dk_at dksX9_writeConfiguration_0 0 rfl rfl)
theorem dX9_writeConfiguration_1 : decode cX9_writeConfiguration 1 = .ok (.iconst 0, 1) := dk_3 (dk_at dksX9_writeConfiguration_0 1 rfl rfl)
theorem dX9_writeConfiguration_2 : decode cX9_writeConfiguration 2 = .ok (.putfield 78, 3) := dk_181 0 78 (dk_at dksX9_writeConfiguration_0 2 rfl rfl)
theorem dX9_writeConfiguration_5 : decode cX9_writeConfiguration 5 = .ok (.aload_n 0, 1) := dk_42 (dk_at dksX9_writeConfiguration_0 5 rfl rfl)
theorem dX9_writeConfiguration_6 : decode cX9_writeConfiguration 6 = .ok (.iconst 0, 1) := dk_3 (dk_at dksX9_writeConfiguration_0 6 rfl rfl)
theorem dX9_writeConfiguration_7 : decode cX9_writeConfiguration 7 = .ok (.putfield 398, 3) := dk_181 1 142 (dk_at dksX9_writeConfiguration_0 7 rfl rfl)
theorem dX9_writeConfiguration_10 : decode cX9_writeConfiguration 10 = .ok (.aload_n 0, 1) := dk_42 (dk_at dksX9_writeConfiguration_0 10 rfl rfl)
theorem dX9_writeConfiguration_11 : decode cX9_writeConfiguration 11 = .ok (.sipush 357, 3) := dk_17 1 101 (dk_at dksX9_writeConfiguration_0 11 rfl rfl)
theorem dX9_writeConfiguration_14 : decode cX9_writeConfiguration 14 = .ok (.bipush 7, 2) := dk_16 7 (dk_at dksX9_writeConfiguration_0 14 rfl rfl)
theorem dX9_writeConfiguration_16 : decode cX9_writeConfiguration 16 = .ok (.aload_n 0, 1) := dk_42 (dk_at dksX9_writeConfiguration_0 16 rfl rfl)
theorem dX9_writeConfiguration_17 : decode cX9_writeConfiguration 17 = .ok (.getfield 7, 3) := dk_180 0 7 (dk_at dksX9_writeConfiguration_0 17 rfl rfl)
theorem dX9_writeConfiguration_20 : decode cX9_writeConfiguration 20 = .ok (.iconst 5, 1) := dk_8 (dk_at dksX9_writeConfiguration_0 20 rfl rfl)
theorem dX9_writeConfiguration_21 : decode cX9_writeConfiguration 21 = .ok (.iaload, 1) := dk_46 (dk_at dksX9_writeConfiguration_0 21 rfl rfl)
theorem dX9_writeConfiguration_22 : decode cX9_writeConfiguration 22 = .ok (.imul, 1) := dk_104 (dk_at dksX9_writeConfiguration_0 22 rfl rfl)
theorem dX9_writeConfiguration_23 : decode cX9_writeConfiguration 23 = .ok (.iadd, 1) := dk_96 (dk_at dksX9_writeConfiguration_0 23 rfl rfl)
theorem dX9_writeConfiguration_24 : decode cX9_writeConfiguration 24 = .ok (.invokevirtual 404, 3) := dk_182 1 148 (dk_at dksX9_writeConfiguration_1 0 rfl rfl)
theorem dX9_writeConfiguration_27 : decode cX9_writeConfiguration 27 = .ok (.iconst 0, 1) := dk_3 (dk_at dksX9_writeConfiguration_1 3 rfl rfl)
theorem dX9_writeConfiguration_28 : decode cX9_writeConfiguration 28 = .ok (.istore_n 1, 1) := dk_60 (dk_at dksX9_writeConfiguration_1 4 rfl rfl)
theorem dX9_writeConfiguration_29 : decode cX9_writeConfiguration 29 = .ok (.iload_n 1, 1) := dk_27 (dk_at dksX9_writeConfiguration_1 5 rfl rfl)
theorem dX9_writeConfiguration_30 : decode cX9_writeConfiguration 30 = .ok (.aload_n 0, 1) := dk_42 (dk_at dksX9_writeConfiguration_1 6 rfl rfl)
theorem dX9_writeConfiguration_31 : decode cX9_writeConfiguration 31 = .ok (.getfield 7, 3) := dk_180 0 7 (dk_at dksX9_writeConfiguration_1 7 rfl rfl)
theorem dX9_writeConfiguration_34 : decode cX9_writeConfiguration 34 = .ok (.iconst 2, 1) := dk_5 (dk_at dksX9_writeConfiguration_1 10 rfl rfl)
theorem dX9_writeConfiguration_35 : decode cX9_writeConfiguration 35 = .ok (.iaload, 1) := dk_46 (dk_at dksX9_writeConfiguration_1 11 rfl rfl)
theorem dX9_writeConfiguration_36 : decode cX9_writeConfiguration 36 = .ok (.if_icmp .ge 49, 3) := dk_162 0 49 (dk_at dksX9_writeConfiguration_1 12 rfl rfl)
theorem dX9_writeConfiguration_39 : decode cX9_writeConfiguration 39 = .ok (.aload_n 0, 1) := dk_42 (dk_at dksX9_writeConfiguration_1 15 rfl rfl)
theorem dX9_writeConfiguration_40 : decode cX9_writeConfiguration 40 = .ok (.bipush 32, 2) := dk_16 32 (dk_at dksX9_writeConfiguration_1 16 rfl rfl)
theorem dX9_writeConfiguration_42 : decode cX9_writeConfiguration 42 = .ok (.invokevirtual 401, 3) := dk_182 1 145 (dk_at dksX9_writeConfiguration_1 18 rfl rfl)
theorem dX9_writeConfiguration_45 : decode cX9_writeConfiguration 45 = .ok (.aload_n 0, 1) := dk_42 (dk_at dksX9_writeConfiguration_1 21 rfl rfl)
theorem dX9_writeConfiguration_46 : decode cX9_writeConfiguration 46 = .ok (.sipush 483, 3) := dk_17 1 227 (dk_at dksX9_writeConfiguration_2 0 rfl rfl)
theorem dX9_writeConfiguration_49 : decode cX9_writeConfiguration 49 = .ok (.bipush 7, 2) := dk_16 7 (dk_at dksX9_writeConfiguration_2 3 rfl rfl)
theorem dX9_writeConfiguration_51 : decode cX9_writeConfiguration 51 = .ok (.iload_n 1, 1) := dk_27 (dk_at dksX9_writeConfiguration_2 5 rfl rfl)
theorem dX9_writeConfiguration_52 : decode cX9_writeConfiguration 52 = .ok (.imul, 1) := dk_104 (dk_at dksX9_writeConfiguration_2 6 rfl rfl)
theorem dX9_writeConfiguration_53 : decode cX9_writeConfiguration 53 = .ok (.iadd, 1) := dk_96 (dk_at dksX9_writeConfiguration_2 7 rfl rfl)
theorem dX9_writeConfiguration_54 : decode cX9_writeConfiguration 54 = .ok (.invokevirtual 404, 3) := dk_182 1 148 (dk_at dksX9_writeConfiguration_2 8 rfl rfl)
theorem dX9_writeConfiguration_57 : decode cX9_writeConfiguration 57 = .ok (.aload_n 0, 1) := dk_42 (dk_at dksX9_writeConfiguration_2 11 rfl rfl)
theorem dX9_writeConfiguration_58 : decode cX9_writeConfiguration 58 = .ok (.bipush 61, 2) := dk_16 61 (dk_at dksX9_writeConfiguration_2 12 rfl rfl)
theorem dX9_writeConfiguration_60 : decode cX9_writeConfiguration 60 = .ok (.invokevirtual 401, 3) := dk_182 1 145 (dk_at dksX9_writeConfiguration_2 14 rfl rfl)
theorem dX9_writeConfiguration_63 : decode cX9_writeConfiguration 63 = .ok (.aload_n 0, 1) := dk_42 (dk_at dksX9_writeConfiguration_2 17 rfl rfl)
theorem dX9_writeConfiguration_64 : decode cX9_writeConfiguration 64 = .ok (.bipush 48, 2) := dk_16 48 (dk_at dksX9_writeConfiguration_2 18 rfl rfl)
theorem dX9_writeConfiguration_66 : decode cX9_writeConfiguration 66 = .ok (.aload_n 0, 1) := dk_42 (dk_at dksX9_writeConfiguration_2 20 rfl rfl)
theorem dX9_writeConfiguration_67 : decode cX9_writeConfiguration 67 = .ok (.getfield 7, 3) := dk_180 0 7 (dk_at dksX9_writeConfiguration_2 21 rfl rfl)
theorem dX9_writeConfiguration_70 : decode cX9_writeConfiguration 70 = .ok (.bipush 6, 2) := dk_16 6 (dk_at dksX9_writeConfiguration_3 0 rfl rfl)
theorem dX9_writeConfiguration_72 : decode cX9_writeConfiguration 72 = .ok (.iload_n 1, 1) := dk_27 (dk_at dksX9_writeConfiguration_3 2 rfl rfl)
theorem dX9_writeConfiguration_73 : decode cX9_writeConfiguration 73 = .ok (.iadd, 1) := dk_96 (dk_at dksX9_writeConfiguration_3 3 rfl rfl)
theorem dX9_writeConfiguration_74 : decode cX9_writeConfiguration 74 = .ok (.iaload, 1) := dk_46 (dk_at dksX9_writeConfiguration_3 4 rfl rfl)
theorem dX9_writeConfiguration_75 : decode cX9_writeConfiguration 75 = .ok (.iadd, 1) := dk_96 (dk_at dksX9_writeConfiguration_3 5 rfl rfl)
theorem dX9_writeConfiguration_76 : decode cX9_writeConfiguration 76 = .ok (.invokevirtual 401, 3) := dk_182 1 145 (dk_at dksX9_writeConfiguration_3 6 rfl rfl)
theorem dX9_writeConfiguration_79 : decode cX9_writeConfiguration 79 = .ok (.iinc 1 1, 3) := dk_132 1 1 (dk_at dksX9_writeConfiguration_3 9 rfl rfl)
theorem dX9_writeConfiguration_82 : decode cX9_writeConfiguration 82 = .ok (.goto (-53), 3) := dk_167 255 203 (dk_at dksX9_writeConfiguration_3 12 rfl rfl)
theorem dX9_writeConfiguration_85 : decode cX9_writeConfiguration 85 = .ok (.aload_n 0, 1) := dk_42 (dk_at dksX9_writeConfiguration_3 15 rfl rfl)
theorem dX9_writeConfiguration_86 : decode cX9_writeConfiguration 86 = .ok (.getfield 398, 3) := dk_180 1 142 (dk_at dksX9_writeConfiguration_3 16 rfl rfl)
theorem dX9_writeConfiguration_89 : decode cX9_writeConfiguration 89 = .ok (.ireturn, 1) := dk_172 (dk_at dksX9_writeConfiguration_3 19 rfl rfl)
abbrev cX9_writeName : ByteArray := prog_41_method_134_code
def yX9_writeName : MethodName := ⟨RX9, "writeName", "(I)V"⟩
def dkwX9_writeName_1 : List UInt8 := [182, 1, 145, 132, 2, 1, 167, 255, 229, 177]
abbrev dktX9_writeName_1 : List UInt8 := dkwX9_writeName_1 ++ []
def dkwX9_writeName_0 : List UInt8 := [3, 61, 28, 42, 180, 0, 7, 27, 46, 162, 0, 23, 42, 42, 180, 0, 7, 27, 4, 96, 28, 96, 46]
abbrev dktX9_writeName_0 : List UInt8 := dkwX9_writeName_0 ++ dktX9_writeName_1
theorem dksX9_writeName_0 : cX9_writeName.data.toList.drop 0 = dktX9_writeName_0 := by decide +kernel
theorem dksX9_writeName_1 : cX9_writeName.data.toList.drop 23 = dktX9_writeName_1 := dk_seg dksX9_writeName_0 23 rfl rfl
theorem dX9_writeName_0 : decode cX9_writeName 0 = .ok (.iconst 0, 1) := dk_3 (dk_at dksX9_writeName_0 0 rfl rfl)
theorem dX9_writeName_1 : decode cX9_writeName 1 = .ok (.istore_n 2, 1) := dk_61 (dk_at dksX9_writeName_0 1 rfl rfl)
theorem dX9_writeName_2 : decode cX9_writeName 2 = .ok (.iload_n 2, 1) := dk_28 (dk_at dksX9_writeName_0 2 rfl rfl)
theorem dX9_writeName_3 : decode cX9_writeName 3 = .ok (.aload_n 0, 1) := dk_42 (dk_at dksX9_writeName_0 3 rfl rfl)
theorem dX9_writeName_4 : decode cX9_writeName 4 = .ok (.getfield 7, 3) := dk_180 0 7 (dk_at dksX9_writeName_0 4 rfl rfl)
theorem dX9_writeName_7 : decode cX9_writeName 7 = .ok (.iload_n 1, 1) := dk_27 (dk_at dksX9_writeName_0 7 rfl rfl)
theorem dX9_writeName_8 : decode cX9_writeName 8 = .ok (.iaload, 1) := dk_46 (dk_at dksX9_writeName_0 8 rfl rfl)
theorem dX9_writeName_9 : decode cX9_writeName 9 = .ok (.if_icmp .ge 23, 3) := dk_162 0 23 (dk_at dksX9_writeName_0 9 rfl rfl)
theorem dX9_writeName_12 : decode cX9_writeName 12 = .ok (.aload_n 0, 1) := dk_42 (dk_at dksX9_writeName_0 12 rfl rfl)
theorem dX9_writeName_13 : decode cX9_writeName 13 = .ok (.aload_n 0, 1) := dk_42 (dk_at dksX9_writeName_0 13 rfl rfl)
theorem dX9_writeName_14 : decode cX9_writeName 14 = .ok (.getfield 7, 3) := dk_180 0 7 (dk_at dksX9_writeName_0 14 rfl rfl)
theorem dX9_writeName_17 : decode cX9_writeName 17 = .ok (.iload_n 1, 1) := dk_27 (dk_at dksX9_writeName_0 17 rfl rfl)
theorem dX9_writeName_18 : decode cX9_writeName 18 = .ok (.iconst 1, 1) := dk_4 (dk_at dksX9_writeName_0 18 rfl rfl)
theorem dX9_writeName_19 : decode cX9_writeName 19 = .ok (.iadd, 1) := dk_96 (dk_at dksX9_writeName_0 19 rfl rfl)
theorem dX9_writeName_20 : decode cX9_writeName 20 = .ok (.iload_n 2, 1) := dk_28 (dk_at dksX9_writeName_0 20 rfl rfl)
theorem dX9_writeName_21 : decode cX9_writeName 21 = .ok (.iadd, 1) := dk_96 (dk_at dksX9_writeName_0 21 rfl rfl)
theorem dX9_writeName_22 : decode cX9_writeName 22 = .ok (.iaload, 1) := dk_46 (dk_at dksX9_writeName_0 22 rfl rfl)
theorem dX9_writeName_23 : decode cX9_writeName 23 = .ok (.invokevirtual 401, 3) := dk_182 1 145 (dk_at dksX9_writeName_1 0 rfl rfl)
theorem dX9_writeName_26 : decode cX9_writeName 26 = .ok (.iinc 2 1, 3) := dk_132 2 1 (dk_at dksX9_writeName_1 3 rfl rfl)
theorem dX9_writeName_29 : decode cX9_writeName 29 = .ok (.goto (-27), 3) := dk_167 255 229 (dk_at dksX9_writeName_1 6 rfl rfl)
theorem dX9_writeName_32 : decode cX9_writeName 32 = .ok (.return_, 1) := dk_177 (dk_at dksX9_writeName_1 9 rfl rfl)
abbrev cX9_write : ByteArray := prog_41_method_133_code
def yX9_write : MethodName := ⟨RX9, "write", "(I)V"⟩
def dkwX9_write_0 : List UInt8 := [42, 180, 0, 51, 42, 180, 1, 142, 27, 79, 42, 89, 180, 1, 142, 4, 96, 181, 1, 142, 177]
abbrev dktX9_write_0 : List UInt8 := dkwX9_write_0 ++ []
theorem dksX9_write_0 : cX9_write.data.toList.drop 0 = dktX9_write_0 := by decide +kernel
theorem dX9_write_0 : decode cX9_write 0 = .ok (.aload_n 0, 1) := dk_42 (dk_at dksX9_write_0 0 rfl rfl)
theorem dX9_write_1 : decode cX9_write 1 = .ok (.getfield 51, 3) := dk_180 0 51 (dk_at dksX9_write_0 1 rfl rfl)
theorem dX9_write_4 : decode cX9_write 4 = .ok (.aload_n 0, 1) := dk_42 (dk_at dksX9_write_0 4 rfl rfl)
theorem dX9_write_5 : decode cX9_write 5 = .ok (.getfield 398, 3) := dk_180 1 142 (dk_at dksX9_write_0 5 rfl rfl)
theorem dX9_write_8 : decode cX9_write 8 = .ok (.iload_n 1, 1) := dk_27 (dk_at dksX9_write_0 8 rfl rfl)
theorem dX9_write_9 : decode cX9_write 9 = .ok (.iastore, 1) := dk_79 (dk_at dksX9_write_0 9 rfl rfl)
theorem dX9_write_10 : decode cX9_write 10 = .ok (.aload_n 0, 1) := dk_42 (dk_at dksX9_write_0 10 rfl rfl)
theorem dX9_write_11 : decode cX9_write 11 = .ok (.dup, 1) := dk_89 (dk_at dksX9_write_0 11 rfl rfl)
theorem dX9_write_12 : decode cX9_write 12 = .ok (.getfield 398, 3) := dk_180 1 142 (dk_at dksX9_write_0 12 rfl rfl)
theorem dX9_write_15 : decode cX9_write 15 = .ok (.iconst 1, 1) := dk_4 (dk_at dksX9_write_0 15 rfl rfl)
theorem dX9_write_16 : decode cX9_write 16 = .ok (.iadd, 1) := dk_96 (dk_at dksX9_write_0 16 rfl rfl)
theorem dX9_write_17 : decode cX9_write 17 = .ok (.putfield 398, 3) := dk_181 1 142 (dk_at dksX9_write_0 17 rfl rfl)
theorem dX9_write_20 : decode cX9_write 20 = .ok (.return_, 1) := dk_177 (dk_at dksX9_write_0 20 rfl rfl)
abbrev cX9_outputByte : ByteArray := prog_41_method_136_code
def yX9_outputByte : MethodName := ⟨RX9, "outputByte", "(I)I"⟩
def dkwX9_outputByte_1 : List UInt8 := [46, 167, 0, 4, 2, 172]
abbrev dktX9_outputByte_1 : List UInt8 := dkwX9_outputByte_1 ++ []
def dkwX9_outputByte_0 : List UInt8 := [42, 3, 181, 0, 78, 27, 3, 42, 180, 1, 142, 4, 100, 184, 0, 127, 153, 0, 12, 42, 180, 0, 51, 27]
abbrev dktX9_outputByte_0 : List UInt8 := dkwX9_outputByte_0 ++ dktX9_outputByte_1
theorem dksX9_outputByte_0 : cX9_outputByte.data.toList.drop 0 = dktX9_outputByte_0 := by decide +kernel
theorem dksX9_outputByte_1 : cX9_outputByte.data.toList.drop 24 = dktX9_outputByte_1 := dk_seg dksX9_outputByte_0 24 rfl rfl
theorem dX9_outputByte_0 : decode cX9_outputByte 0 = .ok (.aload_n 0, 1) := dk_42 (dk_at dksX9_outputByte_0 0 rfl rfl)
theorem dX9_outputByte_1 : decode cX9_outputByte 1 = .ok (.iconst 0, 1) := dk_3 (dk_at dksX9_outputByte_0 1 rfl rfl)
theorem dX9_outputByte_2 : decode cX9_outputByte 2 = .ok (.putfield 78, 3) := dk_181 0 78 (dk_at dksX9_outputByte_0 2 rfl rfl)
theorem dX9_outputByte_5 : decode cX9_outputByte 5 = .ok (.iload_n 1, 1) := dk_27 (dk_at dksX9_outputByte_0 5 rfl rfl)
theorem dX9_outputByte_6 : decode cX9_outputByte 6 = .ok (.iconst 0, 1) := dk_3 (dk_at dksX9_outputByte_0 6 rfl rfl)
theorem dX9_outputByte_7 : decode cX9_outputByte 7 = .ok (.aload_n 0, 1) := dk_42 (dk_at dksX9_outputByte_0 7 rfl rfl)
theorem dX9_outputByte_8 : decode cX9_outputByte 8 = .ok (.getfield 398, 3) := dk_180 1 142 (dk_at dksX9_outputByte_0 8 rfl rfl)
theorem dX9_outputByte_11 : decode cX9_outputByte 11 = .ok (.iconst 1, 1) := dk_4 (dk_at dksX9_outputByte_0 11 rfl rfl)
theorem dX9_outputByte_12 : decode cX9_outputByte 12 = .ok (.isub, 1) := dk_100 (dk_at dksX9_outputByte_0 12 rfl rfl)
theorem dX9_outputByte_13 : decode cX9_outputByte 13 = .ok (.invokestatic 127, 3) := dk_184 0 127 (dk_at dksX9_outputByte_0 13 rfl rfl)
theorem dX9_outputByte_16 : decode cX9_outputByte 16 = .ok (.ifCond .eq 12, 3) := dk_153 0 12 (dk_at dksX9_outputByte_0 16 rfl rfl)
theorem dX9_outputByte_19 : decode cX9_outputByte 19 = .ok (.aload_n 0, 1) := dk_42 (dk_at dksX9_outputByte_0 19 rfl rfl)
theorem dX9_outputByte_20 : decode cX9_outputByte 20 = .ok (.getfield 51, 3) := dk_180 0 51 (dk_at dksX9_outputByte_0 20 rfl rfl)
theorem dX9_outputByte_23 : decode cX9_outputByte 23 = .ok (.iload_n 1, 1) := dk_27 (dk_at dksX9_outputByte_0 23 rfl rfl)
theorem dX9_outputByte_24 : decode cX9_outputByte 24 = .ok (.iaload, 1) := dk_46 (dk_at dksX9_outputByte_1 0 rfl rfl)
theorem dX9_outputByte_25 : decode cX9_outputByte 25 = .ok (.goto 4, 3) := dk_167 0 4 (dk_at dksX9_outputByte_1 1 rfl rfl)
theorem dX9_outputByte_28 : decode cX9_outputByte 28 = .ok (.iconst (-1), 1) := dk_2 (dk_at dksX9_outputByte_1 4 rfl rfl)
theorem dX9_outputByte_29 : decode cX9_outputByte 29 = .ok (.ireturn, 1) := dk_172 (dk_at dksX9_outputByte_1 5 rfl rfl)
abbrev cX9_saveState : ByteArray := prog_41_method_137_code
def yX9_saveState : MethodName := ⟨RX9, "saveState", "()I"⟩
def dkwX9_saveState_1 : List UInt8 := [180, 0, 7, 8, 46, 172]
abbrev dktX9_saveState_1 : List UInt8 := dkwX9_saveState_1 ++ []
def dkwX9_saveState_0 : List UInt8 := [42, 3, 181, 0, 78, 42, 180, 0, 7, 3, 42, 180, 0, 16, 3, 184, 0, 161, 42, 4, 181, 1, 70, 42]
abbrev dktX9_saveState_0 : List UInt8 := dkwX9_saveState_0 ++ dktX9_saveState_1
theorem dksX9_saveState_0 : cX9_saveState.data.toList.drop 0 = dktX9_saveState_0 := by decide +kernel
theorem dksX9_saveState_1 : cX9_saveState.data.toList.drop 24 = dktX9_saveState_1 := dk_seg dksX9_saveState_0 24 rfl rfl
theorem dX9_saveState_0 : decode cX9_saveState 0 = .ok (.aload_n 0, 1) := dk_42 (dk_at dksX9_saveState_0 0 rfl rfl)
theorem dX9_saveState_1 : decode cX9_saveState 1 = .ok (.iconst 0, 1) := dk_3 (dk_at dksX9_saveState_0 1 rfl rfl)
theorem dX9_saveState_2 : decode cX9_saveState 2 = .ok (.putfield 78, 3) := dk_181 0 78 (dk_at dksX9_saveState_0 2 rfl rfl)
theorem dX9_saveState_5 : decode cX9_saveState 5 = .ok (.aload_n 0, 1) := dk_42 (dk_at dksX9_saveState_0 5 rfl rfl)
theorem dX9_saveState_6 : decode cX9_saveState 6 = .ok (.getfield 7, 3) := dk_180 0 7 (dk_at dksX9_saveState_0 6 rfl rfl)
theorem dX9_saveState_9 : decode cX9_saveState 9 = .ok (.iconst 0, 1) := dk_3 (dk_at dksX9_saveState_0 9 rfl rfl)
theorem dX9_saveState_10 : decode cX9_saveState 10 = .ok (.aload_n 0, 1) := dk_42 (dk_at dksX9_saveState_0 10 rfl rfl)
theorem dX9_saveState_11 : decode cX9_saveState 11 = .ok (.getfield 16, 3) := dk_180 0 16 (dk_at dksX9_saveState_0 11 rfl rfl)
theorem dX9_saveState_14 : decode cX9_saveState 14 = .ok (.iconst 0, 1) := dk_3 (dk_at dksX9_saveState_0 14 rfl rfl)
theorem dX9_saveState_15 : decode cX9_saveState 15 = .ok (.invokestatic 161, 3) := dk_184 0 161 (dk_at dksX9_saveState_0 15 rfl rfl)
theorem dX9_saveState_18 : decode cX9_saveState 18 = .ok (.aload_n 0, 1) := dk_42 (dk_at dksX9_saveState_0 18 rfl rfl)
theorem dX9_saveState_19 : decode cX9_saveState 19 = .ok (.iconst 1, 1) := dk_4 (dk_at dksX9_saveState_0 19 rfl rfl)
theorem dX9_saveState_20 : decode cX9_saveState 20 = .ok (.putfield 326, 3) := dk_181 1 70 (dk_at dksX9_saveState_0 20 rfl rfl)
theorem dX9_saveState_23 : decode cX9_saveState 23 = .ok (.aload_n 0, 1) := dk_42 (dk_at dksX9_saveState_0 23 rfl rfl)
theorem dX9_saveState_24 : decode cX9_saveState 24 = .ok (.getfield 7, 3) := dk_180 0 7 (dk_at dksX9_saveState_1 0 rfl rfl)
theorem dX9_saveState_27 : decode cX9_saveState 27 = .ok (.iconst 5, 1) := dk_8 (dk_at dksX9_saveState_1 3 rfl rfl)
theorem dX9_saveState_28 : decode cX9_saveState 28 = .ok (.iaload, 1) := dk_46 (dk_at dksX9_saveState_1 4 rfl rfl)
theorem dX9_saveState_29 : decode cX9_saveState 29 = .ok (.ireturn, 1) := dk_172 (dk_at dksX9_saveState_1 5 rfl rfl)
abbrev cX9_restoreState : ByteArray := prog_41_method_138_code
def yX9_restoreState : MethodName := ⟨RX9, "restoreState", "()I"⟩
def dkwX9_restoreState_2 : List UInt8 := [180, 0, 7, 8, 46, 172]
abbrev dktX9_restoreState_2 : List UInt8 := dkwX9_restoreState_2 ++ []
def dkwX9_restoreState_1 : List UInt8 := [153, 0, 5, 3, 172, 42, 180, 0, 16, 3, 42, 180, 0, 7, 3, 184, 0, 161, 42, 3, 181, 0, 158, 42]
abbrev dktX9_restoreState_1 : List UInt8 := dkwX9_restoreState_1 ++ dktX9_restoreState_2
def dkwX9_restoreState_0 : List UInt8 := [42, 3, 181, 0, 78, 42, 42, 180, 1, 70, 154, 0, 7, 4, 167, 0, 4, 3, 4, 182, 1, 110]
abbrev dktX9_restoreState_0 : List UInt8 := dkwX9_restoreState_0 ++ dktX9_restoreState_1
theorem dksX9_restoreState_0 : cX9_restoreState.data.toList.drop 0 = dktX9_restoreState_0 := by decide +kernel
theorem dksX9_restoreState_1 : cX9_restoreState.data.toList.drop 22 = dktX9_restoreState_1 := dk_seg dksX9_restoreState_0 22 rfl rfl
theorem dksX9_restoreState_2 : cX9_restoreState.data.toList.drop 46 = dktX9_restoreState_2 := dk_seg dksX9_restoreState_1 24 rfl rfl
theorem dX9_restoreState_0 : decode cX9_restoreState 0 = .ok (.aload_n 0, 1) := dk_42 (dk_at dksX9_restoreState_0 0 rfl rfl)
theorem dX9_restoreState_1 : decode cX9_restoreState 1 = .ok (.iconst 0, 1) := dk_3 (dk_at dksX9_restoreState_0 1 rfl rfl)
theorem dX9_restoreState_2 : decode cX9_restoreState 2 = .ok (.putfield 78, 3) := dk_181 0 78 (dk_at dksX9_restoreState_0 2 rfl rfl)
theorem dX9_restoreState_5 : decode cX9_restoreState 5 = .ok (.aload_n 0, 1) := dk_42 (dk_at dksX9_restoreState_0 5 rfl rfl)
theorem dX9_restoreState_6 : decode cX9_restoreState 6 = .ok (.aload_n 0, 1) := dk_42 (dk_at dksX9_restoreState_0 6 rfl rfl)
theorem dX9_restoreState_7 : decode cX9_restoreState 7 = .ok (.getfield 326, 3) := dk_180 1 70 (dk_at dksX9_restoreState_0 7 rfl rfl)
theorem dX9_restoreState_10 : decode cX9_restoreState 10 = .ok (.ifCond .ne 7, 3) := dk_154 0 7 (dk_at dksX9_restoreState_0 10 rfl rfl)
theorem dX9_restoreState_13 : decode cX9_restoreState 13 = .ok (.iconst 1, 1) := dk_4 (dk_at dksX9_restoreState_0 13 rfl rfl)
theorem dX9_restoreState_14 : decode cX9_restoreState 14 = .ok (.goto 4, 3) := dk_167 0 4 (dk_at dksX9_restoreState_0 14 rfl rfl)
theorem dX9_restoreState_17 : decode cX9_restoreState 17 = .ok (.iconst 0, 1) := dk_3 (dk_at dksX9_restoreState_0 17 rfl rfl)
theorem dX9_restoreState_18 : decode cX9_restoreState 18 = .ok (.iconst 1, 1) := dk_4 (dk_at dksX9_restoreState_0 18 rfl rfl)
theorem dX9_restoreState_19 : decode cX9_restoreState 19 = .ok (.invokevirtual 366, 3) := dk_182 1 110 (dk_at dksX9_restoreState_0 19 rfl rfl)
theorem dX9_restoreState_22 : decode cX9_restoreState 22 = .ok (.ifCond .eq 5, 3) := dk_153 0 5 (dk_at dksX9_restoreState_1 0 rfl rfl)
theorem dX9_restoreState_25 : decode cX9_restoreState 25 = .ok (.iconst 0, 1) := dk_3 (dk_at dksX9_restoreState_1 3 rfl rfl)
theorem dX9_restoreState_26 : decode cX9_restoreState 26 = .ok (.ireturn, 1) := dk_172 (dk_at dksX9_restoreState_1 4 rfl rfl)
theorem dX9_restoreState_27 : decode cX9_restoreState 27 = .ok (.aload_n 0, 1) := dk_42 (dk_at dksX9_restoreState_1 5 rfl rfl)
theorem dX9_restoreState_28 : decode cX9_restoreState 28 = .ok (.getfield 16, 3) := dk_180 0 16 (dk_at dksX9_restoreState_1 6 rfl rfl)
theorem dX9_restoreState_31 : decode cX9_restoreState 31 = .ok (.iconst 0, 1) := dk_3 (dk_at dksX9_restoreState_1 9 rfl rfl)
theorem dX9_restoreState_32 : decode cX9_restoreState 32 = .ok (.aload_n 0, 1) := dk_42 (dk_at dksX9_restoreState_1 10 rfl rfl)
theorem dX9_restoreState_33 : decode cX9_restoreState 33 = .ok (.getfield 7, 3) := dk_180 0 7 (dk_at dksX9_restoreState_1 11 rfl rfl)
theorem dX9_restoreState_36 : decode cX9_restoreState 36 = .ok (.iconst 0, 1) := dk_3 (dk_at dksX9_restoreState_1 14 rfl rfl)
theorem dX9_restoreState_37 : decode cX9_restoreState 37 = .ok (.invokestatic 161, 3) := dk_184 0 161 (dk_at dksX9_restoreState_1 15 rfl rfl)
theorem dX9_restoreState_40 : decode cX9_restoreState 40 = .ok (.aload_n 0, 1) := dk_42 (dk_at dksX9_restoreState_1 18 rfl rfl)
theorem dX9_restoreState_41 : decode cX9_restoreState 41 = .ok (.iconst 0, 1) := dk_3 (dk_at dksX9_restoreState_1 19 rfl rfl)
theorem dX9_restoreState_42 : decode cX9_restoreState 42 = .ok (.putfield 158, 3) := dk_181 0 158 (dk_at dksX9_restoreState_1 20 rfl rfl)
theorem dX9_restoreState_45 : decode cX9_restoreState 45 = .ok (.aload_n 0, 1) := dk_42 (dk_at dksX9_restoreState_1 23 rfl rfl)
theorem dX9_restoreState_46 : decode cX9_restoreState 46 = .ok (.getfield 7, 3) := dk_180 0 7 (dk_at dksX9_restoreState_2 0 rfl rfl)
theorem dX9_restoreState_49 : decode cX9_restoreState 49 = .ok (.iconst 5, 1) := dk_8 (dk_at dksX9_restoreState_2 3 rfl rfl)
theorem dX9_restoreState_50 : decode cX9_restoreState 50 = .ok (.iaload, 1) := dk_46 (dk_at dksX9_restoreState_2 4 rfl rfl)
theorem dX9_restoreState_51 : decode cX9_restoreState 51 = .ok (.ireturn, 1) := dk_172 (dk_at dksX9_restoreState_2 5 rfl rfl)
theorem q151 : (Jvm.Cond.initialized "ContractMachineModel") ∈ lw_all := lw_g (lw_at lw_m1 31 rfl) rfl
theorem q732 : (Jvm.Cond.selects "ContractMachineModel" ({ cls := "java/lang/Object", name := "getClass", desc := "()Ljava/lang/Class;" } : Jvm.MethodName) ({ cls := "java/lang/Object", name := "getClass", desc := "()Ljava/lang/Class;" } : Jvm.MethodName)) ∈ lw_all := lw_g (lw_at lw_m3 132 rfl) rfl
theorem q2597 : (Jvm.Cond.instantiable "ContractMachineModel" (31 : Nat)) ∈ lw_all := lw_g (lw_at lw_m11 77 rfl) rfl
theorem q2599 : (Jvm.Cond.instanceMethod ({ cls := "ContractMachineModel", name := "<init>", desc := "()V" } : Jvm.MethodName)) ∈ lw_all := lw_g (lw_at lw_m11 79 rfl) rfl
theorem q2600 : (Jvm.Cond.code ({ cls := "ContractMachineModel", name := "<init>", desc := "()V" } : Jvm.MethodName) prog_41_method_1_code (1 : Nat) (Option.none : Option Jvm.ClassFile.FieldType)) ∈ lw_all := lw_g (lw_at lw_m11 80 rfl) rfl
theorem q2601 : (Jvm.Cond.methodLink "ContractMachineModel" (1 : Nat) ({ cls := "java/lang/Object", name := "<init>", desc := "()V" } : Jvm.MethodName)) ∈ lw_all := lw_g (lw_at lw_m11 81 rfl) rfl
theorem q2602 : (Jvm.Cond.methodLink "ContractMachineModel" (54 : Nat) ({ cls := "ContractMachineModel", name := "begins", desc := "()V" } : Jvm.MethodName)) ∈ lw_all := lw_g (lw_at lw_m11 82 rfl) rfl
theorem q2603 : (Jvm.Cond.privateMethod ({ cls := "ContractMachineModel", name := "begins", desc := "()V" } : Jvm.MethodName)) ∈ lw_tbl := lw_at lw_m11 83 rfl
theorem q2604 : (Jvm.Cond.instanceMethod ({ cls := "ContractMachineModel", name := "begins", desc := "()V" } : Jvm.MethodName)) ∈ lw_all := lw_g (lw_at lw_m11 84 rfl) rfl
theorem q2605 : (Jvm.Cond.code ({ cls := "ContractMachineModel", name := "begins", desc := "()V" } : Jvm.MethodName) prog_41_method_7_code (2 : Nat) (Option.none : Option Jvm.ClassFile.FieldType)) ∈ lw_all := lw_g (lw_at lw_m11 85 rfl) rfl
theorem q2606 : (Jvm.Cond.methodLink "ContractMachineModel" (57 : Nat) ({ cls := "ContractMachineModel", name := "names", desc := "(IIIIII)V" } : Jvm.MethodName)) ∈ lw_all := lw_g (lw_at lw_m11 86 rfl) rfl
theorem q2607 : (Jvm.Cond.privateMethod ({ cls := "ContractMachineModel", name := "names", desc := "(IIIIII)V" } : Jvm.MethodName)) ∈ lw_tbl := lw_at lw_m11 87 rfl
theorem q2608 : (Jvm.Cond.instanceMethod ({ cls := "ContractMachineModel", name := "names", desc := "(IIIIII)V" } : Jvm.MethodName)) ∈ lw_all := lw_g (lw_at lw_m11 88 rfl) rfl
theorem q2609 : (Jvm.Cond.code ({ cls := "ContractMachineModel", name := "names", desc := "(IIIIII)V" } : Jvm.MethodName) prog_41_method_8_code (7 : Nat) (Option.none : Option Jvm.ClassFile.FieldType)) ∈ lw_all := lw_g (lw_at lw_m11 89 rfl) rfl
theorem q2610 : (Jvm.Cond.methodLink "ContractMachineModel" (61 : Nat) ({ cls := "ContractMachineModel", name := "leads", desc := "(III)V" } : Jvm.MethodName)) ∈ lw_all := lw_g (lw_at lw_m11 90 rfl) rfl
theorem q2611 : (Jvm.Cond.privateMethod ({ cls := "ContractMachineModel", name := "leads", desc := "(III)V" } : Jvm.MethodName)) ∈ lw_tbl := lw_at lw_m11 91 rfl
theorem q2612 : (Jvm.Cond.instanceMethod ({ cls := "ContractMachineModel", name := "leads", desc := "(III)V" } : Jvm.MethodName)) ∈ lw_all := lw_g (lw_at lw_m11 92 rfl) rfl
theorem q2613 : (Jvm.Cond.code ({ cls := "ContractMachineModel", name := "leads", desc := "(III)V" } : Jvm.MethodName) prog_41_method_11_code (5 : Nat) (Option.none : Option Jvm.ClassFile.FieldType)) ∈ lw_all := lw_g (lw_at lw_m11 93 rfl) rfl
theorem q2614 : (Jvm.Cond.methodLink "ContractMachineModel" (65 : Nat) ({ cls := "ContractMachineModel", name := "acts", desc := "(III)V" } : Jvm.MethodName)) ∈ lw_all := lw_g (lw_at lw_m11 94 rfl) rfl
theorem q2615 : (Jvm.Cond.privateMethod ({ cls := "ContractMachineModel", name := "acts", desc := "(III)V" } : Jvm.MethodName)) ∈ lw_tbl := lw_at lw_m11 95 rfl
theorem q2616 : (Jvm.Cond.instanceMethod ({ cls := "ContractMachineModel", name := "acts", desc := "(III)V" } : Jvm.MethodName)) ∈ lw_all := lw_g (lw_at lw_m11 96 rfl) rfl
theorem q2617 : (Jvm.Cond.code ({ cls := "ContractMachineModel", name := "acts", desc := "(III)V" } : Jvm.MethodName) prog_41_method_13_code (5 : Nat) (Option.none : Option Jvm.ClassFile.FieldType)) ∈ lw_all := lw_g (lw_at lw_m11 97 rfl) rfl
theorem q2618 : (Jvm.Cond.methodLink "ContractMachineModel" (68 : Nat) ({ cls := "ContractMachineModel", name := "guards", desc := "(III)V" } : Jvm.MethodName)) ∈ lw_all := lw_g (lw_at lw_m11 98 rfl) rfl
theorem q2619 : (Jvm.Cond.privateMethod ({ cls := "ContractMachineModel", name := "guards", desc := "(III)V" } : Jvm.MethodName)) ∈ lw_tbl := lw_at lw_m11 99 rfl
theorem q2620 : (Jvm.Cond.instanceMethod ({ cls := "ContractMachineModel", name := "guards", desc := "(III)V" } : Jvm.MethodName)) ∈ lw_all := lw_g (lw_at lw_m11 100 rfl) rfl
theorem q2621 : (Jvm.Cond.code ({ cls := "ContractMachineModel", name := "guards", desc := "(III)V" } : Jvm.MethodName) prog_41_method_12_code (5 : Nat) (Option.none : Option Jvm.ClassFile.FieldType)) ∈ lw_all := lw_g (lw_at lw_m11 101 rfl) rfl
theorem q2622 : (Jvm.Cond.methodLink "ContractMachineModel" (71 : Nat) ({ cls := "ContractMachineModel", name := "keeps", desc := "(IIII)I" } : Jvm.MethodName)) ∈ lw_all := lw_g (lw_at lw_m11 102 rfl) rfl
theorem q2623 : (Jvm.Cond.privateMethod ({ cls := "ContractMachineModel", name := "keeps", desc := "(IIII)I" } : Jvm.MethodName)) ∈ lw_tbl := lw_at lw_m11 103 rfl
theorem q2624 : (Jvm.Cond.instanceMethod ({ cls := "ContractMachineModel", name := "keeps", desc := "(IIII)I" } : Jvm.MethodName)) ∈ lw_all := lw_g (lw_at lw_m11 104 rfl) rfl
theorem q2625 : (Jvm.Cond.code ({ cls := "ContractMachineModel", name := "keeps", desc := "(IIII)I" } : Jvm.MethodName) prog_41_method_14_code (6 : Nat) (Option.some Jvm.ClassFile.FieldType.int)) ∈ lw_all := lw_g (lw_at lw_m11 105 rfl) rfl
theorem q2626 : (Jvm.Cond.methodLink "ContractMachineModel" (75 : Nat) ({ cls := "ContractMachineModel", name := "starts", desc := "()V" } : Jvm.MethodName)) ∈ lw_all := lw_g (lw_at lw_m11 106 rfl) rfl
theorem q2627 : (Jvm.Cond.privateMethod ({ cls := "ContractMachineModel", name := "starts", desc := "()V" } : Jvm.MethodName)) ∈ lw_tbl := lw_at lw_m11 107 rfl
theorem q2628 : (Jvm.Cond.instanceMethod ({ cls := "ContractMachineModel", name := "starts", desc := "()V" } : Jvm.MethodName)) ∈ lw_all := lw_g (lw_at lw_m11 108 rfl) rfl
theorem q2629 : (Jvm.Cond.code ({ cls := "ContractMachineModel", name := "starts", desc := "()V" } : Jvm.MethodName) prog_41_method_16_code (1 : Nat) (Option.none : Option Jvm.ClassFile.FieldType)) ∈ lw_all := lw_g (lw_at lw_m11 109 rfl) rfl
theorem q2630 : (Jvm.Cond.methodLink "ContractMachineModel" (81 : Nat) ({ cls := "ContractMachineModel", name := "goesToStart", desc := "()V" } : Jvm.MethodName)) ∈ lw_all := lw_g (lw_at lw_m11 110 rfl) rfl
theorem q2631 : (Jvm.Cond.privateMethod ({ cls := "ContractMachineModel", name := "goesToStart", desc := "()V" } : Jvm.MethodName)) ∈ lw_tbl := lw_at lw_m11 111 rfl
theorem q2632 : (Jvm.Cond.instanceMethod ({ cls := "ContractMachineModel", name := "goesToStart", desc := "()V" } : Jvm.MethodName)) ∈ lw_all := lw_g (lw_at lw_m11 112 rfl) rfl
theorem q2633 : (Jvm.Cond.code ({ cls := "ContractMachineModel", name := "goesToStart", desc := "()V" } : Jvm.MethodName) prog_41_method_15_code (2 : Nat) (Option.none : Option Jvm.ClassFile.FieldType)) ∈ lw_all := lw_g (lw_at lw_m11 113 rfl) rfl
theorem q2634 : (Jvm.Cond.fieldLink "ContractMachineModel" (7 : Nat) "ContractMachineModel" "w" "[I") ∈ lw_all := lw_g (lw_at lw_m11 114 rfl) rfl
theorem q2635 : (Jvm.Cond.fieldLink "ContractMachineModel" (13 : Nat) "ContractMachineModel" "wKept" "[I") ∈ lw_all := lw_g (lw_at lw_m11 115 rfl) rfl
theorem q2636 : (Jvm.Cond.fieldLink "ContractMachineModel" (16 : Nat) "ContractMachineModel" "saved" "[I") ∈ lw_all := lw_g (lw_at lw_m11 116 rfl) rfl
theorem q2637 : (Jvm.Cond.fieldLink "ContractMachineModel" (19 : Nat) "ContractMachineModel" "past" "[I") ∈ lw_all := lw_g (lw_at lw_m11 117 rfl) rfl
theorem q2638 : (Jvm.Cond.fieldLink "ContractMachineModel" (158 : Nat) "ContractMachineModel" "pastMany" "I") ∈ lw_all := lw_g (lw_at lw_m11 118 rfl) rfl
theorem q2639 : (Jvm.Cond.fieldLink "ContractMachineModel" (326 : Nat) "ContractMachineModel" "isSaved" "Z") ∈ lw_all := lw_g (lw_at lw_m11 119 rfl) rfl
theorem q2640 : (Jvm.Cond.fieldLink "ContractMachineModel" (78 : Nat) "ContractMachineModel" "thrown" "I") ∈ lw_all := lw_g (lw_at lw_m11 120 rfl) rfl
theorem q2641 : (Jvm.Cond.fieldLink "ContractMachineModel" (112 : Nat) "ContractMachineModel" "chosen" "I") ∈ lw_all := lw_g (lw_at lw_m11 121 rfl) rfl
theorem q2642 : (Jvm.Cond.fieldLink "ContractMachineModel" (118 : Nat) "ContractMachineModel" "next" "I") ∈ lw_all := lw_g (lw_at lw_m11 122 rfl) rfl
theorem q2643 : (Jvm.Cond.fieldLink "ContractMachineModel" (22 : Nat) "ContractMachineModel" "steps" "[I") ∈ lw_all := lw_g (lw_at lw_m11 123 rfl) rfl
theorem q2644 : (Jvm.Cond.fieldLink "ContractMachineModel" (25 : Nat) "ContractMachineModel" "line" "[I") ∈ lw_all := lw_g (lw_at lw_m11 124 rfl) rfl
theorem q2645 : (Jvm.Cond.fieldLink "ContractMachineModel" (140 : Nat) "ContractMachineModel" "lined" "I") ∈ lw_all := lw_g (lw_at lw_m11 125 rfl) rfl
theorem q2646 : (Jvm.Cond.fieldLink "ContractMachineModel" (28 : Nat) "ContractMachineModel" "input" "[I") ∈ lw_all := lw_g (lw_at lw_m11 126 rfl) rfl
theorem q2647 : (Jvm.Cond.fieldLink "ContractMachineModel" (165 : Nat) "ContractMachineModel" "inputMany" "I") ∈ lw_all := lw_g (lw_at lw_m11 127 rfl) rfl
theorem q2648 : (Jvm.Cond.fieldLink "ContractMachineModel" (314 : Nat) "ContractMachineModel" "lastError" "I") ∈ lw_all := lw_g (lw_at lw_m11 128 rfl) rfl
theorem q2649 : (Jvm.Cond.fieldLink "ContractMachineModel" (31 : Nat) "ContractMachineModel" "lastOffset" "I") ∈ lw_all := lw_g (lw_at lw_m11 129 rfl) rfl
theorem q2650 : (Jvm.Cond.fieldLink "ContractMachineModel" (190 : Nat) "ContractMachineModel" "error" "I") ∈ lw_all := lw_g (lw_at lw_m11 130 rfl) rfl
theorem q2651 : (Jvm.Cond.fieldLink "ContractMachineModel" (193 : Nat) "ContractMachineModel" "offset" "I") ∈ lw_all := lw_g (lw_at lw_m11 131 rfl) rfl
theorem q2652 : (Jvm.Cond.fieldLink "ContractMachineModel" (174 : Nat) "ContractMachineModel" "nextByte" "I") ∈ lw_all := lw_g (lw_at lw_m11 132 rfl) rfl
theorem q2653 : (Jvm.Cond.fieldLink "ContractMachineModel" (177 : Nat) "ContractMachineModel" "begin" "I") ∈ lw_all := lw_g (lw_at lw_m11 133 rfl) rfl
theorem q2654 : (Jvm.Cond.fieldLink "ContractMachineModel" (180 : Nat) "ContractMachineModel" "value" "I") ∈ lw_all := lw_g (lw_at lw_m11 134 rfl) rfl
theorem q2655 : (Jvm.Cond.fieldLink "ContractMachineModel" (183 : Nat) "ContractMachineModel" "token" "I") ∈ lw_all := lw_g (lw_at lw_m11 135 rfl) rfl
theorem q2656 : (Jvm.Cond.fieldLink "ContractMachineModel" (208 : Nat) "ContractMachineModel" "got" "I") ∈ lw_all := lw_g (lw_at lw_m11 136 rfl) rfl
theorem q2657 : (Jvm.Cond.fieldLink "ContractMachineModel" (35 : Nat) "ContractMachineModel" "n" "[I") ∈ lw_all := lw_g (lw_at lw_m11 137 rfl) rfl
theorem q2658 : (Jvm.Cond.fieldLink "ContractMachineModel" (38 : Nat) "ContractMachineModel" "order" "[I") ∈ lw_all := lw_g (lw_at lw_m11 138 rfl) rfl
theorem q2659 : (Jvm.Cond.fieldLink "ContractMachineModel" (41 : Nat) "ContractMachineModel" "numbers" "[I") ∈ lw_all := lw_g (lw_at lw_m11 139 rfl) rfl
theorem q2660 : (Jvm.Cond.fieldLink "ContractMachineModel" (311 : Nat) "ContractMachineModel" "orders" "I") ∈ lw_all := lw_g (lw_at lw_m11 140 rfl) rfl
theorem q2661 : (Jvm.Cond.fieldLink "ContractMachineModel" (44 : Nat) "ContractMachineModel" "seen" "[Z") ∈ lw_all := lw_g (lw_at lw_m11 141 rfl) rfl
theorem q2662 : (Jvm.Cond.fieldLink "ContractMachineModel" (48 : Nat) "ContractMachineModel" "stack" "[I") ∈ lw_all := lw_g (lw_at lw_m11 142 rfl) rfl
theorem q2663 : (Jvm.Cond.fieldLink "ContractMachineModel" (51 : Nat) "ContractMachineModel" "output" "[I") ∈ lw_all := lw_g (lw_at lw_m11 143 rfl) rfl
theorem q2664 : (Jvm.Cond.fieldLink "ContractMachineModel" (398 : Nat) "ContractMachineModel" "outputMany" "I") ∈ lw_all := lw_g (lw_at lw_m11 144 rfl) rfl
theorem q2665 : (Jvm.Cond.laysFinal "ContractMachineModel" "ContractMachineModel" "w" "[I") ∈ lw_all := lw_g (lw_at lw_m11 145 rfl) rfl
theorem q2666 : (Jvm.Cond.soleField "ContractMachineModel" "w") ∈ lw_all := lw_g (lw_at lw_m11 146 rfl) rfl
theorem q2667 : (Jvm.Cond.laysFinal "ContractMachineModel" "ContractMachineModel" "wKept" "[I") ∈ lw_all := lw_g (lw_at lw_m11 147 rfl) rfl
theorem q2668 : (Jvm.Cond.soleField "ContractMachineModel" "wKept") ∈ lw_all := lw_g (lw_at lw_m11 148 rfl) rfl
theorem q2669 : (Jvm.Cond.laysFinal "ContractMachineModel" "ContractMachineModel" "saved" "[I") ∈ lw_all := lw_g (lw_at lw_m11 149 rfl) rfl
theorem q2670 : (Jvm.Cond.soleField "ContractMachineModel" "saved") ∈ lw_all := lw_g (lw_at lw_m11 150 rfl) rfl
theorem q2671 : (Jvm.Cond.laysFinal "ContractMachineModel" "ContractMachineModel" "past" "[I") ∈ lw_all := lw_g (lw_at lw_m11 151 rfl) rfl
theorem q2672 : (Jvm.Cond.soleField "ContractMachineModel" "past") ∈ lw_all := lw_g (lw_at lw_m11 152 rfl) rfl
theorem q2673 : (Jvm.Cond.lays "ContractMachineModel" "ContractMachineModel" "pastMany" "I") ∈ lw_all := lw_g (lw_at lw_m11 153 rfl) rfl
theorem q2674 : (Jvm.Cond.soleField "ContractMachineModel" "pastMany") ∈ lw_all := lw_g (lw_at lw_m11 154 rfl) rfl
theorem q2675 : (Jvm.Cond.lays "ContractMachineModel" "ContractMachineModel" "isSaved" "Z") ∈ lw_all := lw_g (lw_at lw_m11 155 rfl) rfl
theorem q2676 : (Jvm.Cond.soleField "ContractMachineModel" "isSaved") ∈ lw_all := lw_g (lw_at lw_m11 156 rfl) rfl
theorem q2677 : (Jvm.Cond.lays "ContractMachineModel" "ContractMachineModel" "thrown" "I") ∈ lw_all := lw_g (lw_at lw_m11 157 rfl) rfl
theorem q2678 : (Jvm.Cond.soleField "ContractMachineModel" "thrown") ∈ lw_all := lw_g (lw_at lw_m11 158 rfl) rfl
theorem q2679 : (Jvm.Cond.lays "ContractMachineModel" "ContractMachineModel" "chosen" "I") ∈ lw_all := lw_g (lw_at lw_m11 159 rfl) rfl
theorem q2680 : (Jvm.Cond.soleField "ContractMachineModel" "chosen") ∈ lw_all := lw_g (lw_at lw_m11 160 rfl) rfl
theorem q2681 : (Jvm.Cond.lays "ContractMachineModel" "ContractMachineModel" "next" "I") ∈ lw_all := lw_g (lw_at lw_m11 161 rfl) rfl
theorem q2682 : (Jvm.Cond.soleField "ContractMachineModel" "next") ∈ lw_all := lw_g (lw_at lw_m11 162 rfl) rfl
theorem q2683 : (Jvm.Cond.laysFinal "ContractMachineModel" "ContractMachineModel" "steps" "[I") ∈ lw_all := lw_g (lw_at lw_m11 163 rfl) rfl
theorem q2684 : (Jvm.Cond.soleField "ContractMachineModel" "steps") ∈ lw_all := lw_g (lw_at lw_m11 164 rfl) rfl
theorem q2685 : (Jvm.Cond.laysFinal "ContractMachineModel" "ContractMachineModel" "line" "[I") ∈ lw_all := lw_g (lw_at lw_m11 165 rfl) rfl
theorem q2686 : (Jvm.Cond.soleField "ContractMachineModel" "line") ∈ lw_all := lw_g (lw_at lw_m11 166 rfl) rfl
theorem q2687 : (Jvm.Cond.lays "ContractMachineModel" "ContractMachineModel" "lined" "I") ∈ lw_all := lw_g (lw_at lw_m11 167 rfl) rfl
theorem q2688 : (Jvm.Cond.soleField "ContractMachineModel" "lined") ∈ lw_all := lw_g (lw_at lw_m11 168 rfl) rfl
theorem q2689 : (Jvm.Cond.laysFinal "ContractMachineModel" "ContractMachineModel" "input" "[I") ∈ lw_all := lw_g (lw_at lw_m11 169 rfl) rfl
theorem q2690 : (Jvm.Cond.soleField "ContractMachineModel" "input") ∈ lw_all := lw_g (lw_at lw_m11 170 rfl) rfl
theorem q2691 : (Jvm.Cond.lays "ContractMachineModel" "ContractMachineModel" "inputMany" "I") ∈ lw_all := lw_g (lw_at lw_m11 171 rfl) rfl
theorem q2692 : (Jvm.Cond.soleField "ContractMachineModel" "inputMany") ∈ lw_all := lw_g (lw_at lw_m11 172 rfl) rfl
theorem q2693 : (Jvm.Cond.lays "ContractMachineModel" "ContractMachineModel" "lastError" "I") ∈ lw_all := lw_g (lw_at lw_m11 173 rfl) rfl
theorem q2694 : (Jvm.Cond.soleField "ContractMachineModel" "lastError") ∈ lw_all := lw_g (lw_at lw_m11 174 rfl) rfl
theorem q2695 : (Jvm.Cond.lays "ContractMachineModel" "ContractMachineModel" "lastOffset" "I") ∈ lw_all := lw_g (lw_at lw_m11 175 rfl) rfl
theorem q2696 : (Jvm.Cond.soleField "ContractMachineModel" "lastOffset") ∈ lw_all := lw_g (lw_at lw_m11 176 rfl) rfl
theorem q2697 : (Jvm.Cond.lays "ContractMachineModel" "ContractMachineModel" "error" "I") ∈ lw_all := lw_g (lw_at lw_m11 177 rfl) rfl
theorem q2698 : (Jvm.Cond.soleField "ContractMachineModel" "error") ∈ lw_all := lw_g (lw_at lw_m11 178 rfl) rfl
theorem q2699 : (Jvm.Cond.lays "ContractMachineModel" "ContractMachineModel" "offset" "I") ∈ lw_all := lw_g (lw_at lw_m11 179 rfl) rfl
theorem q2700 : (Jvm.Cond.soleField "ContractMachineModel" "offset") ∈ lw_all := lw_g (lw_at lw_m11 180 rfl) rfl
theorem q2701 : (Jvm.Cond.lays "ContractMachineModel" "ContractMachineModel" "nextByte" "I") ∈ lw_all := lw_g (lw_at lw_m11 181 rfl) rfl
theorem q2702 : (Jvm.Cond.soleField "ContractMachineModel" "nextByte") ∈ lw_all := lw_g (lw_at lw_m11 182 rfl) rfl
theorem q2703 : (Jvm.Cond.lays "ContractMachineModel" "ContractMachineModel" "begin" "I") ∈ lw_all := lw_g (lw_at lw_m11 183 rfl) rfl
theorem q2704 : (Jvm.Cond.soleField "ContractMachineModel" "begin") ∈ lw_all := lw_g (lw_at lw_m11 184 rfl) rfl
theorem q2705 : (Jvm.Cond.lays "ContractMachineModel" "ContractMachineModel" "value" "I") ∈ lw_all := lw_g (lw_at lw_m11 185 rfl) rfl
theorem q2706 : (Jvm.Cond.soleField "ContractMachineModel" "value") ∈ lw_all := lw_g (lw_at lw_m11 186 rfl) rfl
theorem q2707 : (Jvm.Cond.lays "ContractMachineModel" "ContractMachineModel" "token" "I") ∈ lw_all := lw_g (lw_at lw_m11 187 rfl) rfl
theorem q2708 : (Jvm.Cond.soleField "ContractMachineModel" "token") ∈ lw_all := lw_g (lw_at lw_m11 188 rfl) rfl
theorem q2709 : (Jvm.Cond.lays "ContractMachineModel" "ContractMachineModel" "got" "I") ∈ lw_all := lw_g (lw_at lw_m11 189 rfl) rfl
theorem q2710 : (Jvm.Cond.soleField "ContractMachineModel" "got") ∈ lw_all := lw_g (lw_at lw_m11 190 rfl) rfl
theorem q2711 : (Jvm.Cond.laysFinal "ContractMachineModel" "ContractMachineModel" "n" "[I") ∈ lw_all := lw_g (lw_at lw_m11 191 rfl) rfl
theorem q2712 : (Jvm.Cond.soleField "ContractMachineModel" "n") ∈ lw_all := lw_g (lw_at lw_m11 192 rfl) rfl
theorem q2713 : (Jvm.Cond.laysFinal "ContractMachineModel" "ContractMachineModel" "order" "[I") ∈ lw_all := lw_g (lw_at lw_m11 193 rfl) rfl
theorem q2714 : (Jvm.Cond.soleField "ContractMachineModel" "order") ∈ lw_all := lw_g (lw_at lw_m11 194 rfl) rfl
theorem q2715 : (Jvm.Cond.laysFinal "ContractMachineModel" "ContractMachineModel" "numbers" "[I") ∈ lw_all := lw_g (lw_at lw_m11 195 rfl) rfl
theorem q2716 : (Jvm.Cond.soleField "ContractMachineModel" "numbers") ∈ lw_all := lw_g (lw_at lw_m11 196 rfl) rfl
theorem q2717 : (Jvm.Cond.lays "ContractMachineModel" "ContractMachineModel" "orders" "I") ∈ lw_all := lw_g (lw_at lw_m11 197 rfl) rfl
theorem q2718 : (Jvm.Cond.soleField "ContractMachineModel" "orders") ∈ lw_all := lw_g (lw_at lw_m11 198 rfl) rfl
theorem q2719 : (Jvm.Cond.laysFinal "ContractMachineModel" "ContractMachineModel" "seen" "[Z") ∈ lw_all := lw_g (lw_at lw_m11 199 rfl) rfl
theorem q2720 : (Jvm.Cond.soleField "ContractMachineModel" "seen") ∈ lw_all := lw_g (lw_at lw_m11 200 rfl) rfl
theorem q2721 : (Jvm.Cond.laysFinal "ContractMachineModel" "ContractMachineModel" "stack" "[I") ∈ lw_all := lw_g (lw_at lw_m11 201 rfl) rfl
theorem q2722 : (Jvm.Cond.soleField "ContractMachineModel" "stack") ∈ lw_all := lw_g (lw_at lw_m11 202 rfl) rfl
theorem q2723 : (Jvm.Cond.laysFinal "ContractMachineModel" "ContractMachineModel" "output" "[I") ∈ lw_all := lw_g (lw_at lw_m11 203 rfl) rfl
theorem q2724 : (Jvm.Cond.soleField "ContractMachineModel" "output") ∈ lw_all := lw_g (lw_at lw_m11 204 rfl) rfl
theorem q2725 : (Jvm.Cond.lays "ContractMachineModel" "ContractMachineModel" "outputMany" "I") ∈ lw_all := lw_g (lw_at lw_m11 205 rfl) rfl
theorem q2726 : (Jvm.Cond.soleField "ContractMachineModel" "outputMany") ∈ lw_all := lw_g (lw_at lw_m11 206 rfl) rfl
theorem q2727 : (Jvm.Cond.superclass "ContractMachineModel" "java/lang/Object") ∈ lw_all := lw_g (lw_at lw_m11 207 rfl) rfl
theorem q2730 : (Jvm.Cond.instanceMethod ({ cls := "ContractMachineModel", name := "thrown", desc := "()I" } : Jvm.MethodName)) ∈ lw_all := lw_g (lw_at lw_m11 210 rfl) rfl
theorem q2731 : (Jvm.Cond.selects "ContractMachineModel" ({ cls := "ContractMachineModel", name := "thrown", desc := "()I" } : Jvm.MethodName) ({ cls := "ContractMachineModel", name := "thrown", desc := "()I" } : Jvm.MethodName)) ∈ lw_all := lw_g (lw_at lw_m11 211 rfl) rfl
theorem q2732 : (Jvm.Cond.code ({ cls := "ContractMachineModel", name := "thrown", desc := "()I" } : Jvm.MethodName) prog_41_method_2_code (1 : Nat) (Option.some Jvm.ClassFile.FieldType.int)) ∈ lw_all := lw_g (lw_at lw_m11 212 rfl) rfl
theorem q2734 : (Jvm.Cond.instanceMethod ({ cls := "ContractMachineModel", name := "appendInput", desc := "(IIIII)I" } : Jvm.MethodName)) ∈ lw_all := lw_g (lw_at lw_m11 214 rfl) rfl
theorem q2735 : (Jvm.Cond.selects "ContractMachineModel" ({ cls := "ContractMachineModel", name := "appendInput", desc := "(IIIII)I" } : Jvm.MethodName) ({ cls := "ContractMachineModel", name := "appendInput", desc := "(IIIII)I" } : Jvm.MethodName)) ∈ lw_all := lw_g (lw_at lw_m11 215 rfl) rfl
theorem q2736 : (Jvm.Cond.code ({ cls := "ContractMachineModel", name := "appendInput", desc := "(IIIII)I" } : Jvm.MethodName) prog_41_method_43_code (6 : Nat) (Option.some Jvm.ClassFile.FieldType.int)) ∈ lw_all := lw_g (lw_at lw_m11 216 rfl) rfl
theorem q2737 : (Jvm.Cond.methodLink "ContractMachineModel" (168 : Nat) ({ cls := "ContractMachineModel", name := "appendWord", desc := "(I)V" } : Jvm.MethodName)) ∈ lw_all := lw_g (lw_at lw_m11 217 rfl) rfl
theorem q2738 : (Jvm.Cond.privateMethod ({ cls := "ContractMachineModel", name := "appendWord", desc := "(I)V" } : Jvm.MethodName)) ∈ lw_tbl := lw_at lw_m11 218 rfl
theorem q2739 : (Jvm.Cond.instanceMethod ({ cls := "ContractMachineModel", name := "appendWord", desc := "(I)V" } : Jvm.MethodName)) ∈ lw_all := lw_g (lw_at lw_m11 219 rfl) rfl
theorem q2740 : (Jvm.Cond.code ({ cls := "ContractMachineModel", name := "appendWord", desc := "(I)V" } : Jvm.MethodName) prog_41_method_42_code (3 : Nat) (Option.none : Option Jvm.ClassFile.FieldType)) ∈ lw_all := lw_g (lw_at lw_m11 220 rfl) rfl
theorem q2742 : (Jvm.Cond.instanceMethod ({ cls := "ContractMachineModel", name := "truncateInput", desc := "(I)Z" } : Jvm.MethodName)) ∈ lw_all := lw_g (lw_at lw_m11 222 rfl) rfl
theorem q2743 : (Jvm.Cond.selects "ContractMachineModel" ({ cls := "ContractMachineModel", name := "truncateInput", desc := "(I)Z" } : Jvm.MethodName) ({ cls := "ContractMachineModel", name := "truncateInput", desc := "(I)Z" } : Jvm.MethodName)) ∈ lw_all := lw_g (lw_at lw_m11 223 rfl) rfl
theorem q2744 : (Jvm.Cond.code ({ cls := "ContractMachineModel", name := "truncateInput", desc := "(I)Z" } : Jvm.MethodName) prog_41_method_44_code (2 : Nat) (Option.some Jvm.ClassFile.FieldType.boolean)) ∈ lw_all := lw_g (lw_at lw_m11 224 rfl) rfl
theorem q2745 : (Jvm.Cond.methodLink "ContractMachineModel" (127 : Nat) ({ cls := "ContractMachineModel", name := "inRange", desc := "(III)Z" } : Jvm.MethodName)) ∈ lw_all := lw_g (lw_at lw_m11 225 rfl) rfl
theorem q2746 : (Jvm.Cond.static ({ cls := "ContractMachineModel", name := "inRange", desc := "(III)Z" } : Jvm.MethodName)) ∈ lw_all := lw_g (lw_at lw_m11 226 rfl) rfl
theorem q2747 : (Jvm.Cond.code ({ cls := "ContractMachineModel", name := "inRange", desc := "(III)Z" } : Jvm.MethodName) prog_41_method_3_code (3 : Nat) (Option.some Jvm.ClassFile.FieldType.boolean)) ∈ lw_all := lw_g (lw_at lw_m11 227 rfl) rfl
theorem q2749 : (Jvm.Cond.instanceMethod ({ cls := "ContractMachineModel", name := "loadMachine", desc := "()I" } : Jvm.MethodName)) ∈ lw_all := lw_g (lw_at lw_m11 229 rfl) rfl
theorem q2750 : (Jvm.Cond.selects "ContractMachineModel" ({ cls := "ContractMachineModel", name := "loadMachine", desc := "()I" } : Jvm.MethodName) ({ cls := "ContractMachineModel", name := "loadMachine", desc := "()I" } : Jvm.MethodName)) ∈ lw_all := lw_g (lw_at lw_m11 230 rfl) rfl
theorem q2751 : (Jvm.Cond.code ({ cls := "ContractMachineModel", name := "loadMachine", desc := "()I" } : Jvm.MethodName) prog_41_method_70_code (2 : Nat) (Option.some Jvm.ClassFile.FieldType.int)) ∈ lw_all := lw_g (lw_at lw_m11 231 rfl) rfl
theorem q2752 : (Jvm.Cond.methodLink "ContractMachineModel" (161 : Nat) ({ cls := "ContractMachineModel", name := "copies", desc := "([II[II)V" } : Jvm.MethodName)) ∈ lw_all := lw_g (lw_at lw_m11 232 rfl) rfl
theorem q2753 : (Jvm.Cond.static ({ cls := "ContractMachineModel", name := "copies", desc := "([II[II)V" } : Jvm.MethodName)) ∈ lw_all := lw_g (lw_at lw_m11 233 rfl) rfl
theorem q2754 : (Jvm.Cond.code ({ cls := "ContractMachineModel", name := "copies", desc := "([II[II)V" } : Jvm.MethodName) prog_41_method_6_code (5 : Nat) (Option.none : Option Jvm.ClassFile.FieldType)) ∈ lw_all := lw_g (lw_at lw_m11 234 rfl) rfl
theorem q2755 : (Jvm.Cond.methodLink "ContractMachineModel" (317 : Nat) ({ cls := "ContractMachineModel", name := "startsText", desc := "()V" } : Jvm.MethodName)) ∈ lw_all := lw_g (lw_at lw_m11 235 rfl) rfl
theorem q2756 : (Jvm.Cond.privateMethod ({ cls := "ContractMachineModel", name := "startsText", desc := "()V" } : Jvm.MethodName)) ∈ lw_tbl := lw_at lw_m11 236 rfl
theorem q2757 : (Jvm.Cond.instanceMethod ({ cls := "ContractMachineModel", name := "startsText", desc := "()V" } : Jvm.MethodName)) ∈ lw_all := lw_g (lw_at lw_m11 237 rfl) rfl
theorem q2758 : (Jvm.Cond.code ({ cls := "ContractMachineModel", name := "startsText", desc := "()V" } : Jvm.MethodName) prog_41_method_68_code (1 : Nat) (Option.none : Option Jvm.ClassFile.FieldType)) ∈ lw_all := lw_g (lw_at lw_m11 238 rfl) rfl
theorem q2759 : (Jvm.Cond.methodLink "ContractMachineModel" (214 : Nat) ({ cls := "ContractMachineModel", name := "advanceToken", desc := "()V" } : Jvm.MethodName)) ∈ lw_all := lw_g (lw_at lw_m11 239 rfl) rfl
theorem q2760 : (Jvm.Cond.privateMethod ({ cls := "ContractMachineModel", name := "advanceToken", desc := "()V" } : Jvm.MethodName)) ∈ lw_tbl := lw_at lw_m12 0 rfl
theorem q2761 : (Jvm.Cond.instanceMethod ({ cls := "ContractMachineModel", name := "advanceToken", desc := "()V" } : Jvm.MethodName)) ∈ lw_all := lw_g (lw_at lw_m12 1 rfl) rfl
theorem q2762 : (Jvm.Cond.code ({ cls := "ContractMachineModel", name := "advanceToken", desc := "()V" } : Jvm.MethodName) prog_41_method_47_code (2 : Nat) (Option.none : Option Jvm.ClassFile.FieldType)) ∈ lw_all := lw_g (lw_at lw_m12 2 rfl) rfl
theorem q2763 : (Jvm.Cond.methodLink "ContractMachineModel" (171 : Nat) ({ cls := "ContractMachineModel", name := "byteAt", desc := "(I)I" } : Jvm.MethodName)) ∈ lw_all := lw_g (lw_at lw_m12 3 rfl) rfl
theorem q2764 : (Jvm.Cond.privateMethod ({ cls := "ContractMachineModel", name := "byteAt", desc := "(I)I" } : Jvm.MethodName)) ∈ lw_tbl := lw_at lw_m12 4 rfl
theorem q2765 : (Jvm.Cond.instanceMethod ({ cls := "ContractMachineModel", name := "byteAt", desc := "(I)I" } : Jvm.MethodName)) ∈ lw_all := lw_g (lw_at lw_m12 5 rfl) rfl
theorem q2766 : (Jvm.Cond.code ({ cls := "ContractMachineModel", name := "byteAt", desc := "(I)I" } : Jvm.MethodName) prog_41_method_45_code (2 : Nat) (Option.some Jvm.ClassFile.FieldType.int)) ∈ lw_all := lw_g (lw_at lw_m12 6 rfl) rfl
theorem q2767 : (Jvm.Cond.methodLink "ContractMachineModel" (186 : Nat) ({ cls := "ContractMachineModel", name := "isLetter", desc := "(I)Z" } : Jvm.MethodName)) ∈ lw_all := lw_g (lw_at lw_m12 7 rfl) rfl
theorem q2768 : (Jvm.Cond.privateMethod ({ cls := "ContractMachineModel", name := "isLetter", desc := "(I)Z" } : Jvm.MethodName)) ∈ lw_tbl := lw_at lw_m12 8 rfl
theorem q2769 : (Jvm.Cond.instanceMethod ({ cls := "ContractMachineModel", name := "isLetter", desc := "(I)Z" } : Jvm.MethodName)) ∈ lw_all := lw_g (lw_at lw_m12 9 rfl) rfl
theorem q2770 : (Jvm.Cond.code ({ cls := "ContractMachineModel", name := "isLetter", desc := "(I)Z" } : Jvm.MethodName) prog_41_method_46_code (2 : Nat) (Option.some Jvm.ClassFile.FieldType.boolean)) ∈ lw_all := lw_g (lw_at lw_m12 10 rfl) rfl
theorem q2771 : (Jvm.Cond.methodLink "ContractMachineModel" (320 : Nat) ({ cls := "ContractMachineModel", name := "readText", desc := "()Z" } : Jvm.MethodName)) ∈ lw_all := lw_g (lw_at lw_m12 11 rfl) rfl
theorem q2772 : (Jvm.Cond.privateMethod ({ cls := "ContractMachineModel", name := "readText", desc := "()Z" } : Jvm.MethodName)) ∈ lw_tbl := lw_at lw_m12 12 rfl
theorem q2773 : (Jvm.Cond.instanceMethod ({ cls := "ContractMachineModel", name := "readText", desc := "()Z" } : Jvm.MethodName)) ∈ lw_all := lw_g (lw_at lw_m12 13 rfl) rfl
theorem q2774 : (Jvm.Cond.code ({ cls := "ContractMachineModel", name := "readText", desc := "()Z" } : Jvm.MethodName) prog_41_method_67_code (1 : Nat) (Option.some Jvm.ClassFile.FieldType.boolean)) ∈ lw_all := lw_g (lw_at lw_m12 14 rfl) rfl
theorem q2775 : (Jvm.Cond.methodLink "ContractMachineModel" (305 : Nat) ({ cls := "ContractMachineModel", name := "readSetupStatement", desc := "()Z" } : Jvm.MethodName)) ∈ lw_all := lw_g (lw_at lw_m12 15 rfl) rfl
theorem q2776 : (Jvm.Cond.privateMethod ({ cls := "ContractMachineModel", name := "readSetupStatement", desc := "()Z" } : Jvm.MethodName)) ∈ lw_tbl := lw_at lw_m12 16 rfl
theorem q2777 : (Jvm.Cond.instanceMethod ({ cls := "ContractMachineModel", name := "readSetupStatement", desc := "()Z" } : Jvm.MethodName)) ∈ lw_all := lw_g (lw_at lw_m12 17 rfl) rfl
theorem q2778 : (Jvm.Cond.code ({ cls := "ContractMachineModel", name := "readSetupStatement", desc := "()Z" } : Jvm.MethodName) prog_41_method_66_code (1 : Nat) (Option.some Jvm.ClassFile.FieldType.boolean)) ∈ lw_all := lw_g (lw_at lw_m12 18 rfl) rfl
theorem q2779 : (Jvm.Cond.stringRef "ContractMachineModel" (284 : Nat) "state") ∈ lw_tbl := lw_at lw_m12 19 rfl
theorem q2780 : (Jvm.Cond.methodLink "ContractMachineModel" (232 : Nat) ({ cls := "ContractMachineModel", name := "isWord", desc := "(Ljava/lang/String;)Z" } : Jvm.MethodName)) ∈ lw_all := lw_g (lw_at lw_m12 20 rfl) rfl
theorem q2781 : (Jvm.Cond.privateMethod ({ cls := "ContractMachineModel", name := "isWord", desc := "(Ljava/lang/String;)Z" } : Jvm.MethodName)) ∈ lw_tbl := lw_at lw_m12 21 rfl
theorem q2782 : (Jvm.Cond.instanceMethod ({ cls := "ContractMachineModel", name := "isWord", desc := "(Ljava/lang/String;)Z" } : Jvm.MethodName)) ∈ lw_all := lw_g (lw_at lw_m12 22 rfl) rfl
theorem q2783 : (Jvm.Cond.code ({ cls := "ContractMachineModel", name := "isWord", desc := "(Ljava/lang/String;)Z" } : Jvm.MethodName) prog_41_method_49_code (3 : Nat) (Option.some Jvm.ClassFile.FieldType.boolean)) ∈ lw_all := lw_g (lw_at lw_m12 23 rfl) rfl
theorem q2784 : (Jvm.Cond.methodLink "ContractMachineModel" (196 : Nat) ({ cls := "java/lang/String", name := "length", desc := "()I" } : Jvm.MethodName)) ∈ lw_all := lw_g (lw_at lw_m12 24 rfl) rfl
theorem q2785 : (Jvm.Cond.methodLink "ContractMachineModel" (201 : Nat) ({ cls := "java/lang/String", name := "charAt", desc := "(I)C" } : Jvm.MethodName)) ∈ lw_all := lw_g (lw_at lw_m12 25 rfl) rfl
theorem q2786 : (Jvm.Cond.methodLink "ContractMachineModel" (286 : Nat) ({ cls := "ContractMachineModel", name := "readNamed", desc := "(III)Z" } : Jvm.MethodName)) ∈ lw_all := lw_g (lw_at lw_m12 26 rfl) rfl
theorem q2787 : (Jvm.Cond.privateMethod ({ cls := "ContractMachineModel", name := "readNamed", desc := "(III)Z" } : Jvm.MethodName)) ∈ lw_tbl := lw_at lw_m12 27 rfl
theorem q2788 : (Jvm.Cond.instanceMethod ({ cls := "ContractMachineModel", name := "readNamed", desc := "(III)Z" } : Jvm.MethodName)) ∈ lw_all := lw_g (lw_at lw_m12 28 rfl) rfl
theorem q2789 : (Jvm.Cond.code ({ cls := "ContractMachineModel", name := "readNamed", desc := "(III)Z" } : Jvm.MethodName) prog_41_method_63_code (4 : Nat) (Option.some Jvm.ClassFile.FieldType.boolean)) ∈ lw_all := lw_g (lw_at lw_m12 29 rfl) rfl
theorem q2790 : (Jvm.Cond.methodLink "ContractMachineModel" (205 : Nat) ({ cls := "ContractMachineModel", name := "failsAt", desc := "(I)Z" } : Jvm.MethodName)) ∈ lw_all := lw_g (lw_at lw_m12 30 rfl) rfl
theorem q2791 : (Jvm.Cond.privateMethod ({ cls := "ContractMachineModel", name := "failsAt", desc := "(I)Z" } : Jvm.MethodName)) ∈ lw_tbl := lw_at lw_m12 31 rfl
theorem q2792 : (Jvm.Cond.instanceMethod ({ cls := "ContractMachineModel", name := "failsAt", desc := "(I)Z" } : Jvm.MethodName)) ∈ lw_all := lw_g (lw_at lw_m12 32 rfl) rfl
theorem q2793 : (Jvm.Cond.code ({ cls := "ContractMachineModel", name := "failsAt", desc := "(I)Z" } : Jvm.MethodName) prog_41_method_48_code (2 : Nat) (Option.some Jvm.ClassFile.FieldType.boolean)) ∈ lw_all := lw_g (lw_at lw_m12 33 rfl) rfl
theorem q2794 : (Jvm.Cond.methodLink "ContractMachineModel" (268 : Nat) ({ cls := "ContractMachineModel", name := "takesNewName", desc := "(II)Z" } : Jvm.MethodName)) ∈ lw_all := lw_g (lw_at lw_m12 34 rfl) rfl
theorem q2795 : (Jvm.Cond.privateMethod ({ cls := "ContractMachineModel", name := "takesNewName", desc := "(II)Z" } : Jvm.MethodName)) ∈ lw_tbl := lw_at lw_m12 35 rfl
theorem q2796 : (Jvm.Cond.instanceMethod ({ cls := "ContractMachineModel", name := "takesNewName", desc := "(II)Z" } : Jvm.MethodName)) ∈ lw_all := lw_g (lw_at lw_m12 36 rfl) rfl
theorem q2797 : (Jvm.Cond.code ({ cls := "ContractMachineModel", name := "takesNewName", desc := "(II)Z" } : Jvm.MethodName) prog_41_method_62_code (5 : Nat) (Option.some Jvm.ClassFile.FieldType.boolean)) ∈ lw_all := lw_g (lw_at lw_m12 37 rfl) rfl
theorem q2798 : (Jvm.Cond.methodLink "ContractMachineModel" (223 : Nat) ({ cls := "ContractMachineModel", name := "seesName", desc := "()Z" } : Jvm.MethodName)) ∈ lw_all := lw_g (lw_at lw_m12 38 rfl) rfl
theorem q2799 : (Jvm.Cond.privateMethod ({ cls := "ContractMachineModel", name := "seesName", desc := "()Z" } : Jvm.MethodName)) ∈ lw_tbl := lw_at lw_m12 39 rfl
theorem q2800 : (Jvm.Cond.instanceMethod ({ cls := "ContractMachineModel", name := "seesName", desc := "()Z" } : Jvm.MethodName)) ∈ lw_all := lw_g (lw_at lw_m12 40 rfl) rfl
theorem q2801 : (Jvm.Cond.code ({ cls := "ContractMachineModel", name := "seesName", desc := "()Z" } : Jvm.MethodName) prog_41_method_53_code (1 : Nat) (Option.some Jvm.ClassFile.FieldType.boolean)) ∈ lw_all := lw_g (lw_at lw_m12 41 rfl) rfl
theorem q2802 : (Jvm.Cond.methodLink "ContractMachineModel" (227 : Nat) ({ cls := "ContractMachineModel", name := "nameHere", desc := "(II)I" } : Jvm.MethodName)) ∈ lw_all := lw_g (lw_at lw_m12 42 rfl) rfl
theorem q2803 : (Jvm.Cond.privateMethod ({ cls := "ContractMachineModel", name := "nameHere", desc := "(II)I" } : Jvm.MethodName)) ∈ lw_tbl := lw_at lw_m12 43 rfl
theorem q2804 : (Jvm.Cond.instanceMethod ({ cls := "ContractMachineModel", name := "nameHere", desc := "(II)I" } : Jvm.MethodName)) ∈ lw_all := lw_g (lw_at lw_m12 44 rfl) rfl
theorem q2805 : (Jvm.Cond.code ({ cls := "ContractMachineModel", name := "nameHere", desc := "(II)I" } : Jvm.MethodName) prog_41_method_55_code (4 : Nat) (Option.some Jvm.ClassFile.FieldType.int)) ∈ lw_all := lw_g (lw_at lw_m12 45 rfl) rfl
theorem q2806 : (Jvm.Cond.methodLink "ContractMachineModel" (217 : Nat) ({ cls := "ContractMachineModel", name := "isNameAt", desc := "(I)Z" } : Jvm.MethodName)) ∈ lw_all := lw_g (lw_at lw_m12 46 rfl) rfl
theorem q2807 : (Jvm.Cond.privateMethod ({ cls := "ContractMachineModel", name := "isNameAt", desc := "(I)Z" } : Jvm.MethodName)) ∈ lw_tbl := lw_at lw_m12 47 rfl
theorem q2808 : (Jvm.Cond.instanceMethod ({ cls := "ContractMachineModel", name := "isNameAt", desc := "(I)Z" } : Jvm.MethodName)) ∈ lw_all := lw_g (lw_at lw_m12 48 rfl) rfl
theorem q2809 : (Jvm.Cond.code ({ cls := "ContractMachineModel", name := "isNameAt", desc := "(I)Z" } : Jvm.MethodName) prog_41_method_54_code (3 : Nat) (Option.some Jvm.ClassFile.FieldType.boolean)) ∈ lw_all := lw_g (lw_at lw_m12 49 rfl) rfl
theorem q2810 : (Jvm.Cond.methodLink "ContractMachineModel" (265 : Nat) ({ cls := "ContractMachineModel", name := "takes", desc := "(I)Z" } : Jvm.MethodName)) ∈ lw_all := lw_g (lw_at lw_m12 50 rfl) rfl
theorem q2811 : (Jvm.Cond.privateMethod ({ cls := "ContractMachineModel", name := "takes", desc := "(I)Z" } : Jvm.MethodName)) ∈ lw_tbl := lw_at lw_m12 51 rfl
theorem q2812 : (Jvm.Cond.instanceMethod ({ cls := "ContractMachineModel", name := "takes", desc := "(I)Z" } : Jvm.MethodName)) ∈ lw_all := lw_g (lw_at lw_m12 52 rfl) rfl
theorem q2813 : (Jvm.Cond.code ({ cls := "ContractMachineModel", name := "takes", desc := "(I)Z" } : Jvm.MethodName) prog_41_method_56_code (2 : Nat) (Option.some Jvm.ClassFile.FieldType.boolean)) ∈ lw_all := lw_g (lw_at lw_m12 53 rfl) rfl
theorem q2814 : (Jvm.Cond.methodLink "ContractMachineModel" (220 : Nat) ({ cls := "ContractMachineModel", name := "takesNumber", desc := "(II)Z" } : Jvm.MethodName)) ∈ lw_all := lw_g (lw_at lw_m12 54 rfl) rfl
theorem q2815 : (Jvm.Cond.privateMethod ({ cls := "ContractMachineModel", name := "takesNumber", desc := "(II)Z" } : Jvm.MethodName)) ∈ lw_tbl := lw_at lw_m12 55 rfl
theorem q2816 : (Jvm.Cond.instanceMethod ({ cls := "ContractMachineModel", name := "takesNumber", desc := "(II)Z" } : Jvm.MethodName)) ∈ lw_all := lw_g (lw_at lw_m12 56 rfl) rfl
theorem q2817 : (Jvm.Cond.code ({ cls := "ContractMachineModel", name := "takesNumber", desc := "(II)Z" } : Jvm.MethodName) prog_41_method_51_code (3 : Nat) (Option.some Jvm.ClassFile.FieldType.boolean)) ∈ lw_all := lw_g (lw_at lw_m12 57 rfl) rfl
theorem q2818 : (Jvm.Cond.methodLink "ContractMachineModel" (211 : Nat) ({ cls := "ContractMachineModel", name := "seesNumber", desc := "(II)Z" } : Jvm.MethodName)) ∈ lw_all := lw_g (lw_at lw_m12 58 rfl) rfl
theorem q2819 : (Jvm.Cond.privateMethod ({ cls := "ContractMachineModel", name := "seesNumber", desc := "(II)Z" } : Jvm.MethodName)) ∈ lw_tbl := lw_at lw_m12 59 rfl
theorem q2820 : (Jvm.Cond.instanceMethod ({ cls := "ContractMachineModel", name := "seesNumber", desc := "(II)Z" } : Jvm.MethodName)) ∈ lw_all := lw_g (lw_at lw_m12 60 rfl) rfl
theorem q2821 : (Jvm.Cond.code ({ cls := "ContractMachineModel", name := "seesNumber", desc := "(II)Z" } : Jvm.MethodName) prog_41_method_50_code (3 : Nat) (Option.some Jvm.ClassFile.FieldType.boolean)) ∈ lw_all := lw_g (lw_at lw_m12 61 rfl) rfl
theorem q2822 : (Jvm.Cond.methodLink "ContractMachineModel" (271 : Nat) ({ cls := "ContractMachineModel", name := "takesSemicolon", desc := "()Z" } : Jvm.MethodName)) ∈ lw_all := lw_g (lw_at lw_m12 62 rfl) rfl
theorem q2823 : (Jvm.Cond.privateMethod ({ cls := "ContractMachineModel", name := "takesSemicolon", desc := "()Z" } : Jvm.MethodName)) ∈ lw_tbl := lw_at lw_m12 63 rfl
theorem q2824 : (Jvm.Cond.instanceMethod ({ cls := "ContractMachineModel", name := "takesSemicolon", desc := "()Z" } : Jvm.MethodName)) ∈ lw_all := lw_g (lw_at lw_m12 64 rfl) rfl
theorem q2825 : (Jvm.Cond.code ({ cls := "ContractMachineModel", name := "takesSemicolon", desc := "()Z" } : Jvm.MethodName) prog_41_method_52_code (1 : Nat) (Option.some Jvm.ClassFile.FieldType.boolean)) ∈ lw_all := lw_g (lw_at lw_m12 65 rfl) rfl
theorem q2826 : (Jvm.Cond.stringRef "ContractMachineModel" (289 : Nat) "event") ∈ lw_tbl := lw_at lw_m12 66 rfl
theorem q2827 : (Jvm.Cond.stringRef "ContractMachineModel" (291 : Nat) "var") ∈ lw_tbl := lw_at lw_m12 67 rfl
theorem q2828 : (Jvm.Cond.stringRef "ContractMachineModel" (293 : Nat) "on") ∈ lw_tbl := lw_at lw_m12 68 rfl
theorem q2829 : (Jvm.Cond.methodLink "ContractMachineModel" (295 : Nat) ({ cls := "ContractMachineModel", name := "readTransition", desc := "()Z" } : Jvm.MethodName)) ∈ lw_all := lw_g (lw_at lw_m12 69 rfl) rfl
theorem q2830 : (Jvm.Cond.privateMethod ({ cls := "ContractMachineModel", name := "readTransition", desc := "()Z" } : Jvm.MethodName)) ∈ lw_tbl := lw_at lw_m12 70 rfl
theorem q2831 : (Jvm.Cond.instanceMethod ({ cls := "ContractMachineModel", name := "readTransition", desc := "()Z" } : Jvm.MethodName)) ∈ lw_all := lw_g (lw_at lw_m12 71 rfl) rfl
theorem q2832 : (Jvm.Cond.code ({ cls := "ContractMachineModel", name := "readTransition", desc := "()Z" } : Jvm.MethodName) prog_41_method_64_code (1 : Nat) (Option.some Jvm.ClassFile.FieldType.boolean)) ∈ lw_all := lw_g (lw_at lw_m12 72 rfl) rfl
theorem q2833 : (Jvm.Cond.methodLink "ContractMachineModel" (252 : Nat) ({ cls := "ContractMachineModel", name := "takesKnown", desc := "(III)Z" } : Jvm.MethodName)) ∈ lw_all := lw_g (lw_at lw_m12 73 rfl) rfl
theorem q2834 : (Jvm.Cond.privateMethod ({ cls := "ContractMachineModel", name := "takesKnown", desc := "(III)Z" } : Jvm.MethodName)) ∈ lw_tbl := lw_at lw_m12 74 rfl
theorem q2835 : (Jvm.Cond.instanceMethod ({ cls := "ContractMachineModel", name := "takesKnown", desc := "(III)Z" } : Jvm.MethodName)) ∈ lw_all := lw_g (lw_at lw_m12 75 rfl) rfl
theorem q2836 : (Jvm.Cond.code ({ cls := "ContractMachineModel", name := "takesKnown", desc := "(III)Z" } : Jvm.MethodName) prog_41_method_57_code (4 : Nat) (Option.some Jvm.ClassFile.FieldType.boolean)) ∈ lw_all := lw_g (lw_at lw_m12 76 rfl) rfl
theorem q2837 : (Jvm.Cond.stringRef "ContractMachineModel" (274 : Nat) "goto") ∈ lw_tbl := lw_at lw_m12 77 rfl
theorem q2838 : (Jvm.Cond.methodLink "ContractMachineModel" (261 : Nat) ({ cls := "ContractMachineModel", name := "takesWord", desc := "(Z)Z" } : Jvm.MethodName)) ∈ lw_all := lw_g (lw_at lw_m12 78 rfl) rfl
theorem q2839 : (Jvm.Cond.privateMethod ({ cls := "ContractMachineModel", name := "takesWord", desc := "(Z)Z" } : Jvm.MethodName)) ∈ lw_tbl := lw_at lw_m12 79 rfl
theorem q2840 : (Jvm.Cond.instanceMethod ({ cls := "ContractMachineModel", name := "takesWord", desc := "(Z)Z" } : Jvm.MethodName)) ∈ lw_all := lw_g (lw_at lw_m12 80 rfl) rfl
theorem q2841 : (Jvm.Cond.code ({ cls := "ContractMachineModel", name := "takesWord", desc := "(Z)Z" } : Jvm.MethodName) prog_41_method_58_code (2 : Nat) (Option.some Jvm.ClassFile.FieldType.boolean)) ∈ lw_all := lw_g (lw_at lw_m12 81 rfl) rfl
theorem q2842 : (Jvm.Cond.stringRef "ContractMachineModel" (276 : Nat) "when") ∈ lw_tbl := lw_at lw_m12 82 rfl
theorem q2843 : (Jvm.Cond.methodLink "ContractMachineModel" (278 : Nat) ({ cls := "ContractMachineModel", name := "takesThree", desc := "(IZ)Z" } : Jvm.MethodName)) ∈ lw_all := lw_g (lw_at lw_m12 83 rfl) rfl
theorem q2844 : (Jvm.Cond.privateMethod ({ cls := "ContractMachineModel", name := "takesThree", desc := "(IZ)Z" } : Jvm.MethodName)) ∈ lw_tbl := lw_at lw_m12 84 rfl
theorem q2845 : (Jvm.Cond.instanceMethod ({ cls := "ContractMachineModel", name := "takesThree", desc := "(IZ)Z" } : Jvm.MethodName)) ∈ lw_all := lw_g (lw_at lw_m12 85 rfl) rfl
theorem q2846 : (Jvm.Cond.code ({ cls := "ContractMachineModel", name := "takesThree", desc := "(IZ)Z" } : Jvm.MethodName) prog_41_method_61_code (3 : Nat) (Option.some Jvm.ClassFile.FieldType.boolean)) ∈ lw_all := lw_g (lw_at lw_m12 86 rfl) rfl
theorem q2847 : (Jvm.Cond.methodLink "ContractMachineModel" (255 : Nat) ({ cls := "ContractMachineModel", name := "opHere", desc := "()I" } : Jvm.MethodName)) ∈ lw_all := lw_g (lw_at lw_m12 87 rfl) rfl
theorem q2848 : (Jvm.Cond.privateMethod ({ cls := "ContractMachineModel", name := "opHere", desc := "()I" } : Jvm.MethodName)) ∈ lw_tbl := lw_at lw_m12 88 rfl
theorem q2849 : (Jvm.Cond.instanceMethod ({ cls := "ContractMachineModel", name := "opHere", desc := "()I" } : Jvm.MethodName)) ∈ lw_all := lw_g (lw_at lw_m12 89 rfl) rfl
theorem q2850 : (Jvm.Cond.code ({ cls := "ContractMachineModel", name := "opHere", desc := "()I" } : Jvm.MethodName) prog_41_method_59_code (1 : Nat) (Option.some Jvm.ClassFile.FieldType.int)) ∈ lw_all := lw_g (lw_at lw_m12 90 rfl) rfl
theorem q2851 : (Jvm.Cond.stringRef "ContractMachineModel" (230 : Nat) "below") ∈ lw_tbl := lw_at lw_m12 91 rfl
theorem q2852 : (Jvm.Cond.stringRef "ContractMachineModel" (236 : Nat) "atmost") ∈ lw_tbl := lw_at lw_m12 92 rfl
theorem q2853 : (Jvm.Cond.stringRef "ContractMachineModel" (238 : Nat) "equals") ∈ lw_tbl := lw_at lw_m12 93 rfl
theorem q2854 : (Jvm.Cond.stringRef "ContractMachineModel" (240 : Nat) "differs") ∈ lw_tbl := lw_at lw_m12 94 rfl
theorem q2855 : (Jvm.Cond.stringRef "ContractMachineModel" (242 : Nat) "atleast") ∈ lw_tbl := lw_at lw_m12 95 rfl
theorem q2856 : (Jvm.Cond.stringRef "ContractMachineModel" (244 : Nat) "above") ∈ lw_tbl := lw_at lw_m12 96 rfl
theorem q2857 : (Jvm.Cond.methodLink "ContractMachineModel" (258 : Nat) ({ cls := "ContractMachineModel", name := "actionHere", desc := "()I" } : Jvm.MethodName)) ∈ lw_all := lw_g (lw_at lw_m12 97 rfl) rfl
theorem q2858 : (Jvm.Cond.privateMethod ({ cls := "ContractMachineModel", name := "actionHere", desc := "()I" } : Jvm.MethodName)) ∈ lw_tbl := lw_at lw_m12 98 rfl
theorem q2859 : (Jvm.Cond.instanceMethod ({ cls := "ContractMachineModel", name := "actionHere", desc := "()I" } : Jvm.MethodName)) ∈ lw_all := lw_g (lw_at lw_m12 99 rfl) rfl
theorem q2860 : (Jvm.Cond.code ({ cls := "ContractMachineModel", name := "actionHere", desc := "()I" } : Jvm.MethodName) prog_41_method_60_code (1 : Nat) (Option.some Jvm.ClassFile.FieldType.int)) ∈ lw_all := lw_g (lw_at lw_m12 100 rfl) rfl
theorem q2861 : (Jvm.Cond.stringRef "ContractMachineModel" (246 : Nat) "add") ∈ lw_tbl := lw_at lw_m12 101 rfl
theorem q2862 : (Jvm.Cond.stringRef "ContractMachineModel" (248 : Nat) "sub") ∈ lw_tbl := lw_at lw_m12 102 rfl
theorem q2863 : (Jvm.Cond.stringRef "ContractMachineModel" (250 : Nat) "set") ∈ lw_tbl := lw_at lw_m12 103 rfl
theorem q2864 : (Jvm.Cond.stringRef "ContractMachineModel" (282 : Nat) "do") ∈ lw_tbl := lw_at lw_m12 104 rfl
theorem q2865 : (Jvm.Cond.stringRef "ContractMachineModel" (298 : Nat) "always") ∈ lw_tbl := lw_at lw_m12 105 rfl
theorem q2866 : (Jvm.Cond.methodLink "ContractMachineModel" (300 : Nat) ({ cls := "ContractMachineModel", name := "readInvariant", desc := "(Z)Z" } : Jvm.MethodName)) ∈ lw_all := lw_g (lw_at lw_m12 106 rfl) rfl
theorem q2867 : (Jvm.Cond.privateMethod ({ cls := "ContractMachineModel", name := "readInvariant", desc := "(Z)Z" } : Jvm.MethodName)) ∈ lw_tbl := lw_at lw_m12 107 rfl
theorem q2868 : (Jvm.Cond.instanceMethod ({ cls := "ContractMachineModel", name := "readInvariant", desc := "(Z)Z" } : Jvm.MethodName)) ∈ lw_all := lw_g (lw_at lw_m12 108 rfl) rfl
theorem q2869 : (Jvm.Cond.code ({ cls := "ContractMachineModel", name := "readInvariant", desc := "(Z)Z" } : Jvm.MethodName) prog_41_method_65_code (3 : Nat) (Option.some Jvm.ClassFile.FieldType.boolean)) ∈ lw_all := lw_g (lw_at lw_m12 109 rfl) rfl
theorem q2870 : (Jvm.Cond.stringRef "ContractMachineModel" (303 : Nat) "inside") ∈ lw_tbl := lw_at lw_m12 110 rfl
theorem q2871 : (Jvm.Cond.methodLink "ContractMachineModel" (308 : Nat) ({ cls := "ContractMachineModel", name := "start", desc := "()I" } : Jvm.MethodName)) ∈ lw_all := lw_g (lw_at lw_m12 111 rfl) rfl
theorem q2872 : (Jvm.Cond.privateMethod ({ cls := "ContractMachineModel", name := "start", desc := "()I" } : Jvm.MethodName)) ∈ lw_tbl := lw_at lw_m12 112 rfl
theorem q2873 : (Jvm.Cond.instanceMethod ({ cls := "ContractMachineModel", name := "start", desc := "()I" } : Jvm.MethodName)) ∈ lw_all := lw_g (lw_at lw_m12 113 rfl) rfl
theorem q2874 : (Jvm.Cond.code ({ cls := "ContractMachineModel", name := "start", desc := "()I" } : Jvm.MethodName) prog_41_method_18_code (1 : Nat) (Option.some Jvm.ClassFile.FieldType.int)) ∈ lw_all := lw_g (lw_at lw_m12 114 rfl) rfl
theorem q2875 : (Jvm.Cond.methodLink "ContractMachineModel" (134 : Nat) ({ cls := "ContractMachineModel", name := "firstBroken", desc := "(I)I" } : Jvm.MethodName)) ∈ lw_all := lw_g (lw_at lw_m12 115 rfl) rfl
theorem q2876 : (Jvm.Cond.privateMethod ({ cls := "ContractMachineModel", name := "firstBroken", desc := "(I)I" } : Jvm.MethodName)) ∈ lw_tbl := lw_at lw_m12 116 rfl
theorem q2877 : (Jvm.Cond.instanceMethod ({ cls := "ContractMachineModel", name := "firstBroken", desc := "(I)I" } : Jvm.MethodName)) ∈ lw_all := lw_g (lw_at lw_m12 117 rfl) rfl
theorem q2878 : (Jvm.Cond.code ({ cls := "ContractMachineModel", name := "firstBroken", desc := "(I)I" } : Jvm.MethodName) prog_41_method_26_code (3 : Nat) (Option.some Jvm.ClassFile.FieldType.int)) ∈ lw_all := lw_g (lw_at lw_m12 118 rfl) rfl
theorem q2879 : (Jvm.Cond.methodLink "ContractMachineModel" (106 : Nat) ({ cls := "ContractMachineModel", name := "breaks", desc := "(II)Z" } : Jvm.MethodName)) ∈ lw_all := lw_g (lw_at lw_m12 119 rfl) rfl
theorem q2880 : (Jvm.Cond.privateMethod ({ cls := "ContractMachineModel", name := "breaks", desc := "(II)Z" } : Jvm.MethodName)) ∈ lw_tbl := lw_at lw_m12 120 rfl
theorem q2881 : (Jvm.Cond.instanceMethod ({ cls := "ContractMachineModel", name := "breaks", desc := "(II)Z" } : Jvm.MethodName)) ∈ lw_all := lw_g (lw_at lw_m12 121 rfl) rfl
theorem q2882 : (Jvm.Cond.code ({ cls := "ContractMachineModel", name := "breaks", desc := "(II)Z" } : Jvm.MethodName) prog_41_method_25_code (4 : Nat) (Option.some Jvm.ClassFile.FieldType.boolean)) ∈ lw_all := lw_g (lw_at lw_m12 122 rfl) rfl
theorem q2883 : (Jvm.Cond.methodLink "ContractMachineModel" (92 : Nat) ({ cls := "ContractMachineModel", name := "ofInvariant", desc := "(II)I" } : Jvm.MethodName)) ∈ lw_all := lw_g (lw_at lw_m12 123 rfl) rfl
theorem q2884 : (Jvm.Cond.privateMethod ({ cls := "ContractMachineModel", name := "ofInvariant", desc := "(II)I" } : Jvm.MethodName)) ∈ lw_tbl := lw_at lw_m12 124 rfl
theorem q2885 : (Jvm.Cond.instanceMethod ({ cls := "ContractMachineModel", name := "ofInvariant", desc := "(II)I" } : Jvm.MethodName)) ∈ lw_all := lw_g (lw_at lw_m12 125 rfl) rfl
theorem q2886 : (Jvm.Cond.code ({ cls := "ContractMachineModel", name := "ofInvariant", desc := "(II)I" } : Jvm.MethodName) prog_41_method_10_code (3 : Nat) (Option.some Jvm.ClassFile.FieldType.int)) ∈ lw_all := lw_g (lw_at lw_m12 126 rfl) rfl
theorem q2887 : (Jvm.Cond.methodLink "ContractMachineModel" (99 : Nat) ({ cls := "ContractMachineModel", name := "stateIn", desc := "(I)I" } : Jvm.MethodName)) ∈ lw_all := lw_g (lw_at lw_m12 127 rfl) rfl
theorem q2888 : (Jvm.Cond.static ({ cls := "ContractMachineModel", name := "stateIn", desc := "(I)I" } : Jvm.MethodName)) ∈ lw_all := lw_g (lw_at lw_m12 128 rfl) rfl
theorem q2889 : (Jvm.Cond.code ({ cls := "ContractMachineModel", name := "stateIn", desc := "(I)I" } : Jvm.MethodName) prog_41_method_19_code (1 : Nat) (Option.some Jvm.ClassFile.FieldType.int)) ∈ lw_all := lw_g (lw_at lw_m12 129 rfl) rfl
theorem q2890 : (Jvm.Cond.methodLink "ContractMachineModel" (102 : Nat) ({ cls := "ContractMachineModel", name := "compares", desc := "(II)Z" } : Jvm.MethodName)) ∈ lw_all := lw_g (lw_at lw_m12 130 rfl) rfl
theorem q2891 : (Jvm.Cond.privateMethod ({ cls := "ContractMachineModel", name := "compares", desc := "(II)Z" } : Jvm.MethodName)) ∈ lw_tbl := lw_at lw_m12 131 rfl
theorem q2892 : (Jvm.Cond.instanceMethod ({ cls := "ContractMachineModel", name := "compares", desc := "(II)Z" } : Jvm.MethodName)) ∈ lw_all := lw_g (lw_at lw_m12 132 rfl) rfl
theorem q2893 : (Jvm.Cond.code ({ cls := "ContractMachineModel", name := "compares", desc := "(II)Z" } : Jvm.MethodName) prog_41_method_24_code (3 : Nat) (Option.some Jvm.ClassFile.FieldType.boolean)) ∈ lw_all := lw_g (lw_at lw_m12 133 rfl) rfl
theorem q2894 : (Jvm.Cond.methodLink "ContractMachineModel" (88 : Nat) ({ cls := "ContractMachineModel", name := "valueIn", desc := "(II)I" } : Jvm.MethodName)) ∈ lw_all := lw_g (lw_at lw_m12 134 rfl) rfl
theorem q2895 : (Jvm.Cond.static ({ cls := "ContractMachineModel", name := "valueIn", desc := "(II)I" } : Jvm.MethodName)) ∈ lw_all := lw_g (lw_at lw_m12 135 rfl) rfl
theorem q2896 : (Jvm.Cond.code ({ cls := "ContractMachineModel", name := "valueIn", desc := "(II)I" } : Jvm.MethodName) prog_41_method_21_code (2 : Nat) (Option.some Jvm.ClassFile.FieldType.int)) ∈ lw_all := lw_g (lw_at lw_m12 136 rfl) rfl
theorem q2897 : (Jvm.Cond.methodLink "ContractMachineModel" (84 : Nat) ({ cls := "ContractMachineModel", name := "weight", desc := "(I)I" } : Jvm.MethodName)) ∈ lw_all := lw_g (lw_at lw_m12 137 rfl) rfl
theorem q2898 : (Jvm.Cond.static ({ cls := "ContractMachineModel", name := "weight", desc := "(I)I" } : Jvm.MethodName)) ∈ lw_all := lw_g (lw_at lw_m12 138 rfl) rfl
theorem q2899 : (Jvm.Cond.code ({ cls := "ContractMachineModel", name := "weight", desc := "(I)I" } : Jvm.MethodName) prog_41_method_20_code (1 : Nat) (Option.some Jvm.ClassFile.FieldType.int)) ∈ lw_all := lw_g (lw_at lw_m12 139 rfl) rfl
theorem q2900 : (Jvm.Cond.methodLink "ContractMachineModel" (95 : Nat) ({ cls := "ContractMachineModel", name := "holds", desc := "(III)Z" } : Jvm.MethodName)) ∈ lw_all := lw_g (lw_at lw_m12 140 rfl) rfl
theorem q2901 : (Jvm.Cond.static ({ cls := "ContractMachineModel", name := "holds", desc := "(III)Z" } : Jvm.MethodName)) ∈ lw_all := lw_g (lw_at lw_m12 141 rfl) rfl
theorem q2902 : (Jvm.Cond.code ({ cls := "ContractMachineModel", name := "holds", desc := "(III)Z" } : Jvm.MethodName) prog_41_method_23_code (3 : Nat) (Option.some Jvm.ClassFile.FieldType.boolean)) ∈ lw_all := lw_g (lw_at lw_m12 142 rfl) rfl
theorem q2903 : (Jvm.Cond.methodLink "ContractMachineModel" (323 : Nat) ({ cls := "ContractMachineModel", name := "endsText", desc := "()V" } : Jvm.MethodName)) ∈ lw_all := lw_g (lw_at lw_m12 143 rfl) rfl
theorem q2904 : (Jvm.Cond.privateMethod ({ cls := "ContractMachineModel", name := "endsText", desc := "()V" } : Jvm.MethodName)) ∈ lw_tbl := lw_at lw_m12 144 rfl
theorem q2905 : (Jvm.Cond.instanceMethod ({ cls := "ContractMachineModel", name := "endsText", desc := "()V" } : Jvm.MethodName)) ∈ lw_all := lw_g (lw_at lw_m12 145 rfl) rfl
theorem q2906 : (Jvm.Cond.code ({ cls := "ContractMachineModel", name := "endsText", desc := "()V" } : Jvm.MethodName) prog_41_method_69_code (1 : Nat) (Option.none : Option Jvm.ClassFile.FieldType)) ∈ lw_all := lw_g (lw_at lw_m12 146 rfl) rfl
theorem q2908 : (Jvm.Cond.instanceMethod ({ cls := "ContractMachineModel", name := "runScript", desc := "()I" } : Jvm.MethodName)) ∈ lw_all := lw_g (lw_at lw_m12 148 rfl) rfl
theorem q2909 : (Jvm.Cond.selects "ContractMachineModel" ({ cls := "ContractMachineModel", name := "runScript", desc := "()I" } : Jvm.MethodName) ({ cls := "ContractMachineModel", name := "runScript", desc := "()I" } : Jvm.MethodName)) ∈ lw_all := lw_g (lw_at lw_m12 149 rfl) rfl
theorem q2910 : (Jvm.Cond.code ({ cls := "ContractMachineModel", name := "runScript", desc := "()I" } : Jvm.MethodName) prog_41_method_75_code (3 : Nat) (Option.some Jvm.ClassFile.FieldType.int)) ∈ lw_all := lw_g (lw_at lw_m12 150 rfl) rfl
theorem q2911 : (Jvm.Cond.methodLink "ContractMachineModel" (357 : Nat) ({ cls := "ContractMachineModel", name := "readScriptStatement", desc := "()Z" } : Jvm.MethodName)) ∈ lw_all := lw_g (lw_at lw_m12 151 rfl) rfl
theorem q2912 : (Jvm.Cond.privateMethod ({ cls := "ContractMachineModel", name := "readScriptStatement", desc := "()Z" } : Jvm.MethodName)) ∈ lw_tbl := lw_at lw_m12 152 rfl
theorem q2913 : (Jvm.Cond.instanceMethod ({ cls := "ContractMachineModel", name := "readScriptStatement", desc := "()Z" } : Jvm.MethodName)) ∈ lw_all := lw_g (lw_at lw_m12 153 rfl) rfl
theorem q2914 : (Jvm.Cond.code ({ cls := "ContractMachineModel", name := "readScriptStatement", desc := "()Z" } : Jvm.MethodName) prog_41_method_73_code (2 : Nat) (Option.some Jvm.ClassFile.FieldType.boolean)) ∈ lw_all := lw_g (lw_at lw_m12 154 rfl) rfl
theorem q2915 : (Jvm.Cond.methodLink "ContractMachineModel" (336 : Nat) ({ cls := "ContractMachineModel", name := "scriptHere", desc := "()I" } : Jvm.MethodName)) ∈ lw_all := lw_g (lw_at lw_m12 155 rfl) rfl
theorem q2916 : (Jvm.Cond.privateMethod ({ cls := "ContractMachineModel", name := "scriptHere", desc := "()I" } : Jvm.MethodName)) ∈ lw_tbl := lw_at lw_m12 156 rfl
theorem q2917 : (Jvm.Cond.instanceMethod ({ cls := "ContractMachineModel", name := "scriptHere", desc := "()I" } : Jvm.MethodName)) ∈ lw_all := lw_g (lw_at lw_m12 157 rfl) rfl
theorem q2918 : (Jvm.Cond.code ({ cls := "ContractMachineModel", name := "scriptHere", desc := "()I" } : Jvm.MethodName) prog_41_method_71_code (1 : Nat) (Option.some Jvm.ClassFile.FieldType.int)) ∈ lw_all := lw_g (lw_at lw_m12 158 rfl) rfl
theorem q2919 : (Jvm.Cond.stringRef "ContractMachineModel" (330 : Nat) "fire") ∈ lw_tbl := lw_at lw_m12 159 rfl
theorem q2920 : (Jvm.Cond.stringRef "ContractMachineModel" (332 : Nat) "reset") ∈ lw_tbl := lw_at lw_m12 160 rfl
theorem q2921 : (Jvm.Cond.stringRef "ContractMachineModel" (334 : Nat) "clear") ∈ lw_tbl := lw_at lw_m12 161 rfl
theorem q2922 : (Jvm.Cond.methodLink "ContractMachineModel" (339 : Nat) ({ cls := "ContractMachineModel", name := "takesRest", desc := "(I)Z" } : Jvm.MethodName)) ∈ lw_all := lw_g (lw_at lw_m12 162 rfl) rfl
theorem q2923 : (Jvm.Cond.privateMethod ({ cls := "ContractMachineModel", name := "takesRest", desc := "(I)Z" } : Jvm.MethodName)) ∈ lw_tbl := lw_at lw_m12 163 rfl
theorem q2924 : (Jvm.Cond.instanceMethod ({ cls := "ContractMachineModel", name := "takesRest", desc := "(I)Z" } : Jvm.MethodName)) ∈ lw_all := lw_g (lw_at lw_m12 164 rfl) rfl
theorem q2925 : (Jvm.Cond.code ({ cls := "ContractMachineModel", name := "takesRest", desc := "(I)Z" } : Jvm.MethodName) prog_41_method_72_code (2 : Nat) (Option.some Jvm.ClassFile.FieldType.boolean)) ∈ lw_all := lw_g (lw_at lw_m12 165 rfl) rfl
theorem q2926 : (Jvm.Cond.methodLink "ContractMachineModel" (360 : Nat) ({ cls := "ContractMachineModel", name := "remembers", desc := "()V" } : Jvm.MethodName)) ∈ lw_all := lw_g (lw_at lw_m12 166 rfl) rfl
theorem q2927 : (Jvm.Cond.privateMethod ({ cls := "ContractMachineModel", name := "remembers", desc := "()V" } : Jvm.MethodName)) ∈ lw_tbl := lw_at lw_m12 167 rfl
theorem q2928 : (Jvm.Cond.instanceMethod ({ cls := "ContractMachineModel", name := "remembers", desc := "()V" } : Jvm.MethodName)) ∈ lw_all := lw_g (lw_at lw_m12 168 rfl) rfl
theorem q2929 : (Jvm.Cond.code ({ cls := "ContractMachineModel", name := "remembers", desc := "()V" } : Jvm.MethodName) prog_41_method_41_code (2 : Nat) (Option.none : Option Jvm.ClassFile.FieldType)) ∈ lw_all := lw_g (lw_at lw_m12 169 rfl) rfl
theorem q2930 : (Jvm.Cond.methodLink "ContractMachineModel" (363 : Nat) ({ cls := "ContractMachineModel", name := "does", desc := "(I)Z" } : Jvm.MethodName)) ∈ lw_all := lw_g (lw_at lw_m12 170 rfl) rfl
theorem q2931 : (Jvm.Cond.privateMethod ({ cls := "ContractMachineModel", name := "does", desc := "(I)Z" } : Jvm.MethodName)) ∈ lw_tbl := lw_at lw_m12 171 rfl
theorem q2932 : (Jvm.Cond.instanceMethod ({ cls := "ContractMachineModel", name := "does", desc := "(I)Z" } : Jvm.MethodName)) ∈ lw_all := lw_g (lw_at lw_m12 172 rfl) rfl
theorem q2933 : (Jvm.Cond.code ({ cls := "ContractMachineModel", name := "does", desc := "(I)Z" } : Jvm.MethodName) prog_41_method_74_code (4 : Nat) (Option.some Jvm.ClassFile.FieldType.boolean)) ∈ lw_all := lw_g (lw_at lw_m12 173 rfl) rfl
theorem q2934 : (Jvm.Cond.methodLink "ContractMachineModel" (342 : Nat) ({ cls := "ContractMachineModel", name := "fires", desc := "(I)I" } : Jvm.MethodName)) ∈ lw_all := lw_g (lw_at lw_m12 174 rfl) rfl
theorem q2935 : (Jvm.Cond.privateMethod ({ cls := "ContractMachineModel", name := "fires", desc := "(I)I" } : Jvm.MethodName)) ∈ lw_tbl := lw_at lw_m12 175 rfl
theorem q2936 : (Jvm.Cond.instanceMethod ({ cls := "ContractMachineModel", name := "fires", desc := "(I)I" } : Jvm.MethodName)) ∈ lw_all := lw_g (lw_at lw_m12 176 rfl) rfl
theorem q2937 : (Jvm.Cond.code ({ cls := "ContractMachineModel", name := "fires", desc := "(I)I" } : Jvm.MethodName) prog_41_method_36_code (4 : Nat) (Option.some Jvm.ClassFile.FieldType.int)) ∈ lw_all := lw_g (lw_at lw_m12 177 rfl) rfl
theorem q2938 : (Jvm.Cond.methodLink "ContractMachineModel" (151 : Nat) ({ cls := "ContractMachineModel", name := "here", desc := "()I" } : Jvm.MethodName)) ∈ lw_all := lw_g (lw_at lw_m12 178 rfl) rfl
theorem q2939 : (Jvm.Cond.privateMethod ({ cls := "ContractMachineModel", name := "here", desc := "()I" } : Jvm.MethodName)) ∈ lw_tbl := lw_at lw_m12 179 rfl
theorem q2940 : (Jvm.Cond.instanceMethod ({ cls := "ContractMachineModel", name := "here", desc := "()I" } : Jvm.MethodName)) ∈ lw_all := lw_g (lw_at lw_m12 180 rfl) rfl
theorem q2941 : (Jvm.Cond.code ({ cls := "ContractMachineModel", name := "here", desc := "()I" } : Jvm.MethodName) prog_41_method_17_code (1 : Nat) (Option.some Jvm.ClassFile.FieldType.int)) ∈ lw_all := lw_g (lw_at lw_m12 181 rfl) rfl
theorem q2942 : (Jvm.Cond.methodLink "ContractMachineModel" (137 : Nat) ({ cls := "ContractMachineModel", name := "verdict", desc := "(II)I" } : Jvm.MethodName)) ∈ lw_all := lw_g (lw_at lw_m12 182 rfl) rfl
theorem q2943 : (Jvm.Cond.privateMethod ({ cls := "ContractMachineModel", name := "verdict", desc := "(II)I" } : Jvm.MethodName)) ∈ lw_tbl := lw_at lw_m12 183 rfl
theorem q2944 : (Jvm.Cond.instanceMethod ({ cls := "ContractMachineModel", name := "verdict", desc := "(II)I" } : Jvm.MethodName)) ∈ lw_all := lw_g (lw_at lw_m12 184 rfl) rfl
theorem q2945 : (Jvm.Cond.code ({ cls := "ContractMachineModel", name := "verdict", desc := "(II)I" } : Jvm.MethodName) prog_41_method_30_code (6 : Nat) (Option.some Jvm.ClassFile.FieldType.int)) ∈ lw_all := lw_g (lw_at lw_m12 185 rfl) rfl
theorem q2946 : (Jvm.Cond.methodLink "ContractMachineModel" (121 : Nat) ({ cls := "ContractMachineModel", name := "choose", desc := "(II)Z" } : Jvm.MethodName)) ∈ lw_all := lw_g (lw_at lw_m12 186 rfl) rfl
theorem q2947 : (Jvm.Cond.privateMethod ({ cls := "ContractMachineModel", name := "choose", desc := "(II)Z" } : Jvm.MethodName)) ∈ lw_tbl := lw_at lw_m12 187 rfl
theorem q2948 : (Jvm.Cond.instanceMethod ({ cls := "ContractMachineModel", name := "choose", desc := "(II)Z" } : Jvm.MethodName)) ∈ lw_all := lw_g (lw_at lw_m12 188 rfl) rfl
theorem q2949 : (Jvm.Cond.code ({ cls := "ContractMachineModel", name := "choose", desc := "(II)Z" } : Jvm.MethodName) prog_41_method_29_code (5 : Nat) (Option.some Jvm.ClassFile.FieldType.boolean)) ∈ lw_all := lw_g (lw_at lw_m12 189 rfl) rfl
theorem q2950 : (Jvm.Cond.methodLink "ContractMachineModel" (109 : Nat) ({ cls := "ContractMachineModel", name := "of", desc := "(II)I" } : Jvm.MethodName)) ∈ lw_all := lw_g (lw_at lw_m12 190 rfl) rfl
theorem q2951 : (Jvm.Cond.privateMethod ({ cls := "ContractMachineModel", name := "of", desc := "(II)I" } : Jvm.MethodName)) ∈ lw_tbl := lw_at lw_m12 191 rfl
theorem q2952 : (Jvm.Cond.instanceMethod ({ cls := "ContractMachineModel", name := "of", desc := "(II)I" } : Jvm.MethodName)) ∈ lw_all := lw_g (lw_at lw_m12 192 rfl) rfl
theorem q2953 : (Jvm.Cond.code ({ cls := "ContractMachineModel", name := "of", desc := "(II)I" } : Jvm.MethodName) prog_41_method_9_code (3 : Nat) (Option.some Jvm.ClassFile.FieldType.int)) ∈ lw_all := lw_g (lw_at lw_m12 193 rfl) rfl
theorem q2954 : (Jvm.Cond.methodLink "ContractMachineModel" (115 : Nat) ({ cls := "ContractMachineModel", name := "isGuardRight", desc := "(II)Z" } : Jvm.MethodName)) ∈ lw_all := lw_g (lw_at lw_m12 194 rfl) rfl
theorem q2955 : (Jvm.Cond.privateMethod ({ cls := "ContractMachineModel", name := "isGuardRight", desc := "(II)Z" } : Jvm.MethodName)) ∈ lw_tbl := lw_at lw_m12 195 rfl
theorem q2956 : (Jvm.Cond.instanceMethod ({ cls := "ContractMachineModel", name := "isGuardRight", desc := "(II)Z" } : Jvm.MethodName)) ∈ lw_all := lw_g (lw_at lw_m12 196 rfl) rfl
theorem q2957 : (Jvm.Cond.code ({ cls := "ContractMachineModel", name := "isGuardRight", desc := "(II)Z" } : Jvm.MethodName) prog_41_method_27_code (4 : Nat) (Option.some Jvm.ClassFile.FieldType.boolean)) ∈ lw_all := lw_g (lw_at lw_m12 197 rfl) rfl
theorem q2958 : (Jvm.Cond.methodLink "ContractMachineModel" (124 : Nat) ({ cls := "ContractMachineModel", name := "acted", desc := "(II)I" } : Jvm.MethodName)) ∈ lw_all := lw_g (lw_at lw_m12 198 rfl) rfl
theorem q2959 : (Jvm.Cond.privateMethod ({ cls := "ContractMachineModel", name := "acted", desc := "(II)I" } : Jvm.MethodName)) ∈ lw_tbl := lw_at lw_m12 199 rfl
theorem q2960 : (Jvm.Cond.instanceMethod ({ cls := "ContractMachineModel", name := "acted", desc := "(II)I" } : Jvm.MethodName)) ∈ lw_all := lw_g (lw_at lw_m12 200 rfl) rfl
theorem q2961 : (Jvm.Cond.code ({ cls := "ContractMachineModel", name := "acted", desc := "(II)I" } : Jvm.MethodName) prog_41_method_28_code (4 : Nat) (Option.some Jvm.ClassFile.FieldType.int)) ∈ lw_all := lw_g (lw_at lw_m12 201 rfl) rfl
theorem q2962 : (Jvm.Cond.methodLink "ContractMachineModel" (130 : Nat) ({ cls := "ContractMachineModel", name := "with", desc := "(III)I" } : Jvm.MethodName)) ∈ lw_all := lw_g (lw_at lw_m12 202 rfl) rfl
theorem q2963 : (Jvm.Cond.static ({ cls := "ContractMachineModel", name := "with", desc := "(III)I" } : Jvm.MethodName)) ∈ lw_all := lw_g (lw_at lw_m12 203 rfl) rfl
theorem q2964 : (Jvm.Cond.code ({ cls := "ContractMachineModel", name := "with", desc := "(III)I" } : Jvm.MethodName) prog_41_method_22_code (3 : Nat) (Option.some Jvm.ClassFile.FieldType.int)) ∈ lw_all := lw_g (lw_at lw_m12 204 rfl) rfl
theorem q2965 : (Jvm.Cond.methodLink "ContractMachineModel" (155 : Nat) ({ cls := "ContractMachineModel", name := "traces", desc := "(II)V" } : Jvm.MethodName)) ∈ lw_all := lw_g (lw_at lw_m12 205 rfl) rfl
theorem q2966 : (Jvm.Cond.privateMethod ({ cls := "ContractMachineModel", name := "traces", desc := "(II)V" } : Jvm.MethodName)) ∈ lw_tbl := lw_at lw_m12 206 rfl
theorem q2967 : (Jvm.Cond.instanceMethod ({ cls := "ContractMachineModel", name := "traces", desc := "(II)V" } : Jvm.MethodName)) ∈ lw_all := lw_g (lw_at lw_m12 207 rfl) rfl
theorem q2968 : (Jvm.Cond.code ({ cls := "ContractMachineModel", name := "traces", desc := "(II)V" } : Jvm.MethodName) prog_41_method_35_code (4 : Nat) (Option.none : Option Jvm.ClassFile.FieldType)) ∈ lw_all := lw_g (lw_at lw_m12 208 rfl) rfl
theorem q2969 : (Jvm.Cond.methodLink "ContractMachineModel" (345 : Nat) ({ cls := "ContractMachineModel", name := "maySet", desc := "(II)Z" } : Jvm.MethodName)) ∈ lw_all := lw_g (lw_at lw_m12 209 rfl) rfl
theorem q2970 : (Jvm.Cond.privateMethod ({ cls := "ContractMachineModel", name := "maySet", desc := "(II)Z" } : Jvm.MethodName)) ∈ lw_tbl := lw_at lw_m12 210 rfl
theorem q2971 : (Jvm.Cond.instanceMethod ({ cls := "ContractMachineModel", name := "maySet", desc := "(II)Z" } : Jvm.MethodName)) ∈ lw_all := lw_g (lw_at lw_m12 211 rfl) rfl
theorem q2972 : (Jvm.Cond.code ({ cls := "ContractMachineModel", name := "maySet", desc := "(II)Z" } : Jvm.MethodName) prog_41_method_37_code (3 : Nat) (Option.some Jvm.ClassFile.FieldType.boolean)) ∈ lw_all := lw_g (lw_at lw_m12 212 rfl) rfl
theorem q2973 : (Jvm.Cond.methodLink "ContractMachineModel" (348 : Nat) ({ cls := "ContractMachineModel", name := "setsValue", desc := "(II)I" } : Jvm.MethodName)) ∈ lw_all := lw_g (lw_at lw_m12 213 rfl) rfl
theorem q2974 : (Jvm.Cond.privateMethod ({ cls := "ContractMachineModel", name := "setsValue", desc := "(II)I" } : Jvm.MethodName)) ∈ lw_tbl := lw_at lw_m12 214 rfl
theorem q2975 : (Jvm.Cond.instanceMethod ({ cls := "ContractMachineModel", name := "setsValue", desc := "(II)I" } : Jvm.MethodName)) ∈ lw_all := lw_g (lw_at lw_m12 215 rfl) rfl
theorem q2976 : (Jvm.Cond.code ({ cls := "ContractMachineModel", name := "setsValue", desc := "(II)I" } : Jvm.MethodName) prog_41_method_38_code (4 : Nat) (Option.some Jvm.ClassFile.FieldType.int)) ∈ lw_all := lw_g (lw_at lw_m12 216 rfl) rfl
theorem q2977 : (Jvm.Cond.methodLink "ContractMachineModel" (351 : Nat) ({ cls := "ContractMachineModel", name := "resets", desc := "()I" } : Jvm.MethodName)) ∈ lw_all := lw_g (lw_at lw_m12 217 rfl) rfl
theorem q2978 : (Jvm.Cond.privateMethod ({ cls := "ContractMachineModel", name := "resets", desc := "()I" } : Jvm.MethodName)) ∈ lw_tbl := lw_at lw_m12 218 rfl
theorem q2979 : (Jvm.Cond.instanceMethod ({ cls := "ContractMachineModel", name := "resets", desc := "()I" } : Jvm.MethodName)) ∈ lw_all := lw_g (lw_at lw_m12 219 rfl) rfl
theorem q2980 : (Jvm.Cond.code ({ cls := "ContractMachineModel", name := "resets", desc := "()I" } : Jvm.MethodName) prog_41_method_39_code (2 : Nat) (Option.some Jvm.ClassFile.FieldType.int)) ∈ lw_all := lw_g (lw_at lw_m12 220 rfl) rfl
theorem q2981 : (Jvm.Cond.methodLink "ContractMachineModel" (354 : Nat) ({ cls := "ContractMachineModel", name := "clears", desc := "()I" } : Jvm.MethodName)) ∈ lw_all := lw_g (lw_at lw_m12 221 rfl) rfl
theorem q2982 : (Jvm.Cond.privateMethod ({ cls := "ContractMachineModel", name := "clears", desc := "()I" } : Jvm.MethodName)) ∈ lw_tbl := lw_at lw_m12 222 rfl
theorem q2983 : (Jvm.Cond.instanceMethod ({ cls := "ContractMachineModel", name := "clears", desc := "()I" } : Jvm.MethodName)) ∈ lw_all := lw_g (lw_at lw_m12 223 rfl) rfl
theorem q2984 : (Jvm.Cond.code ({ cls := "ContractMachineModel", name := "clears", desc := "()I" } : Jvm.MethodName) prog_41_method_40_code (3 : Nat) (Option.some Jvm.ClassFile.FieldType.int)) ∈ lw_all := lw_g (lw_at lw_m12 224 rfl) rfl
theorem q2986 : (Jvm.Cond.instanceMethod ({ cls := "ContractMachineModel", name := "errorCode", desc := "()I" } : Jvm.MethodName)) ∈ lw_all := lw_g (lw_at lw_m12 226 rfl) rfl
theorem q2987 : (Jvm.Cond.selects "ContractMachineModel" ({ cls := "ContractMachineModel", name := "errorCode", desc := "()I" } : Jvm.MethodName) ({ cls := "ContractMachineModel", name := "errorCode", desc := "()I" } : Jvm.MethodName)) ∈ lw_all := lw_g (lw_at lw_m12 227 rfl) rfl
theorem q2988 : (Jvm.Cond.code ({ cls := "ContractMachineModel", name := "errorCode", desc := "()I" } : Jvm.MethodName) prog_41_method_76_code (1 : Nat) (Option.some Jvm.ClassFile.FieldType.int)) ∈ lw_all := lw_g (lw_at lw_m12 228 rfl) rfl
theorem q2990 : (Jvm.Cond.instanceMethod ({ cls := "ContractMachineModel", name := "errorOffset", desc := "()I" } : Jvm.MethodName)) ∈ lw_all := lw_g (lw_at lw_m12 230 rfl) rfl
theorem q2991 : (Jvm.Cond.selects "ContractMachineModel" ({ cls := "ContractMachineModel", name := "errorOffset", desc := "()I" } : Jvm.MethodName) ({ cls := "ContractMachineModel", name := "errorOffset", desc := "()I" } : Jvm.MethodName)) ∈ lw_all := lw_g (lw_at lw_m12 231 rfl) rfl
theorem q2992 : (Jvm.Cond.code ({ cls := "ContractMachineModel", name := "errorOffset", desc := "()I" } : Jvm.MethodName) prog_41_method_77_code (1 : Nat) (Option.some Jvm.ClassFile.FieldType.int)) ∈ lw_all := lw_g (lw_at lw_m12 232 rfl) rfl
theorem q2994 : (Jvm.Cond.instanceMethod ({ cls := "ContractMachineModel", name := "stateCount", desc := "()I" } : Jvm.MethodName)) ∈ lw_all := lw_g (lw_at lw_m12 234 rfl) rfl
theorem q2995 : (Jvm.Cond.selects "ContractMachineModel" ({ cls := "ContractMachineModel", name := "stateCount", desc := "()I" } : Jvm.MethodName) ({ cls := "ContractMachineModel", name := "stateCount", desc := "()I" } : Jvm.MethodName)) ∈ lw_all := lw_g (lw_at lw_m12 235 rfl) rfl
theorem q2996 : (Jvm.Cond.code ({ cls := "ContractMachineModel", name := "stateCount", desc := "()I" } : Jvm.MethodName) prog_41_method_78_code (1 : Nat) (Option.some Jvm.ClassFile.FieldType.int)) ∈ lw_all := lw_g (lw_at lw_m12 236 rfl) rfl
theorem q2998 : (Jvm.Cond.instanceMethod ({ cls := "ContractMachineModel", name := "eventCount", desc := "()I" } : Jvm.MethodName)) ∈ lw_all := lw_g (lw_at lw_m12 238 rfl) rfl
theorem q2999 : (Jvm.Cond.selects "ContractMachineModel" ({ cls := "ContractMachineModel", name := "eventCount", desc := "()I" } : Jvm.MethodName) ({ cls := "ContractMachineModel", name := "eventCount", desc := "()I" } : Jvm.MethodName)) ∈ lw_all := lw_g (lw_at lw_m12 239 rfl) rfl
theorem q3000 : (Jvm.Cond.code ({ cls := "ContractMachineModel", name := "eventCount", desc := "()I" } : Jvm.MethodName) prog_41_method_79_code (1 : Nat) (Option.some Jvm.ClassFile.FieldType.int)) ∈ lw_all := lw_g (lw_at lw_m13 0 rfl) rfl
theorem q3002 : (Jvm.Cond.instanceMethod ({ cls := "ContractMachineModel", name := "variableCount", desc := "()I" } : Jvm.MethodName)) ∈ lw_all := lw_g (lw_at lw_m13 2 rfl) rfl
theorem q3003 : (Jvm.Cond.selects "ContractMachineModel" ({ cls := "ContractMachineModel", name := "variableCount", desc := "()I" } : Jvm.MethodName) ({ cls := "ContractMachineModel", name := "variableCount", desc := "()I" } : Jvm.MethodName)) ∈ lw_all := lw_g (lw_at lw_m13 3 rfl) rfl
theorem q3004 : (Jvm.Cond.code ({ cls := "ContractMachineModel", name := "variableCount", desc := "()I" } : Jvm.MethodName) prog_41_method_80_code (1 : Nat) (Option.some Jvm.ClassFile.FieldType.int)) ∈ lw_all := lw_g (lw_at lw_m13 4 rfl) rfl
theorem q3006 : (Jvm.Cond.instanceMethod ({ cls := "ContractMachineModel", name := "transitionCount", desc := "()I" } : Jvm.MethodName)) ∈ lw_all := lw_g (lw_at lw_m13 6 rfl) rfl
theorem q3007 : (Jvm.Cond.selects "ContractMachineModel" ({ cls := "ContractMachineModel", name := "transitionCount", desc := "()I" } : Jvm.MethodName) ({ cls := "ContractMachineModel", name := "transitionCount", desc := "()I" } : Jvm.MethodName)) ∈ lw_all := lw_g (lw_at lw_m13 7 rfl) rfl
theorem q3008 : (Jvm.Cond.code ({ cls := "ContractMachineModel", name := "transitionCount", desc := "()I" } : Jvm.MethodName) prog_41_method_81_code (1 : Nat) (Option.some Jvm.ClassFile.FieldType.int)) ∈ lw_all := lw_g (lw_at lw_m13 8 rfl) rfl
theorem q3010 : (Jvm.Cond.instanceMethod ({ cls := "ContractMachineModel", name := "invariantCount", desc := "()I" } : Jvm.MethodName)) ∈ lw_all := lw_g (lw_at lw_m13 10 rfl) rfl
theorem q3011 : (Jvm.Cond.selects "ContractMachineModel" ({ cls := "ContractMachineModel", name := "invariantCount", desc := "()I" } : Jvm.MethodName) ({ cls := "ContractMachineModel", name := "invariantCount", desc := "()I" } : Jvm.MethodName)) ∈ lw_all := lw_g (lw_at lw_m13 11 rfl) rfl
theorem q3012 : (Jvm.Cond.code ({ cls := "ContractMachineModel", name := "invariantCount", desc := "()I" } : Jvm.MethodName) prog_41_method_82_code (1 : Nat) (Option.some Jvm.ClassFile.FieldType.int)) ∈ lw_all := lw_g (lw_at lw_m13 12 rfl) rfl
theorem q3014 : (Jvm.Cond.instanceMethod ({ cls := "ContractMachineModel", name := "currentState", desc := "()I" } : Jvm.MethodName)) ∈ lw_all := lw_g (lw_at lw_m13 14 rfl) rfl
theorem q3015 : (Jvm.Cond.selects "ContractMachineModel" ({ cls := "ContractMachineModel", name := "currentState", desc := "()I" } : Jvm.MethodName) ({ cls := "ContractMachineModel", name := "currentState", desc := "()I" } : Jvm.MethodName)) ∈ lw_all := lw_g (lw_at lw_m13 15 rfl) rfl
theorem q3016 : (Jvm.Cond.code ({ cls := "ContractMachineModel", name := "currentState", desc := "()I" } : Jvm.MethodName) prog_41_method_83_code (1 : Nat) (Option.some Jvm.ClassFile.FieldType.int)) ∈ lw_all := lw_g (lw_at lw_m13 16 rfl) rfl
theorem q3018 : (Jvm.Cond.instanceMethod ({ cls := "ContractMachineModel", name := "acceptedCount", desc := "()I" } : Jvm.MethodName)) ∈ lw_all := lw_g (lw_at lw_m13 18 rfl) rfl
theorem q3019 : (Jvm.Cond.selects "ContractMachineModel" ({ cls := "ContractMachineModel", name := "acceptedCount", desc := "()I" } : Jvm.MethodName) ({ cls := "ContractMachineModel", name := "acceptedCount", desc := "()I" } : Jvm.MethodName)) ∈ lw_all := lw_g (lw_at lw_m13 19 rfl) rfl
theorem q3020 : (Jvm.Cond.code ({ cls := "ContractMachineModel", name := "acceptedCount", desc := "()I" } : Jvm.MethodName) prog_41_method_84_code (1 : Nat) (Option.some Jvm.ClassFile.FieldType.int)) ∈ lw_all := lw_g (lw_at lw_m13 20 rfl) rfl
theorem q3022 : (Jvm.Cond.instanceMethod ({ cls := "ContractMachineModel", name := "rejectedCount", desc := "()I" } : Jvm.MethodName)) ∈ lw_all := lw_g (lw_at lw_m13 22 rfl) rfl
theorem q3023 : (Jvm.Cond.selects "ContractMachineModel" ({ cls := "ContractMachineModel", name := "rejectedCount", desc := "()I" } : Jvm.MethodName) ({ cls := "ContractMachineModel", name := "rejectedCount", desc := "()I" } : Jvm.MethodName)) ∈ lw_all := lw_g (lw_at lw_m13 23 rfl) rfl
theorem q3024 : (Jvm.Cond.code ({ cls := "ContractMachineModel", name := "rejectedCount", desc := "()I" } : Jvm.MethodName) prog_41_method_85_code (1 : Nat) (Option.some Jvm.ClassFile.FieldType.int)) ∈ lw_all := lw_g (lw_at lw_m13 24 rfl) rfl
theorem q3026 : (Jvm.Cond.instanceMethod ({ cls := "ContractMachineModel", name := "traceLength", desc := "()I" } : Jvm.MethodName)) ∈ lw_all := lw_g (lw_at lw_m13 26 rfl) rfl
theorem q3027 : (Jvm.Cond.selects "ContractMachineModel" ({ cls := "ContractMachineModel", name := "traceLength", desc := "()I" } : Jvm.MethodName) ({ cls := "ContractMachineModel", name := "traceLength", desc := "()I" } : Jvm.MethodName)) ∈ lw_all := lw_g (lw_at lw_m13 27 rfl) rfl
theorem q3028 : (Jvm.Cond.code ({ cls := "ContractMachineModel", name := "traceLength", desc := "()I" } : Jvm.MethodName) prog_41_method_86_code (1 : Nat) (Option.some Jvm.ClassFile.FieldType.int)) ∈ lw_all := lw_g (lw_at lw_m13 28 rfl) rfl
theorem q3030 : (Jvm.Cond.instanceMethod ({ cls := "ContractMachineModel", name := "stateNameByte", desc := "(II)I" } : Jvm.MethodName)) ∈ lw_all := lw_g (lw_at lw_m13 30 rfl) rfl
theorem q3031 : (Jvm.Cond.selects "ContractMachineModel" ({ cls := "ContractMachineModel", name := "stateNameByte", desc := "(II)I" } : Jvm.MethodName) ({ cls := "ContractMachineModel", name := "stateNameByte", desc := "(II)I" } : Jvm.MethodName)) ∈ lw_all := lw_g (lw_at lw_m13 31 rfl) rfl
theorem q3032 : (Jvm.Cond.code ({ cls := "ContractMachineModel", name := "stateNameByte", desc := "(II)I" } : Jvm.MethodName) prog_41_method_89_code (3 : Nat) (Option.some Jvm.ClassFile.FieldType.int)) ∈ lw_all := lw_g (lw_at lw_m13 32 rfl) rfl
theorem q3033 : (Jvm.Cond.methodLink "ContractMachineModel" (370 : Nat) ({ cls := "ContractMachineModel", name := "no", desc := "(II)Z" } : Jvm.MethodName)) ∈ lw_all := lw_g (lw_at lw_m13 33 rfl) rfl
theorem q3034 : (Jvm.Cond.privateMethod ({ cls := "ContractMachineModel", name := "no", desc := "(II)Z" } : Jvm.MethodName)) ∈ lw_tbl := lw_at lw_m13 34 rfl
theorem q3035 : (Jvm.Cond.instanceMethod ({ cls := "ContractMachineModel", name := "no", desc := "(II)Z" } : Jvm.MethodName)) ∈ lw_all := lw_g (lw_at lw_m13 35 rfl) rfl
theorem q3036 : (Jvm.Cond.code ({ cls := "ContractMachineModel", name := "no", desc := "(II)Z" } : Jvm.MethodName) prog_41_method_87_code (3 : Nat) (Option.some Jvm.ClassFile.FieldType.boolean)) ∈ lw_all := lw_g (lw_at lw_m13 36 rfl) rfl
theorem q3037 : (Jvm.Cond.methodLink "ContractMachineModel" (366 : Nat) ({ cls := "ContractMachineModel", name := "fails", desc := "(ZI)Z" } : Jvm.MethodName)) ∈ lw_all := lw_g (lw_at lw_m13 37 rfl) rfl
theorem q3038 : (Jvm.Cond.privateMethod ({ cls := "ContractMachineModel", name := "fails", desc := "(ZI)Z" } : Jvm.MethodName)) ∈ lw_tbl := lw_at lw_m13 38 rfl
theorem q3039 : (Jvm.Cond.instanceMethod ({ cls := "ContractMachineModel", name := "fails", desc := "(ZI)Z" } : Jvm.MethodName)) ∈ lw_all := lw_g (lw_at lw_m13 39 rfl) rfl
theorem q3040 : (Jvm.Cond.code ({ cls := "ContractMachineModel", name := "fails", desc := "(ZI)Z" } : Jvm.MethodName) prog_41_method_5_code (3 : Nat) (Option.some Jvm.ClassFile.FieldType.boolean)) ∈ lw_all := lw_g (lw_at lw_m13 40 rfl) rfl
theorem q3041 : (Jvm.Cond.methodLink "ContractMachineModel" (373 : Nat) ({ cls := "ContractMachineModel", name := "letter", desc := "(II)I" } : Jvm.MethodName)) ∈ lw_all := lw_g (lw_at lw_m13 41 rfl) rfl
theorem q3042 : (Jvm.Cond.privateMethod ({ cls := "ContractMachineModel", name := "letter", desc := "(II)I" } : Jvm.MethodName)) ∈ lw_tbl := lw_at lw_m13 42 rfl
theorem q3043 : (Jvm.Cond.instanceMethod ({ cls := "ContractMachineModel", name := "letter", desc := "(II)I" } : Jvm.MethodName)) ∈ lw_all := lw_g (lw_at lw_m13 43 rfl) rfl
theorem q3044 : (Jvm.Cond.code ({ cls := "ContractMachineModel", name := "letter", desc := "(II)I" } : Jvm.MethodName) prog_41_method_88_code (3 : Nat) (Option.some Jvm.ClassFile.FieldType.int)) ∈ lw_all := lw_g (lw_at lw_m13 44 rfl) rfl
theorem q3046 : (Jvm.Cond.instanceMethod ({ cls := "ContractMachineModel", name := "eventNameByte", desc := "(II)I" } : Jvm.MethodName)) ∈ lw_all := lw_g (lw_at lw_m13 46 rfl) rfl
theorem q3047 : (Jvm.Cond.selects "ContractMachineModel" ({ cls := "ContractMachineModel", name := "eventNameByte", desc := "(II)I" } : Jvm.MethodName) ({ cls := "ContractMachineModel", name := "eventNameByte", desc := "(II)I" } : Jvm.MethodName)) ∈ lw_all := lw_g (lw_at lw_m13 47 rfl) rfl
theorem q3048 : (Jvm.Cond.code ({ cls := "ContractMachineModel", name := "eventNameByte", desc := "(II)I" } : Jvm.MethodName) prog_41_method_90_code (3 : Nat) (Option.some Jvm.ClassFile.FieldType.int)) ∈ lw_all := lw_g (lw_at lw_m13 48 rfl) rfl
theorem q3050 : (Jvm.Cond.instanceMethod ({ cls := "ContractMachineModel", name := "variableNameByte", desc := "(II)I" } : Jvm.MethodName)) ∈ lw_all := lw_g (lw_at lw_m13 50 rfl) rfl
theorem q3051 : (Jvm.Cond.selects "ContractMachineModel" ({ cls := "ContractMachineModel", name := "variableNameByte", desc := "(II)I" } : Jvm.MethodName) ({ cls := "ContractMachineModel", name := "variableNameByte", desc := "(II)I" } : Jvm.MethodName)) ∈ lw_all := lw_g (lw_at lw_m13 51 rfl) rfl
theorem q3052 : (Jvm.Cond.code ({ cls := "ContractMachineModel", name := "variableNameByte", desc := "(II)I" } : Jvm.MethodName) prog_41_method_91_code (3 : Nat) (Option.some Jvm.ClassFile.FieldType.int)) ∈ lw_all := lw_g (lw_at lw_m13 52 rfl) rfl
theorem q3054 : (Jvm.Cond.instanceMethod ({ cls := "ContractMachineModel", name := "sourceOf", desc := "(I)I" } : Jvm.MethodName)) ∈ lw_all := lw_g (lw_at lw_m13 54 rfl) rfl
theorem q3055 : (Jvm.Cond.selects "ContractMachineModel" ({ cls := "ContractMachineModel", name := "sourceOf", desc := "(I)I" } : Jvm.MethodName) ({ cls := "ContractMachineModel", name := "sourceOf", desc := "(I)I" } : Jvm.MethodName)) ∈ lw_all := lw_g (lw_at lw_m13 55 rfl) rfl
theorem q3056 : (Jvm.Cond.code ({ cls := "ContractMachineModel", name := "sourceOf", desc := "(I)I" } : Jvm.MethodName) prog_41_method_92_code (2 : Nat) (Option.some Jvm.ClassFile.FieldType.int)) ∈ lw_all := lw_g (lw_at lw_m13 56 rfl) rfl
theorem q3058 : (Jvm.Cond.instanceMethod ({ cls := "ContractMachineModel", name := "eventOf", desc := "(I)I" } : Jvm.MethodName)) ∈ lw_all := lw_g (lw_at lw_m13 58 rfl) rfl
theorem q3059 : (Jvm.Cond.selects "ContractMachineModel" ({ cls := "ContractMachineModel", name := "eventOf", desc := "(I)I" } : Jvm.MethodName) ({ cls := "ContractMachineModel", name := "eventOf", desc := "(I)I" } : Jvm.MethodName)) ∈ lw_all := lw_g (lw_at lw_m13 59 rfl) rfl
theorem q3060 : (Jvm.Cond.code ({ cls := "ContractMachineModel", name := "eventOf", desc := "(I)I" } : Jvm.MethodName) prog_41_method_93_code (2 : Nat) (Option.some Jvm.ClassFile.FieldType.int)) ∈ lw_all := lw_g (lw_at lw_m13 60 rfl) rfl
theorem q3062 : (Jvm.Cond.instanceMethod ({ cls := "ContractMachineModel", name := "targetOf", desc := "(I)I" } : Jvm.MethodName)) ∈ lw_all := lw_g (lw_at lw_m13 62 rfl) rfl
theorem q3063 : (Jvm.Cond.selects "ContractMachineModel" ({ cls := "ContractMachineModel", name := "targetOf", desc := "(I)I" } : Jvm.MethodName) ({ cls := "ContractMachineModel", name := "targetOf", desc := "(I)I" } : Jvm.MethodName)) ∈ lw_all := lw_g (lw_at lw_m13 63 rfl) rfl
theorem q3064 : (Jvm.Cond.code ({ cls := "ContractMachineModel", name := "targetOf", desc := "(I)I" } : Jvm.MethodName) prog_41_method_94_code (2 : Nat) (Option.some Jvm.ClassFile.FieldType.int)) ∈ lw_all := lw_g (lw_at lw_m13 64 rfl) rfl
theorem q3066 : (Jvm.Cond.instanceMethod ({ cls := "ContractMachineModel", name := "timesTaken", desc := "(I)I" } : Jvm.MethodName)) ∈ lw_all := lw_g (lw_at lw_m13 66 rfl) rfl
theorem q3067 : (Jvm.Cond.selects "ContractMachineModel" ({ cls := "ContractMachineModel", name := "timesTaken", desc := "(I)I" } : Jvm.MethodName) ({ cls := "ContractMachineModel", name := "timesTaken", desc := "(I)I" } : Jvm.MethodName)) ∈ lw_all := lw_g (lw_at lw_m13 67 rfl) rfl
theorem q3068 : (Jvm.Cond.code ({ cls := "ContractMachineModel", name := "timesTaken", desc := "(I)I" } : Jvm.MethodName) prog_41_method_95_code (2 : Nat) (Option.some Jvm.ClassFile.FieldType.int)) ∈ lw_all := lw_g (lw_at lw_m13 68 rfl) rfl
theorem q3070 : (Jvm.Cond.instanceMethod ({ cls := "ContractMachineModel", name := "valueOf", desc := "(I)I" } : Jvm.MethodName)) ∈ lw_all := lw_g (lw_at lw_m13 70 rfl) rfl
theorem q3071 : (Jvm.Cond.selects "ContractMachineModel" ({ cls := "ContractMachineModel", name := "valueOf", desc := "(I)I" } : Jvm.MethodName) ({ cls := "ContractMachineModel", name := "valueOf", desc := "(I)I" } : Jvm.MethodName)) ∈ lw_all := lw_g (lw_at lw_m13 71 rfl) rfl
theorem q3072 : (Jvm.Cond.code ({ cls := "ContractMachineModel", name := "valueOf", desc := "(I)I" } : Jvm.MethodName) prog_41_method_96_code (2 : Nat) (Option.some Jvm.ClassFile.FieldType.int)) ∈ lw_all := lw_g (lw_at lw_m13 72 rfl) rfl
theorem q3074 : (Jvm.Cond.instanceMethod ({ cls := "ContractMachineModel", name := "initialValueOf", desc := "(I)I" } : Jvm.MethodName)) ∈ lw_all := lw_g (lw_at lw_m13 74 rfl) rfl
theorem q3075 : (Jvm.Cond.selects "ContractMachineModel" ({ cls := "ContractMachineModel", name := "initialValueOf", desc := "(I)I" } : Jvm.MethodName) ({ cls := "ContractMachineModel", name := "initialValueOf", desc := "(I)I" } : Jvm.MethodName)) ∈ lw_all := lw_g (lw_at lw_m13 75 rfl) rfl
theorem q3076 : (Jvm.Cond.code ({ cls := "ContractMachineModel", name := "initialValueOf", desc := "(I)I" } : Jvm.MethodName) prog_41_method_97_code (2 : Nat) (Option.some Jvm.ClassFile.FieldType.int)) ∈ lw_all := lw_g (lw_at lw_m13 76 rfl) rfl
theorem q3078 : (Jvm.Cond.instanceMethod ({ cls := "ContractMachineModel", name := "hasGuard", desc := "(I)Z" } : Jvm.MethodName)) ∈ lw_all := lw_g (lw_at lw_m13 78 rfl) rfl
theorem q3079 : (Jvm.Cond.selects "ContractMachineModel" ({ cls := "ContractMachineModel", name := "hasGuard", desc := "(I)Z" } : Jvm.MethodName) ({ cls := "ContractMachineModel", name := "hasGuard", desc := "(I)Z" } : Jvm.MethodName)) ∈ lw_all := lw_g (lw_at lw_m13 79 rfl) rfl
theorem q3080 : (Jvm.Cond.code ({ cls := "ContractMachineModel", name := "hasGuard", desc := "(I)Z" } : Jvm.MethodName) prog_41_method_98_code (2 : Nat) (Option.some Jvm.ClassFile.FieldType.boolean)) ∈ lw_all := lw_g (lw_at lw_m13 80 rfl) rfl
theorem q3082 : (Jvm.Cond.instanceMethod ({ cls := "ContractMachineModel", name := "guardHolds", desc := "(I)Z" } : Jvm.MethodName)) ∈ lw_all := lw_g (lw_at lw_m13 82 rfl) rfl
theorem q3083 : (Jvm.Cond.selects "ContractMachineModel" ({ cls := "ContractMachineModel", name := "guardHolds", desc := "(I)Z" } : Jvm.MethodName) ({ cls := "ContractMachineModel", name := "guardHolds", desc := "(I)Z" } : Jvm.MethodName)) ∈ lw_all := lw_g (lw_at lw_m13 83 rfl) rfl
theorem q3084 : (Jvm.Cond.code ({ cls := "ContractMachineModel", name := "guardHolds", desc := "(I)Z" } : Jvm.MethodName) prog_41_method_99_code (2 : Nat) (Option.some Jvm.ClassFile.FieldType.boolean)) ∈ lw_all := lw_g (lw_at lw_m13 84 rfl) rfl
theorem q3086 : (Jvm.Cond.instanceMethod ({ cls := "ContractMachineModel", name := "stateOfInvariant", desc := "(I)I" } : Jvm.MethodName)) ∈ lw_all := lw_g (lw_at lw_m13 86 rfl) rfl
theorem q3087 : (Jvm.Cond.selects "ContractMachineModel" ({ cls := "ContractMachineModel", name := "stateOfInvariant", desc := "(I)I" } : Jvm.MethodName) ({ cls := "ContractMachineModel", name := "stateOfInvariant", desc := "(I)I" } : Jvm.MethodName)) ∈ lw_all := lw_g (lw_at lw_m13 87 rfl) rfl
theorem q3088 : (Jvm.Cond.code ({ cls := "ContractMachineModel", name := "stateOfInvariant", desc := "(I)I" } : Jvm.MethodName) prog_41_method_100_code (2 : Nat) (Option.some Jvm.ClassFile.FieldType.int)) ∈ lw_all := lw_g (lw_at lw_m13 88 rfl) rfl
theorem q3090 : (Jvm.Cond.instanceMethod ({ cls := "ContractMachineModel", name := "comparisonHolds", desc := "(I)Z" } : Jvm.MethodName)) ∈ lw_all := lw_g (lw_at lw_m13 90 rfl) rfl
theorem q3091 : (Jvm.Cond.selects "ContractMachineModel" ({ cls := "ContractMachineModel", name := "comparisonHolds", desc := "(I)Z" } : Jvm.MethodName) ({ cls := "ContractMachineModel", name := "comparisonHolds", desc := "(I)Z" } : Jvm.MethodName)) ∈ lw_all := lw_g (lw_at lw_m13 91 rfl) rfl
theorem q3092 : (Jvm.Cond.code ({ cls := "ContractMachineModel", name := "comparisonHolds", desc := "(I)Z" } : Jvm.MethodName) prog_41_method_101_code (2 : Nat) (Option.some Jvm.ClassFile.FieldType.boolean)) ∈ lw_all := lw_g (lw_at lw_m13 92 rfl) rfl
theorem q3094 : (Jvm.Cond.instanceMethod ({ cls := "ContractMachineModel", name := "verdictOf", desc := "(I)I" } : Jvm.MethodName)) ∈ lw_all := lw_g (lw_at lw_m13 94 rfl) rfl
theorem q3095 : (Jvm.Cond.selects "ContractMachineModel" ({ cls := "ContractMachineModel", name := "verdictOf", desc := "(I)I" } : Jvm.MethodName) ({ cls := "ContractMachineModel", name := "verdictOf", desc := "(I)I" } : Jvm.MethodName)) ∈ lw_all := lw_g (lw_at lw_m13 95 rfl) rfl
theorem q3096 : (Jvm.Cond.code ({ cls := "ContractMachineModel", name := "verdictOf", desc := "(I)I" } : Jvm.MethodName) prog_41_method_102_code (2 : Nat) (Option.some Jvm.ClassFile.FieldType.int)) ∈ lw_all := lw_g (lw_at lw_m13 96 rfl) rfl
theorem q3098 : (Jvm.Cond.instanceMethod ({ cls := "ContractMachineModel", name := "chosenTransition", desc := "(I)I" } : Jvm.MethodName)) ∈ lw_all := lw_g (lw_at lw_m13 98 rfl) rfl
theorem q3099 : (Jvm.Cond.selects "ContractMachineModel" ({ cls := "ContractMachineModel", name := "chosenTransition", desc := "(I)I" } : Jvm.MethodName) ({ cls := "ContractMachineModel", name := "chosenTransition", desc := "(I)I" } : Jvm.MethodName)) ∈ lw_all := lw_g (lw_at lw_m13 99 rfl) rfl
theorem q3100 : (Jvm.Cond.code ({ cls := "ContractMachineModel", name := "chosenTransition", desc := "(I)I" } : Jvm.MethodName) prog_41_method_103_code (3 : Nat) (Option.some Jvm.ClassFile.FieldType.int)) ∈ lw_all := lw_g (lw_at lw_m13 100 rfl) rfl
theorem q3102 : (Jvm.Cond.instanceMethod ({ cls := "ContractMachineModel", name := "brokenInvariant", desc := "(I)I" } : Jvm.MethodName)) ∈ lw_all := lw_g (lw_at lw_m13 102 rfl) rfl
theorem q3103 : (Jvm.Cond.selects "ContractMachineModel" ({ cls := "ContractMachineModel", name := "brokenInvariant", desc := "(I)I" } : Jvm.MethodName) ({ cls := "ContractMachineModel", name := "brokenInvariant", desc := "(I)I" } : Jvm.MethodName)) ∈ lw_all := lw_g (lw_at lw_m13 103 rfl) rfl
theorem q3104 : (Jvm.Cond.code ({ cls := "ContractMachineModel", name := "brokenInvariant", desc := "(I)I" } : Jvm.MethodName) prog_41_method_104_code (2 : Nat) (Option.some Jvm.ClassFile.FieldType.int)) ∈ lw_all := lw_g (lw_at lw_m13 104 rfl) rfl
theorem q3106 : (Jvm.Cond.instanceMethod ({ cls := "ContractMachineModel", name := "isDeadlocked", desc := "()Z" } : Jvm.MethodName)) ∈ lw_all := lw_g (lw_at lw_m13 106 rfl) rfl
theorem q3107 : (Jvm.Cond.selects "ContractMachineModel" ({ cls := "ContractMachineModel", name := "isDeadlocked", desc := "()Z" } : Jvm.MethodName) ({ cls := "ContractMachineModel", name := "isDeadlocked", desc := "()Z" } : Jvm.MethodName)) ∈ lw_all := lw_g (lw_at lw_m13 107 rfl) rfl
theorem q3108 : (Jvm.Cond.code ({ cls := "ContractMachineModel", name := "isDeadlocked", desc := "()Z" } : Jvm.MethodName) prog_41_method_105_code (1 : Nat) (Option.some Jvm.ClassFile.FieldType.boolean)) ∈ lw_all := lw_g (lw_at lw_m13 108 rfl) rfl
theorem q3109 : (Jvm.Cond.methodLink "ContractMachineModel" (376 : Nat) ({ cls := "ContractMachineModel", name := "isStuck", desc := "(I)Z" } : Jvm.MethodName)) ∈ lw_all := lw_g (lw_at lw_m13 109 rfl) rfl
theorem q3110 : (Jvm.Cond.privateMethod ({ cls := "ContractMachineModel", name := "isStuck", desc := "(I)Z" } : Jvm.MethodName)) ∈ lw_tbl := lw_at lw_m13 110 rfl
theorem q3111 : (Jvm.Cond.instanceMethod ({ cls := "ContractMachineModel", name := "isStuck", desc := "(I)Z" } : Jvm.MethodName)) ∈ lw_all := lw_g (lw_at lw_m13 111 rfl) rfl
theorem q3112 : (Jvm.Cond.code ({ cls := "ContractMachineModel", name := "isStuck", desc := "(I)Z" } : Jvm.MethodName) prog_41_method_31_code (3 : Nat) (Option.some Jvm.ClassFile.FieldType.boolean)) ∈ lw_all := lw_g (lw_at lw_m13 112 rfl) rfl
theorem q3114 : (Jvm.Cond.instanceMethod ({ cls := "ContractMachineModel", name := "visitsOf", desc := "(I)I" } : Jvm.MethodName)) ∈ lw_all := lw_g (lw_at lw_m13 114 rfl) rfl
theorem q3115 : (Jvm.Cond.selects "ContractMachineModel" ({ cls := "ContractMachineModel", name := "visitsOf", desc := "(I)I" } : Jvm.MethodName) ({ cls := "ContractMachineModel", name := "visitsOf", desc := "(I)I" } : Jvm.MethodName)) ∈ lw_all := lw_g (lw_at lw_m13 115 rfl) rfl
theorem q3116 : (Jvm.Cond.code ({ cls := "ContractMachineModel", name := "visitsOf", desc := "(I)I" } : Jvm.MethodName) prog_41_method_106_code (2 : Nat) (Option.some Jvm.ClassFile.FieldType.int)) ∈ lw_all := lw_g (lw_at lw_m13 116 rfl) rfl
theorem q3118 : (Jvm.Cond.instanceMethod ({ cls := "ContractMachineModel", name := "rejectedWith", desc := "(I)I" } : Jvm.MethodName)) ∈ lw_all := lw_g (lw_at lw_m13 118 rfl) rfl
theorem q3119 : (Jvm.Cond.selects "ContractMachineModel" ({ cls := "ContractMachineModel", name := "rejectedWith", desc := "(I)I" } : Jvm.MethodName) ({ cls := "ContractMachineModel", name := "rejectedWith", desc := "(I)I" } : Jvm.MethodName)) ∈ lw_all := lw_g (lw_at lw_m13 119 rfl) rfl
theorem q3120 : (Jvm.Cond.code ({ cls := "ContractMachineModel", name := "rejectedWith", desc := "(I)I" } : Jvm.MethodName) prog_41_method_107_code (2 : Nat) (Option.some Jvm.ClassFile.FieldType.int)) ∈ lw_all := lw_g (lw_at lw_m13 120 rfl) rfl
theorem q3122 : (Jvm.Cond.instanceMethod ({ cls := "ContractMachineModel", name := "stateCoverage", desc := "()F" } : Jvm.MethodName)) ∈ lw_all := lw_g (lw_at lw_m13 122 rfl) rfl
theorem q3123 : (Jvm.Cond.selects "ContractMachineModel" ({ cls := "ContractMachineModel", name := "stateCoverage", desc := "()F" } : Jvm.MethodName) ({ cls := "ContractMachineModel", name := "stateCoverage", desc := "()F" } : Jvm.MethodName)) ∈ lw_all := lw_g (lw_at lw_m13 123 rfl) rfl
theorem q3124 : (Jvm.Cond.code ({ cls := "ContractMachineModel", name := "stateCoverage", desc := "()F" } : Jvm.MethodName) prog_41_method_110_code (1 : Nat) (Option.some Jvm.ClassFile.FieldType.float)) ∈ lw_all := lw_g (lw_at lw_m13 124 rfl) rfl
theorem q3125 : (Jvm.Cond.methodLink "ContractMachineModel" (383 : Nat) ({ cls := "ContractMachineModel", name := "counted", desc := "(II)I" } : Jvm.MethodName)) ∈ lw_all := lw_g (lw_at lw_m13 125 rfl) rfl
theorem q3126 : (Jvm.Cond.privateMethod ({ cls := "ContractMachineModel", name := "counted", desc := "(II)I" } : Jvm.MethodName)) ∈ lw_tbl := lw_at lw_m13 126 rfl
theorem q3127 : (Jvm.Cond.instanceMethod ({ cls := "ContractMachineModel", name := "counted", desc := "(II)I" } : Jvm.MethodName)) ∈ lw_all := lw_g (lw_at lw_m13 127 rfl) rfl
theorem q3128 : (Jvm.Cond.code ({ cls := "ContractMachineModel", name := "counted", desc := "(II)I" } : Jvm.MethodName) prog_41_method_108_code (5 : Nat) (Option.some Jvm.ClassFile.FieldType.int)) ∈ lw_all := lw_g (lw_at lw_m13 128 rfl) rfl
theorem q3129 : (Jvm.Cond.methodLink "ContractMachineModel" (379 : Nat) ({ cls := "ContractMachineModel", name := "one", desc := "(Z)I" } : Jvm.MethodName)) ∈ lw_all := lw_g (lw_at lw_m13 129 rfl) rfl
theorem q3130 : (Jvm.Cond.static ({ cls := "ContractMachineModel", name := "one", desc := "(Z)I" } : Jvm.MethodName)) ∈ lw_all := lw_g (lw_at lw_m13 130 rfl) rfl
theorem q3131 : (Jvm.Cond.code ({ cls := "ContractMachineModel", name := "one", desc := "(Z)I" } : Jvm.MethodName) prog_41_method_4_code (1 : Nat) (Option.some Jvm.ClassFile.FieldType.int)) ∈ lw_all := lw_g (lw_at lw_m13 131 rfl) rfl
theorem q3133 : (Jvm.Cond.instanceMethod ({ cls := "ContractMachineModel", name := "transitionCoverage", desc := "()F" } : Jvm.MethodName)) ∈ lw_all := lw_g (lw_at lw_m13 133 rfl) rfl
theorem q3134 : (Jvm.Cond.selects "ContractMachineModel" ({ cls := "ContractMachineModel", name := "transitionCoverage", desc := "()F" } : Jvm.MethodName) ({ cls := "ContractMachineModel", name := "transitionCoverage", desc := "()F" } : Jvm.MethodName)) ∈ lw_all := lw_g (lw_at lw_m13 134 rfl) rfl
theorem q3135 : (Jvm.Cond.code ({ cls := "ContractMachineModel", name := "transitionCoverage", desc := "()F" } : Jvm.MethodName) prog_41_method_111_code (1 : Nat) (Option.some Jvm.ClassFile.FieldType.float)) ∈ lw_all := lw_g (lw_at lw_m13 135 rfl) rfl
theorem q3137 : (Jvm.Cond.instanceMethod ({ cls := "ContractMachineModel", name := "firstUncovered", desc := "()I" } : Jvm.MethodName)) ∈ lw_all := lw_g (lw_at lw_m13 137 rfl) rfl
theorem q3138 : (Jvm.Cond.selects "ContractMachineModel" ({ cls := "ContractMachineModel", name := "firstUncovered", desc := "()I" } : Jvm.MethodName) ({ cls := "ContractMachineModel", name := "firstUncovered", desc := "()I" } : Jvm.MethodName)) ∈ lw_all := lw_g (lw_at lw_m13 138 rfl) rfl
theorem q3139 : (Jvm.Cond.code ({ cls := "ContractMachineModel", name := "firstUncovered", desc := "()I" } : Jvm.MethodName) prog_41_method_112_code (2 : Nat) (Option.some Jvm.ClassFile.FieldType.int)) ∈ lw_all := lw_g (lw_at lw_m13 139 rfl) rfl
theorem q3141 : (Jvm.Cond.instanceMethod ({ cls := "ContractMachineModel", name := "mostVisitedState", desc := "()I" } : Jvm.MethodName)) ∈ lw_all := lw_g (lw_at lw_m13 141 rfl) rfl
theorem q3142 : (Jvm.Cond.selects "ContractMachineModel" ({ cls := "ContractMachineModel", name := "mostVisitedState", desc := "()I" } : Jvm.MethodName) ({ cls := "ContractMachineModel", name := "mostVisitedState", desc := "()I" } : Jvm.MethodName)) ∈ lw_all := lw_g (lw_at lw_m13 142 rfl) rfl
theorem q3143 : (Jvm.Cond.code ({ cls := "ContractMachineModel", name := "mostVisitedState", desc := "()I" } : Jvm.MethodName) prog_41_method_113_code (3 : Nat) (Option.some Jvm.ClassFile.FieldType.int)) ∈ lw_all := lw_g (lw_at lw_m13 143 rfl) rfl
theorem q3145 : (Jvm.Cond.instanceMethod ({ cls := "ContractMachineModel", name := "traceEvent", desc := "(I)I" } : Jvm.MethodName)) ∈ lw_all := lw_g (lw_at lw_m13 145 rfl) rfl
theorem q3146 : (Jvm.Cond.selects "ContractMachineModel" ({ cls := "ContractMachineModel", name := "traceEvent", desc := "(I)I" } : Jvm.MethodName) ({ cls := "ContractMachineModel", name := "traceEvent", desc := "(I)I" } : Jvm.MethodName)) ∈ lw_all := lw_g (lw_at lw_m13 146 rfl) rfl
theorem q3147 : (Jvm.Cond.code ({ cls := "ContractMachineModel", name := "traceEvent", desc := "(I)I" } : Jvm.MethodName) prog_41_method_114_code (2 : Nat) (Option.some Jvm.ClassFile.FieldType.int)) ∈ lw_all := lw_g (lw_at lw_m13 147 rfl) rfl
theorem q3149 : (Jvm.Cond.instanceMethod ({ cls := "ContractMachineModel", name := "traceTransition", desc := "(I)I" } : Jvm.MethodName)) ∈ lw_all := lw_g (lw_at lw_m13 149 rfl) rfl
theorem q3150 : (Jvm.Cond.selects "ContractMachineModel" ({ cls := "ContractMachineModel", name := "traceTransition", desc := "(I)I" } : Jvm.MethodName) ({ cls := "ContractMachineModel", name := "traceTransition", desc := "(I)I" } : Jvm.MethodName)) ∈ lw_all := lw_g (lw_at lw_m13 150 rfl) rfl
theorem q3151 : (Jvm.Cond.code ({ cls := "ContractMachineModel", name := "traceTransition", desc := "(I)I" } : Jvm.MethodName) prog_41_method_115_code (2 : Nat) (Option.some Jvm.ClassFile.FieldType.int)) ∈ lw_all := lw_g (lw_at lw_m13 151 rfl) rfl
theorem q3153 : (Jvm.Cond.instanceMethod ({ cls := "ContractMachineModel", name := "reachableCount", desc := "()I" } : Jvm.MethodName)) ∈ lw_all := lw_g (lw_at lw_m13 153 rfl) rfl
theorem q3154 : (Jvm.Cond.selects "ContractMachineModel" ({ cls := "ContractMachineModel", name := "reachableCount", desc := "()I" } : Jvm.MethodName) ({ cls := "ContractMachineModel", name := "reachableCount", desc := "()I" } : Jvm.MethodName)) ∈ lw_all := lw_g (lw_at lw_m13 154 rfl) rfl
theorem q3155 : (Jvm.Cond.code ({ cls := "ContractMachineModel", name := "reachableCount", desc := "()I" } : Jvm.MethodName) prog_41_method_116_code (1 : Nat) (Option.some Jvm.ClassFile.FieldType.int)) ∈ lw_all := lw_g (lw_at lw_m13 155 rfl) rfl
theorem q3156 : (Jvm.Cond.methodLink "ContractMachineModel" (147 : Nat) ({ cls := "ContractMachineModel", name := "searches", desc := "(I)V" } : Jvm.MethodName)) ∈ lw_all := lw_g (lw_at lw_m13 156 rfl) rfl
theorem q3157 : (Jvm.Cond.privateMethod ({ cls := "ContractMachineModel", name := "searches", desc := "(I)V" } : Jvm.MethodName)) ∈ lw_tbl := lw_at lw_m13 157 rfl
theorem q3158 : (Jvm.Cond.instanceMethod ({ cls := "ContractMachineModel", name := "searches", desc := "(I)V" } : Jvm.MethodName)) ∈ lw_all := lw_g (lw_at lw_m13 158 rfl) rfl
theorem q3159 : (Jvm.Cond.code ({ cls := "ContractMachineModel", name := "searches", desc := "(I)V" } : Jvm.MethodName) prog_41_method_33_code (5 : Nat) (Option.none : Option Jvm.ClassFile.FieldType)) ∈ lw_all := lw_g (lw_at lw_m13 159 rfl) rfl
theorem q3160 : (Jvm.Cond.methodLink "ContractMachineModel" (143 : Nat) ({ cls := "ContractMachineModel", name := "reaches", desc := "(II)V" } : Jvm.MethodName)) ∈ lw_all := lw_g (lw_at lw_m13 160 rfl) rfl
theorem q3161 : (Jvm.Cond.privateMethod ({ cls := "ContractMachineModel", name := "reaches", desc := "(II)V" } : Jvm.MethodName)) ∈ lw_tbl := lw_at lw_m13 161 rfl
theorem q3162 : (Jvm.Cond.instanceMethod ({ cls := "ContractMachineModel", name := "reaches", desc := "(II)V" } : Jvm.MethodName)) ∈ lw_all := lw_g (lw_at lw_m13 162 rfl) rfl
theorem q3163 : (Jvm.Cond.code ({ cls := "ContractMachineModel", name := "reaches", desc := "(II)V" } : Jvm.MethodName) prog_41_method_32_code (3 : Nat) (Option.none : Option Jvm.ClassFile.FieldType)) ∈ lw_all := lw_g (lw_at lw_m13 163 rfl) rfl
theorem q3165 : (Jvm.Cond.instanceMethod ({ cls := "ContractMachineModel", name := "isReachable", desc := "(I)Z" } : Jvm.MethodName)) ∈ lw_all := lw_g (lw_at lw_m13 165 rfl) rfl
theorem q3166 : (Jvm.Cond.selects "ContractMachineModel" ({ cls := "ContractMachineModel", name := "isReachable", desc := "(I)Z" } : Jvm.MethodName) ({ cls := "ContractMachineModel", name := "isReachable", desc := "(I)Z" } : Jvm.MethodName)) ∈ lw_all := lw_g (lw_at lw_m13 166 rfl) rfl
theorem q3167 : (Jvm.Cond.code ({ cls := "ContractMachineModel", name := "isReachable", desc := "(I)Z" } : Jvm.MethodName) prog_41_method_117_code (2 : Nat) (Option.some Jvm.ClassFile.FieldType.boolean)) ∈ lw_all := lw_g (lw_at lw_m13 167 rfl) rfl
theorem q3168 : (Jvm.Cond.methodLink "ContractMachineModel" (386 : Nat) ({ cls := "ContractMachineModel", name := "stepsBetween", desc := "(II)I" } : Jvm.MethodName)) ∈ lw_all := lw_g (lw_at lw_m13 168 rfl) rfl
theorem q3169 : (Jvm.Cond.privateMethod ({ cls := "ContractMachineModel", name := "stepsBetween", desc := "(II)I" } : Jvm.MethodName)) ∈ lw_tbl := lw_at lw_m13 169 rfl
theorem q3170 : (Jvm.Cond.instanceMethod ({ cls := "ContractMachineModel", name := "stepsBetween", desc := "(II)I" } : Jvm.MethodName)) ∈ lw_all := lw_g (lw_at lw_m13 170 rfl) rfl
theorem q3171 : (Jvm.Cond.code ({ cls := "ContractMachineModel", name := "stepsBetween", desc := "(II)I" } : Jvm.MethodName) prog_41_method_34_code (4 : Nat) (Option.some Jvm.ClassFile.FieldType.int)) ∈ lw_all := lw_g (lw_at lw_m13 171 rfl) rfl
theorem q3173 : (Jvm.Cond.instanceMethod ({ cls := "ContractMachineModel", name := "canBeTaken", desc := "(I)Z" } : Jvm.MethodName)) ∈ lw_all := lw_g (lw_at lw_m13 173 rfl) rfl
theorem q3174 : (Jvm.Cond.selects "ContractMachineModel" ({ cls := "ContractMachineModel", name := "canBeTaken", desc := "(I)Z" } : Jvm.MethodName) ({ cls := "ContractMachineModel", name := "canBeTaken", desc := "(I)Z" } : Jvm.MethodName)) ∈ lw_all := lw_g (lw_at lw_m13 174 rfl) rfl
theorem q3175 : (Jvm.Cond.code ({ cls := "ContractMachineModel", name := "canBeTaken", desc := "(I)Z" } : Jvm.MethodName) prog_41_method_118_code (3 : Nat) (Option.some Jvm.ClassFile.FieldType.boolean)) ∈ lw_all := lw_g (lw_at lw_m13 175 rfl) rfl
theorem q3177 : (Jvm.Cond.instanceMethod ({ cls := "ContractMachineModel", name := "stepsTo", desc := "(I)I" } : Jvm.MethodName)) ∈ lw_all := lw_g (lw_at lw_m13 177 rfl) rfl
theorem q3178 : (Jvm.Cond.selects "ContractMachineModel" ({ cls := "ContractMachineModel", name := "stepsTo", desc := "(I)I" } : Jvm.MethodName) ({ cls := "ContractMachineModel", name := "stepsTo", desc := "(I)I" } : Jvm.MethodName)) ∈ lw_all := lw_g (lw_at lw_m13 178 rfl) rfl
theorem q3179 : (Jvm.Cond.code ({ cls := "ContractMachineModel", name := "stepsTo", desc := "(I)I" } : Jvm.MethodName) prog_41_method_119_code (2 : Nat) (Option.some Jvm.ClassFile.FieldType.int)) ∈ lw_all := lw_g (lw_at lw_m13 179 rfl) rfl
theorem q3181 : (Jvm.Cond.instanceMethod ({ cls := "ContractMachineModel", name := "firstEventTo", desc := "(I)I" } : Jvm.MethodName)) ∈ lw_all := lw_g (lw_at lw_m13 181 rfl) rfl
theorem q3182 : (Jvm.Cond.selects "ContractMachineModel" ({ cls := "ContractMachineModel", name := "firstEventTo", desc := "(I)I" } : Jvm.MethodName) ({ cls := "ContractMachineModel", name := "firstEventTo", desc := "(I)I" } : Jvm.MethodName)) ∈ lw_all := lw_g (lw_at lw_m13 182 rfl) rfl
theorem q3183 : (Jvm.Cond.code ({ cls := "ContractMachineModel", name := "firstEventTo", desc := "(I)I" } : Jvm.MethodName) prog_41_method_120_code (4 : Nat) (Option.some Jvm.ClassFile.FieldType.int)) ∈ lw_all := lw_g (lw_at lw_m13 183 rfl) rfl
theorem q3185 : (Jvm.Cond.instanceMethod ({ cls := "ContractMachineModel", name := "deadlockCount", desc := "()I" } : Jvm.MethodName)) ∈ lw_all := lw_g (lw_at lw_m13 185 rfl) rfl
theorem q3186 : (Jvm.Cond.selects "ContractMachineModel" ({ cls := "ContractMachineModel", name := "deadlockCount", desc := "()I" } : Jvm.MethodName) ({ cls := "ContractMachineModel", name := "deadlockCount", desc := "()I" } : Jvm.MethodName)) ∈ lw_all := lw_g (lw_at lw_m13 186 rfl) rfl
theorem q3187 : (Jvm.Cond.code ({ cls := "ContractMachineModel", name := "deadlockCount", desc := "()I" } : Jvm.MethodName) prog_41_method_121_code (3 : Nat) (Option.some Jvm.ClassFile.FieldType.int)) ∈ lw_all := lw_g (lw_at lw_m13 187 rfl) rfl
theorem q3189 : (Jvm.Cond.instanceMethod ({ cls := "ContractMachineModel", name := "stepsToDeadlock", desc := "()I" } : Jvm.MethodName)) ∈ lw_all := lw_g (lw_at lw_m13 189 rfl) rfl
theorem q3190 : (Jvm.Cond.selects "ContractMachineModel" ({ cls := "ContractMachineModel", name := "stepsToDeadlock", desc := "()I" } : Jvm.MethodName) ({ cls := "ContractMachineModel", name := "stepsToDeadlock", desc := "()I" } : Jvm.MethodName)) ∈ lw_all := lw_g (lw_at lw_m13 190 rfl) rfl
theorem q3191 : (Jvm.Cond.code ({ cls := "ContractMachineModel", name := "stepsToDeadlock", desc := "()I" } : Jvm.MethodName) prog_41_method_122_code (2 : Nat) (Option.some Jvm.ClassFile.FieldType.int)) ∈ lw_all := lw_g (lw_at lw_m13 191 rfl) rfl
theorem q3193 : (Jvm.Cond.instanceMethod ({ cls := "ContractMachineModel", name := "isConsistent", desc := "()Z" } : Jvm.MethodName)) ∈ lw_all := lw_g (lw_at lw_m13 193 rfl) rfl
theorem q3194 : (Jvm.Cond.selects "ContractMachineModel" ({ cls := "ContractMachineModel", name := "isConsistent", desc := "()Z" } : Jvm.MethodName) ({ cls := "ContractMachineModel", name := "isConsistent", desc := "()Z" } : Jvm.MethodName)) ∈ lw_all := lw_g (lw_at lw_m13 194 rfl) rfl
theorem q3195 : (Jvm.Cond.code ({ cls := "ContractMachineModel", name := "isConsistent", desc := "()Z" } : Jvm.MethodName) prog_41_method_124_code (3 : Nat) (Option.some Jvm.ClassFile.FieldType.boolean)) ∈ lw_all := lw_g (lw_at lw_m13 195 rfl) rfl
theorem q3196 : (Jvm.Cond.methodLink "ContractMachineModel" (389 : Nat) ({ cls := "ContractMachineModel", name := "sumOf", desc := "(II)I" } : Jvm.MethodName)) ∈ lw_all := lw_g (lw_at lw_m13 196 rfl) rfl
theorem q3197 : (Jvm.Cond.privateMethod ({ cls := "ContractMachineModel", name := "sumOf", desc := "(II)I" } : Jvm.MethodName)) ∈ lw_tbl := lw_at lw_m13 197 rfl
theorem q3198 : (Jvm.Cond.instanceMethod ({ cls := "ContractMachineModel", name := "sumOf", desc := "(II)I" } : Jvm.MethodName)) ∈ lw_all := lw_g (lw_at lw_m13 198 rfl) rfl
theorem q3199 : (Jvm.Cond.code ({ cls := "ContractMachineModel", name := "sumOf", desc := "(II)I" } : Jvm.MethodName) prog_41_method_109_code (5 : Nat) (Option.some Jvm.ClassFile.FieldType.int)) ∈ lw_all := lw_g (lw_at lw_m13 199 rfl) rfl
theorem q3200 : (Jvm.Cond.methodLink "ContractMachineModel" (392 : Nat) ({ cls := "ContractMachineModel", name := "deepCount", desc := "()I" } : Jvm.MethodName)) ∈ lw_all := lw_g (lw_at lw_m13 200 rfl) rfl
theorem q3201 : (Jvm.Cond.privateMethod ({ cls := "ContractMachineModel", name := "deepCount", desc := "()I" } : Jvm.MethodName)) ∈ lw_tbl := lw_at lw_m13 201 rfl
theorem q3202 : (Jvm.Cond.instanceMethod ({ cls := "ContractMachineModel", name := "deepCount", desc := "()I" } : Jvm.MethodName)) ∈ lw_all := lw_g (lw_at lw_m13 202 rfl) rfl
theorem q3203 : (Jvm.Cond.code ({ cls := "ContractMachineModel", name := "deepCount", desc := "()I" } : Jvm.MethodName) prog_41_method_123_code (5 : Nat) (Option.some Jvm.ClassFile.FieldType.int)) ∈ lw_all := lw_g (lw_at lw_m13 203 rfl) rfl
theorem q3205 : (Jvm.Cond.instanceMethod ({ cls := "ContractMachineModel", name := "meanValue", desc := "()D" } : Jvm.MethodName)) ∈ lw_all := lw_g (lw_at lw_m13 205 rfl) rfl
theorem q3206 : (Jvm.Cond.selects "ContractMachineModel" ({ cls := "ContractMachineModel", name := "meanValue", desc := "()D" } : Jvm.MethodName) ({ cls := "ContractMachineModel", name := "meanValue", desc := "()D" } : Jvm.MethodName)) ∈ lw_all := lw_g (lw_at lw_m13 206 rfl) rfl
theorem q3207 : (Jvm.Cond.code ({ cls := "ContractMachineModel", name := "meanValue", desc := "()D" } : Jvm.MethodName) prog_41_method_125_code (1 : Nat) (Option.some Jvm.ClassFile.FieldType.double)) ∈ lw_all := lw_g (lw_at lw_m13 207 rfl) rfl
theorem q3209 : (Jvm.Cond.instanceMethod ({ cls := "ContractMachineModel", name := "fire", desc := "(I)I" } : Jvm.MethodName)) ∈ lw_all := lw_g (lw_at lw_m13 209 rfl) rfl
theorem q3210 : (Jvm.Cond.selects "ContractMachineModel" ({ cls := "ContractMachineModel", name := "fire", desc := "(I)I" } : Jvm.MethodName) ({ cls := "ContractMachineModel", name := "fire", desc := "(I)I" } : Jvm.MethodName)) ∈ lw_all := lw_g (lw_at lw_m13 210 rfl) rfl
theorem q3211 : (Jvm.Cond.code ({ cls := "ContractMachineModel", name := "fire", desc := "(I)I" } : Jvm.MethodName) prog_41_method_126_code (2 : Nat) (Option.some Jvm.ClassFile.FieldType.int)) ∈ lw_all := lw_g (lw_at lw_m13 211 rfl) rfl
theorem q3213 : (Jvm.Cond.instanceMethod ({ cls := "ContractMachineModel", name := "setValue", desc := "(II)I" } : Jvm.MethodName)) ∈ lw_all := lw_g (lw_at lw_m13 213 rfl) rfl
theorem q3214 : (Jvm.Cond.selects "ContractMachineModel" ({ cls := "ContractMachineModel", name := "setValue", desc := "(II)I" } : Jvm.MethodName) ({ cls := "ContractMachineModel", name := "setValue", desc := "(II)I" } : Jvm.MethodName)) ∈ lw_all := lw_g (lw_at lw_m13 214 rfl) rfl
theorem q3215 : (Jvm.Cond.code ({ cls := "ContractMachineModel", name := "setValue", desc := "(II)I" } : Jvm.MethodName) prog_41_method_127_code (3 : Nat) (Option.some Jvm.ClassFile.FieldType.int)) ∈ lw_all := lw_g (lw_at lw_m13 215 rfl) rfl
theorem q3217 : (Jvm.Cond.instanceMethod ({ cls := "ContractMachineModel", name := "reset", desc := "()I" } : Jvm.MethodName)) ∈ lw_all := lw_g (lw_at lw_m13 217 rfl) rfl
theorem q3218 : (Jvm.Cond.selects "ContractMachineModel" ({ cls := "ContractMachineModel", name := "reset", desc := "()I" } : Jvm.MethodName) ({ cls := "ContractMachineModel", name := "reset", desc := "()I" } : Jvm.MethodName)) ∈ lw_all := lw_g (lw_at lw_m13 218 rfl) rfl
theorem q3219 : (Jvm.Cond.code ({ cls := "ContractMachineModel", name := "reset", desc := "()I" } : Jvm.MethodName) prog_41_method_128_code (1 : Nat) (Option.some Jvm.ClassFile.FieldType.int)) ∈ lw_all := lw_g (lw_at lw_m13 219 rfl) rfl
theorem q3221 : (Jvm.Cond.instanceMethod ({ cls := "ContractMachineModel", name := "clearCoverage", desc := "()I" } : Jvm.MethodName)) ∈ lw_all := lw_g (lw_at lw_m13 221 rfl) rfl
theorem q3222 : (Jvm.Cond.selects "ContractMachineModel" ({ cls := "ContractMachineModel", name := "clearCoverage", desc := "()I" } : Jvm.MethodName) ({ cls := "ContractMachineModel", name := "clearCoverage", desc := "()I" } : Jvm.MethodName)) ∈ lw_all := lw_g (lw_at lw_m13 222 rfl) rfl
theorem q3223 : (Jvm.Cond.code ({ cls := "ContractMachineModel", name := "clearCoverage", desc := "()I" } : Jvm.MethodName) prog_41_method_129_code (1 : Nat) (Option.some Jvm.ClassFile.FieldType.int)) ∈ lw_all := lw_g (lw_at lw_m13 223 rfl) rfl
theorem q3225 : (Jvm.Cond.instanceMethod ({ cls := "ContractMachineModel", name := "addAlways", desc := "(III)I" } : Jvm.MethodName)) ∈ lw_all := lw_g (lw_at lw_m13 225 rfl) rfl
theorem q3226 : (Jvm.Cond.selects "ContractMachineModel" ({ cls := "ContractMachineModel", name := "addAlways", desc := "(III)I" } : Jvm.MethodName) ({ cls := "ContractMachineModel", name := "addAlways", desc := "(III)I" } : Jvm.MethodName)) ∈ lw_all := lw_g (lw_at lw_m13 226 rfl) rfl
theorem q3227 : (Jvm.Cond.code ({ cls := "ContractMachineModel", name := "addAlways", desc := "(III)I" } : Jvm.MethodName) prog_41_method_131_code (4 : Nat) (Option.some Jvm.ClassFile.FieldType.int)) ∈ lw_all := lw_g (lw_at lw_m13 227 rfl) rfl
theorem q3228 : (Jvm.Cond.methodLink "ContractMachineModel" (395 : Nat) ({ cls := "ContractMachineModel", name := "mayKeep", desc := "(III)Z" } : Jvm.MethodName)) ∈ lw_all := lw_g (lw_at lw_m13 228 rfl) rfl
theorem q3229 : (Jvm.Cond.privateMethod ({ cls := "ContractMachineModel", name := "mayKeep", desc := "(III)Z" } : Jvm.MethodName)) ∈ lw_tbl := lw_at lw_m13 229 rfl
theorem q3230 : (Jvm.Cond.instanceMethod ({ cls := "ContractMachineModel", name := "mayKeep", desc := "(III)Z" } : Jvm.MethodName)) ∈ lw_all := lw_g (lw_at lw_m13 230 rfl) rfl
theorem q3231 : (Jvm.Cond.code ({ cls := "ContractMachineModel", name := "mayKeep", desc := "(III)Z" } : Jvm.MethodName) prog_41_method_130_code (4 : Nat) (Option.some Jvm.ClassFile.FieldType.boolean)) ∈ lw_all := lw_g (lw_at lw_m13 231 rfl) rfl
theorem q3233 : (Jvm.Cond.instanceMethod ({ cls := "ContractMachineModel", name := "undo", desc := "()I" } : Jvm.MethodName)) ∈ lw_all := lw_g (lw_at lw_m13 233 rfl) rfl
theorem q3234 : (Jvm.Cond.selects "ContractMachineModel" ({ cls := "ContractMachineModel", name := "undo", desc := "()I" } : Jvm.MethodName) ({ cls := "ContractMachineModel", name := "undo", desc := "()I" } : Jvm.MethodName)) ∈ lw_all := lw_g (lw_at lw_m13 234 rfl) rfl
theorem q3235 : (Jvm.Cond.code ({ cls := "ContractMachineModel", name := "undo", desc := "()I" } : Jvm.MethodName) prog_41_method_132_code (1 : Nat) (Option.some Jvm.ClassFile.FieldType.int)) ∈ lw_all := lw_g (lw_at lw_m13 235 rfl) rfl
theorem q3237 : (Jvm.Cond.instanceMethod ({ cls := "ContractMachineModel", name := "writeConfiguration", desc := "()I" } : Jvm.MethodName)) ∈ lw_all := lw_g (lw_at lw_m13 237 rfl) rfl
theorem q3238 : (Jvm.Cond.selects "ContractMachineModel" ({ cls := "ContractMachineModel", name := "writeConfiguration", desc := "()I" } : Jvm.MethodName) ({ cls := "ContractMachineModel", name := "writeConfiguration", desc := "()I" } : Jvm.MethodName)) ∈ lw_all := lw_g (lw_at lw_m13 238 rfl) rfl
theorem q3239 : (Jvm.Cond.code ({ cls := "ContractMachineModel", name := "writeConfiguration", desc := "()I" } : Jvm.MethodName) prog_41_method_135_code (2 : Nat) (Option.some Jvm.ClassFile.FieldType.int)) ∈ lw_all := lw_g (lw_at lw_m13 239 rfl) rfl
theorem q3240 : (Jvm.Cond.methodLink "ContractMachineModel" (404 : Nat) ({ cls := "ContractMachineModel", name := "writeName", desc := "(I)V" } : Jvm.MethodName)) ∈ lw_all := lw_g (lw_at lw_m14 0 rfl) rfl
theorem q3241 : (Jvm.Cond.privateMethod ({ cls := "ContractMachineModel", name := "writeName", desc := "(I)V" } : Jvm.MethodName)) ∈ lw_tbl := lw_at lw_m14 1 rfl
theorem q3242 : (Jvm.Cond.instanceMethod ({ cls := "ContractMachineModel", name := "writeName", desc := "(I)V" } : Jvm.MethodName)) ∈ lw_all := lw_g (lw_at lw_m14 2 rfl) rfl
theorem q3243 : (Jvm.Cond.code ({ cls := "ContractMachineModel", name := "writeName", desc := "(I)V" } : Jvm.MethodName) prog_41_method_134_code (3 : Nat) (Option.none : Option Jvm.ClassFile.FieldType)) ∈ lw_all := lw_g (lw_at lw_m14 3 rfl) rfl
theorem q3244 : (Jvm.Cond.methodLink "ContractMachineModel" (401 : Nat) ({ cls := "ContractMachineModel", name := "write", desc := "(I)V" } : Jvm.MethodName)) ∈ lw_all := lw_g (lw_at lw_m14 4 rfl) rfl
theorem q3245 : (Jvm.Cond.privateMethod ({ cls := "ContractMachineModel", name := "write", desc := "(I)V" } : Jvm.MethodName)) ∈ lw_tbl := lw_at lw_m14 5 rfl
theorem q3246 : (Jvm.Cond.instanceMethod ({ cls := "ContractMachineModel", name := "write", desc := "(I)V" } : Jvm.MethodName)) ∈ lw_all := lw_g (lw_at lw_m14 6 rfl) rfl
theorem q3247 : (Jvm.Cond.code ({ cls := "ContractMachineModel", name := "write", desc := "(I)V" } : Jvm.MethodName) prog_41_method_133_code (2 : Nat) (Option.none : Option Jvm.ClassFile.FieldType)) ∈ lw_all := lw_g (lw_at lw_m14 7 rfl) rfl
theorem q3249 : (Jvm.Cond.instanceMethod ({ cls := "ContractMachineModel", name := "outputByte", desc := "(I)I" } : Jvm.MethodName)) ∈ lw_all := lw_g (lw_at lw_m14 9 rfl) rfl
theorem q3250 : (Jvm.Cond.selects "ContractMachineModel" ({ cls := "ContractMachineModel", name := "outputByte", desc := "(I)I" } : Jvm.MethodName) ({ cls := "ContractMachineModel", name := "outputByte", desc := "(I)I" } : Jvm.MethodName)) ∈ lw_all := lw_g (lw_at lw_m14 10 rfl) rfl
theorem q3251 : (Jvm.Cond.code ({ cls := "ContractMachineModel", name := "outputByte", desc := "(I)I" } : Jvm.MethodName) prog_41_method_136_code (2 : Nat) (Option.some Jvm.ClassFile.FieldType.int)) ∈ lw_all := lw_g (lw_at lw_m14 11 rfl) rfl
theorem q3253 : (Jvm.Cond.instanceMethod ({ cls := "ContractMachineModel", name := "saveState", desc := "()I" } : Jvm.MethodName)) ∈ lw_all := lw_g (lw_at lw_m14 13 rfl) rfl
theorem q3254 : (Jvm.Cond.selects "ContractMachineModel" ({ cls := "ContractMachineModel", name := "saveState", desc := "()I" } : Jvm.MethodName) ({ cls := "ContractMachineModel", name := "saveState", desc := "()I" } : Jvm.MethodName)) ∈ lw_all := lw_g (lw_at lw_m14 14 rfl) rfl
theorem q3255 : (Jvm.Cond.code ({ cls := "ContractMachineModel", name := "saveState", desc := "()I" } : Jvm.MethodName) prog_41_method_137_code (1 : Nat) (Option.some Jvm.ClassFile.FieldType.int)) ∈ lw_all := lw_g (lw_at lw_m14 15 rfl) rfl
theorem q3257 : (Jvm.Cond.instanceMethod ({ cls := "ContractMachineModel", name := "restoreState", desc := "()I" } : Jvm.MethodName)) ∈ lw_all := lw_g (lw_at lw_m14 17 rfl) rfl
theorem q3258 : (Jvm.Cond.selects "ContractMachineModel" ({ cls := "ContractMachineModel", name := "restoreState", desc := "()I" } : Jvm.MethodName) ({ cls := "ContractMachineModel", name := "restoreState", desc := "()I" } : Jvm.MethodName)) ∈ lw_all := lw_g (lw_at lw_m14 18 rfl) rfl
theorem q3259 : (Jvm.Cond.code ({ cls := "ContractMachineModel", name := "restoreState", desc := "()I" } : Jvm.MethodName) prog_41_method_138_code (1 : Nat) (Option.some Jvm.ClassFile.FieldType.int)) ∈ lw_all := lw_g (lw_at lw_m14 19 rfl) rfl
theorem q3308 : (Jvm.Cond.castable "ContractMachineModel" "java/lang/Object") ∈ lw_tbl := lw_at lw_m14 68 rfl
theorem in_X9 : ∀ w ∈ wsX90, w ∈ lw_all := lw_in wsX90 [2665, 2667, 2669, 2671, 2673, 2675, 2677, 2679, 2681, 2683, 2685, 2687, 2689, 2691, 2693, 2695, 2697, 2699, 2701, 2703, 2705, 2707, 2709, 2711, 2713, 2715, 2717, 2719, 2721, 2723, 2725] (by decide +kernel) (by decide +kernel)
