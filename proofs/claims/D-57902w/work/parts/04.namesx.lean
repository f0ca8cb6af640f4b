/-! ContractMachine$Parser -/
set_option maxRecDepth 100000
def RX10 : String := "ContractMachine$Parser"
abbrev cX10_init : ByteArray := prog_27_method_1_code
def yX10_init : MethodName := ⟨RX10, "<init>", "(LContractMachine;)V"⟩
def dkwX10_init_0 : List UInt8 := [42, 43, 181, 0, 3, 42, 183, 0, 9, 42, 18, 15, 181, 0, 17, 42, 182, 0, 21, 177]
abbrev dktX10_init_0 : List UInt8 := dkwX10_init_0 ++ []
theorem dksX10_init_0 : cX10_init.data.toList.drop 0 = dktX10_init_0 := by decide +kernel
theorem dX10_init_0 : decode cX10_init 0 = .ok (.aload_n 0, 1) := dk_42 (dk_at dksX10_init_0 0 rfl rfl)
theorem dX10_init_1 : decode cX10_init 1 = .ok (.aload_n 1, 1) := dk_43 (dk_at dksX10_init_0 1 rfl rfl)
theorem dX10_init_2 : decode cX10_init 2 = .ok (.putfield 3, 3) := dk_181 0 3 (dk_at dksX10_init_0 2 rfl rfl)
theorem dX10_init_5 : decode cX10_init 5 = .ok (.aload_n 0, 1) := dk_42 (dk_at dksX10_init_0 5 rfl rfl)
theorem dX10_init_6 : decode cX10_init 6 = .ok (.invokespecial 9, 3) := dk_183 0 9 (dk_at dksX10_init_0 6 rfl rfl)
theorem dX10_init_9 : decode cX10_init 9 = .ok (.aload_n 0, 1) := dk_42 (dk_at dksX10_init_0 9 rfl rfl)
theorem dX10_init_10 : decode cX10_init 10 = .ok (.ldc 15, 2) := dk_18 15 (dk_at dksX10_init_0 10 rfl rfl)
theorem dX10_init_12 : decode cX10_init 12 = .ok (.putfield 17, 3) := dk_181 0 17 (dk_at dksX10_init_0 12 rfl rfl)
theorem dX10_init_15 : decode cX10_init 15 = .ok (.aload_n 0, 1) := dk_42 (dk_at dksX10_init_0 15 rfl rfl)
theorem dX10_init_16 : decode cX10_init 16 = .ok (.invokevirtual 21, 3) := dk_182 0 21 (dk_at dksX10_init_0 16 rfl rfl)
theorem dX10_init_19 : decode cX10_init 19 = .ok (.return_, 1) := dk_177 (dk_at dksX10_init_0 19 rfl rfl)
abbrev cX10_advance : ByteArray := prog_27_method_5_code
def yX10_advance : MethodName := ⟨RX10, "advance", "()V"⟩
def dkwX10_advance_12 : List UInt8 := [181, 0, 63, 42, 89, 180, 0, 51, 4, 96, 181, 0, 51, 177]
abbrev dktX10_advance_12 : List UInt8 := dkwX10_advance_12 ++ []
def dkwX10_advance_11 : List UInt8 := [181, 0, 97, 167, 0, 32, 42, 27, 16, 59, 160, 0, 9, 178, 0, 100, 167, 0, 6, 178, 0, 77]
abbrev dktX10_advance_11 : List UInt8 := dkwX10_advance_11 ++ dktX10_advance_12
def dkwX10_advance_10 : List UInt8 := [166, 0, 21, 42, 42, 180, 0, 54, 42, 180, 0, 51, 182, 0, 80, 184, 0, 91, 167, 0, 4, 3]
abbrev dktX10_advance_10 : List UInt8 := dkwX10_advance_10 ++ dktX10_advance_11
def dkwX10_advance_9 : List UInt8 := [163, 0, 9, 178, 0, 88, 167, 0, 6, 178, 0, 77, 181, 0, 63, 42, 42, 180, 0, 63, 178, 0, 88]
abbrev dktX10_advance_9 : List UInt8 := dkwX10_advance_9 ++ dktX10_advance_10
def dkwX10_advance_8 : List UInt8 := [180, 0, 54, 16, 48, 16, 57, 182, 0, 70, 181, 0, 51, 42, 42, 180, 0, 51, 42, 180, 0, 54, 100, 6]
abbrev dktX10_advance_8 : List UInt8 := dkwX10_advance_8 ++ dktX10_advance_9
def dkwX10_advance_7 : List UInt8 := [181, 0, 17, 167, 0, 124, 27, 133, 20, 0, 84, 20, 0, 86, 184, 0, 36, 153, 0, 81, 42, 42, 42]
abbrev dktX10_advance_7 : List UInt8 := dkwX10_advance_7 ++ dktX10_advance_8
def dkwX10_advance_6 : List UInt8 := [178, 0, 74, 166, 0, 18, 42, 42, 180, 0, 54, 42, 180, 0, 51, 182, 0, 80, 167, 0, 5, 18, 15]
abbrev dktX10_advance_6 : List UInt8 := dkwX10_advance_6 ++ dktX10_advance_7
def dkwX10_advance_5 : List UInt8 := [16, 8, 163, 0, 9, 178, 0, 74, 167, 0, 6, 178, 0, 77, 181, 0, 63, 42, 42, 180, 0, 63]
abbrev dktX10_advance_5 : List UInt8 := dkwX10_advance_5 ++ dktX10_advance_6
def dkwX10_advance_4 : List UInt8 := [180, 0, 54, 16, 97, 16, 122, 182, 0, 70, 181, 0, 51, 42, 42, 180, 0, 51, 42, 180, 0, 54, 100]
abbrev dktX10_advance_4 : List UInt8 := dkwX10_advance_4 ++ dktX10_advance_5
def dkwX10_advance_3 : List UInt8 := [181, 0, 63, 167, 0, 215, 27, 133, 20, 0, 66, 20, 0, 68, 184, 0, 36, 153, 0, 80, 42, 42, 42]
abbrev dktX10_advance_3 : List UInt8 := dkwX10_advance_3 ++ dktX10_advance_4
def dkwX10_advance_2 : List UInt8 := [42, 18, 15, 181, 0, 17, 42, 42, 180, 0, 54, 182, 0, 32, 60, 27, 2, 160, 0, 13, 42, 178, 0, 57]
abbrev dktX10_advance_2 : List UInt8 := dkwX10_advance_2 ++ dktX10_advance_3
def dkwX10_advance_1 : List UInt8 := [160, 0, 16, 42, 89, 180, 0, 51, 4, 96, 181, 0, 51, 167, 255, 220, 42, 42, 180, 0, 51, 181, 0, 54]
abbrev dktX10_advance_1 : List UInt8 := dkwX10_advance_1 ++ dktX10_advance_2
def dkwX10_advance_0 : List UInt8 := [42, 42, 180, 0, 51, 182, 0, 32, 16, 32, 159, 0, 16, 42, 42, 180, 0, 51, 182, 0, 32, 16, 10]
abbrev dktX10_advance_0 : List UInt8 := dkwX10_advance_0 ++ dktX10_advance_1
theorem dksX10_advance_0 : cX10_advance.data.toList.drop 0 = dktX10_advance_0 := by decide +kernel
theorem dksX10_advance_1 : cX10_advance.data.toList.drop 23 = dktX10_advance_1 := dk_seg dksX10_advance_0 23 rfl rfl
theorem dksX10_advance_2 : cX10_advance.data.toList.drop 47 = dktX10_advance_2 := dk_seg dksX10_advance_1 24 rfl rfl
theorem dksX10_advance_3 : cX10_advance.data.toList.drop 71 = dktX10_advance_3 := dk_seg dksX10_advance_2 24 rfl rfl
theorem dksX10_advance_4 : cX10_advance.data.toList.drop 94 = dktX10_advance_4 := dk_seg dksX10_advance_3 23 rfl rfl
theorem dksX10_advance_5 : cX10_advance.data.toList.drop 117 = dktX10_advance_5 := dk_seg dksX10_advance_4 23 rfl rfl
theorem dksX10_advance_6 : cX10_advance.data.toList.drop 139 = dktX10_advance_6 := dk_seg dksX10_advance_5 22 rfl rfl
theorem dksX10_advance_7 : cX10_advance.data.toList.drop 162 = dktX10_advance_7 := dk_seg dksX10_advance_6 23 rfl rfl
theorem dksX10_advance_8 : cX10_advance.data.toList.drop 185 = dktX10_advance_8 := dk_seg dksX10_advance_7 23 rfl rfl
theorem dksX10_advance_9 : cX10_advance.data.toList.drop 209 = dktX10_advance_9 := dk_seg dksX10_advance_8 24 rfl rfl
theorem dksX10_advance_10 : cX10_advance.data.toList.drop 232 = dktX10_advance_10 := dk_seg dksX10_advance_9 23 rfl rfl
theorem dksX10_advance_11 : cX10_advance.data.toList.drop 254 = dktX10_advance_11 := dk_seg dksX10_advance_10 22 rfl rfl
theorem dksX10_advance_12 : cX10_advance.data.toList.drop 276 = dktX10_advance_12 := dk_seg dksX10_advance_11 22 rfl rfl
theorem dX10_advance_0 : decode cX10_advance 0 = .ok (.aload_n 0, 1) := dk_42 (dk_at dksX10_advance_0 0 rfl rfl)
theorem dX10_advance_1 : decode cX10_advance 1 = .ok (.aload_n 0, 1) := dk_42 (dk_at dksX10_advance_0 1 rfl rfl)
theorem dX10_advance_2 : decode cX10_advance 2 = .ok (.getfield 51, 3) := dk_180 0 51 (dk_at dksX10_advance_0 2 rfl rfl)
theorem dX10_advance_5 : decode cX10_advance 5 = .ok (.invokevirtual 32, 3) := dk_182 0 32 (dk_at dksX10_advance_0 5 rfl rfl)
theorem dX10_advance_8 : decode cX10_advance 8 = .ok (.bipush 32, 2) := dk_16 32 (dk_at dksX10_advance_0 8 rfl rfl)
theorem dX10_advance_10 : decode cX10_advance 10 = .ok (.if_icmp .eq 16, 3) := dk_159 0 16 (dk_at dksX10_advance_0 10 rfl rfl)
theorem dX10_advance_13 : decode cX10_advance 13 = .ok (.aload_n 0, 1) := dk_42 (dk_at dksX10_advance_0 13 rfl rfl)
theorem dX10_advance_14 : decode cX10_advance 14 = .ok (.aload_n 0, 1) := dk_42 (dk_at dksX10_advance_0 14 rfl rfl)
theorem dX10_advance_15 : decode cX10_advance 15 = .ok (.getfield 51, 3) := dk_180 0 51 (dk_at dksX10_advance_0 15 rfl rfl)
theorem dX10_advance_18 : decode cX10_advance 18 = .ok (.invokevirtual 32, 3) := dk_182 0 32 (dk_at dksX10_advance_0 18 rfl rfl)
theorem dX10_advance_21 : decode cX10_advance 21 = .ok (.bipush 10, 2) := dk_16 10 (dk_at dksX10_advance_0 21 rfl rfl)
theorem dX10_advance_23 : decode cX10_advance 23 = .ok (.if_icmp .ne 16, 3) := dk_160 0 16 (dk_at dksX10_advance_1 0 rfl rfl)
theorem dX10_advance_26 : decode cX10_advance 26 = .ok (.aload_n 0, 1) := dk_42 (dk_at dksX10_advance_1 3 rfl rfl)
theorem dX10_advance_27 : decode cX10_advance 27 = .ok (.dup, 1) := dk_89 (dk_at dksX10_advance_1 4 rfl rfl)
theorem dX10_advance_28 : decode cX10_advance 28 = .ok (.getfield 51, 3) := dk_180 0 51 (dk_at dksX10_advance_1 5 rfl rfl)
theorem dX10_advance_31 : decode cX10_advance 31 = .ok (.iconst 1, 1) := dk_4 (dk_at dksX10_advance_1 8 rfl rfl)
theorem dX10_advance_32 : decode cX10_advance 32 = .ok (.iadd, 1) := dk_96 (dk_at dksX10_advance_1 9 rfl rfl)
theorem dX10_advance_33 : decode cX10_advance 33 = .ok (.putfield 51, 3) := dk_181 0 51 (dk_at dksX10_advance_1 10 rfl rfl)
theorem dX10_advance_36 : decode cX10_advance 36 = .ok (.goto (-36), 3) := dk_167 255 220 (dk_at dksX10_advance_1 13 rfl rfl)
theorem dX10_advance_39 : decode cX10_advance 39 = .ok (.aload_n 0, 1) := dk_42 (dk_at dksX10_advance_1 16 rfl rfl)
theorem dX10_advance_40 : decode cX10_advance 40 = .ok (.aload_n 0, 1) := dk_42 (dk_at dksX10_advance_1 17 rfl rfl)
theorem dX10_advance_41 : decode cX10_advance 41 = .ok (.getfield 51, 3) := dk_180 0 51 (dk_at dksX10_advance_1 18 rfl rfl)
theorem dX10_advance_44 : decode cX10_advance 44 = .ok (.putfield 54, 3) := dk_181 0 54 (dk_at dksX10_advance_1 21 rfl rfl)
theorem dX10_advance_47 : decode cX10_advance 47 = .ok (.aload_n 0, 1) := dk_42 (dk_at dksX10_advance_2 0 rfl rfl)
theorem dX10_advance_48 : decode cX10_advance 48 = .ok (.ldc 15, 2) := dk_18 15 (dk_at dksX10_advance_2 1 rfl rfl)
theorem dX10_advance_50 : decode cX10_advance 50 = .ok (.putfield 17, 3) := dk_181 0 17 (dk_at dksX10_advance_2 3 rfl rfl)
theorem dX10_advance_53 : decode cX10_advance 53 = .ok (.aload_n 0, 1) := dk_42 (dk_at dksX10_advance_2 6 rfl rfl)
theorem dX10_advance_54 : decode cX10_advance 54 = .ok (.aload_n 0, 1) := dk_42 (dk_at dksX10_advance_2 7 rfl rfl)
theorem dX10_advance_55 : decode cX10_advance 55 = .ok (.getfield 54, 3) := dk_180 0 54 (dk_at dksX10_advance_2 8 rfl rfl)
theorem dX10_advance_58 : decode cX10_advance 58 = .ok (.invokevirtual 32, 3) := dk_182 0 32 (dk_at dksX10_advance_2 11 rfl rfl)
theorem dX10_advance_61 : decode cX10_advance 61 = .ok (.istore_n 1, 1) := dk_60 (dk_at dksX10_advance_2 14 rfl rfl)
theorem dX10_advance_62 : decode cX10_advance 62 = .ok (.iload_n 1, 1) := dk_27 (dk_at dksX10_advance_2 15 rfl rfl)
theorem dX10_advance_63 : decode cX10_advance 63 = .ok (.iconst (-1), 1) := dk_2 (dk_at dksX10_advance_2 16 rfl rfl)
theorem dX10_advance_64 : decode cX10_advance 64 = .ok (.if_icmp .ne 13, 3) := dk_160 0 13 (dk_at dksX10_advance_2 17 rfl rfl)
theorem dX10_advance_67 : decode cX10_advance 67 = .ok (.aload_n 0, 1) := dk_42 (dk_at dksX10_advance_2 20 rfl rfl)
theorem dX10_advance_68 : decode cX10_advance 68 = .ok (.getstatic 57, 3) := dk_178 0 57 (dk_at dksX10_advance_2 21 rfl rfl)
theorem dX10_advance_71 : decode cX10_advance 71 = .ok (.putfield 63, 3) := dk_181 0 63 (dk_at dksX10_advance_3 0 rfl rfl)
theorem dX10_advance_74 : decode cX10_advance 74 = .ok (.goto 215, 3) := dk_167 0 215 (dk_at dksX10_advance_3 3 rfl rfl)
theorem dX10_advance_77 : decode cX10_advance 77 = .ok (.iload_n 1, 1) := dk_27 (dk_at dksX10_advance_3 6 rfl rfl)
theorem dX10_advance_78 : decode cX10_advance 78 = .ok (.i2l, 1) := dk_133 (dk_at dksX10_advance_3 7 rfl rfl)
theorem dX10_advance_79 : decode cX10_advance 79 = .ok (.ldc2_w 66, 3) := dk_20 0 66 (dk_at dksX10_advance_3 8 rfl rfl)
theorem dX10_advance_82 : decode cX10_advance 82 = .ok (.ldc2_w 68, 3) := dk_20 0 68 (dk_at dksX10_advance_3 11 rfl rfl)
theorem dX10_advance_85 : decode cX10_advance 85 = .ok (.invokestatic 36, 3) := dk_184 0 36 (dk_at dksX10_advance_3 14 rfl rfl)
theorem dX10_advance_88 : decode cX10_advance 88 = .ok (.ifCond .eq 80, 3) := dk_153 0 80 (dk_at dksX10_advance_3 17 rfl rfl)
theorem dX10_advance_91 : decode cX10_advance 91 = .ok (.aload_n 0, 1) := dk_42 (dk_at dksX10_advance_3 20 rfl rfl)
theorem dX10_advance_92 : decode cX10_advance 92 = .ok (.aload_n 0, 1) := dk_42 (dk_at dksX10_advance_3 21 rfl rfl)
theorem dX10_advance_93 : decode cX10_advance 93 = .ok (.aload_n 0, 1) := dk_42 (dk_at dksX10_advance_3 22 rfl rfl)
theorem dX10_advance_94 : decode cX10_advance 94 = .ok (.getfield 54, 3) := dk_180 0 54 (dk_at dksX10_advance_4 0 rfl rfl)
theorem dX10_advance_97 : decode cX10_advance 97 = .ok (.bipush 97, 2) := dk_16 97 (dk_at dksX10_advance_4 3 rfl rfl)
theorem dX10_advance_99 : decode cX10_advance 99 = .ok (.bipush 122, 2) := dk_16 122 (dk_at dksX10_advance_4 5 rfl rfl)
theorem dX10_advance_101 : decode cX10_advance 101 = .ok (.invokevirtual 70, 3) := dk_182 0 70 (dk_at dksX10_advance_4 7 rfl rfl)
theorem dX10_advance_104 : decode cX10_advance 104 = .ok (.putfield 51, 3) := dk_181 0 51 (dk_at dksX10_advance_4 10 rfl rfl)
theorem dX10_advance_107 : decode cX10_advance 107 = .ok (.aload_n 0, 1) := dk_42 (dk_at dksX10_advance_4 13 rfl rfl)
theorem dX10_advance_108 : decode cX10_advance 108 = .ok (.aload_n 0, 1) := dk_42 (dk_at dksX10_advance_4 14 rfl rfl)
theorem dX10_advance_109 : decode cX10_advance 109 = .ok (.getfield 51, 3) := dk_180 0 51 (dk_at dksX10_advance_4 15 rfl rfl)
theorem dX10_advance_112 : decode cX10_advance 112 = .ok (.aload_n 0, 1) := dk_42 (dk_at dksX10_advance_4 18 rfl rfl)
theorem dX10_advance_113 : decode cX10_advance 113 = .ok (.getfield 54, 3) := dk_180 0 54 (dk_at dksX10_advance_4 19 rfl rfl)
theorem dX10_advance_116 : decode cX10_advance 116 = .ok (.isub, 1) := dk_100 (dk_at dksX10_advance_4 22 rfl rfl)
theorem dX10_advance_117 : decode cX10_advance 117 = .ok (.bipush 8, 2) := dk_16 8 (dk_at dksX10_advance_5 0 rfl rfl)
theorem dX10_advance_119 : decode cX10_advance 119 = .ok (.if_icmp .gt 9, 3) := dk_163 0 9 (dk_at dksX10_advance_5 2 rfl rfl)
theorem dX10_advance_122 : decode cX10_advance 122 = .ok (.getstatic 74, 3) := dk_178 0 74 (dk_at dksX10_advance_5 5 rfl rfl)
theorem dX10_advance_125 : decode cX10_advance 125 = .ok (.goto 6, 3) := dk_167 0 6 (dk_at dksX10_advance_5 8 rfl rfl)
theorem dX10_advance_128 : decode cX10_advance 128 = .ok (.getstatic 77, 3) := dk_178 0 77 (dk_at dksX10_advance_5 11 rfl rfl)
theorem dX10_advance_131 : decode cX10_advance 131 = .ok (.putfield 63, 3) := dk_181 0 63 (dk_at dksX10_advance_5 14 rfl rfl)
theorem dX10_advance_134 : decode cX10_advance 134 = .ok (.aload_n 0, 1) := dk_42 (dk_at dksX10_advance_5 17 rfl rfl)
theorem dX10_advance_135 : decode cX10_advance 135 = .ok (.aload_n 0, 1) := dk_42 (dk_at dksX10_advance_5 18 rfl rfl)
theorem dX10_advance_136 : decode cX10_advance 136 = .ok (.getfield 63, 3) := dk_180 0 63 (dk_at dksX10_advance_5 19 rfl rfl)
theorem dX10_advance_139 : decode cX10_advance 139 = .ok (.getstatic 74, 3) := dk_178 0 74 (dk_at dksX10_advance_6 0 rfl rfl)
theorem dX10_advance_142 : decode cX10_advance 142 = .ok (.if_acmp .ne 18, 3) := dk_166 0 18 (dk_at dksX10_advance_6 3 rfl rfl)
theorem dX10_advance_145 : decode cX10_advance 145 = .ok (.aload_n 0, 1) := dk_42 (dk_at dksX10_advance_6 6 rfl rfl)
theorem dX10_advance_146 : decode cX10_advance 146 = .ok (.aload_n 0, 1) := dk_42 (dk_at dksX10_advance_6 7 rfl rfl)
theorem dX10_advance_147 : decode cX10_advance 147 = .ok (.getfield 54, 3) := dk_180 0 54 (dk_at dksX10_advance_6 8 rfl rfl)
theorem dX10_advance_150 : decode cX10_advance 150 = .ok (.aload_n 0, 1) := dk_42 (dk_at dksX10_advance_6 11 rfl rfl)
theorem dX10_advance_151 : decode cX10_advance 151 = .ok (.getfield 51, 3) := dk_180 0 51 (dk_at dksX10_advance_6 12 rfl rfl)
theorem dX10_advance_154 : decode cX10_advance 154 = .ok (.invokevirtual 80, 3) := dk_182 0 80 (dk_at dksX10_advance_6 15 rfl rfl)
theorem dX10_advance_157 : decode cX10_advance 157 = .ok (.goto 5, 3) := dk_167 0 5 (dk_at dksX10_advance_6 18 rfl rfl)
theorem dX10_advance_160 : decode cX10_advance 160 = .ok (.ldc 15, 2) := dk_18 15 (dk_at dksX10_advance_6 21 rfl rfl)
theorem dX10_advance_162 : decode cX10_advance 162 = .ok (.putfield 17, 3) := dk_181 0 17 (dk_at dksX10_advance_7 0 rfl rfl)
theorem dX10_advance_165 : decode cX10_advance 165 = .ok (.goto 124, 3) := dk_167 0 124 (dk_at dksX10_advance_7 3 rfl rfl)
theorem dX10_advance_168 : decode cX10_advance 168 = .ok (.iload_n 1, 1) := dk_27 (dk_at dksX10_advance_7 6 rfl rfl)
theorem dX10_advance_169 : decode cX10_advance 169 = .ok (.i2l, 1) := dk_133 (dk_at dksX10_advance_7 7 rfl rfl)
theorem dX10_advance_170 : decode cX10_advance 170 = .ok (.ldc2_w 84, 3) := dk_20 0 84 (dk_at dksX10_advance_7 8 rfl rfl)
theorem dX10_advance_173 : decode cX10_advance 173 = .ok (.ldc2_w 86, 3) := dk_20 0 86 (dk_at dksX10_advance_7 11 rfl rfl)
theorem dX10_advance_176 : decode cX10_advance 176 = .ok (.invokestatic 36, 3) := dk_184 0 36 (dk_at dksX10_advance_7 14 rfl rfl)
theorem dX10_advance_179 : decode cX10_advance 179 = .ok (.ifCond .eq 81, 3) := dk_153 0 81 (dk_at dksX10_advance_7 17 rfl rfl)
theorem dX10_advance_182 : decode cX10_advance 182 = .ok (.aload_n 0, 1) := dk_42 (dk_at dksX10_advance_7 20 rfl rfl)
theorem dX10_advance_183 : decode cX10_advance 183 = .ok (.aload_n 0, 1) := dk_42 (dk_at dksX10_advance_7 21 rfl rfl)
theorem dX10_advance_184 : decode cX10_advance 184 = .ok (.aload_n 0, 1) := dk_42 (dk_at dksX10_advance_7 22 rfl rfl)
theorem dX10_advance_185 : decode cX10_advance 185 = .ok (.getfield 54, 3) := dk_180 0 54 (dk_at dksX10_advance_8 0 rfl rfl)
theorem dX10_advance_188 : decode cX10_advance 188 = .ok (.bipush 48, 2) := dk_16 48 (dk_at dksX10_advance_8 3 rfl rfl)
theorem dX10_advance_190 : decode cX10_advance 190 = .ok (.bipush 57, 2) := dk_16 57 (dk_at dksX10_advance_8 5 rfl rfl)
theorem dX10_advance_192 : decode cX10_advance 192 = .ok (.invokevirtual 70, 3) := dk_182 0 70 (dk_at dksX10_advance_8 7 rfl rfl)
theorem dX10_advance_195 : decode cX10_advance 195 = .ok (.putfield 51, 3) := dk_181 0 51 (dk_at dksX10_advance_8 10 rfl rfl)
theorem dX10_advance_198 : decode cX10_advance 198 = .ok (.aload_n 0, 1) := dk_42 (dk_at dksX10_advance_8 13 rfl rfl)
theorem dX10_advance_199 : decode cX10_advance 199 = .ok (.aload_n 0, 1) := dk_42 (dk_at dksX10_advance_8 14 rfl rfl)
theorem dX10_advance_200 : decode cX10_advance 200 = .ok (.getfield 51, 3) := dk_180 0 51 (dk_at dksX10_advance_8 15 rfl rfl)
theorem dX10_advance_203 : decode cX10_advance 203 = .ok (.aload_n 0, 1) := dk_42 (dk_at dksX10_advance_8 18 rfl rfl)
theorem dX10_advance_204 : decode cX10_advance 204 = .ok (.getfield 54, 3) := dk_180 0 54 (dk_at dksX10_advance_8 19 rfl rfl)
theorem dX10_advance_207 : decode cX10_advance 207 = .ok (.isub, 1) := dk_100 (dk_at dksX10_advance_8 22 rfl rfl)
theorem dX10_advance_208 : decode cX10_advance 208 = .ok (.iconst 3, 1) := dk_6 (dk_at dksX10_advance_8 23 rfl rfl)
theorem dX10_advance_209 : decode cX10_advance 209 = .ok (.if_icmp .gt 9, 3) := dk_163 0 9 (dk_at dksX10_advance_9 0 rfl rfl)
theorem dX10_advance_212 : decode cX10_advance 212 = .ok (.getstatic 88, 3) := dk_178 0 88 (dk_at dksX10_advance_9 3 rfl rfl)
theorem dX10_advance_215 : decode cX10_advance 215 = .ok (.goto 6, 3) := dk_167 0 6 (dk_at dksX10_advance_9 6 rfl rfl)
theorem dX10_advance_218 : decode cX10_advance 218 = .ok (.getstatic 77, 3) := dk_178 0 77 (dk_at dksX10_advance_9 9 rfl rfl)
theorem dX10_advance_221 : decode cX10_advance 221 = .ok (.putfield 63, 3) := dk_181 0 63 (dk_at dksX10_advance_9 12 rfl rfl)
theorem dX10_advance_224 : decode cX10_advance 224 = .ok (.aload_n 0, 1) := dk_42 (dk_at dksX10_advance_9 15 rfl rfl)
theorem dX10_advance_225 : decode cX10_advance 225 = .ok (.aload_n 0, 1) := dk_42 (dk_at dksX10_advance_9 16 rfl rfl)
theorem dX10_advance_226 : decode cX10_advance 226 = .ok (.getfield 63, 3) := dk_180 0 63 (dk_at dksX10_advance_9 17 rfl rfl)
theorem dX10_advance_229 : decode cX10_advance 229 = .ok (.getstatic 88, 3) := dk_178 0 88 (dk_at dksX10_advance_9 20 rfl rfl)
theorem dX10_advance_232 : decode cX10_advance 232 = .ok (.if_acmp .ne 21, 3) := dk_166 0 21 (dk_at dksX10_advance_10 0 rfl rfl)
theorem dX10_advance_235 : decode cX10_advance 235 = .ok (.aload_n 0, 1) := dk_42 (dk_at dksX10_advance_10 3 rfl rfl)
theorem dX10_advance_236 : decode cX10_advance 236 = .ok (.aload_n 0, 1) := dk_42 (dk_at dksX10_advance_10 4 rfl rfl)
theorem dX10_advance_237 : decode cX10_advance 237 = .ok (.getfield 54, 3) := dk_180 0 54 (dk_at dksX10_advance_10 5 rfl rfl)
theorem dX10_advance_240 : decode cX10_advance 240 = .ok (.aload_n 0, 1) := dk_42 (dk_at dksX10_advance_10 8 rfl rfl)
theorem dX10_advance_241 : decode cX10_advance 241 = .ok (.getfield 51, 3) := dk_180 0 51 (dk_at dksX10_advance_10 9 rfl rfl)
theorem dX10_advance_244 : decode cX10_advance 244 = .ok (.invokevirtual 80, 3) := dk_182 0 80 (dk_at dksX10_advance_10 12 rfl rfl)
theorem dX10_advance_247 : decode cX10_advance 247 = .ok (.invokestatic 91, 3) := dk_184 0 91 (dk_at dksX10_advance_10 15 rfl rfl)
theorem dX10_advance_250 : decode cX10_advance 250 = .ok (.goto 4, 3) := dk_167 0 4 (dk_at dksX10_advance_10 18 rfl rfl)
theorem dX10_advance_253 : decode cX10_advance 253 = .ok (.iconst 0, 1) := dk_3 (dk_at dksX10_advance_10 21 rfl rfl)
theorem dX10_advance_254 : decode cX10_advance 254 = .ok (.putfield 97, 3) := dk_181 0 97 (dk_at dksX10_advance_11 0 rfl rfl)
theorem dX10_advance_257 : decode cX10_advance 257 = .ok (.goto 32, 3) := dk_167 0 32 (dk_at dksX10_advance_11 3 rfl rfl)
theorem dX10_advance_260 : decode cX10_advance 260 = .ok (.aload_n 0, 1) := dk_42 (dk_at dksX10_advance_11 6 rfl rfl)
theorem dX10_advance_261 : decode cX10_advance 261 = .ok (.iload_n 1, 1) := dk_27 (dk_at dksX10_advance_11 7 rfl rfl)
theorem dX10_advance_262 : decode cX10_advance 262 = .ok (.bipush 59, 2) := dk_16 59 (dk_at dksX10_advance_11 8 rfl rfl)
theorem dX10_advance_264 : decode cX10_advance 264 = .ok (.if_icmp .ne 9, 3) := dk_160 0 9 (dk_at dksX10_advance_11 10 rfl rfl)
theorem dX10_advance_267 : decode cX10_advance 267 = .ok (.getstatic 100, 3) := dk_178 0 100 (dk_at dksX10_advance_11 13 rfl rfl)
theorem dX10_advance_270 : decode cX10_advance 270 = .ok (.goto 6, 3) := dk_167 0 6 (dk_at dksX10_advance_11 16 rfl rfl)
theorem dX10_advance_273 : decode cX10_advance 273 = .ok (.getstatic 77, 3) := dk_178 0 77 (dk_at dksX10_advance_11 19 rfl rfl)
theorem dX10_advance_276 : decode cX10_advance 276 = .ok (.putfield 63, 3) := dk_181 0 63 (dk_at dksX10_advance_12 0 rfl rfl)
theorem dX10_advance_279 : decode cX10_advance 279 = .ok (.aload_n 0, 1) := dk_42 (dk_at dksX10_advance_12 3 rfl rfl)
theorem dX10_advance_280 : decode cX10_advance 280 = .ok (.dup, 1) := dk_89 (dk_at dksX10_advance_12 4 rfl rfl)
theorem dX10_advance_281 : decode cX10_advance 281 = .ok (.getfield 51, 3) := dk_180 0 51 (dk_at dksX10_advance_12 5 rfl rfl)
theorem dX10_advance_284 : decode cX10_advance 284 = .ok (.iconst 1, 1) := dk_4 (dk_at dksX10_advance_12 8 rfl rfl)
theorem dX10_advance_285 : decode cX10_advance 285 = .ok (.iadd, 1) := dk_96 (dk_at dksX10_advance_12 9 rfl rfl)
theorem dX10_advance_286 : decode cX10_advance 286 = .ok (.putfield 51, 3) := dk_181 0 51 (dk_at dksX10_advance_12 10 rfl rfl)
theorem dX10_advance_289 : decode cX10_advance 289 = .ok (.return_, 1) := dk_177 (dk_at dksX10_advance_12 13 rfl rfl)
abbrev cX10_at : ByteArray := prog_27_method_2_code
def yX10_at : MethodName := ⟨RX10, "at", "(I)I"⟩
def dkwX10_at_1 : List UInt8 := [167, 0, 4, 2, 172]
abbrev dktX10_at_1 : List UInt8 := dkwX10_at_1 ++ []
def dkwX10_at_0 : List UInt8 := [27, 42, 180, 0, 3, 180, 0, 24, 162, 0, 19, 42, 180, 0, 3, 180, 0, 28, 27, 51, 17, 0, 255, 126]
abbrev dktX10_at_0 : List UInt8 := dkwX10_at_0 ++ dktX10_at_1
theorem dksX10_at_0 : cX10_at.data.toList.drop 0 = dktX10_at_0 := by decide +kernel
theorem dksX10_at_1 : cX10_at.data.toList.drop 24 = dktX10_at_1 := dk_seg dksX10_at_0 24 rfl rfl
theorem dX10_at_0 : decode cX10_at 0 = .ok (.iload_n 1, 1) := dk_27 (dk_at dksX10_at_0 0 rfl rfl)
theorem dX10_at_1 : decode cX10_at 1 = .ok (.aload_n 0, 1) := dk_42 (dk_at dksX10_at_0 1 rfl rfl)
theorem dX10_at_2 : decode cX10_at 2 = .ok (.getfield 3, 3) := dk_180 0 3 (dk_at dksX10_at_0 2 rfl rfl)
theorem dX10_at_5 : decode cX10_at 5 = .ok (.getfield 24, 3) := dk_180 0 24 (dk_at dksX10_at_0 5 rfl rfl)
theorem dX10_at_8 : decode cX10_at 8 = .ok (.if_icmp .ge 19, 3) := dk_162 0 19 (dk_at dksX10_at_0 8 rfl rfl)
theorem dX10_at_11 : decode cX10_at 11 = .ok (.aload_n 0, 1) := dk_42 (dk_at dksX10_at_0 11 rfl rfl)
theorem dX10_at_12 : decode cX10_at 12 = .ok (.getfield 3, 3) := dk_180 0 3 (dk_at dksX10_at_0 12 rfl rfl)
theorem dX10_at_15 : decode cX10_at 15 = .ok (.getfield 28, 3) := dk_180 0 28 (dk_at dksX10_at_0 15 rfl rfl)
theorem dX10_at_18 : decode cX10_at 18 = .ok (.iload_n 1, 1) := dk_27 (dk_at dksX10_at_0 18 rfl rfl)
theorem dX10_at_19 : decode cX10_at 19 = .ok (.baload, 1) := dk_51 (dk_at dksX10_at_0 19 rfl rfl)
theorem dX10_at_20 : decode cX10_at 20 = .ok (.sipush 255, 3) := dk_17 0 255 (dk_at dksX10_at_0 20 rfl rfl)
theorem dX10_at_23 : decode cX10_at 23 = .ok (.iand, 1) := dk_126 (dk_at dksX10_at_0 23 rfl rfl)
theorem dX10_at_24 : decode cX10_at 24 = .ok (.goto 4, 3) := dk_167 0 4 (dk_at dksX10_at_1 0 rfl rfl)
theorem dX10_at_27 : decode cX10_at 27 = .ok (.iconst (-1), 1) := dk_2 (dk_at dksX10_at_1 3 rfl rfl)
theorem dX10_at_28 : decode cX10_at 28 = .ok (.ireturn, 1) := dk_172 (dk_at dksX10_at_1 4 rfl rfl)
abbrev cX10_endOfRun : ByteArray := prog_27_method_3_code
def yX10_endOfRun : MethodName := ⟨RX10, "endOfRun", "(III)I"⟩
def dkwX10_endOfRun_1 : List UInt8 := [167, 255, 236, 21, 4, 172]
abbrev dktX10_endOfRun_1 : List UInt8 := dkwX10_endOfRun_1 ++ []
def dkwX10_endOfRun_0 : List UInt8 := [27, 54, 4, 42, 21, 4, 182, 0, 32, 133, 28, 133, 29, 133, 184, 0, 36, 153, 0, 9, 132, 4, 1]
abbrev dktX10_endOfRun_0 : List UInt8 := dkwX10_endOfRun_0 ++ dktX10_endOfRun_1
theorem dksX10_endOfRun_0 : cX10_endOfRun.data.toList.drop 0 = dktX10_endOfRun_0 := by decide +kernel
theorem dksX10_endOfRun_1 : cX10_endOfRun.data.toList.drop 23 = dktX10_endOfRun_1 := dk_seg dksX10_endOfRun_0 23 rfl rfl
theorem dX10_endOfRun_0 : decode cX10_endOfRun 0 = .ok (.iload_n 1, 1) := dk_27 (dk_at dksX10_endOfRun_0 0 rfl rfl)
theorem dX10_endOfRun_1 : decode cX10_endOfRun 1 = .ok (.istore 4, 2) := dk_54 4 (dk_at dksX10_endOfRun_0 1 rfl rfl)
theorem dX10_endOfRun_3 : decode cX10_endOfRun 3 = .ok (.aload_n 0, 1) := dk_42 (dk_at dksX10_endOfRun_0 3 rfl rfl)
theorem dX10_endOfRun_4 : decode cX10_endOfRun 4 = .ok (.iload 4, 2) := dk_21 4 (dk_at dksX10_endOfRun_0 4 rfl rfl)
theorem dX10_endOfRun_6 : decode cX10_endOfRun 6 = .ok (.invokevirtual 32, 3) := dk_182 0 32 (dk_at dksX10_endOfRun_0 6 rfl rfl)
theorem dX10_endOfRun_9 : decode cX10_endOfRun 9 = .ok (.i2l, 1) := dk_133 (dk_at dksX10_endOfRun_0 9 rfl rfl)
theorem dX10_endOfRun_10 : decode cX10_endOfRun 10 = .ok (.iload_n 2, 1) := dk_28 (dk_at dksX10_endOfRun_0 10 rfl rfl)
theorem dX10_endOfRun_11 : decode cX10_endOfRun 11 = .ok (.i2l, 1) := dk_133 (dk_at dksX10_endOfRun_0 11 rfl rfl)
theorem dX10_endOfRun_12 : decode cX10_endOfRun 12 = .ok (.iload_n 3, 1) := dk_29 (dk_at dksX10_endOfRun_0 12 rfl rfl)
theorem dX10_endOfRun_13 : decode cX10_endOfRun 13 = .ok (.i2l, 1) := dk_133 (dk_at dksX10_endOfRun_0 13 rfl rfl)
theorem dX10_endOfRun_14 : decode cX10_endOfRun 14 = .ok (.invokestatic 36, 3) := dk_184 0 36 (dk_at dksX10_endOfRun_0 14 rfl rfl)
theorem dX10_endOfRun_17 : decode cX10_endOfRun 17 = .ok (.ifCond .eq 9, 3) := dk_153 0 9 (dk_at dksX10_endOfRun_0 17 rfl rfl)
theorem dX10_endOfRun_20 : decode cX10_endOfRun 20 = .ok (.iinc 4 1, 3) := dk_132 4 1 (dk_at dksX10_endOfRun_0 20 rfl rfl)
theorem dX10_endOfRun_23 : decode cX10_endOfRun 23 = .ok (.goto (-20), 3) := dk_167 255 236 (dk_at dksX10_endOfRun_1 0 rfl rfl)
theorem dX10_endOfRun_26 : decode cX10_endOfRun 26 = .ok (.iload 4, 2) := dk_21 4 (dk_at dksX10_endOfRun_1 3 rfl rfl)
theorem dX10_endOfRun_28 : decode cX10_endOfRun 28 = .ok (.ireturn, 1) := dk_172 (dk_at dksX10_endOfRun_1 5 rfl rfl)
abbrev cX10_text : ByteArray := prog_27_method_4_code
def yX10_text : MethodName := ⟨RX10, "text", "(II)Ljava/lang/String;"⟩
def dkwX10_text_1 : List UInt8 := [146, 182, 0, 43, 87, 132, 4, 1, 167, 255, 235, 45, 182, 0, 47, 176]
abbrev dktX10_text_1 : List UInt8 := dkwX10_text_1 ++ []
def dkwX10_text_0 : List UInt8 := [187, 0, 40, 89, 183, 0, 42, 78, 27, 54, 4, 21, 4, 28, 162, 0, 21, 45, 42, 21, 4, 182, 0, 32]
abbrev dktX10_text_0 : List UInt8 := dkwX10_text_0 ++ dktX10_text_1
theorem dksX10_text_0 : cX10_text.data.toList.drop 0 = dktX10_text_0 := by decide +kernel
theorem dksX10_text_1 : cX10_text.data.toList.drop 24 = dktX10_text_1 := dk_seg dksX10_text_0 24 rfl rfl
theorem dX10_text_0 : decode cX10_text 0 = .ok (.new 40, 3) := dk_187 0 40 (dk_at dksX10_text_0 0 rfl rfl)
theorem dX10_text_3 : decode cX10_text 3 = .ok (.dup, 1) := dk_89 (dk_at dksX10_text_0 3 rfl rfl)
theorem dX10_text_4 : decode cX10_text 4 = .ok (.invokespecial 42, 3) := dk_183 0 42 (dk_at dksX10_text_0 4 rfl rfl)
theorem dX10_text_7 : decode cX10_text 7 = .ok (.astore_n 3, 1) := dk_78 (dk_at dksX10_text_0 7 rfl rfl)
theorem dX10_text_8 : decode cX10_text 8 = .ok (.iload_n 1, 1) := dk_27 (dk_at dksX10_text_0 8 rfl rfl)
theorem dX10_text_9 : decode cX10_text 9 = .ok (.istore 4, 2) := dk_54 4 (dk_at dksX10_text_0 9 rfl rfl)
theorem dX10_text_11 : decode cX10_text 11 = .ok (.iload 4, 2) := dk_21 4 (dk_at dksX10_text_0 11 rfl rfl)
theorem dX10_text_13 : decode cX10_text 13 = .ok (.iload_n 2, 1) := dk_28 (dk_at dksX10_text_0 13 rfl rfl)
theorem dX10_text_14 : decode cX10_text 14 = .ok (.if_icmp .ge 21, 3) := dk_162 0 21 (dk_at dksX10_text_0 14 rfl rfl)
theorem dX10_text_17 : decode cX10_text 17 = .ok (.aload_n 3, 1) := dk_45 (dk_at dksX10_text_0 17 rfl rfl)
theorem dX10_text_18 : decode cX10_text 18 = .ok (.aload_n 0, 1) := dk_42 (dk_at dksX10_text_0 18 rfl rfl)
theorem dX10_text_19 : decode cX10_text 19 = .ok (.iload 4, 2) := dk_21 4 (dk_at dksX10_text_0 19 rfl rfl)
theorem dX10_text_21 : decode cX10_text 21 = .ok (.invokevirtual 32, 3) := dk_182 0 32 (dk_at dksX10_text_0 21 rfl rfl)
theorem dX10_text_24 : decode cX10_text 24 = .ok (.i2c, 1) := dk_146 (dk_at dksX10_text_1 0 rfl rfl)
theorem dX10_text_25 : decode cX10_text 25 = .ok (.invokevirtual 43, 3) := dk_182 0 43 (dk_at dksX10_text_1 1 rfl rfl)
theorem dX10_text_28 : decode cX10_text 28 = .ok (.pop, 1) := dk_87 (dk_at dksX10_text_1 4 rfl rfl)
theorem dX10_text_29 : decode cX10_text 29 = .ok (.iinc 4 1, 3) := dk_132 4 1 (dk_at dksX10_text_1 5 rfl rfl)
theorem dX10_text_32 : decode cX10_text 32 = .ok (.goto (-21), 3) := dk_167 255 235 (dk_at dksX10_text_1 8 rfl rfl)
theorem dX10_text_35 : decode cX10_text 35 = .ok (.aload_n 3, 1) := dk_45 (dk_at dksX10_text_1 11 rfl rfl)
theorem dX10_text_36 : decode cX10_text 36 = .ok (.invokevirtual 47, 3) := dk_182 0 47 (dk_at dksX10_text_1 12 rfl rfl)
theorem dX10_text_39 : decode cX10_text 39 = .ok (.areturn, 1) := dk_176 (dk_at dksX10_text_1 15 rfl rfl)
abbrev cX10_isOver : ByteArray := prog_27_method_7_code
def yX10_isOver : MethodName := ⟨RX10, "isOver", "()Z"⟩
def dkwX10_isOver_0 : List UInt8 := [42, 180, 0, 63, 178, 0, 57, 166, 0, 7, 4, 167, 0, 4, 3, 172]
abbrev dktX10_isOver_0 : List UInt8 := dkwX10_isOver_0 ++ []
theorem dksX10_isOver_0 : cX10_isOver.data.toList.drop 0 = dktX10_isOver_0 := by decide +kernel
theorem dX10_isOver_0 : decode cX10_isOver 0 = .ok (.aload_n 0, 1) := dk_42 (dk_at dksX10_isOver_0 0 rfl rfl)
theorem dX10_isOver_1 : decode cX10_isOver 1 = .ok (.getfield 63, 3) := dk_180 0 63 (dk_at dksX10_isOver_0 1 rfl rfl)
theorem dX10_isOver_4 : decode cX10_isOver 4 = .ok (.getstatic 57, 3) := dk_178 0 57 (dk_at dksX10_isOver_0 4 rfl rfl)
theorem dX10_isOver_7 : decode cX10_isOver 7 = .ok (.if_acmp .ne 7, 3) := dk_166 0 7 (dk_at dksX10_isOver_0 7 rfl rfl)
theorem dX10_isOver_10 : decode cX10_isOver 10 = .ok (.iconst 1, 1) := dk_4 (dk_at dksX10_isOver_0 10 rfl rfl)
theorem dX10_isOver_11 : decode cX10_isOver 11 = .ok (.goto 4, 3) := dk_167 0 4 (dk_at dksX10_isOver_0 11 rfl rfl)
theorem dX10_isOver_14 : decode cX10_isOver 14 = .ok (.iconst 0, 1) := dk_3 (dk_at dksX10_isOver_0 14 rfl rfl)
theorem dX10_isOver_15 : decode cX10_isOver 15 = .ok (.ireturn, 1) := dk_172 (dk_at dksX10_isOver_0 15 rfl rfl)
abbrev cX10_word : ByteArray := prog_27_method_8_code
def yX10_word : MethodName := ⟨RX10, "word", "()Ljava/lang/String;"⟩
theorem dX10_word_0 : decode cX10_word 0 = .ok (.aload_n 0, 1) := by decide +kernel
theorem dX10_word_1 : decode cX10_word 1 = .ok (.getfield 17, 3) := by decide +kernel
theorem dX10_word_4 : decode cX10_word 4 = .ok (.areturn, 1) := by decide +kernel
abbrev cX10_expect : ByteArray := prog_27_method_6_code
def yX10_expect : MethodName := ⟨RX10, "expect", "(ZI)V"⟩
def dkwX10_expect_0 : List UInt8 := [27, 154, 0, 16, 187, 0, 103, 89, 28, 42, 180, 0, 54, 183, 0, 105, 191, 177]
abbrev dktX10_expect_0 : List UInt8 := dkwX10_expect_0 ++ []
theorem dksX10_expect_0 : cX10_expect.data.toList.drop 0 = dktX10_expect_0 := by decide +kernel
theorem dX10_expect_0 : decode cX10_expect 0 = .ok (.iload_n 1, 1) := dk_27 (dk_at dksX10_expect_0 0 rfl rfl)
theorem dX10_expect_1 : decode cX10_expect 1 = .ok (.ifCond .ne 16, 3) := dk_154 0 16 (dk_at dksX10_expect_0 1 rfl rfl)
theorem dX10_expect_4 : decode cX10_expect 4 = .ok (.new 103, 3) := dk_187 0 103 (dk_at dksX10_expect_0 4 rfl rfl)
theorem dX10_expect_7 : decode cX10_expect 7 = .ok (.dup, 1) := dk_89 (dk_at dksX10_expect_0 7 rfl rfl)
theorem dX10_expect_8 : decode cX10_expect 8 = .ok (.iload_n 2, 1) := dk_28 (dk_at dksX10_expect_0 8 rfl rfl)
theorem dX10_expect_9 : decode cX10_expect 9 = .ok (.aload_n 0, 1) := dk_42 (dk_at dksX10_expect_0 9 rfl rfl)
theorem dX10_expect_10 : decode cX10_expect 10 = .ok (.getfield 54, 3) := dk_180 0 54 (dk_at dksX10_expect_0 10 rfl rfl)
theorem dX10_expect_13 : decode cX10_expect 13 = .ok (.invokespecial 105, 3) := dk_183 0 105 (dk_at dksX10_expect_0 13 rfl rfl)
theorem dX10_expect_16 : decode cX10_expect 16 = .ok (.athrow, 1) := dk_191 (dk_at dksX10_expect_0 16 rfl rfl)
theorem dX10_expect_17 : decode cX10_expect 17 = .ok (.return_, 1) := dk_177 (dk_at dksX10_expect_0 17 rfl rfl)
abbrev cX10_newName : ByteArray := prog_27_method_13_code
def yX10_newName : MethodName := ⟨RX10, "newName", "(Ljava/util/List;)Ljava/lang/String;"⟩
def dkwX10_newName_1 : List UInt8 := [42, 182, 0, 21, 44, 176]
abbrev dktX10_newName_1 : List UInt8 := dkwX10_newName_1 ++ []
def dkwX10_newName_0 : List UInt8 := [42, 182, 0, 124, 77, 42, 43, 44, 184, 0, 127, 2, 160, 0, 7, 4, 167, 0, 4, 3, 6, 182, 0, 108]
abbrev dktX10_newName_0 : List UInt8 := dkwX10_newName_0 ++ dktX10_newName_1
theorem dksX10_newName_0 : cX10_newName.data.toList.drop 0 = dktX10_newName_0 := by decide +kernel
theorem dksX10_newName_1 : cX10_newName.data.toList.drop 24 = dktX10_newName_1 := dk_seg dksX10_newName_0 24 rfl rfl
theorem dX10_newName_0 : decode cX10_newName 0 = .ok (.aload_n 0, 1) := dk_42 (dk_at dksX10_newName_0 0 rfl rfl)
theorem dX10_newName_1 : decode cX10_newName 1 = .ok (.invokevirtual 124, 3) := dk_182 0 124 (dk_at dksX10_newName_0 1 rfl rfl)
theorem dX10_newName_4 : decode cX10_newName 4 = .ok (.astore_n 2, 1) := dk_77 (dk_at dksX10_newName_0 4 rfl rfl)
theorem dX10_newName_5 : decode cX10_newName 5 = .ok (.aload_n 0, 1) := dk_42 (dk_at dksX10_newName_0 5 rfl rfl)
theorem dX10_newName_6 : decode cX10_newName 6 = .ok (.aload_n 1, 1) := dk_43 (dk_at dksX10_newName_0 6 rfl rfl)
theorem dX10_newName_7 : decode cX10_newName 7 = .ok (.aload_n 2, 1) := dk_44 (dk_at dksX10_newName_0 7 rfl rfl)
theorem dX10_newName_8 : decode cX10_newName 8 = .ok (.invokestatic 127, 3) := dk_184 0 127 (dk_at dksX10_newName_0 8 rfl rfl)
theorem dX10_newName_11 : decode cX10_newName 11 = .ok (.iconst (-1), 1) := dk_2 (dk_at dksX10_newName_0 11 rfl rfl)
theorem dX10_newName_12 : decode cX10_newName 12 = .ok (.if_icmp .ne 7, 3) := dk_160 0 7 (dk_at dksX10_newName_0 12 rfl rfl)
theorem dX10_newName_15 : decode cX10_newName 15 = .ok (.iconst 1, 1) := dk_4 (dk_at dksX10_newName_0 15 rfl rfl)
theorem dX10_newName_16 : decode cX10_newName 16 = .ok (.goto 4, 3) := dk_167 0 4 (dk_at dksX10_newName_0 16 rfl rfl)
theorem dX10_newName_19 : decode cX10_newName 19 = .ok (.iconst 0, 1) := dk_3 (dk_at dksX10_newName_0 19 rfl rfl)
theorem dX10_newName_20 : decode cX10_newName 20 = .ok (.iconst 3, 1) := dk_6 (dk_at dksX10_newName_0 20 rfl rfl)
theorem dX10_newName_21 : decode cX10_newName 21 = .ok (.invokevirtual 108, 3) := dk_182 0 108 (dk_at dksX10_newName_0 21 rfl rfl)
theorem dX10_newName_24 : decode cX10_newName 24 = .ok (.aload_n 0, 1) := dk_42 (dk_at dksX10_newName_1 0 rfl rfl)
theorem dX10_newName_25 : decode cX10_newName 25 = .ok (.invokevirtual 21, 3) := dk_182 0 21 (dk_at dksX10_newName_1 1 rfl rfl)
theorem dX10_newName_28 : decode cX10_newName 28 = .ok (.aload_n 2, 1) := dk_44 (dk_at dksX10_newName_1 4 rfl rfl)
theorem dX10_newName_29 : decode cX10_newName 29 = .ok (.areturn, 1) := dk_176 (dk_at dksX10_newName_1 5 rfl rfl)
abbrev cX10_name : ByteArray := prog_27_method_10_code
def yX10_name : MethodName := ⟨RX10, "name", "()Ljava/lang/String;"⟩
def dkwX10_name_1 : List UInt8 := [176]
abbrev dktX10_name_1 : List UInt8 := dkwX10_name_1 ++ []
def dkwX10_name_0 : List UInt8 := [42, 42, 180, 0, 17, 182, 0, 112, 133, 10, 20, 0, 118, 184, 0, 36, 4, 182, 0, 108, 42, 180, 0, 17]
abbrev dktX10_name_0 : List UInt8 := dkwX10_name_0 ++ dktX10_name_1
theorem dksX10_name_0 : cX10_name.data.toList.drop 0 = dktX10_name_0 := by decide +kernel
theorem dksX10_name_1 : cX10_name.data.toList.drop 24 = dktX10_name_1 := dk_seg dksX10_name_0 24 rfl rfl
theorem dX10_name_0 : decode cX10_name 0 = .ok (.aload_n 0, 1) := dk_42 (dk_at dksX10_name_0 0 rfl rfl)
theorem dX10_name_1 : decode cX10_name 1 = .ok (.aload_n 0, 1) := dk_42 (dk_at dksX10_name_0 1 rfl rfl)
theorem dX10_name_2 : decode cX10_name 2 = .ok (.getfield 17, 3) := dk_180 0 17 (dk_at dksX10_name_0 2 rfl rfl)
theorem dX10_name_5 : decode cX10_name 5 = .ok (.invokevirtual 112, 3) := dk_182 0 112 (dk_at dksX10_name_0 5 rfl rfl)
theorem dX10_name_8 : decode cX10_name 8 = .ok (.i2l, 1) := dk_133 (dk_at dksX10_name_0 8 rfl rfl)
theorem dX10_name_9 : decode cX10_name 9 = .ok (.lconst 1, 1) := dk_10 (dk_at dksX10_name_0 9 rfl rfl)
theorem dX10_name_10 : decode cX10_name 10 = .ok (.ldc2_w 118, 3) := dk_20 0 118 (dk_at dksX10_name_0 10 rfl rfl)
theorem dX10_name_13 : decode cX10_name 13 = .ok (.invokestatic 36, 3) := dk_184 0 36 (dk_at dksX10_name_0 13 rfl rfl)
theorem dX10_name_16 : decode cX10_name 16 = .ok (.iconst 1, 1) := dk_4 (dk_at dksX10_name_0 16 rfl rfl)
theorem dX10_name_17 : decode cX10_name 17 = .ok (.invokevirtual 108, 3) := dk_182 0 108 (dk_at dksX10_name_0 17 rfl rfl)
theorem dX10_name_20 : decode cX10_name 20 = .ok (.aload_n 0, 1) := dk_42 (dk_at dksX10_name_0 20 rfl rfl)
theorem dX10_name_21 : decode cX10_name 21 = .ok (.getfield 17, 3) := dk_180 0 17 (dk_at dksX10_name_0 21 rfl rfl)
theorem dX10_name_24 : decode cX10_name 24 = .ok (.areturn, 1) := dk_176 (dk_at dksX10_name_1 0 rfl rfl)
abbrev cX10_digit : ByteArray := prog_27_method_11_code
def yX10_digit : MethodName := ⟨RX10, "digit", "()I"⟩
def dkwX10_digit_0 : List UInt8 := [42, 3, 16, 9, 182, 0, 120, 172]
abbrev dktX10_digit_0 : List UInt8 := dkwX10_digit_0 ++ []
theorem dksX10_digit_0 : cX10_digit.data.toList.drop 0 = dktX10_digit_0 := by decide +kernel
theorem dX10_digit_0 : decode cX10_digit 0 = .ok (.aload_n 0, 1) := dk_42 (dk_at dksX10_digit_0 0 rfl rfl)
theorem dX10_digit_1 : decode cX10_digit 1 = .ok (.iconst 0, 1) := dk_3 (dk_at dksX10_digit_0 1 rfl rfl)
theorem dX10_digit_2 : decode cX10_digit 2 = .ok (.bipush 9, 2) := dk_16 9 (dk_at dksX10_digit_0 2 rfl rfl)
theorem dX10_digit_4 : decode cX10_digit 4 = .ok (.invokevirtual 120, 3) := dk_182 0 120 (dk_at dksX10_digit_0 4 rfl rfl)
theorem dX10_digit_7 : decode cX10_digit 7 = .ok (.ireturn, 1) := dk_172 (dk_at dksX10_digit_0 7 rfl rfl)
abbrev cX10_number : ByteArray := prog_27_method_9_code
def yX10_number : MethodName := ⟨RX10, "number", "(II)I"⟩
def dkwX10_number_2 : List UInt8 := [29, 172]
abbrev dktX10_number_2 : List UInt8 := dkwX10_number_2 ++ []
def dkwX10_number_1 : List UInt8 := [180, 0, 97, 133, 27, 133, 28, 133, 184, 0, 36, 5, 182, 0, 108, 42, 180, 0, 97, 62, 42, 182, 0, 21]
abbrev dktX10_number_1 : List UInt8 := dkwX10_number_1 ++ dktX10_number_2
def dkwX10_number_0 : List UInt8 := [42, 42, 180, 0, 63, 178, 0, 88, 166, 0, 7, 4, 167, 0, 4, 3, 4, 182, 0, 108, 42, 42]
abbrev dktX10_number_0 : List UInt8 := dkwX10_number_0 ++ dktX10_number_1
theorem dksX10_number_0 : cX10_number.data.toList.drop 0 = dktX10_number_0 := by decide +kernel
theorem dksX10_number_1 : cX10_number.data.toList.drop 22 = dktX10_number_1 := dk_seg dksX10_number_0 22 rfl rfl
theorem dksX10_number_2 : cX10_number.data.toList.drop 46 = dktX10_number_2 := dk_seg dksX10_number_1 24 rfl rfl
theorem dX10_number_0 : decode cX10_number 0 = .ok (.aload_n 0, 1) := dk_42 (dk_at dksX10_number_0 0 rfl rfl)
theorem dX10_number_1 : decode cX10_number 1 = .ok (.aload_n 0, 1) := dk_42 (dk_at dksX10_number_0 1 rfl rfl)
theorem dX10_number_2 : decode cX10_number 2 = .ok (.getfield 63, 3) := dk_180 0 63 (dk_at dksX10_number_0 2 rfl rfl)
theorem dX10_number_5 : decode cX10_number 5 = .ok (.getstatic 88, 3) := dk_178 0 88 (dk_at dksX10_number_0 5 rfl rfl)
theorem dX10_number_8 : decode cX10_number 8 = .ok (.if_acmp .ne 7, 3) := dk_166 0 7 (dk_at dksX10_number_0 8 rfl rfl)
theorem dX10_number_11 : decode cX10_number 11 = .ok (.iconst 1, 1) := dk_4 (dk_at dksX10_number_0 11 rfl rfl)
theorem dX10_number_12 : decode cX10_number 12 = .ok (.goto 4, 3) := dk_167 0 4 (dk_at dksX10_number_0 12 rfl rfl)
theorem dX10_number_15 : decode cX10_number 15 = .ok (.iconst 0, 1) := dk_3 (dk_at dksX10_number_0 15 rfl rfl)
theorem dX10_number_16 : decode cX10_number 16 = .ok (.iconst 1, 1) := dk_4 (dk_at dksX10_number_0 16 rfl rfl)
theorem dX10_number_17 : decode cX10_number 17 = .ok (.invokevirtual 108, 3) := dk_182 0 108 (dk_at dksX10_number_0 17 rfl rfl)
theorem dX10_number_20 : decode cX10_number 20 = .ok (.aload_n 0, 1) := dk_42 (dk_at dksX10_number_0 20 rfl rfl)
theorem dX10_number_21 : decode cX10_number 21 = .ok (.aload_n 0, 1) := dk_42 (dk_at dksX10_number_0 21 rfl rfl)
theorem dX10_number_22 : decode cX10_number 22 = .ok (.getfield 97, 3) := dk_180 0 97 (dk_at dksX10_number_1 0 rfl rfl)
theorem dX10_number_25 : decode cX10_number 25 = .ok (.i2l, 1) := dk_133 (dk_at dksX10_number_1 3 rfl rfl)
theorem dX10_number_26 : decode cX10_number 26 = .ok (.iload_n 1, 1) := dk_27 (dk_at dksX10_number_1 4 rfl rfl)
theorem dX10_number_27 : decode cX10_number 27 = .ok (.i2l, 1) := dk_133 (dk_at dksX10_number_1 5 rfl rfl)
theorem dX10_number_28 : decode cX10_number 28 = .ok (.iload_n 2, 1) := dk_28 (dk_at dksX10_number_1 6 rfl rfl)
theorem dX10_number_29 : decode cX10_number 29 = .ok (.i2l, 1) := dk_133 (dk_at dksX10_number_1 7 rfl rfl)
theorem dX10_number_30 : decode cX10_number 30 = .ok (.invokestatic 36, 3) := dk_184 0 36 (dk_at dksX10_number_1 8 rfl rfl)
theorem dX10_number_33 : decode cX10_number 33 = .ok (.iconst 2, 1) := dk_5 (dk_at dksX10_number_1 11 rfl rfl)
theorem dX10_number_34 : decode cX10_number 34 = .ok (.invokevirtual 108, 3) := dk_182 0 108 (dk_at dksX10_number_1 12 rfl rfl)
theorem dX10_number_37 : decode cX10_number 37 = .ok (.aload_n 0, 1) := dk_42 (dk_at dksX10_number_1 15 rfl rfl)
theorem dX10_number_38 : decode cX10_number 38 = .ok (.getfield 97, 3) := dk_180 0 97 (dk_at dksX10_number_1 16 rfl rfl)
theorem dX10_number_41 : decode cX10_number 41 = .ok (.istore_n 3, 1) := dk_62 (dk_at dksX10_number_1 19 rfl rfl)
theorem dX10_number_42 : decode cX10_number 42 = .ok (.aload_n 0, 1) := dk_42 (dk_at dksX10_number_1 20 rfl rfl)
theorem dX10_number_43 : decode cX10_number 43 = .ok (.invokevirtual 21, 3) := dk_182 0 21 (dk_at dksX10_number_1 21 rfl rfl)
theorem dX10_number_46 : decode cX10_number 46 = .ok (.iload_n 3, 1) := dk_29 (dk_at dksX10_number_2 0 rfl rfl)
theorem dX10_number_47 : decode cX10_number 47 = .ok (.ireturn, 1) := dk_172 (dk_at dksX10_number_2 1 rfl rfl)
abbrev cX10_known : ByteArray := prog_27_method_12_code
def yX10_known : MethodName := ⟨RX10, "known", "(Ljava/util/List;)I"⟩
def dkwX10_known_1 : List UInt8 := [42, 182, 0, 21, 28, 172]
abbrev dktX10_known_1 : List UInt8 := dkwX10_known_1 ++ []
def dkwX10_known_0 : List UInt8 := [43, 42, 182, 0, 124, 184, 0, 127, 61, 42, 28, 2, 159, 0, 7, 4, 167, 0, 4, 3, 7, 182, 0, 108]
abbrev dktX10_known_0 : List UInt8 := dkwX10_known_0 ++ dktX10_known_1
theorem dksX10_known_0 : cX10_known.data.toList.drop 0 = dktX10_known_0 := by decide +kernel
theorem dksX10_known_1 : cX10_known.data.toList.drop 24 = dktX10_known_1 := dk_seg dksX10_known_0 24 rfl rfl
theorem dX10_known_0 : decode cX10_known 0 = .ok (.aload_n 1, 1) := dk_43 (dk_at dksX10_known_0 0 rfl rfl)
theorem dX10_known_1 : decode cX10_known 1 = .ok (.aload_n 0, 1) := dk_42 (dk_at dksX10_known_0 1 rfl rfl)
theorem dX10_known_2 : decode cX10_known 2 = .ok (.invokevirtual 124, 3) := dk_182 0 124 (dk_at dksX10_known_0 2 rfl rfl)
theorem dX10_known_5 : decode cX10_known 5 = .ok (.invokestatic 127, 3) := dk_184 0 127 (dk_at dksX10_known_0 5 rfl rfl)
theorem dX10_known_8 : decode cX10_known 8 = .ok (.istore_n 2, 1) := dk_61 (dk_at dksX10_known_0 8 rfl rfl)
theorem dX10_known_9 : decode cX10_known 9 = .ok (.aload_n 0, 1) := dk_42 (dk_at dksX10_known_0 9 rfl rfl)
theorem dX10_known_10 : decode cX10_known 10 = .ok (.iload_n 2, 1) := dk_28 (dk_at dksX10_known_0 10 rfl rfl)
theorem dX10_known_11 : decode cX10_known 11 = .ok (.iconst (-1), 1) := dk_2 (dk_at dksX10_known_0 11 rfl rfl)
theorem dX10_known_12 : decode cX10_known 12 = .ok (.if_icmp .eq 7, 3) := dk_159 0 7 (dk_at dksX10_known_0 12 rfl rfl)
theorem dX10_known_15 : decode cX10_known 15 = .ok (.iconst 1, 1) := dk_4 (dk_at dksX10_known_0 15 rfl rfl)
theorem dX10_known_16 : decode cX10_known 16 = .ok (.goto 4, 3) := dk_167 0 4 (dk_at dksX10_known_0 16 rfl rfl)
theorem dX10_known_19 : decode cX10_known 19 = .ok (.iconst 0, 1) := dk_3 (dk_at dksX10_known_0 19 rfl rfl)
theorem dX10_known_20 : decode cX10_known 20 = .ok (.iconst 4, 1) := dk_7 (dk_at dksX10_known_0 20 rfl rfl)
theorem dX10_known_21 : decode cX10_known 21 = .ok (.invokevirtual 108, 3) := dk_182 0 108 (dk_at dksX10_known_0 21 rfl rfl)
theorem dX10_known_24 : decode cX10_known 24 = .ok (.aload_n 0, 1) := dk_42 (dk_at dksX10_known_1 0 rfl rfl)
theorem dX10_known_25 : decode cX10_known 25 = .ok (.invokevirtual 21, 3) := dk_182 0 21 (dk_at dksX10_known_1 1 rfl rfl)
theorem dX10_known_28 : decode cX10_known 28 = .ok (.iload_n 2, 1) := dk_28 (dk_at dksX10_known_1 4 rfl rfl)
theorem dX10_known_29 : decode cX10_known 29 = .ok (.ireturn, 1) := dk_172 (dk_at dksX10_known_1 5 rfl rfl)
abbrev cX10_keyword : ByteArray := prog_27_method_15_code
def yX10_keyword : MethodName := ⟨RX10, "keyword", "(Ljava/lang/String;)V"⟩
def dkwX10_keyword_0 : List UInt8 := [42, 42, 43, 182, 0, 137, 4, 182, 0, 108, 42, 182, 0, 21, 177]
abbrev dktX10_keyword_0 : List UInt8 := dkwX10_keyword_0 ++ []
theorem dksX10_keyword_0 : cX10_keyword.data.toList.drop 0 = dktX10_keyword_0 := by decide +kernel
theorem dX10_keyword_0 : decode cX10_keyword 0 = .ok (.aload_n 0, 1) := dk_42 (dk_at dksX10_keyword_0 0 rfl rfl)
theorem dX10_keyword_1 : decode cX10_keyword 1 = .ok (.aload_n 0, 1) := dk_42 (dk_at dksX10_keyword_0 1 rfl rfl)
theorem dX10_keyword_2 : decode cX10_keyword 2 = .ok (.aload_n 1, 1) := dk_43 (dk_at dksX10_keyword_0 2 rfl rfl)
theorem dX10_keyword_3 : decode cX10_keyword 3 = .ok (.invokevirtual 137, 3) := dk_182 0 137 (dk_at dksX10_keyword_0 3 rfl rfl)
theorem dX10_keyword_6 : decode cX10_keyword 6 = .ok (.iconst 1, 1) := dk_4 (dk_at dksX10_keyword_0 6 rfl rfl)
theorem dX10_keyword_7 : decode cX10_keyword 7 = .ok (.invokevirtual 108, 3) := dk_182 0 108 (dk_at dksX10_keyword_0 7 rfl rfl)
theorem dX10_keyword_10 : decode cX10_keyword 10 = .ok (.aload_n 0, 1) := dk_42 (dk_at dksX10_keyword_0 10 rfl rfl)
theorem dX10_keyword_11 : decode cX10_keyword 11 = .ok (.invokevirtual 21, 3) := dk_182 0 21 (dk_at dksX10_keyword_0 11 rfl rfl)
theorem dX10_keyword_14 : decode cX10_keyword 14 = .ok (.return_, 1) := dk_177 (dk_at dksX10_keyword_0 14 rfl rfl)
abbrev cX10_isWord : ByteArray := prog_27_method_14_code
def yX10_isWord : MethodName := ⟨RX10, "isWord", "(Ljava/lang/String;)Z"⟩
def dkwX10_isWord_0 : List UInt8 := [42, 180, 0, 17, 43, 182, 0, 133, 172]
abbrev dktX10_isWord_0 : List UInt8 := dkwX10_isWord_0 ++ []
theorem dksX10_isWord_0 : cX10_isWord.data.toList.drop 0 = dktX10_isWord_0 := by decide +kernel
theorem dX10_isWord_0 : decode cX10_isWord 0 = .ok (.aload_n 0, 1) := dk_42 (dk_at dksX10_isWord_0 0 rfl rfl)
theorem dX10_isWord_1 : decode cX10_isWord 1 = .ok (.getfield 17, 3) := dk_180 0 17 (dk_at dksX10_isWord_0 1 rfl rfl)
theorem dX10_isWord_4 : decode cX10_isWord 4 = .ok (.aload_n 1, 1) := dk_43 (dk_at dksX10_isWord_0 4 rfl rfl)
theorem dX10_isWord_5 : decode cX10_isWord 5 = .ok (.invokevirtual 133, 3) := dk_182 0 133 (dk_at dksX10_isWord_0 5 rfl rfl)
theorem dX10_isWord_8 : decode cX10_isWord 8 = .ok (.ireturn, 1) := dk_172 (dk_at dksX10_isWord_0 8 rfl rfl)
abbrev cX10_operator : ByteArray := prog_27_method_16_code
def yX10_operator : MethodName := ⟨RX10, "operator", "()LContractMachine$Operator;"⟩
def dkwX10_operator_2 : List UInt8 := [167, 255, 221, 187, 0, 103, 89, 4, 42, 180, 0, 54, 183, 0, 105, 191]
abbrev dktX10_operator_2 : List UInt8 := dkwX10_operator_2 ++ []
def dkwX10_operator_1 : List UInt8 := [25, 4, 180, 0, 145, 182, 0, 137, 154, 0, 6, 167, 0, 10, 42, 182, 0, 21, 25, 4, 176, 132, 3, 1]
abbrev dktX10_operator_1 : List UInt8 := dkwX10_operator_1 ++ dktX10_operator_2
def dkwX10_operator_0 : List UInt8 := [42, 180, 0, 3, 180, 0, 141, 76, 43, 190, 61, 3, 62, 29, 28, 162, 0, 36, 43, 29, 50, 58, 4, 42]
abbrev dktX10_operator_0 : List UInt8 := dkwX10_operator_0 ++ dktX10_operator_1
theorem dksX10_operator_0 : cX10_operator.data.toList.drop 0 = dktX10_operator_0 := by decide +kernel
theorem dksX10_operator_1 : cX10_operator.data.toList.drop 24 = dktX10_operator_1 := dk_seg dksX10_operator_0 24 rfl rfl
theorem dksX10_operator_2 : cX10_operator.data.toList.drop 48 = dktX10_operator_2 := dk_seg dksX10_operator_1 24 rfl rfl
theorem dX10_operator_0 : decode cX10_operator 0 = .ok (.aload_n 0, 1) := dk_42 (dk_at dksX10_operator_0 0 rfl rfl)
theorem dX10_operator_1 : decode cX10_operator 1 = .ok (.getfield 3, 3) := dk_180 0 3 (dk_at dksX10_operator_0 1 rfl rfl)
theorem dX10_operator_4 : decode cX10_operator 4 = .ok (.getfield 141, 3) := dk_180 0 141 (dk_at dksX10_operator_0 4 rfl rfl)
theorem dX10_operator_7 : decode cX10_operator 7 = .ok (.astore_n 1, 1) := dk_76 (dk_at dksX10_operator_0 7 rfl rfl)
theorem dX10_operator_8 : decode cX10_operator 8 = .ok (.aload_n 1, 1) := dk_43 (dk_at dksX10_operator_0 8 rfl rfl)
theorem dX10_operator_9 : decode cX10_operator 9 = .ok (.arraylength, 1) := dk_190 (dk_at dksX10_operator_0 9 rfl rfl)
theorem dX10_operator_10 : decode cX10_operator 10 = .ok (.istore_n 2, 1) := dk_61 (dk_at dksX10_operator_0 10 rfl rfl)
theorem dX10_operator_11 : decode cX10_operator 11 = .ok (.iconst 0, 1) := dk_3 (dk_at dksX10_operator_0 11 rfl rfl)
theorem dX10_operator_12 : decode cX10_operator 12 = .ok (.istore_n 3, 1) := dk_62 (dk_at dksX10_operator_0 12 rfl rfl)
theorem dX10_operator_13 : decode cX10_operator 13 = .ok (.iload_n 3, 1) := dk_29 (dk_at dksX10_operator_0 13 rfl rfl)
theorem dX10_operator_14 : decode cX10_operator 14 = .ok (.iload_n 2, 1) := dk_28 (dk_at dksX10_operator_0 14 rfl rfl)
theorem dX10_operator_15 : decode cX10_operator 15 = .ok (.if_icmp .ge 36, 3) := dk_162 0 36 (dk_at dksX10_operator_0 15 rfl rfl)
theorem dX10_operator_18 : decode cX10_operator 18 = .ok (.aload_n 1, 1) := dk_43 (dk_at dksX10_operator_0 18 rfl rfl)
theorem dX10_operator_19 : decode cX10_operator 19 = .ok (.iload_n 3, 1) := dk_29 (dk_at dksX10_operator_0 19 rfl rfl)
theorem dX10_operator_20 : decode cX10_operator 20 = .ok (.aaload, 1) := dk_50 (dk_at dksX10_operator_0 20 rfl rfl)
theorem dX10_operator_21 : decode cX10_operator 21 = .ok (.astore 4, 2) := dk_58 4 (dk_at dksX10_operator_0 21 rfl rfl)
theorem dX10_operator_23 : decode cX10_operator 23 = .ok (.aload_n 0, 1) := dk_42 (dk_at dksX10_operator_0 23 rfl rfl)
theorem dX10_operator_24 : decode cX10_operator 24 = .ok (.aload 4, 2) := dk_25 4 (dk_at dksX10_operator_1 0 rfl rfl)
theorem dX10_operator_26 : decode cX10_operator 26 = .ok (.getfield 145, 3) := dk_180 0 145 (dk_at dksX10_operator_1 2 rfl rfl)
theorem dX10_operator_29 : decode cX10_operator 29 = .ok (.invokevirtual 137, 3) := dk_182 0 137 (dk_at dksX10_operator_1 5 rfl rfl)
theorem dX10_operator_32 : decode cX10_operator 32 = .ok (.ifCond .ne 6, 3) := dk_154 0 6 (dk_at dksX10_operator_1 8 rfl rfl)
theorem dX10_operator_35 : decode cX10_operator 35 = .ok (.goto 10, 3) := dk_167 0 10 (dk_at dksX10_operator_1 11 rfl rfl)
theorem dX10_operator_38 : decode cX10_operator 38 = .ok (.aload_n 0, 1) := dk_42 (dk_at dksX10_operator_1 14 rfl rfl)
theorem dX10_operator_39 : decode cX10_operator 39 = .ok (.invokevirtual 21, 3) := dk_182 0 21 (dk_at dksX10_operator_1 15 rfl rfl)
theorem dX10_operator_42 : decode cX10_operator 42 = .ok (.aload 4, 2) := dk_25 4 (dk_at dksX10_operator_1 18 rfl rfl)
theorem dX10_operator_44 : decode cX10_operator 44 = .ok (.areturn, 1) := dk_176 (dk_at dksX10_operator_1 20 rfl rfl)
theorem dX10_operator_45 : decode cX10_operator 45 = .ok (.iinc 3 1, 3) := dk_132 3 1 (dk_at dksX10_operator_1 21 rfl rfl)
theorem dX10_operator_48 : decode cX10_operator 48 = .ok (.goto (-35), 3) := dk_167 255 221 (dk_at dksX10_operator_2 0 rfl rfl)
theorem dX10_operator_51 : decode cX10_operator 51 = .ok (.new 103, 3) := dk_187 0 103 (dk_at dksX10_operator_2 3 rfl rfl)
theorem dX10_operator_54 : decode cX10_operator 54 = .ok (.dup, 1) := dk_89 (dk_at dksX10_operator_2 6 rfl rfl)
theorem dX10_operator_55 : decode cX10_operator 55 = .ok (.iconst 1, 1) := dk_4 (dk_at dksX10_operator_2 7 rfl rfl)
theorem dX10_operator_56 : decode cX10_operator 56 = .ok (.aload_n 0, 1) := dk_42 (dk_at dksX10_operator_2 8 rfl rfl)
theorem dX10_operator_57 : decode cX10_operator 57 = .ok (.getfield 54, 3) := dk_180 0 54 (dk_at dksX10_operator_2 9 rfl rfl)
theorem dX10_operator_60 : decode cX10_operator 60 = .ok (.invokespecial 105, 3) := dk_183 0 105 (dk_at dksX10_operator_2 12 rfl rfl)
theorem dX10_operator_63 : decode cX10_operator 63 = .ok (.athrow, 1) := dk_191 (dk_at dksX10_operator_2 15 rfl rfl)
abbrev cX10_endStatement : ByteArray := prog_27_method_17_code
def yX10_endStatement : MethodName := ⟨RX10, "endStatement", "()V"⟩
def dkwX10_endStatement_1 : List UInt8 := [177]
abbrev dktX10_endStatement_1 : List UInt8 := dkwX10_endStatement_1 ++ []
def dkwX10_endStatement_0 : List UInt8 := [42, 42, 180, 0, 63, 178, 0, 100, 166, 0, 7, 4, 167, 0, 4, 3, 4, 182, 0, 108, 42, 182, 0, 21]
abbrev dktX10_endStatement_0 : List UInt8 := dkwX10_endStatement_0 ++ dktX10_endStatement_1
theorem dksX10_endStatement_0 : cX10_endStatement.data.toList.drop 0 = dktX10_endStatement_0 := by decide +kernel
theorem dksX10_endStatement_1 : cX10_endStatement.data.toList.drop 24 = dktX10_endStatement_1 := dk_seg dksX10_endStatement_0 24 rfl rfl
theorem dX10_endStatement_0 : decode cX10_endStatement 0 = .ok (.aload_n 0, 1) := dk_42 (dk_at dksX10_endStatement_0 0 rfl rfl)
theorem dX10_endStatement_1 : decode cX10_endStatement 1 = .ok (.aload_n 0, 1) := dk_42 (dk_at dksX10_endStatement_0 1 rfl rfl)
theorem dX10_endStatement_2 : decode cX10_endStatement 2 = .ok (.getfield 63, 3) := dk_180 0 63 (dk_at dksX10_endStatement_0 2 rfl rfl)
theorem dX10_endStatement_5 : decode cX10_endStatement 5 = .ok (.getstatic 100, 3) := dk_178 0 100 (dk_at dksX10_endStatement_0 5 rfl rfl)
theorem dX10_endStatement_8 : decode cX10_endStatement 8 = .ok (.if_acmp .ne 7, 3) := dk_166 0 7 (dk_at dksX10_endStatement_0 8 rfl rfl)
theorem dX10_endStatement_11 : decode cX10_endStatement 11 = .ok (.iconst 1, 1) := dk_4 (dk_at dksX10_endStatement_0 11 rfl rfl)
theorem dX10_endStatement_12 : decode cX10_endStatement 12 = .ok (.goto 4, 3) := dk_167 0 4 (dk_at dksX10_endStatement_0 12 rfl rfl)
theorem dX10_endStatement_15 : decode cX10_endStatement 15 = .ok (.iconst 0, 1) := dk_3 (dk_at dksX10_endStatement_0 15 rfl rfl)
theorem dX10_endStatement_16 : decode cX10_endStatement 16 = .ok (.iconst 1, 1) := dk_4 (dk_at dksX10_endStatement_0 16 rfl rfl)
theorem dX10_endStatement_17 : decode cX10_endStatement 17 = .ok (.invokevirtual 108, 3) := dk_182 0 108 (dk_at dksX10_endStatement_0 17 rfl rfl)
theorem dX10_endStatement_20 : decode cX10_endStatement 20 = .ok (.aload_n 0, 1) := dk_42 (dk_at dksX10_endStatement_0 20 rfl rfl)
theorem dX10_endStatement_21 : decode cX10_endStatement 21 = .ok (.invokevirtual 21, 3) := dk_182 0 21 (dk_at dksX10_endStatement_0 21 rfl rfl)
theorem dX10_endStatement_24 : decode cX10_endStatement 24 = .ok (.return_, 1) := dk_177 (dk_at dksX10_endStatement_1 0 rfl rfl)
theorem q152 : (Jvm.Cond.initialized "ContractMachine$Parser") ∈ lw_all := lw_g (lw_at lw_m1 32 rfl) rfl
theorem q882 : (Jvm.Cond.fieldLinkNest "ContractMachine$Parser" (141 : Nat) "ContractMachine" "operators" "[LContractMachine$Operator;" "ContractMachine") ∈ lw_tbl := lw_at lw_m4 42 rfl
theorem q883 : (Jvm.Cond.fieldLinkNest "ContractMachine$Parser" (28 : Nat) "ContractMachine" "input" "[B" "ContractMachine") ∈ lw_tbl := lw_at lw_m4 43 rfl
theorem q885 : (Jvm.Cond.fieldLinkNest "ContractMachine$Parser" (24 : Nat) "ContractMachine" "inputLength" "I" "ContractMachine") ∈ lw_tbl := lw_at lw_m4 45 rfl
theorem q971 : (Jvm.Cond.instanceMethod ({ cls := "ContractMachine$Parser", name := "<init>", desc := "(LContractMachine;)V" } : Jvm.MethodName)) ∈ lw_all := lw_g (lw_at lw_m4 131 rfl) rfl
theorem q972 : (Jvm.Cond.code ({ cls := "ContractMachine$Parser", name := "<init>", desc := "(LContractMachine;)V" } : Jvm.MethodName) prog_27_method_1_code (2 : Nat) (Option.none : Option Jvm.ClassFile.FieldType)) ∈ lw_all := lw_g (lw_at lw_m4 132 rfl) rfl
theorem q973 : (Jvm.Cond.methodLink "ContractMachine$Parser" (9 : Nat) ({ cls := "java/lang/Object", name := "<init>", desc := "()V" } : Jvm.MethodName)) ∈ lw_all := lw_g (lw_at lw_m4 133 rfl) rfl
theorem q974 : (Jvm.Cond.stringRef "ContractMachine$Parser" (15 : Nat) "") ∈ lw_tbl := lw_at lw_m4 134 rfl
theorem q975 : (Jvm.Cond.methodLink "ContractMachine$Parser" (21 : Nat) ({ cls := "ContractMachine$Parser", name := "advance", desc := "()V" } : Jvm.MethodName)) ∈ lw_all := lw_g (lw_at lw_m4 135 rfl) rfl
theorem q976 : (Jvm.Cond.instanceMethod ({ cls := "ContractMachine$Parser", name := "advance", desc := "()V" } : Jvm.MethodName)) ∈ lw_all := lw_g (lw_at lw_m4 136 rfl) rfl
theorem q977 : (Jvm.Cond.sameMethod "ContractMachine$Parser" "ContractMachine$Parser" "advance" "()V") ∈ lw_all := lw_g (lw_at lw_m4 137 rfl) rfl
theorem q980 : (Jvm.Cond.code ({ cls := "ContractMachine$Parser", name := "advance", desc := "()V" } : Jvm.MethodName) prog_27_method_5_code (2 : Nat) (Option.none : Option Jvm.ClassFile.FieldType)) ∈ lw_all := lw_g (lw_at lw_m4 140 rfl) rfl
theorem q981 : (Jvm.Cond.methodLink "ContractMachine$Parser" (32 : Nat) ({ cls := "ContractMachine$Parser", name := "at", desc := "(I)I" } : Jvm.MethodName)) ∈ lw_all := lw_g (lw_at lw_m4 141 rfl) rfl
theorem q982 : (Jvm.Cond.privateMethod ({ cls := "ContractMachine$Parser", name := "at", desc := "(I)I" } : Jvm.MethodName)) ∈ lw_tbl := lw_at lw_m4 142 rfl
theorem q983 : (Jvm.Cond.instanceMethod ({ cls := "ContractMachine$Parser", name := "at", desc := "(I)I" } : Jvm.MethodName)) ∈ lw_all := lw_g (lw_at lw_m4 143 rfl) rfl
theorem q984 : (Jvm.Cond.instantiable "ContractMachine$Parser" (6 : Nat)) ∈ lw_all := lw_g (lw_at lw_m4 144 rfl) rfl
theorem q985 : (Jvm.Cond.code ({ cls := "ContractMachine$Parser", name := "at", desc := "(I)I" } : Jvm.MethodName) prog_27_method_2_code (2 : Nat) (Option.some Jvm.ClassFile.FieldType.int)) ∈ lw_all := lw_g (lw_at lw_m4 145 rfl) rfl
theorem q986 : (Jvm.Cond.fieldLink "ContractMachine$Parser" (57 : Nat) "ContractMachine$Token" "END" "LContractMachine$Token;") ∈ lw_all := lw_g (lw_at lw_m4 146 rfl) rfl
theorem q988 : (Jvm.Cond.constantLong "ContractMachine$Parser" (66 : Nat) (97 : Int64)) ∈ lw_all := lw_g (lw_at lw_m4 148 rfl) rfl
theorem q989 : (Jvm.Cond.constantLong "ContractMachine$Parser" (68 : Nat) (122 : Int64)) ∈ lw_all := lw_g (lw_at lw_m4 149 rfl) rfl
theorem q990 : (Jvm.Cond.methodLinkNest "ContractMachine$Parser" (36 : Nat) ({ cls := "ContractMachine", name := "isWithin", desc := "(JJJ)Z" } : Jvm.MethodName) "ContractMachine") ∈ lw_tbl := lw_at lw_m4 150 rfl
theorem q991 : (Jvm.Cond.methodLink "ContractMachine$Parser" (70 : Nat) ({ cls := "ContractMachine$Parser", name := "endOfRun", desc := "(III)I" } : Jvm.MethodName)) ∈ lw_all := lw_g (lw_at lw_m4 151 rfl) rfl
theorem q992 : (Jvm.Cond.privateMethod ({ cls := "ContractMachine$Parser", name := "endOfRun", desc := "(III)I" } : Jvm.MethodName)) ∈ lw_tbl := lw_at lw_m4 152 rfl
theorem q993 : (Jvm.Cond.instanceMethod ({ cls := "ContractMachine$Parser", name := "endOfRun", desc := "(III)I" } : Jvm.MethodName)) ∈ lw_all := lw_g (lw_at lw_m4 153 rfl) rfl
theorem q994 : (Jvm.Cond.code ({ cls := "ContractMachine$Parser", name := "endOfRun", desc := "(III)I" } : Jvm.MethodName) prog_27_method_3_code (5 : Nat) (Option.some Jvm.ClassFile.FieldType.int)) ∈ lw_all := lw_g (lw_at lw_m4 154 rfl) rfl
theorem q995 : (Jvm.Cond.fieldLink "ContractMachine$Parser" (74 : Nat) "ContractMachine$Token" "WORD" "LContractMachine$Token;") ∈ lw_all := lw_g (lw_at lw_m4 155 rfl) rfl
theorem q997 : (Jvm.Cond.fieldLink "ContractMachine$Parser" (77 : Nat) "ContractMachine$Token" "INVALID" "LContractMachine$Token;") ∈ lw_all := lw_g (lw_at lw_m4 157 rfl) rfl
theorem q999 : (Jvm.Cond.methodLink "ContractMachine$Parser" (80 : Nat) ({ cls := "ContractMachine$Parser", name := "text", desc := "(II)Ljava/lang/String;" } : Jvm.MethodName)) ∈ lw_all := lw_g (lw_at lw_m4 159 rfl) rfl
theorem q1000 : (Jvm.Cond.privateMethod ({ cls := "ContractMachine$Parser", name := "text", desc := "(II)Ljava/lang/String;" } : Jvm.MethodName)) ∈ lw_tbl := lw_at lw_m4 160 rfl
theorem q1001 : (Jvm.Cond.instanceMethod ({ cls := "ContractMachine$Parser", name := "text", desc := "(II)Ljava/lang/String;" } : Jvm.MethodName)) ∈ lw_all := lw_g (lw_at lw_m4 161 rfl) rfl
theorem q1002 : (Jvm.Cond.code ({ cls := "ContractMachine$Parser", name := "text", desc := "(II)Ljava/lang/String;" } : Jvm.MethodName) prog_27_method_4_code (5 : Nat) (Option.some (Jvm.ClassFile.FieldType.object "java/lang/String"))) ∈ lw_all := lw_g (lw_at lw_m4 162 rfl) rfl
theorem q1003 : (Jvm.Cond.classLink "ContractMachine$Parser" (40 : Nat) "java/lang/StringBuilder") ∈ lw_all := lw_g (lw_at lw_m4 163 rfl) rfl
theorem q1004 : (Jvm.Cond.methodLink "ContractMachine$Parser" (42 : Nat) ({ cls := "java/lang/StringBuilder", name := "<init>", desc := "()V" } : Jvm.MethodName)) ∈ lw_all := lw_g (lw_at lw_m4 164 rfl) rfl
theorem q1005 : (Jvm.Cond.methodLink "ContractMachine$Parser" (43 : Nat) ({ cls := "java/lang/StringBuilder", name := "append", desc := "(C)Ljava/lang/StringBuilder;" } : Jvm.MethodName)) ∈ lw_all := lw_g (lw_at lw_m4 165 rfl) rfl
theorem q1027 : (Jvm.Cond.methodLink "ContractMachine$Parser" (47 : Nat) ({ cls := "java/lang/StringBuilder", name := "toString", desc := "()Ljava/lang/String;" } : Jvm.MethodName)) ∈ lw_all := lw_g (lw_at lw_m4 187 rfl) rfl
theorem q1028 : (Jvm.Cond.constantLong "ContractMachine$Parser" (84 : Nat) (48 : Int64)) ∈ lw_all := lw_g (lw_at lw_m4 188 rfl) rfl
theorem q1029 : (Jvm.Cond.constantLong "ContractMachine$Parser" (86 : Nat) (57 : Int64)) ∈ lw_all := lw_g (lw_at lw_m4 189 rfl) rfl
theorem q1030 : (Jvm.Cond.fieldLink "ContractMachine$Parser" (88 : Nat) "ContractMachine$Token" "NUMBER" "LContractMachine$Token;") ∈ lw_all := lw_g (lw_at lw_m4 190 rfl) rfl
theorem q1032 : (Jvm.Cond.methodLink "ContractMachine$Parser" (91 : Nat) ({ cls := "java/lang/Integer", name := "parseInt", desc := "(Ljava/lang/String;)I" } : Jvm.MethodName)) ∈ lw_all := lw_g (lw_at lw_m4 192 rfl) rfl
theorem q1115 : (Jvm.Cond.fieldLink "ContractMachine$Parser" (100 : Nat) "ContractMachine$Token" "SEMICOLON" "LContractMachine$Token;") ∈ lw_all := lw_g (lw_at lw_m5 35 rfl) rfl
theorem q1125 : (Jvm.Cond.fieldLink "ContractMachine$Parser" (54 : Nat) "ContractMachine$Parser" "start" "I") ∈ lw_all := lw_g (lw_at lw_m5 45 rfl) rfl
theorem q1126 : (Jvm.Cond.fieldLink "ContractMachine$Parser" (51 : Nat) "ContractMachine$Parser" "next" "I") ∈ lw_all := lw_g (lw_at lw_m5 46 rfl) rfl
theorem q1127 : (Jvm.Cond.fieldLink "ContractMachine$Parser" (97 : Nat) "ContractMachine$Parser" "value" "I") ∈ lw_all := lw_g (lw_at lw_m5 47 rfl) rfl
theorem q1128 : (Jvm.Cond.fieldLink "ContractMachine$Parser" (17 : Nat) "ContractMachine$Parser" "word" "Ljava/lang/String;") ∈ lw_all := lw_g (lw_at lw_m5 48 rfl) rfl
theorem q1129 : (Jvm.Cond.fieldLink "ContractMachine$Parser" (63 : Nat) "ContractMachine$Parser" "token" "LContractMachine$Token;") ∈ lw_all := lw_g (lw_at lw_m5 49 rfl) rfl
theorem q1130 : (Jvm.Cond.fieldLink "ContractMachine$Parser" (3 : Nat) "ContractMachine$Parser" "this$0" "LContractMachine;") ∈ lw_all := lw_g (lw_at lw_m5 50 rfl) rfl
theorem q1138 : (Jvm.Cond.soleField "ContractMachine$Parser" "start") ∈ lw_all := lw_g (lw_at lw_m5 58 rfl) rfl
theorem q1140 : (Jvm.Cond.soleField "ContractMachine$Parser" "next") ∈ lw_all := lw_g (lw_at lw_m5 60 rfl) rfl
theorem q1142 : (Jvm.Cond.soleField "ContractMachine$Parser" "value") ∈ lw_all := lw_g (lw_at lw_m5 62 rfl) rfl
theorem q1144 : (Jvm.Cond.soleField "ContractMachine$Parser" "word") ∈ lw_all := lw_g (lw_at lw_m5 64 rfl) rfl
theorem q1146 : (Jvm.Cond.soleField "ContractMachine$Parser" "token") ∈ lw_all := lw_g (lw_at lw_m5 66 rfl) rfl
theorem q1148 : (Jvm.Cond.soleField "ContractMachine$Parser" "this$0") ∈ lw_all := lw_g (lw_at lw_m5 68 rfl) rfl
theorem q1156 : (Jvm.Cond.declares ({ cls := "ContractMachine$Parser", name := "isOver", desc := "()Z" } : Jvm.MethodName)) ∈ lw_tbl := lw_at lw_m5 76 rfl
theorem q1158 : (Jvm.Cond.instanceMethod ({ cls := "ContractMachine$Parser", name := "isOver", desc := "()Z" } : Jvm.MethodName)) ∈ lw_all := lw_g (lw_at lw_m5 78 rfl) rfl
theorem q1159 : (Jvm.Cond.code ({ cls := "ContractMachine$Parser", name := "isOver", desc := "()Z" } : Jvm.MethodName) prog_27_method_7_code (1 : Nat) (Option.some Jvm.ClassFile.FieldType.boolean)) ∈ lw_all := lw_g (lw_at lw_m5 79 rfl) rfl
theorem q1162 : (Jvm.Cond.declares ({ cls := "ContractMachine$Parser", name := "word", desc := "()Ljava/lang/String;" } : Jvm.MethodName)) ∈ lw_tbl := lw_at lw_m5 82 rfl
theorem q1164 : (Jvm.Cond.instanceMethod ({ cls := "ContractMachine$Parser", name := "word", desc := "()Ljava/lang/String;" } : Jvm.MethodName)) ∈ lw_all := lw_g (lw_at lw_m5 84 rfl) rfl
theorem q1165 : (Jvm.Cond.code ({ cls := "ContractMachine$Parser", name := "word", desc := "()Ljava/lang/String;" } : Jvm.MethodName) prog_27_method_8_code (1 : Nat) (Option.some (Jvm.ClassFile.FieldType.object "java/lang/String"))) ∈ lw_all := lw_g (lw_at lw_m5 85 rfl) rfl
theorem q1249 : (Jvm.Cond.declares ({ cls := "ContractMachine$Parser", name := "expect", desc := "(ZI)V" } : Jvm.MethodName)) ∈ lw_tbl := lw_at lw_m5 169 rfl
theorem q1251 : (Jvm.Cond.instanceMethod ({ cls := "ContractMachine$Parser", name := "expect", desc := "(ZI)V" } : Jvm.MethodName)) ∈ lw_all := lw_g (lw_at lw_m5 171 rfl) rfl
theorem q1252 : (Jvm.Cond.code ({ cls := "ContractMachine$Parser", name := "expect", desc := "(ZI)V" } : Jvm.MethodName) prog_27_method_6_code (3 : Nat) (Option.none : Option Jvm.ClassFile.FieldType)) ∈ lw_all := lw_g (lw_at lw_m5 172 rfl) rfl
theorem q1253 : (Jvm.Cond.classLink "ContractMachine$Parser" (103 : Nat) "ContractMachine$ParseException") ∈ lw_all := lw_g (lw_at lw_m5 173 rfl) rfl
theorem q1262 : (Jvm.Cond.methodLink "ContractMachine$Parser" (105 : Nat) ({ cls := "ContractMachine$ParseException", name := "<init>", desc := "(II)V" } : Jvm.MethodName)) ∈ lw_all := lw_g (lw_at lw_m5 182 rfl) rfl
theorem q1283 : (Jvm.Cond.declares ({ cls := "ContractMachine$Parser", name := "advance", desc := "()V" } : Jvm.MethodName)) ∈ lw_tbl := lw_at lw_m5 203 rfl
theorem q1287 : (Jvm.Cond.declares ({ cls := "ContractMachine$Parser", name := "newName", desc := "(Ljava/util/List;)Ljava/lang/String;" } : Jvm.MethodName)) ∈ lw_tbl := lw_at lw_m5 207 rfl
theorem q1289 : (Jvm.Cond.instanceMethod ({ cls := "ContractMachine$Parser", name := "newName", desc := "(Ljava/util/List;)Ljava/lang/String;" } : Jvm.MethodName)) ∈ lw_all := lw_g (lw_at lw_m5 209 rfl) rfl
theorem q1290 : (Jvm.Cond.code ({ cls := "ContractMachine$Parser", name := "newName", desc := "(Ljava/util/List;)Ljava/lang/String;" } : Jvm.MethodName) prog_27_method_13_code (3 : Nat) (Option.some (Jvm.ClassFile.FieldType.object "java/lang/String"))) ∈ lw_all := lw_g (lw_at lw_m5 210 rfl) rfl
theorem q1291 : (Jvm.Cond.methodLink "ContractMachine$Parser" (124 : Nat) ({ cls := "ContractMachine$Parser", name := "name", desc := "()Ljava/lang/String;" } : Jvm.MethodName)) ∈ lw_all := lw_g (lw_at lw_m5 211 rfl) rfl
theorem q1292 : (Jvm.Cond.instanceMethod ({ cls := "ContractMachine$Parser", name := "name", desc := "()Ljava/lang/String;" } : Jvm.MethodName)) ∈ lw_all := lw_g (lw_at lw_m5 212 rfl) rfl
theorem q1293 : (Jvm.Cond.sameMethod "ContractMachine$Parser" "ContractMachine$Parser" "name" "()Ljava/lang/String;") ∈ lw_all := lw_g (lw_at lw_m5 213 rfl) rfl
theorem q1296 : (Jvm.Cond.code ({ cls := "ContractMachine$Parser", name := "name", desc := "()Ljava/lang/String;" } : Jvm.MethodName) prog_27_method_10_code (1 : Nat) (Option.some (Jvm.ClassFile.FieldType.object "java/lang/String"))) ∈ lw_all := lw_g (lw_at lw_m5 216 rfl) rfl
theorem q1297 : (Jvm.Cond.methodLink "ContractMachine$Parser" (112 : Nat) ({ cls := "java/lang/String", name := "length", desc := "()I" } : Jvm.MethodName)) ∈ lw_all := lw_g (lw_at lw_m5 217 rfl) rfl
theorem q1298 : (Jvm.Cond.constantLong "ContractMachine$Parser" (118 : Nat) (6 : Int64)) ∈ lw_all := lw_g (lw_at lw_m5 218 rfl) rfl
theorem q1299 : (Jvm.Cond.methodLink "ContractMachine$Parser" (108 : Nat) ({ cls := "ContractMachine$Parser", name := "expect", desc := "(ZI)V" } : Jvm.MethodName)) ∈ lw_all := lw_g (lw_at lw_m5 219 rfl) rfl
theorem q1300 : (Jvm.Cond.methodLinkNest "ContractMachine$Parser" (127 : Nat) ({ cls := "ContractMachine$Definition", name := "indexOf", desc := "(Ljava/util/List;Ljava/lang/String;)I" } : Jvm.MethodName) "ContractMachine") ∈ lw_tbl := lw_at lw_m5 220 rfl
theorem q1330 : (Jvm.Cond.declares ({ cls := "ContractMachine$Parser", name := "digit", desc := "()I" } : Jvm.MethodName)) ∈ lw_tbl := lw_at lw_m6 10 rfl
theorem q1332 : (Jvm.Cond.instanceMethod ({ cls := "ContractMachine$Parser", name := "digit", desc := "()I" } : Jvm.MethodName)) ∈ lw_all := lw_g (lw_at lw_m6 12 rfl) rfl
theorem q1333 : (Jvm.Cond.code ({ cls := "ContractMachine$Parser", name := "digit", desc := "()I" } : Jvm.MethodName) prog_27_method_11_code (1 : Nat) (Option.some Jvm.ClassFile.FieldType.int)) ∈ lw_all := lw_g (lw_at lw_m6 13 rfl) rfl
theorem q1334 : (Jvm.Cond.methodLink "ContractMachine$Parser" (120 : Nat) ({ cls := "ContractMachine$Parser", name := "number", desc := "(II)I" } : Jvm.MethodName)) ∈ lw_all := lw_g (lw_at lw_m6 14 rfl) rfl
theorem q1335 : (Jvm.Cond.instanceMethod ({ cls := "ContractMachine$Parser", name := "number", desc := "(II)I" } : Jvm.MethodName)) ∈ lw_all := lw_g (lw_at lw_m6 15 rfl) rfl
theorem q1336 : (Jvm.Cond.sameMethod "ContractMachine$Parser" "ContractMachine$Parser" "number" "(II)I") ∈ lw_all := lw_g (lw_at lw_m6 16 rfl) rfl
theorem q1339 : (Jvm.Cond.code ({ cls := "ContractMachine$Parser", name := "number", desc := "(II)I" } : Jvm.MethodName) prog_27_method_9_code (4 : Nat) (Option.some Jvm.ClassFile.FieldType.int)) ∈ lw_all := lw_g (lw_at lw_m6 19 rfl) rfl
theorem q1347 : (Jvm.Cond.declares ({ cls := "ContractMachine$Parser", name := "known", desc := "(Ljava/util/List;)I" } : Jvm.MethodName)) ∈ lw_tbl := lw_at lw_m6 27 rfl
theorem q1349 : (Jvm.Cond.instanceMethod ({ cls := "ContractMachine$Parser", name := "known", desc := "(Ljava/util/List;)I" } : Jvm.MethodName)) ∈ lw_all := lw_g (lw_at lw_m6 29 rfl) rfl
theorem q1350 : (Jvm.Cond.code ({ cls := "ContractMachine$Parser", name := "known", desc := "(Ljava/util/List;)I" } : Jvm.MethodName) prog_27_method_12_code (3 : Nat) (Option.some Jvm.ClassFile.FieldType.int)) ∈ lw_all := lw_g (lw_at lw_m6 30 rfl) rfl
theorem q1354 : (Jvm.Cond.declares ({ cls := "ContractMachine$Parser", name := "keyword", desc := "(Ljava/lang/String;)V" } : Jvm.MethodName)) ∈ lw_tbl := lw_at lw_m6 34 rfl
theorem q1356 : (Jvm.Cond.instanceMethod ({ cls := "ContractMachine$Parser", name := "keyword", desc := "(Ljava/lang/String;)V" } : Jvm.MethodName)) ∈ lw_all := lw_g (lw_at lw_m6 36 rfl) rfl
theorem q1357 : (Jvm.Cond.code ({ cls := "ContractMachine$Parser", name := "keyword", desc := "(Ljava/lang/String;)V" } : Jvm.MethodName) prog_27_method_15_code (2 : Nat) (Option.none : Option Jvm.ClassFile.FieldType)) ∈ lw_all := lw_g (lw_at lw_m6 37 rfl) rfl
theorem q1358 : (Jvm.Cond.methodLink "ContractMachine$Parser" (137 : Nat) ({ cls := "ContractMachine$Parser", name := "isWord", desc := "(Ljava/lang/String;)Z" } : Jvm.MethodName)) ∈ lw_all := lw_g (lw_at lw_m6 38 rfl) rfl
theorem q1359 : (Jvm.Cond.instanceMethod ({ cls := "ContractMachine$Parser", name := "isWord", desc := "(Ljava/lang/String;)Z" } : Jvm.MethodName)) ∈ lw_all := lw_g (lw_at lw_m6 39 rfl) rfl
theorem q1360 : (Jvm.Cond.sameMethod "ContractMachine$Parser" "ContractMachine$Parser" "isWord" "(Ljava/lang/String;)Z") ∈ lw_all := lw_g (lw_at lw_m6 40 rfl) rfl
theorem q1363 : (Jvm.Cond.code ({ cls := "ContractMachine$Parser", name := "isWord", desc := "(Ljava/lang/String;)Z" } : Jvm.MethodName) prog_27_method_14_code (2 : Nat) (Option.some Jvm.ClassFile.FieldType.boolean)) ∈ lw_all := lw_g (lw_at lw_m6 43 rfl) rfl
theorem q1364 : (Jvm.Cond.methodLink "ContractMachine$Parser" (133 : Nat) ({ cls := "java/lang/String", name := "equals", desc := "(Ljava/lang/Object;)Z" } : Jvm.MethodName)) ∈ lw_all := lw_g (lw_at lw_m6 44 rfl) rfl
theorem q1372 : (Jvm.Cond.declares ({ cls := "ContractMachine$Parser", name := "isWord", desc := "(Ljava/lang/String;)Z" } : Jvm.MethodName)) ∈ lw_tbl := lw_at lw_m6 52 rfl
theorem q1380 : (Jvm.Cond.declares ({ cls := "ContractMachine$Parser", name := "operator", desc := "()LContractMachine$Operator;" } : Jvm.MethodName)) ∈ lw_tbl := lw_at lw_m6 60 rfl
theorem q1382 : (Jvm.Cond.instanceMethod ({ cls := "ContractMachine$Parser", name := "operator", desc := "()LContractMachine$Operator;" } : Jvm.MethodName)) ∈ lw_all := lw_g (lw_at lw_m6 62 rfl) rfl
theorem q1383 : (Jvm.Cond.code ({ cls := "ContractMachine$Parser", name := "operator", desc := "()LContractMachine$Operator;" } : Jvm.MethodName) prog_27_method_16_code (5 : Nat) (Option.some (Jvm.ClassFile.FieldType.object "ContractMachine$Operator"))) ∈ lw_all := lw_g (lw_at lw_m6 63 rfl) rfl
theorem q1413 : (Jvm.Cond.declares ({ cls := "ContractMachine$Parser", name := "endStatement", desc := "()V" } : Jvm.MethodName)) ∈ lw_tbl := lw_at lw_m6 93 rfl
theorem q1415 : (Jvm.Cond.instanceMethod ({ cls := "ContractMachine$Parser", name := "endStatement", desc := "()V" } : Jvm.MethodName)) ∈ lw_all := lw_g (lw_at lw_m6 95 rfl) rfl
theorem q1416 : (Jvm.Cond.code ({ cls := "ContractMachine$Parser", name := "endStatement", desc := "()V" } : Jvm.MethodName) prog_27_method_17_code (1 : Nat) (Option.none : Option Jvm.ClassFile.FieldType)) ∈ lw_all := lw_g (lw_at lw_m6 96 rfl) rfl
theorem q3270 : (Jvm.Cond.sameMethod "ContractMachine$Parser" "ContractMachine$Parser" "at" "(I)I") ∈ lw_all := lw_g (lw_at lw_m14 30 rfl) rfl
theorem q3271 : (Jvm.Cond.sameMethod "ContractMachine$Parser" "ContractMachine$Parser" "endOfRun" "(III)I") ∈ lw_all := lw_g (lw_at lw_m14 31 rfl) rfl
theorem q3272 : (Jvm.Cond.sameMethod "ContractMachine$Parser" "ContractMachine$Parser" "text" "(II)Ljava/lang/String;") ∈ lw_all := lw_g (lw_at lw_m14 32 rfl) rfl
theorem q3274 : (Jvm.Cond.sameMethod "ContractMachine$Parser" "ContractMachine$Parser" "expect" "(ZI)V") ∈ lw_all := lw_g (lw_at lw_m14 34 rfl) rfl
theorem q3335 : (Jvm.Cond.castable "ContractMachine$Parser" "java/lang/Object") ∈ lw_tbl := lw_at lw_m14 95 rfl
theorem q3360 : (Jvm.Cond.fieldLinkNest "ContractMachine$Parser" (145 : Nat) "ContractMachine$Operator" "word" "Ljava/lang/String;" "ContractMachine") ∈ lw_tbl := lw_at lw_m14 120 rfl
/-! ContractMachine$SetupParser -/
set_option maxRecDepth 100000
def RX11 : String := "ContractMachine$SetupParser"
def TX11 : u_T := fun k => match k with
  | 0 => ("ContractMachine$Parser", "start", "I", false)
  | 1 => ("ContractMachine$Parser", "next", "I", false)
  | 2 => ("ContractMachine$Parser", "value", "I", false)
  | 3 => ("ContractMachine$Parser", "word", "Ljava/lang/String;", false)
  | 4 => ("ContractMachine$Parser", "token", "LContractMachine$Token;", false)
  | 5 => ("ContractMachine$Parser", "this$0", "LContractMachine;", true)
  | 6 => ("ContractMachine$SetupParser", "made", "LContractMachine$Definition;", true)
  | 7 => ("ContractMachine$SetupParser", "begun", "LContractMachine$Run;", true)
  | _ => ("ContractMachine$SetupParser", "this$0", "LContractMachine;", true)
def tyX11 : Nat → FieldType := fun k => match k with
  | 0 => .int
  | 1 => .int
  | 2 => .int
  | 3 => .object "java/lang/String"
  | 4 => .object "ContractMachine$Token"
  | 5 => .object "ContractMachine"
  | 6 => .object "ContractMachine$Definition"
  | 7 => .object "ContractMachine$Run"
  | _ => .object "ContractMachine"
abbrev wsX110 : List Cond := u_ws RX11 TX11 9
-- two fields of one name: no nmX11
theorem tyX11_ok : ∀ k, k < 9 → parseFieldDescriptor (TX11 k).2.2.1 = some (tyX11 k) := by decide +kernel
abbrev cX11_init : ByteArray := prog_36_method_1_code
def yX11_init : MethodName := ⟨RX11, "<init>", "(LContractMachine;)V"⟩
def dkwX11_init_1 : List UInt8 := [187, 0, 24, 89, 183, 0, 26, 181, 0, 27, 177]
abbrev dktX11_init_1 : List UInt8 := dkwX11_init_1 ++ []
def dkwX11_init_0 : List UInt8 := [42, 43, 181, 0, 3, 42, 43, 183, 0, 9, 42, 187, 0, 15, 89, 183, 0, 17, 181, 0, 20, 42]
abbrev dktX11_init_0 : List UInt8 := dkwX11_init_0 ++ dktX11_init_1
theorem dksX11_init_0 : cX11_init.data.toList.drop 0 = dktX11_init_0 := by decide +kernel
theorem dksX11_init_1 : cX11_init.data.toList.drop 22 = dktX11_init_1 := dk_seg dksX11_init_0 22 rfl rfl
theorem dX11_init_0 : decode cX11_init 0 = .ok (.aload_n 0, 1) := dk_42 (dk_at dksX11_init_0 0 rfl rfl)
theorem dX11_init_1 : decode cX11_init 1 = .ok (.aload_n 1, 1) := dk_43 (dk_at dksX11_init_0 1 rfl rfl)
theorem dX11_init_2 : decode cX11_init 2 = .ok (.putfield 3, 3) := dk_181 0 3 (dk_at dksX11_init_0 2 rfl rfl)
theorem dX11_init_5 : decode cX11_init 5 = .ok (.aload_n 0, 1) := dk_42 (dk_at dksX11_init_0 5 rfl rfl)
theorem dX11_init_6 : decode cX11_init 6 = .ok (.aload_n 1, 1) := dk_43 (dk_at dksX11_init_0 6 rfl rfl)
theorem dX11_init_7 : decode cX11_init 7 = .ok (.invokespecial 9, 3) := dk_183 0 9 (dk_at dksX11_init_0 7 rfl rfl)
theorem dX11_init_10 : decode cX11_init 10 = .ok (.aload_n 0, 1) := dk_42 (dk_at dksX11_init_0 10 rfl rfl)
theorem dX11_init_11 : decode cX11_init 11 = .ok (.new 15, 3) := dk_187 0 15 (dk_at dksX11_init_0 11 rfl rfl)
theorem dX11_init_14 : decode cX11_init 14 = .ok (.dup, 1) := dk_89 (dk_at dksX11_init_0 14 rfl rfl)
theorem dX11_init_15 : decode cX11_init 15 = .ok (.invokespecial 17, 3) := dk_183 0 17 (dk_at dksX11_init_0 15 rfl rfl)
theorem dX11_init_18 : decode cX11_init 18 = .ok (.putfield 20, 3) := dk_181 0 20 (dk_at dksX11_init_0 18 rfl rfl)
theorem dX11_init_21 : decode cX11_init 21 = .ok (.aload_n 0, 1) := dk_42 (dk_at dksX11_init_0 21 rfl rfl)
theorem dX11_init_22 : decode cX11_init 22 = .ok (.new 24, 3) := dk_187 0 24 (dk_at dksX11_init_1 0 rfl rfl)
theorem dX11_init_25 : decode cX11_init 25 = .ok (.dup, 1) := dk_89 (dk_at dksX11_init_1 3 rfl rfl)
theorem dX11_init_26 : decode cX11_init 26 = .ok (.invokespecial 26, 3) := dk_183 0 26 (dk_at dksX11_init_1 4 rfl rfl)
theorem dX11_init_29 : decode cX11_init 29 = .ok (.putfield 27, 3) := dk_181 0 27 (dk_at dksX11_init_1 7 rfl rfl)
theorem dX11_init_32 : decode cX11_init 32 = .ok (.return_, 1) := dk_177 (dk_at dksX11_init_1 10 rfl rfl)
abbrev cX11_parse : ByteArray := prog_36_method_11_code
def yX11_parse : MethodName := ⟨RX11, "parse", "()LContractMachine$Run;"⟩
def dkwX11_parse_3 : List UInt8 := [181, 0, 208, 42, 180, 0, 27, 182, 0, 211, 42, 180, 0, 27, 176]
abbrev dktX11_parse_3 : List UInt8 := dkwX11_parse_3 ++ []
def dkwX11_parse_2 : List UInt8 := [160, 0, 7, 4, 167, 0, 4, 3, 16, 7, 182, 0, 37, 42, 180, 0, 27, 42, 180, 0, 20, 180, 0, 200]
abbrev dktX11_parse_2 : List UInt8 := dkwX11_parse_2 ++ dktX11_parse_3
def dkwX11_parse_1 : List UInt8 := [182, 0, 197, 16, 6, 182, 0, 37, 42, 42, 180, 0, 27, 42, 180, 0, 20, 180, 0, 200, 182, 0, 204, 2]
abbrev dktX11_parse_1 : List UInt8 := dkwX11_parse_1 ++ dktX11_parse_2
def dkwX11_parse_0 : List UInt8 := [42, 182, 0, 186, 154, 0, 14, 42, 42, 182, 0, 190, 182, 0, 194, 167, 255, 241, 42, 42, 180, 0, 20]
abbrev dktX11_parse_0 : List UInt8 := dkwX11_parse_0 ++ dktX11_parse_1
theorem dksX11_parse_0 : cX11_parse.data.toList.drop 0 = dktX11_parse_0 := by decide +kernel
theorem dksX11_parse_1 : cX11_parse.data.toList.drop 23 = dktX11_parse_1 := dk_seg dksX11_parse_0 23 rfl rfl
theorem dksX11_parse_2 : cX11_parse.data.toList.drop 47 = dktX11_parse_2 := dk_seg dksX11_parse_1 24 rfl rfl
theorem dksX11_parse_3 : cX11_parse.data.toList.drop 71 = dktX11_parse_3 := dk_seg dksX11_parse_2 24 rfl rfl
theorem dX11_parse_0 : decode cX11_parse 0 = .ok (.aload_n 0, 1) := dk_42 (dk_at dksX11_parse_0 0 rfl rfl)
theorem dX11_parse_1 : decode cX11_parse 1 = .ok (.invokevirtual 186, 3) := dk_182 0 186 (dk_at dksX11_parse_0 1 rfl rfl)
theorem dX11_parse_4 : decode cX11_parse 4 = .ok (.ifCond .ne 14, 3) := dk_154 0 14 (dk_at dksX11_parse_0 4 rfl rfl)
theorem dX11_parse_7 : decode cX11_parse 7 = .ok (.aload_n 0, 1) := dk_42 (dk_at dksX11_parse_0 7 rfl rfl)
theorem dX11_parse_8 : decode cX11_parse 8 = .ok (.aload_n 0, 1) := dk_42 (dk_at dksX11_parse_0 8 rfl rfl)
theorem dX11_parse_9 : decode cX11_parse 9 = .ok (.invokevirtual 190, 3) := dk_182 0 190 (dk_at dksX11_parse_0 9 rfl rfl)
theorem dX11_parse_12 : decode cX11_parse 12 = .ok (.invokevirtual 194, 3) := dk_182 0 194 (dk_at dksX11_parse_0 12 rfl rfl)
theorem dX11_parse_15 : decode cX11_parse 15 = .ok (.goto (-15), 3) := dk_167 255 241 (dk_at dksX11_parse_0 15 rfl rfl)
theorem dX11_parse_18 : decode cX11_parse 18 = .ok (.aload_n 0, 1) := dk_42 (dk_at dksX11_parse_0 18 rfl rfl)
theorem dX11_parse_19 : decode cX11_parse 19 = .ok (.aload_n 0, 1) := dk_42 (dk_at dksX11_parse_0 19 rfl rfl)
theorem dX11_parse_20 : decode cX11_parse 20 = .ok (.getfield 20, 3) := dk_180 0 20 (dk_at dksX11_parse_0 20 rfl rfl)
theorem dX11_parse_23 : decode cX11_parse 23 = .ok (.invokevirtual 197, 3) := dk_182 0 197 (dk_at dksX11_parse_1 0 rfl rfl)
theorem dX11_parse_26 : decode cX11_parse 26 = .ok (.bipush 6, 2) := dk_16 6 (dk_at dksX11_parse_1 3 rfl rfl)
theorem dX11_parse_28 : decode cX11_parse 28 = .ok (.invokevirtual 37, 3) := dk_182 0 37 (dk_at dksX11_parse_1 5 rfl rfl)
theorem dX11_parse_31 : decode cX11_parse 31 = .ok (.aload_n 0, 1) := dk_42 (dk_at dksX11_parse_1 8 rfl rfl)
theorem dX11_parse_32 : decode cX11_parse 32 = .ok (.aload_n 0, 1) := dk_42 (dk_at dksX11_parse_1 9 rfl rfl)
theorem dX11_parse_33 : decode cX11_parse 33 = .ok (.getfield 27, 3) := dk_180 0 27 (dk_at dksX11_parse_1 10 rfl rfl)
theorem dX11_parse_36 : decode cX11_parse 36 = .ok (.aload_n 0, 1) := dk_42 (dk_at dksX11_parse_1 13 rfl rfl)
theorem dX11_parse_37 : decode cX11_parse 37 = .ok (.getfield 20, 3) := dk_180 0 20 (dk_at dksX11_parse_1 14 rfl rfl)
theorem dX11_parse_40 : decode cX11_parse 40 = .ok (.getfield 200, 3) := dk_180 0 200 (dk_at dksX11_parse_1 17 rfl rfl)
theorem dX11_parse_43 : decode cX11_parse 43 = .ok (.invokevirtual 204, 3) := dk_182 0 204 (dk_at dksX11_parse_1 20 rfl rfl)
theorem dX11_parse_46 : decode cX11_parse 46 = .ok (.iconst (-1), 1) := dk_2 (dk_at dksX11_parse_1 23 rfl rfl)
theorem dX11_parse_47 : decode cX11_parse 47 = .ok (.if_icmp .ne 7, 3) := dk_160 0 7 (dk_at dksX11_parse_2 0 rfl rfl)
theorem dX11_parse_50 : decode cX11_parse 50 = .ok (.iconst 1, 1) := dk_4 (dk_at dksX11_parse_2 3 rfl rfl)
theorem dX11_parse_51 : decode cX11_parse 51 = .ok (.goto 4, 3) := dk_167 0 4 (dk_at dksX11_parse_2 4 rfl rfl)
theorem dX11_parse_54 : decode cX11_parse 54 = .ok (.iconst 0, 1) := dk_3 (dk_at dksX11_parse_2 7 rfl rfl)
theorem dX11_parse_55 : decode cX11_parse 55 = .ok (.bipush 7, 2) := dk_16 7 (dk_at dksX11_parse_2 8 rfl rfl)
theorem dX11_parse_57 : decode cX11_parse 57 = .ok (.invokevirtual 37, 3) := dk_182 0 37 (dk_at dksX11_parse_2 10 rfl rfl)
theorem dX11_parse_60 : decode cX11_parse 60 = .ok (.aload_n 0, 1) := dk_42 (dk_at dksX11_parse_2 13 rfl rfl)
theorem dX11_parse_61 : decode cX11_parse 61 = .ok (.getfield 27, 3) := dk_180 0 27 (dk_at dksX11_parse_2 14 rfl rfl)
theorem dX11_parse_64 : decode cX11_parse 64 = .ok (.aload_n 0, 1) := dk_42 (dk_at dksX11_parse_2 17 rfl rfl)
theorem dX11_parse_65 : decode cX11_parse 65 = .ok (.getfield 20, 3) := dk_180 0 20 (dk_at dksX11_parse_2 18 rfl rfl)
theorem dX11_parse_68 : decode cX11_parse 68 = .ok (.getfield 200, 3) := dk_180 0 200 (dk_at dksX11_parse_2 21 rfl rfl)
theorem dX11_parse_71 : decode cX11_parse 71 = .ok (.putfield 208, 3) := dk_181 0 208 (dk_at dksX11_parse_3 0 rfl rfl)
theorem dX11_parse_74 : decode cX11_parse 74 = .ok (.aload_n 0, 1) := dk_42 (dk_at dksX11_parse_3 3 rfl rfl)
theorem dX11_parse_75 : decode cX11_parse 75 = .ok (.getfield 27, 3) := dk_180 0 27 (dk_at dksX11_parse_3 4 rfl rfl)
theorem dX11_parse_78 : decode cX11_parse 78 = .ok (.invokevirtual 211, 3) := dk_182 0 211 (dk_at dksX11_parse_3 7 rfl rfl)
theorem dX11_parse_81 : decode cX11_parse 81 = .ok (.aload_n 0, 1) := dk_42 (dk_at dksX11_parse_3 10 rfl rfl)
theorem dX11_parse_82 : decode cX11_parse 82 = .ok (.getfield 27, 3) := dk_180 0 27 (dk_at dksX11_parse_3 11 rfl rfl)
theorem dX11_parse_85 : decode cX11_parse 85 = .ok (.areturn, 1) := dk_176 (dk_at dksX11_parse_3 14 rfl rfl)
abbrev cX11_statement : ByteArray := prog_36_method_10_code
def yX11_statement : MethodName := ⟨RX11, "statement", "(Ljava/lang/String;)V"⟩
def dkwX11_statement_10 : List UInt8 := [177]
abbrev dktX11_statement_10 : List UInt8 := dkwX11_statement_10 ++ []
def dkwX11_statement_9 : List UInt8 := [182, 0, 179, 167, 0, 17, 42, 4, 182, 0, 179, 167, 0, 9, 42, 3, 4, 182, 0, 37, 42, 182, 0, 183]
abbrev dktX11_statement_9 : List UInt8 := dkwX11_statement_9 ++ dktX11_statement_10
def dkwX11_statement_8 : List UInt8 := [16, 8, 182, 0, 169, 167, 0, 39, 42, 182, 0, 173, 167, 0, 32, 42, 182, 0, 176, 167, 0, 25, 42, 3]
abbrev dktX11_statement_8 : List UInt8 := dkwX11_statement_8 ++ dktX11_statement_9
def dkwX11_statement_7 : List UInt8 := [42, 42, 180, 0, 20, 180, 0, 117, 16, 10, 182, 0, 169, 167, 0, 55, 42, 42, 180, 0, 20, 180, 0, 120]
abbrev dktX11_statement_7 : List UInt8 := dkwX11_statement_7 ++ dktX11_statement_8
def dkwX11_statement_6 : List UInt8 := [170, 0, 0, 0, 0, 100, 0, 0, 0, 0, 0, 0, 0, 5, 0, 0, 0, 38, 0, 0, 0, 54, 0, 0, 0, 70, 0, 0, 0, 77, 0, 0, 0, 84, 0, 0, 0, 92]
abbrev dktX11_statement_6 : List UInt8 := dkwX11_statement_6 ++ dktX11_statement_7
def dkwX11_statement_5 : List UInt8 := [18, 167, 182, 0, 156, 153, 0, 5, 8, 62, 29]
abbrev dktX11_statement_5 : List UInt8 := dkwX11_statement_5 ++ dktX11_statement_6
def dkwX11_statement_4 : List UInt8 := [153, 0, 33, 6, 62, 167, 0, 28, 44, 18, 165, 182, 0, 156, 153, 0, 19, 7, 62, 167, 0, 14, 44]
abbrev dktX11_statement_4 : List UInt8 := dkwX11_statement_4 ++ dktX11_statement_5
def dkwX11_statement_3 : List UInt8 := [62, 167, 0, 56, 44, 18, 161, 182, 0, 156, 153, 0, 47, 5, 62, 167, 0, 42, 44, 18, 163, 182, 0, 156]
abbrev dktX11_statement_3 : List UInt8 := dkwX11_statement_3 ++ dktX11_statement_4
def dkwX11_statement_2 : List UInt8 := [44, 18, 154, 182, 0, 156, 153, 0, 75, 3, 62, 167, 0, 70, 44, 18, 159, 182, 0, 156, 153, 0, 61, 4]
abbrev dktX11_statement_2 : List UInt8 := dkwX11_statement_2 ++ dktX11_statement_3
def dkwX11_statement_1 : List UInt8 := [171, 0, 0, 0, 0, 0, 0, 141, 0, 0, 0, 6, 171, 175, 146, 15, 0, 0, 0, 116, 185, 112, 207, 252, 0, 0, 0, 130, 0, 0, 13, 223, 0, 0, 0, 102, 0, 1, 199, 39, 0, 0, 0, 88, 5, 198, 114, 154, 0, 0, 0, 74, 6, 138, 196, 145, 0, 0, 0, 60]
abbrev dktX11_statement_1 : List UInt8 := dkwX11_statement_1 ++ dktX11_statement_2
def dkwX11_statement_0 : List UInt8 := [43, 77, 2, 62, 44, 182, 0, 149]
abbrev dktX11_statement_0 : List UInt8 := dkwX11_statement_0 ++ dktX11_statement_1
theorem dksX11_statement_0 : cX11_statement.data.toList.drop 0 = dktX11_statement_0 := by decide +kernel
theorem dksX11_statement_1 : cX11_statement.data.toList.drop 8 = dktX11_statement_1 := dk_seg dksX11_statement_0 8 rfl rfl
theorem dksX11_statement_2 : cX11_statement.data.toList.drop 68 = dktX11_statement_2 := dk_seg dksX11_statement_1 60 rfl rfl
theorem dksX11_statement_3 : cX11_statement.data.toList.drop 92 = dktX11_statement_3 := dk_seg dksX11_statement_2 24 rfl rfl
theorem dksX11_statement_4 : cX11_statement.data.toList.drop 116 = dktX11_statement_4 := dk_seg dksX11_statement_3 24 rfl rfl
theorem dksX11_statement_5 : cX11_statement.data.toList.drop 139 = dktX11_statement_5 := dk_seg dksX11_statement_4 23 rfl rfl
theorem dksX11_statement_6 : cX11_statement.data.toList.drop 150 = dktX11_statement_6 := dk_seg dksX11_statement_5 11 rfl rfl
theorem dksX11_statement_7 : cX11_statement.data.toList.drop 188 = dktX11_statement_7 := dk_seg dksX11_statement_6 38 rfl rfl
theorem dksX11_statement_8 : cX11_statement.data.toList.drop 212 = dktX11_statement_8 := dk_seg dksX11_statement_7 24 rfl rfl
theorem dksX11_statement_9 : cX11_statement.data.toList.drop 236 = dktX11_statement_9 := dk_seg dksX11_statement_8 24 rfl rfl
theorem dksX11_statement_10 : cX11_statement.data.toList.drop 260 = dktX11_statement_10 := dk_seg dksX11_statement_9 24 rfl rfl
theorem dX11_statement_0 : decode cX11_statement 0 = .ok (.aload_n 1, 1) := dk_43 (dk_at dksX11_statement_0 0 rfl rfl)
theorem dX11_statement_1 : decode cX11_statement 1 = .ok (.astore_n 2, 1) := dk_77 (dk_at dksX11_statement_0 1 rfl rfl)
theorem dX11_statement_2 : decode cX11_statement 2 = .ok (.iconst (-1), 1) := dk_2 (dk_at dksX11_statement_0 2 rfl rfl)
theorem dX11_statement_3 : decode cX11_statement 3 = .ok (.istore_n 3, 1) := dk_62 (dk_at dksX11_statement_0 3 rfl rfl)
theorem dX11_statement_4 : decode cX11_statement 4 = .ok (.aload_n 2, 1) := dk_44 (dk_at dksX11_statement_0 4 rfl rfl)
theorem dX11_statement_5 : decode cX11_statement 5 = .ok (.invokevirtual 149, 3) := dk_182 0 149 (dk_at dksX11_statement_0 5 rfl rfl)
theorem dX11_statement_8 : decode cX11_statement 8 = .ok (.lookupswitch 141 #[(-1414557169, 116), (-1183789060, 130), (3551, 102), (116519, 88), (96891546, 74), (109757585, 60)], 60) := by decide +kernel
theorem dX11_statement_68 : decode cX11_statement 68 = .ok (.aload_n 2, 1) := dk_44 (dk_at dksX11_statement_2 0 rfl rfl)
theorem dX11_statement_69 : decode cX11_statement 69 = .ok (.ldc 154, 2) := dk_18 154 (dk_at dksX11_statement_2 1 rfl rfl)
theorem dX11_statement_71 : decode cX11_statement 71 = .ok (.invokevirtual 156, 3) := dk_182 0 156 (dk_at dksX11_statement_2 3 rfl rfl)
theorem dX11_statement_74 : decode cX11_statement 74 = .ok (.ifCond .eq 75, 3) := dk_153 0 75 (dk_at dksX11_statement_2 6 rfl rfl)
theorem dX11_statement_77 : decode cX11_statement 77 = .ok (.iconst 0, 1) := dk_3 (dk_at dksX11_statement_2 9 rfl rfl)
theorem dX11_statement_78 : decode cX11_statement 78 = .ok (.istore_n 3, 1) := dk_62 (dk_at dksX11_statement_2 10 rfl rfl)
theorem dX11_statement_79 : decode cX11_statement 79 = .ok (.goto 70, 3) := dk_167 0 70 (dk_at dksX11_statement_2 11 rfl rfl)
theorem dX11_statement_82 : decode cX11_statement 82 = .ok (.aload_n 2, 1) := dk_44 (dk_at dksX11_statement_2 14 rfl rfl)
theorem dX11_statement_83 : decode cX11_statement 83 = .ok (.ldc 159, 2) := dk_18 159 (dk_at dksX11_statement_2 15 rfl rfl)
theorem dX11_statement_85 : decode cX11_statement 85 = .ok (.invokevirtual 156, 3) := dk_182 0 156 (dk_at dksX11_statement_2 17 rfl rfl)
theorem dX11_statement_88 : decode cX11_statement 88 = .ok (.ifCond .eq 61, 3) := dk_153 0 61 (dk_at dksX11_statement_2 20 rfl rfl)
theorem dX11_statement_91 : decode cX11_statement 91 = .ok (.iconst 1, 1) := dk_4 (dk_at dksX11_statement_2 23 rfl rfl)
theorem dX11_statement_92 : decode cX11_statement 92 = .ok (.istore_n 3, 1) := dk_62 (dk_at dksX11_statement_3 0 rfl rfl)
theorem dX11_statement_93 : decode cX11_statement 93 = .ok (.goto 56, 3) := dk_167 0 56 (dk_at dksX11_statement_3 1 rfl rfl)
theorem dX11_statement_96 : decode cX11_statement 96 = .ok (.aload_n 2, 1) := dk_44 (dk_at dksX11_statement_3 4 rfl rfl)
theorem dX11_statement_97 : decode cX11_statement 97 = .ok (.ldc 161, 2) := dk_18 161 (dk_at dksX11_statement_3 5 rfl rfl)
theorem dX11_statement_99 : decode cX11_statement 99 = .ok (.invokevirtual 156, 3) := dk_182 0 156 (dk_at dksX11_statement_3 7 rfl rfl)
theorem dX11_statement_102 : decode cX11_statement 102 = .ok (.ifCond .eq 47, 3) := dk_153 0 47 (dk_at dksX11_statement_3 10 rfl rfl)
theorem dX11_statement_105 : decode cX11_statement 105 = .ok (.iconst 2, 1) := dk_5 (dk_at dksX11_statement_3 13 rfl rfl)
theorem dX11_statement_106 : decode cX11_statement 106 = .ok (.istore_n 3, 1) := dk_62 (dk_at dksX11_statement_3 14 rfl rfl)
theorem dX11_statement_107 : decode cX11_statement 107 = .ok (.goto 42, 3) := dk_167 0 42 (dk_at dksX11_statement_3 15 rfl rfl)
theorem dX11_statement_110 : decode cX11_statement 110 = .ok (.aload_n 2, 1) := dk_44 (dk_at dksX11_statement_3 18 rfl rfl)
theorem dX11_statement_111 : decode cX11_statement 111 = .ok (.ldc 163, 2) := dk_18 163 (dk_at dksX11_statement_3 19 rfl rfl)
theorem dX11_statement_113 : decode cX11_statement 113 = .ok (.invokevirtual 156, 3) := dk_182 0 156 (dk_at dksX11_statement_3 21 rfl rfl)
theorem dX11_statement_116 : decode cX11_statement 116 = .ok (.ifCond .eq 33, 3) := dk_153 0 33 (dk_at dksX11_statement_4 0 rfl rfl)
theorem dX11_statement_119 : decode cX11_statement 119 = .ok (.iconst 3, 1) := dk_6 (dk_at dksX11_statement_4 3 rfl rfl)
theorem dX11_statement_120 : decode cX11_statement 120 = .ok (.istore_n 3, 1) := dk_62 (dk_at dksX11_statement_4 4 rfl rfl)
theorem dX11_statement_121 : decode cX11_statement 121 = .ok (.goto 28, 3) := dk_167 0 28 (dk_at dksX11_statement_4 5 rfl rfl)
theorem dX11_statement_124 : decode cX11_statement 124 = .ok (.aload_n 2, 1) := dk_44 (dk_at dksX11_statement_4 8 rfl rfl)
theorem dX11_statement_125 : decode cX11_statement 125 = .ok (.ldc 165, 2) := dk_18 165 (dk_at dksX11_statement_4 9 rfl rfl)
theorem dX11_statement_127 : decode cX11_statement 127 = .ok (.invokevirtual 156, 3) := dk_182 0 156 (dk_at dksX11_statement_4 11 rfl rfl)
theorem dX11_statement_130 : decode cX11_statement 130 = .ok (.ifCond .eq 19, 3) := dk_153 0 19 (dk_at dksX11_statement_4 14 rfl rfl)
theorem dX11_statement_133 : decode cX11_statement 133 = .ok (.iconst 4, 1) := dk_7 (dk_at dksX11_statement_4 17 rfl rfl)
theorem dX11_statement_134 : decode cX11_statement 134 = .ok (.istore_n 3, 1) := dk_62 (dk_at dksX11_statement_4 18 rfl rfl)
theorem dX11_statement_135 : decode cX11_statement 135 = .ok (.goto 14, 3) := dk_167 0 14 (dk_at dksX11_statement_4 19 rfl rfl)
theorem dX11_statement_138 : decode cX11_statement 138 = .ok (.aload_n 2, 1) := dk_44 (dk_at dksX11_statement_4 22 rfl rfl)
theorem dX11_statement_139 : decode cX11_statement 139 = .ok (.ldc 167, 2) := dk_18 167 (dk_at dksX11_statement_5 0 rfl rfl)
theorem dX11_statement_141 : decode cX11_statement 141 = .ok (.invokevirtual 156, 3) := dk_182 0 156 (dk_at dksX11_statement_5 2 rfl rfl)
theorem dX11_statement_144 : decode cX11_statement 144 = .ok (.ifCond .eq 5, 3) := dk_153 0 5 (dk_at dksX11_statement_5 5 rfl rfl)
theorem dX11_statement_147 : decode cX11_statement 147 = .ok (.iconst 5, 1) := dk_8 (dk_at dksX11_statement_5 8 rfl rfl)
theorem dX11_statement_148 : decode cX11_statement 148 = .ok (.istore_n 3, 1) := dk_62 (dk_at dksX11_statement_5 9 rfl rfl)
theorem dX11_statement_149 : decode cX11_statement 149 = .ok (.iload_n 3, 1) := dk_29 (dk_at dksX11_statement_5 10 rfl rfl)
theorem dX11_statement_150 : decode cX11_statement 150 = .ok (.tableswitch 100 0 5 #[38, 54, 70, 77, 84, 92], 38) := by decide +kernel
theorem dX11_statement_188 : decode cX11_statement 188 = .ok (.aload_n 0, 1) := dk_42 (dk_at dksX11_statement_7 0 rfl rfl)
theorem dX11_statement_189 : decode cX11_statement 189 = .ok (.aload_n 0, 1) := dk_42 (dk_at dksX11_statement_7 1 rfl rfl)
theorem dX11_statement_190 : decode cX11_statement 190 = .ok (.getfield 20, 3) := dk_180 0 20 (dk_at dksX11_statement_7 2 rfl rfl)
theorem dX11_statement_193 : decode cX11_statement 193 = .ok (.getfield 117, 3) := dk_180 0 117 (dk_at dksX11_statement_7 5 rfl rfl)
theorem dX11_statement_196 : decode cX11_statement 196 = .ok (.bipush 10, 2) := dk_16 10 (dk_at dksX11_statement_7 8 rfl rfl)
theorem dX11_statement_198 : decode cX11_statement 198 = .ok (.invokevirtual 169, 3) := dk_182 0 169 (dk_at dksX11_statement_7 10 rfl rfl)
theorem dX11_statement_201 : decode cX11_statement 201 = .ok (.goto 55, 3) := dk_167 0 55 (dk_at dksX11_statement_7 13 rfl rfl)
theorem dX11_statement_204 : decode cX11_statement 204 = .ok (.aload_n 0, 1) := dk_42 (dk_at dksX11_statement_7 16 rfl rfl)
theorem dX11_statement_205 : decode cX11_statement 205 = .ok (.aload_n 0, 1) := dk_42 (dk_at dksX11_statement_7 17 rfl rfl)
theorem dX11_statement_206 : decode cX11_statement 206 = .ok (.getfield 20, 3) := dk_180 0 20 (dk_at dksX11_statement_7 18 rfl rfl)
theorem dX11_statement_209 : decode cX11_statement 209 = .ok (.getfield 120, 3) := dk_180 0 120 (dk_at dksX11_statement_7 21 rfl rfl)
theorem dX11_statement_212 : decode cX11_statement 212 = .ok (.bipush 8, 2) := dk_16 8 (dk_at dksX11_statement_8 0 rfl rfl)
theorem dX11_statement_214 : decode cX11_statement 214 = .ok (.invokevirtual 169, 3) := dk_182 0 169 (dk_at dksX11_statement_8 2 rfl rfl)
theorem dX11_statement_217 : decode cX11_statement 217 = .ok (.goto 39, 3) := dk_167 0 39 (dk_at dksX11_statement_8 5 rfl rfl)
theorem dX11_statement_220 : decode cX11_statement 220 = .ok (.aload_n 0, 1) := dk_42 (dk_at dksX11_statement_8 8 rfl rfl)
theorem dX11_statement_221 : decode cX11_statement 221 = .ok (.invokevirtual 173, 3) := dk_182 0 173 (dk_at dksX11_statement_8 9 rfl rfl)
theorem dX11_statement_224 : decode cX11_statement 224 = .ok (.goto 32, 3) := dk_167 0 32 (dk_at dksX11_statement_8 12 rfl rfl)
theorem dX11_statement_227 : decode cX11_statement 227 = .ok (.aload_n 0, 1) := dk_42 (dk_at dksX11_statement_8 15 rfl rfl)
theorem dX11_statement_228 : decode cX11_statement 228 = .ok (.invokevirtual 176, 3) := dk_182 0 176 (dk_at dksX11_statement_8 16 rfl rfl)
theorem dX11_statement_231 : decode cX11_statement 231 = .ok (.goto 25, 3) := dk_167 0 25 (dk_at dksX11_statement_8 19 rfl rfl)
theorem dX11_statement_234 : decode cX11_statement 234 = .ok (.aload_n 0, 1) := dk_42 (dk_at dksX11_statement_8 22 rfl rfl)
theorem dX11_statement_235 : decode cX11_statement 235 = .ok (.iconst 0, 1) := dk_3 (dk_at dksX11_statement_8 23 rfl rfl)
theorem dX11_statement_236 : decode cX11_statement 236 = .ok (.invokevirtual 179, 3) := dk_182 0 179 (dk_at dksX11_statement_9 0 rfl rfl)
theorem dX11_statement_239 : decode cX11_statement 239 = .ok (.goto 17, 3) := dk_167 0 17 (dk_at dksX11_statement_9 3 rfl rfl)
theorem dX11_statement_242 : decode cX11_statement 242 = .ok (.aload_n 0, 1) := dk_42 (dk_at dksX11_statement_9 6 rfl rfl)
theorem dX11_statement_243 : decode cX11_statement 243 = .ok (.iconst 1, 1) := dk_4 (dk_at dksX11_statement_9 7 rfl rfl)
theorem dX11_statement_244 : decode cX11_statement 244 = .ok (.invokevirtual 179, 3) := dk_182 0 179 (dk_at dksX11_statement_9 8 rfl rfl)
theorem dX11_statement_247 : decode cX11_statement 247 = .ok (.goto 9, 3) := dk_167 0 9 (dk_at dksX11_statement_9 11 rfl rfl)
theorem dX11_statement_250 : decode cX11_statement 250 = .ok (.aload_n 0, 1) := dk_42 (dk_at dksX11_statement_9 14 rfl rfl)
theorem dX11_statement_251 : decode cX11_statement 251 = .ok (.iconst 0, 1) := dk_3 (dk_at dksX11_statement_9 15 rfl rfl)
theorem dX11_statement_252 : decode cX11_statement 252 = .ok (.iconst 1, 1) := dk_4 (dk_at dksX11_statement_9 16 rfl rfl)
theorem dX11_statement_253 : decode cX11_statement 253 = .ok (.invokevirtual 37, 3) := dk_182 0 37 (dk_at dksX11_statement_9 17 rfl rfl)
theorem dX11_statement_256 : decode cX11_statement 256 = .ok (.aload_n 0, 1) := dk_42 (dk_at dksX11_statement_9 20 rfl rfl)
theorem dX11_statement_257 : decode cX11_statement 257 = .ok (.invokevirtual 183, 3) := dk_182 0 183 (dk_at dksX11_statement_9 21 rfl rfl)
theorem dX11_statement_260 : decode cX11_statement 260 = .ok (.return_, 1) := dk_177 (dk_at dksX11_statement_10 0 rfl rfl)
abbrev cX11_declare : ByteArray := prog_36_method_2_code
def yX11_declare : MethodName := ⟨RX11, "declare", "(Ljava/util/List;I)V"⟩
def dkwX11_declare_1 : List UInt8 := [43, 42, 43, 182, 0, 44, 185, 0, 48, 2, 0, 62, 177]
abbrev dktX11_declare_1 : List UInt8 := dkwX11_declare_1 ++ []
def dkwX11_declare_0 : List UInt8 := [42, 43, 185, 0, 31, 1, 0, 28, 162, 0, 7, 4, 167, 0, 4, 3, 8, 182, 0, 37, 42, 182, 0, 41]
abbrev dktX11_declare_0 : List UInt8 := dkwX11_declare_0 ++ dktX11_declare_1
theorem dksX11_declare_0 : cX11_declare.data.toList.drop 0 = dktX11_declare_0 := by decide +kernel
theorem dksX11_declare_1 : cX11_declare.data.toList.drop 24 = dktX11_declare_1 := dk_seg dksX11_declare_0 24 rfl rfl
theorem dX11_declare_0 : decode cX11_declare 0 = .ok (.aload_n 0, 1) := dk_42 (dk_at dksX11_declare_0 0 rfl rfl)
theorem dX11_declare_1 : decode cX11_declare 1 = .ok (.aload_n 1, 1) := dk_43 (dk_at dksX11_declare_0 1 rfl rfl)
theorem dX11_declare_2 : decode cX11_declare 2 = .ok (.invokeinterface 31 1, 5) := by decide +kernel
theorem dX11_declare_7 : decode cX11_declare 7 = .ok (.iload_n 2, 1) := dk_28 (dk_at dksX11_declare_0 7 rfl rfl)
theorem dX11_declare_8 : decode cX11_declare 8 = .ok (.if_icmp .ge 7, 3) := dk_162 0 7 (dk_at dksX11_declare_0 8 rfl rfl)
theorem dX11_declare_11 : decode cX11_declare 11 = .ok (.iconst 1, 1) := dk_4 (dk_at dksX11_declare_0 11 rfl rfl)
theorem dX11_declare_12 : decode cX11_declare 12 = .ok (.goto 4, 3) := dk_167 0 4 (dk_at dksX11_declare_0 12 rfl rfl)
theorem dX11_declare_15 : decode cX11_declare 15 = .ok (.iconst 0, 1) := dk_3 (dk_at dksX11_declare_0 15 rfl rfl)
theorem dX11_declare_16 : decode cX11_declare 16 = .ok (.iconst 5, 1) := dk_8 (dk_at dksX11_declare_0 16 rfl rfl)
theorem dX11_declare_17 : decode cX11_declare 17 = .ok (.invokevirtual 37, 3) := dk_182 0 37 (dk_at dksX11_declare_0 17 rfl rfl)
theorem dX11_declare_20 : decode cX11_declare 20 = .ok (.aload_n 0, 1) := dk_42 (dk_at dksX11_declare_0 20 rfl rfl)
theorem dX11_declare_21 : decode cX11_declare 21 = .ok (.invokevirtual 41, 3) := dk_182 0 41 (dk_at dksX11_declare_0 21 rfl rfl)
theorem dX11_declare_24 : decode cX11_declare 24 = .ok (.aload_n 1, 1) := dk_43 (dk_at dksX11_declare_1 0 rfl rfl)
theorem dX11_declare_25 : decode cX11_declare 25 = .ok (.aload_n 0, 1) := dk_42 (dk_at dksX11_declare_1 1 rfl rfl)
theorem dX11_declare_26 : decode cX11_declare 26 = .ok (.aload_n 1, 1) := dk_43 (dk_at dksX11_declare_1 2 rfl rfl)
theorem dX11_declare_27 : decode cX11_declare 27 = .ok (.invokevirtual 44, 3) := dk_182 0 44 (dk_at dksX11_declare_1 3 rfl rfl)
theorem dX11_declare_30 : decode cX11_declare 30 = .ok (.invokeinterface 48 2, 5) := by decide +kernel
theorem dX11_declare_35 : decode cX11_declare 35 = .ok (.istore_n 3, 1) := dk_62 (dk_at dksX11_declare_1 11 rfl rfl)
theorem dX11_declare_36 : decode cX11_declare 36 = .ok (.return_, 1) := dk_177 (dk_at dksX11_declare_1 12 rfl rfl)
abbrev cX11_variable : ByteArray := prog_36_method_3_code
def yX11_variable : MethodName := ⟨RX11, "variable", "()V"⟩
def dkwX11_variable_2 : List UInt8 := [42, 182, 0, 56, 182, 0, 59, 177]
abbrev dktX11_variable_2 : List UInt8 := dkwX11_variable_2 ++ []
def dkwX11_variable_1 : List UInt8 := [182, 0, 37, 42, 182, 0, 41, 42, 42, 180, 0, 20, 180, 0, 52, 182, 0, 44, 76, 42, 180, 0, 20, 43]
abbrev dktX11_variable_1 : List UInt8 := dkwX11_variable_1 ++ dktX11_variable_2
def dkwX11_variable_0 : List UInt8 := [42, 42, 180, 0, 20, 180, 0, 52, 185, 0, 31, 1, 0, 6, 162, 0, 7, 4, 167, 0, 4, 3, 8]
abbrev dktX11_variable_0 : List UInt8 := dkwX11_variable_0 ++ dktX11_variable_1
theorem dksX11_variable_0 : cX11_variable.data.toList.drop 0 = dktX11_variable_0 := by decide +kernel
theorem dksX11_variable_1 : cX11_variable.data.toList.drop 23 = dktX11_variable_1 := dk_seg dksX11_variable_0 23 rfl rfl
theorem dksX11_variable_2 : cX11_variable.data.toList.drop 47 = dktX11_variable_2 := dk_seg dksX11_variable_1 24 rfl rfl
theorem dX11_variable_0 : decode cX11_variable 0 = .ok (.aload_n 0, 1) := dk_42 (dk_at dksX11_variable_0 0 rfl rfl)
theorem dX11_variable_1 : decode cX11_variable 1 = .ok (.aload_n 0, 1) := dk_42 (dk_at dksX11_variable_0 1 rfl rfl)
theorem dX11_variable_2 : decode cX11_variable 2 = .ok (.getfield 20, 3) := dk_180 0 20 (dk_at dksX11_variable_0 2 rfl rfl)
theorem dX11_variable_5 : decode cX11_variable 5 = .ok (.getfield 52, 3) := dk_180 0 52 (dk_at dksX11_variable_0 5 rfl rfl)
theorem dX11_variable_8 : decode cX11_variable 8 = .ok (.invokeinterface 31 1, 5) := by decide +kernel
theorem dX11_variable_13 : decode cX11_variable 13 = .ok (.iconst 3, 1) := dk_6 (dk_at dksX11_variable_0 13 rfl rfl)
theorem dX11_variable_14 : decode cX11_variable 14 = .ok (.if_icmp .ge 7, 3) := dk_162 0 7 (dk_at dksX11_variable_0 14 rfl rfl)
theorem dX11_variable_17 : decode cX11_variable 17 = .ok (.iconst 1, 1) := dk_4 (dk_at dksX11_variable_0 17 rfl rfl)
theorem dX11_variable_18 : decode cX11_variable 18 = .ok (.goto 4, 3) := dk_167 0 4 (dk_at dksX11_variable_0 18 rfl rfl)
theorem dX11_variable_21 : decode cX11_variable 21 = .ok (.iconst 0, 1) := dk_3 (dk_at dksX11_variable_0 21 rfl rfl)
theorem dX11_variable_22 : decode cX11_variable 22 = .ok (.iconst 5, 1) := dk_8 (dk_at dksX11_variable_0 22 rfl rfl)
theorem dX11_variable_23 : decode cX11_variable 23 = .ok (.invokevirtual 37, 3) := dk_182 0 37 (dk_at dksX11_variable_1 0 rfl rfl)
theorem dX11_variable_26 : decode cX11_variable 26 = .ok (.aload_n 0, 1) := dk_42 (dk_at dksX11_variable_1 3 rfl rfl)
theorem dX11_variable_27 : decode cX11_variable 27 = .ok (.invokevirtual 41, 3) := dk_182 0 41 (dk_at dksX11_variable_1 4 rfl rfl)
theorem dX11_variable_30 : decode cX11_variable 30 = .ok (.aload_n 0, 1) := dk_42 (dk_at dksX11_variable_1 7 rfl rfl)
theorem dX11_variable_31 : decode cX11_variable 31 = .ok (.aload_n 0, 1) := dk_42 (dk_at dksX11_variable_1 8 rfl rfl)
theorem dX11_variable_32 : decode cX11_variable 32 = .ok (.getfield 20, 3) := dk_180 0 20 (dk_at dksX11_variable_1 9 rfl rfl)
theorem dX11_variable_35 : decode cX11_variable 35 = .ok (.getfield 52, 3) := dk_180 0 52 (dk_at dksX11_variable_1 12 rfl rfl)
theorem dX11_variable_38 : decode cX11_variable 38 = .ok (.invokevirtual 44, 3) := dk_182 0 44 (dk_at dksX11_variable_1 15 rfl rfl)
theorem dX11_variable_41 : decode cX11_variable 41 = .ok (.astore_n 1, 1) := dk_76 (dk_at dksX11_variable_1 18 rfl rfl)
theorem dX11_variable_42 : decode cX11_variable 42 = .ok (.aload_n 0, 1) := dk_42 (dk_at dksX11_variable_1 19 rfl rfl)
theorem dX11_variable_43 : decode cX11_variable 43 = .ok (.getfield 20, 3) := dk_180 0 20 (dk_at dksX11_variable_1 20 rfl rfl)
theorem dX11_variable_46 : decode cX11_variable 46 = .ok (.aload_n 1, 1) := dk_43 (dk_at dksX11_variable_1 23 rfl rfl)
theorem dX11_variable_47 : decode cX11_variable 47 = .ok (.aload_n 0, 1) := dk_42 (dk_at dksX11_variable_2 0 rfl rfl)
theorem dX11_variable_48 : decode cX11_variable 48 = .ok (.invokevirtual 56, 3) := dk_182 0 56 (dk_at dksX11_variable_2 1 rfl rfl)
theorem dX11_variable_51 : decode cX11_variable 51 = .ok (.invokevirtual 59, 3) := dk_182 0 59 (dk_at dksX11_variable_2 4 rfl rfl)
theorem dX11_variable_54 : decode cX11_variable 54 = .ok (.return_, 1) := dk_177 (dk_at dksX11_variable_2 7 rfl rfl)
abbrev cX11_transition : ByteArray := prog_36_method_8_code
def yX11_transition : MethodName := ⟨RX11, "transition", "()V"⟩
def dkwX11_transition_4 : List UInt8 := [182, 0, 134, 183, 0, 138, 185, 0, 48, 2, 0, 54, 5, 177]
abbrev dktX11_transition_4 : List UInt8 := dkwX11_transition_4 ++ []
def dkwX11_transition_3 : List UInt8 := [62, 42, 182, 0, 129, 58, 4, 42, 180, 0, 20, 180, 0, 114, 187, 0, 132, 89, 27, 28, 29, 25, 4, 42]
abbrev dktX11_transition_3 : List UInt8 := dkwX11_transition_3 ++ dktX11_transition_4
def dkwX11_transition_2 : List UInt8 := [180, 0, 120, 182, 0, 63, 61, 42, 18, 123, 182, 0, 125, 42, 42, 180, 0, 20, 180, 0, 117, 182, 0, 63]
abbrev dktX11_transition_2 : List UInt8 := dkwX11_transition_2 ++ dktX11_transition_3
def dkwX11_transition_1 : List UInt8 := [182, 0, 37, 42, 182, 0, 41, 42, 42, 180, 0, 20, 180, 0, 117, 182, 0, 63, 60, 42, 42, 180, 0, 20]
abbrev dktX11_transition_1 : List UInt8 := dkwX11_transition_1 ++ dktX11_transition_2
def dkwX11_transition_0 : List UInt8 := [42, 42, 180, 0, 20, 180, 0, 114, 185, 0, 31, 1, 0, 16, 24, 162, 0, 7, 4, 167, 0, 4, 3, 8]
abbrev dktX11_transition_0 : List UInt8 := dkwX11_transition_0 ++ dktX11_transition_1
theorem dksX11_transition_0 : cX11_transition.data.toList.drop 0 = dktX11_transition_0 := by decide +kernel
theorem dksX11_transition_1 : cX11_transition.data.toList.drop 24 = dktX11_transition_1 := dk_seg dksX11_transition_0 24 rfl rfl
theorem dksX11_transition_2 : cX11_transition.data.toList.drop 48 = dktX11_transition_2 := dk_seg dksX11_transition_1 24 rfl rfl
theorem dksX11_transition_3 : cX11_transition.data.toList.drop 72 = dktX11_transition_3 := dk_seg dksX11_transition_2 24 rfl rfl
theorem dksX11_transition_4 : cX11_transition.data.toList.drop 96 = dktX11_transition_4 := dk_seg dksX11_transition_3 24 rfl rfl
theorem dX11_transition_0 : decode cX11_transition 0 = .ok (.aload_n 0, 1) := dk_42 (dk_at dksX11_transition_0 0 rfl rfl)
theorem dX11_transition_1 : decode cX11_transition 1 = .ok (.aload_n 0, 1) := dk_42 (dk_at dksX11_transition_0 1 rfl rfl)
theorem dX11_transition_2 : decode cX11_transition 2 = .ok (.getfield 20, 3) := dk_180 0 20 (dk_at dksX11_transition_0 2 rfl rfl)
theorem dX11_transition_5 : decode cX11_transition 5 = .ok (.getfield 114, 3) := dk_180 0 114 (dk_at dksX11_transition_0 5 rfl rfl)
theorem dX11_transition_8 : decode cX11_transition 8 = .ok (.invokeinterface 31 1, 5) := by decide +kernel
theorem dX11_transition_13 : decode cX11_transition 13 = .ok (.bipush 24, 2) := dk_16 24 (dk_at dksX11_transition_0 13 rfl rfl)
theorem dX11_transition_15 : decode cX11_transition 15 = .ok (.if_icmp .ge 7, 3) := dk_162 0 7 (dk_at dksX11_transition_0 15 rfl rfl)
theorem dX11_transition_18 : decode cX11_transition 18 = .ok (.iconst 1, 1) := dk_4 (dk_at dksX11_transition_0 18 rfl rfl)
theorem dX11_transition_19 : decode cX11_transition 19 = .ok (.goto 4, 3) := dk_167 0 4 (dk_at dksX11_transition_0 19 rfl rfl)
theorem dX11_transition_22 : decode cX11_transition 22 = .ok (.iconst 0, 1) := dk_3 (dk_at dksX11_transition_0 22 rfl rfl)
theorem dX11_transition_23 : decode cX11_transition 23 = .ok (.iconst 5, 1) := dk_8 (dk_at dksX11_transition_0 23 rfl rfl)
theorem dX11_transition_24 : decode cX11_transition 24 = .ok (.invokevirtual 37, 3) := dk_182 0 37 (dk_at dksX11_transition_1 0 rfl rfl)
theorem dX11_transition_27 : decode cX11_transition 27 = .ok (.aload_n 0, 1) := dk_42 (dk_at dksX11_transition_1 3 rfl rfl)
theorem dX11_transition_28 : decode cX11_transition 28 = .ok (.invokevirtual 41, 3) := dk_182 0 41 (dk_at dksX11_transition_1 4 rfl rfl)
theorem dX11_transition_31 : decode cX11_transition 31 = .ok (.aload_n 0, 1) := dk_42 (dk_at dksX11_transition_1 7 rfl rfl)
theorem dX11_transition_32 : decode cX11_transition 32 = .ok (.aload_n 0, 1) := dk_42 (dk_at dksX11_transition_1 8 rfl rfl)
theorem dX11_transition_33 : decode cX11_transition 33 = .ok (.getfield 20, 3) := dk_180 0 20 (dk_at dksX11_transition_1 9 rfl rfl)
theorem dX11_transition_36 : decode cX11_transition 36 = .ok (.getfield 117, 3) := dk_180 0 117 (dk_at dksX11_transition_1 12 rfl rfl)
theorem dX11_transition_39 : decode cX11_transition 39 = .ok (.invokevirtual 63, 3) := dk_182 0 63 (dk_at dksX11_transition_1 15 rfl rfl)
theorem dX11_transition_42 : decode cX11_transition 42 = .ok (.istore_n 1, 1) := dk_60 (dk_at dksX11_transition_1 18 rfl rfl)
theorem dX11_transition_43 : decode cX11_transition 43 = .ok (.aload_n 0, 1) := dk_42 (dk_at dksX11_transition_1 19 rfl rfl)
theorem dX11_transition_44 : decode cX11_transition 44 = .ok (.aload_n 0, 1) := dk_42 (dk_at dksX11_transition_1 20 rfl rfl)
theorem dX11_transition_45 : decode cX11_transition 45 = .ok (.getfield 20, 3) := dk_180 0 20 (dk_at dksX11_transition_1 21 rfl rfl)
theorem dX11_transition_48 : decode cX11_transition 48 = .ok (.getfield 120, 3) := dk_180 0 120 (dk_at dksX11_transition_2 0 rfl rfl)
theorem dX11_transition_51 : decode cX11_transition 51 = .ok (.invokevirtual 63, 3) := dk_182 0 63 (dk_at dksX11_transition_2 3 rfl rfl)
theorem dX11_transition_54 : decode cX11_transition 54 = .ok (.istore_n 2, 1) := dk_61 (dk_at dksX11_transition_2 6 rfl rfl)
theorem dX11_transition_55 : decode cX11_transition 55 = .ok (.aload_n 0, 1) := dk_42 (dk_at dksX11_transition_2 7 rfl rfl)
theorem dX11_transition_56 : decode cX11_transition 56 = .ok (.ldc 123, 2) := dk_18 123 (dk_at dksX11_transition_2 8 rfl rfl)
theorem dX11_transition_58 : decode cX11_transition 58 = .ok (.invokevirtual 125, 3) := dk_182 0 125 (dk_at dksX11_transition_2 10 rfl rfl)
theorem dX11_transition_61 : decode cX11_transition 61 = .ok (.aload_n 0, 1) := dk_42 (dk_at dksX11_transition_2 13 rfl rfl)
theorem dX11_transition_62 : decode cX11_transition 62 = .ok (.aload_n 0, 1) := dk_42 (dk_at dksX11_transition_2 14 rfl rfl)
theorem dX11_transition_63 : decode cX11_transition 63 = .ok (.getfield 20, 3) := dk_180 0 20 (dk_at dksX11_transition_2 15 rfl rfl)
theorem dX11_transition_66 : decode cX11_transition 66 = .ok (.getfield 117, 3) := dk_180 0 117 (dk_at dksX11_transition_2 18 rfl rfl)
theorem dX11_transition_69 : decode cX11_transition 69 = .ok (.invokevirtual 63, 3) := dk_182 0 63 (dk_at dksX11_transition_2 21 rfl rfl)
theorem dX11_transition_72 : decode cX11_transition 72 = .ok (.istore_n 3, 1) := dk_62 (dk_at dksX11_transition_3 0 rfl rfl)
theorem dX11_transition_73 : decode cX11_transition 73 = .ok (.aload_n 0, 1) := dk_42 (dk_at dksX11_transition_3 1 rfl rfl)
theorem dX11_transition_74 : decode cX11_transition 74 = .ok (.invokevirtual 129, 3) := dk_182 0 129 (dk_at dksX11_transition_3 2 rfl rfl)
theorem dX11_transition_77 : decode cX11_transition 77 = .ok (.astore 4, 2) := dk_58 4 (dk_at dksX11_transition_3 5 rfl rfl)
theorem dX11_transition_79 : decode cX11_transition 79 = .ok (.aload_n 0, 1) := dk_42 (dk_at dksX11_transition_3 7 rfl rfl)
theorem dX11_transition_80 : decode cX11_transition 80 = .ok (.getfield 20, 3) := dk_180 0 20 (dk_at dksX11_transition_3 8 rfl rfl)
theorem dX11_transition_83 : decode cX11_transition 83 = .ok (.getfield 114, 3) := dk_180 0 114 (dk_at dksX11_transition_3 11 rfl rfl)
theorem dX11_transition_86 : decode cX11_transition 86 = .ok (.new 132, 3) := dk_187 0 132 (dk_at dksX11_transition_3 14 rfl rfl)
theorem dX11_transition_89 : decode cX11_transition 89 = .ok (.dup, 1) := dk_89 (dk_at dksX11_transition_3 17 rfl rfl)
theorem dX11_transition_90 : decode cX11_transition 90 = .ok (.iload_n 1, 1) := dk_27 (dk_at dksX11_transition_3 18 rfl rfl)
theorem dX11_transition_91 : decode cX11_transition 91 = .ok (.iload_n 2, 1) := dk_28 (dk_at dksX11_transition_3 19 rfl rfl)
theorem dX11_transition_92 : decode cX11_transition 92 = .ok (.iload_n 3, 1) := dk_29 (dk_at dksX11_transition_3 20 rfl rfl)
theorem dX11_transition_93 : decode cX11_transition 93 = .ok (.aload 4, 2) := dk_25 4 (dk_at dksX11_transition_3 21 rfl rfl)
theorem dX11_transition_95 : decode cX11_transition 95 = .ok (.aload_n 0, 1) := dk_42 (dk_at dksX11_transition_3 23 rfl rfl)
theorem dX11_transition_96 : decode cX11_transition 96 = .ok (.invokevirtual 134, 3) := dk_182 0 134 (dk_at dksX11_transition_4 0 rfl rfl)
theorem dX11_transition_99 : decode cX11_transition 99 = .ok (.invokespecial 138, 3) := dk_183 0 138 (dk_at dksX11_transition_4 3 rfl rfl)
theorem dX11_transition_102 : decode cX11_transition 102 = .ok (.invokeinterface 48 2, 5) := by decide +kernel
theorem dX11_transition_107 : decode cX11_transition 107 = .ok (.istore 5, 2) := dk_54 5 (dk_at dksX11_transition_4 11 rfl rfl)
theorem dX11_transition_109 : decode cX11_transition 109 = .ok (.return_, 1) := dk_177 (dk_at dksX11_transition_4 13 rfl rfl)
abbrev cX11_guard : ByteArray := prog_36_method_5_code
def yX11_guard : MethodName := ⟨RX11, "guard", "()LContractMachine$Comparison;"⟩
def dkwX11_guard_0 : List UInt8 := [42, 18, 76, 182, 0, 78, 154, 0, 5, 1, 176, 42, 182, 0, 41, 42, 182, 0, 82, 176]
abbrev dktX11_guard_0 : List UInt8 := dkwX11_guard_0 ++ []
theorem dksX11_guard_0 : cX11_guard.data.toList.drop 0 = dktX11_guard_0 := by decide +kernel
theorem dX11_guard_0 : decode cX11_guard 0 = .ok (.aload_n 0, 1) := dk_42 (dk_at dksX11_guard_0 0 rfl rfl)
theorem dX11_guard_1 : decode cX11_guard 1 = .ok (.ldc 76, 2) := dk_18 76 (dk_at dksX11_guard_0 1 rfl rfl)
theorem dX11_guard_3 : decode cX11_guard 3 = .ok (.invokevirtual 78, 3) := dk_182 0 78 (dk_at dksX11_guard_0 3 rfl rfl)
theorem dX11_guard_6 : decode cX11_guard 6 = .ok (.ifCond .ne 5, 3) := dk_154 0 5 (dk_at dksX11_guard_0 6 rfl rfl)
theorem dX11_guard_9 : decode cX11_guard 9 = .ok (.aconst_null, 1) := dk_1 (dk_at dksX11_guard_0 9 rfl rfl)
theorem dX11_guard_10 : decode cX11_guard 10 = .ok (.areturn, 1) := dk_176 (dk_at dksX11_guard_0 10 rfl rfl)
theorem dX11_guard_11 : decode cX11_guard 11 = .ok (.aload_n 0, 1) := dk_42 (dk_at dksX11_guard_0 11 rfl rfl)
theorem dX11_guard_12 : decode cX11_guard 12 = .ok (.invokevirtual 41, 3) := dk_182 0 41 (dk_at dksX11_guard_0 12 rfl rfl)
theorem dX11_guard_15 : decode cX11_guard 15 = .ok (.aload_n 0, 1) := dk_42 (dk_at dksX11_guard_0 15 rfl rfl)
theorem dX11_guard_16 : decode cX11_guard 16 = .ok (.invokevirtual 82, 3) := dk_182 0 82 (dk_at dksX11_guard_0 16 rfl rfl)
theorem dX11_guard_19 : decode cX11_guard 19 = .ok (.areturn, 1) := dk_176 (dk_at dksX11_guard_0 19 rfl rfl)
abbrev cX11_comparison : ByteArray := prog_36_method_4_code
def yX11_comparison : MethodName := ⟨RX11, "comparison", "()LContractMachine$Comparison;"⟩
def dkwX11_comparison_1 : List UInt8 := [182, 0, 56, 183, 0, 73, 176]
abbrev dktX11_comparison_1 : List UInt8 := dkwX11_comparison_1 ++ []
def dkwX11_comparison_0 : List UInt8 := [42, 42, 180, 0, 20, 180, 0, 52, 182, 0, 63, 60, 42, 182, 0, 67, 77, 187, 0, 71, 89, 27, 44, 42]
abbrev dktX11_comparison_0 : List UInt8 := dkwX11_comparison_0 ++ dktX11_comparison_1
theorem dksX11_comparison_0 : cX11_comparison.data.toList.drop 0 = dktX11_comparison_0 := by decide +kernel
theorem dksX11_comparison_1 : cX11_comparison.data.toList.drop 24 = dktX11_comparison_1 := dk_seg dksX11_comparison_0 24 rfl rfl
theorem dX11_comparison_0 : decode cX11_comparison 0 = .ok (.aload_n 0, 1) := dk_42 (dk_at dksX11_comparison_0 0 rfl rfl)
theorem dX11_comparison_1 : decode cX11_comparison 1 = .ok (.aload_n 0, 1) := dk_42 (dk_at dksX11_comparison_0 1 rfl rfl)
theorem dX11_comparison_2 : decode cX11_comparison 2 = .ok (.getfield 20, 3) := dk_180 0 20 (dk_at dksX11_comparison_0 2 rfl rfl)
theorem dX11_comparison_5 : decode cX11_comparison 5 = .ok (.getfield 52, 3) := dk_180 0 52 (dk_at dksX11_comparison_0 5 rfl rfl)
theorem dX11_comparison_8 : decode cX11_comparison 8 = .ok (.invokevirtual 63, 3) := dk_182 0 63 (dk_at dksX11_comparison_0 8 rfl rfl)
theorem dX11_comparison_11 : decode cX11_comparison 11 = .ok (.istore_n 1, 1) := dk_60 (dk_at dksX11_comparison_0 11 rfl rfl)
theorem dX11_comparison_12 : decode cX11_comparison 12 = .ok (.aload_n 0, 1) := dk_42 (dk_at dksX11_comparison_0 12 rfl rfl)
theorem dX11_comparison_13 : decode cX11_comparison 13 = .ok (.invokevirtual 67, 3) := dk_182 0 67 (dk_at dksX11_comparison_0 13 rfl rfl)
theorem dX11_comparison_16 : decode cX11_comparison 16 = .ok (.astore_n 2, 1) := dk_77 (dk_at dksX11_comparison_0 16 rfl rfl)
theorem dX11_comparison_17 : decode cX11_comparison 17 = .ok (.new 71, 3) := dk_187 0 71 (dk_at dksX11_comparison_0 17 rfl rfl)
theorem dX11_comparison_20 : decode cX11_comparison 20 = .ok (.dup, 1) := dk_89 (dk_at dksX11_comparison_0 20 rfl rfl)
theorem dX11_comparison_21 : decode cX11_comparison 21 = .ok (.iload_n 1, 1) := dk_27 (dk_at dksX11_comparison_0 21 rfl rfl)
theorem dX11_comparison_22 : decode cX11_comparison 22 = .ok (.aload_n 2, 1) := dk_44 (dk_at dksX11_comparison_0 22 rfl rfl)
theorem dX11_comparison_23 : decode cX11_comparison 23 = .ok (.aload_n 0, 1) := dk_42 (dk_at dksX11_comparison_0 23 rfl rfl)
theorem dX11_comparison_24 : decode cX11_comparison 24 = .ok (.invokevirtual 56, 3) := dk_182 0 56 (dk_at dksX11_comparison_1 0 rfl rfl)
theorem dX11_comparison_27 : decode cX11_comparison 27 = .ok (.invokespecial 73, 3) := dk_183 0 73 (dk_at dksX11_comparison_1 3 rfl rfl)
theorem dX11_comparison_30 : decode cX11_comparison 30 = .ok (.areturn, 1) := dk_176 (dk_at dksX11_comparison_1 6 rfl rfl)
abbrev cX11_action : ByteArray := prog_36_method_7_code
def yX11_action : MethodName := ⟨RX11, "action", "()LContractMachine$Action;"⟩
def dkwX11_action_1 : List UInt8 := [182, 0, 63, 60, 42, 182, 0, 105, 77, 187, 0, 109, 89, 27, 44, 42, 182, 0, 56, 183, 0, 111, 176]
abbrev dktX11_action_1 : List UInt8 := dkwX11_action_1 ++ []
def dkwX11_action_0 : List UInt8 := [42, 18, 103, 182, 0, 78, 154, 0, 5, 1, 176, 42, 182, 0, 41, 42, 42, 180, 0, 20, 180, 0, 52]
abbrev dktX11_action_0 : List UInt8 := dkwX11_action_0 ++ dktX11_action_1
theorem dksX11_action_0 : cX11_action.data.toList.drop 0 = dktX11_action_0 := by decide +kernel
theorem dksX11_action_1 : cX11_action.data.toList.drop 23 = dktX11_action_1 := dk_seg dksX11_action_0 23 rfl rfl
theorem dX11_action_0 : decode cX11_action 0 = .ok (.aload_n 0, 1) := dk_42 (dk_at dksX11_action_0 0 rfl rfl)
theorem dX11_action_1 : decode cX11_action 1 = .ok (.ldc 103, 2) := dk_18 103 (dk_at dksX11_action_0 1 rfl rfl)
theorem dX11_action_3 : decode cX11_action 3 = .ok (.invokevirtual 78, 3) := dk_182 0 78 (dk_at dksX11_action_0 3 rfl rfl)
theorem dX11_action_6 : decode cX11_action 6 = .ok (.ifCond .ne 5, 3) := dk_154 0 5 (dk_at dksX11_action_0 6 rfl rfl)
theorem dX11_action_9 : decode cX11_action 9 = .ok (.aconst_null, 1) := dk_1 (dk_at dksX11_action_0 9 rfl rfl)
theorem dX11_action_10 : decode cX11_action 10 = .ok (.areturn, 1) := dk_176 (dk_at dksX11_action_0 10 rfl rfl)
theorem dX11_action_11 : decode cX11_action 11 = .ok (.aload_n 0, 1) := dk_42 (dk_at dksX11_action_0 11 rfl rfl)
theorem dX11_action_12 : decode cX11_action 12 = .ok (.invokevirtual 41, 3) := dk_182 0 41 (dk_at dksX11_action_0 12 rfl rfl)
theorem dX11_action_15 : decode cX11_action 15 = .ok (.aload_n 0, 1) := dk_42 (dk_at dksX11_action_0 15 rfl rfl)
theorem dX11_action_16 : decode cX11_action 16 = .ok (.aload_n 0, 1) := dk_42 (dk_at dksX11_action_0 16 rfl rfl)
theorem dX11_action_17 : decode cX11_action 17 = .ok (.getfield 20, 3) := dk_180 0 20 (dk_at dksX11_action_0 17 rfl rfl)
theorem dX11_action_20 : decode cX11_action 20 = .ok (.getfield 52, 3) := dk_180 0 52 (dk_at dksX11_action_0 20 rfl rfl)
theorem dX11_action_23 : decode cX11_action 23 = .ok (.invokevirtual 63, 3) := dk_182 0 63 (dk_at dksX11_action_1 0 rfl rfl)
theorem dX11_action_26 : decode cX11_action 26 = .ok (.istore_n 1, 1) := dk_60 (dk_at dksX11_action_1 3 rfl rfl)
theorem dX11_action_27 : decode cX11_action 27 = .ok (.aload_n 0, 1) := dk_42 (dk_at dksX11_action_1 4 rfl rfl)
theorem dX11_action_28 : decode cX11_action 28 = .ok (.invokevirtual 105, 3) := dk_182 0 105 (dk_at dksX11_action_1 5 rfl rfl)
theorem dX11_action_31 : decode cX11_action 31 = .ok (.astore_n 2, 1) := dk_77 (dk_at dksX11_action_1 8 rfl rfl)
theorem dX11_action_32 : decode cX11_action 32 = .ok (.new 109, 3) := dk_187 0 109 (dk_at dksX11_action_1 9 rfl rfl)
theorem dX11_action_35 : decode cX11_action 35 = .ok (.dup, 1) := dk_89 (dk_at dksX11_action_1 12 rfl rfl)
theorem dX11_action_36 : decode cX11_action 36 = .ok (.iload_n 1, 1) := dk_27 (dk_at dksX11_action_1 13 rfl rfl)
theorem dX11_action_37 : decode cX11_action 37 = .ok (.aload_n 2, 1) := dk_44 (dk_at dksX11_action_1 14 rfl rfl)
theorem dX11_action_38 : decode cX11_action 38 = .ok (.aload_n 0, 1) := dk_42 (dk_at dksX11_action_1 15 rfl rfl)
theorem dX11_action_39 : decode cX11_action 39 = .ok (.invokevirtual 56, 3) := dk_182 0 56 (dk_at dksX11_action_1 16 rfl rfl)
theorem dX11_action_42 : decode cX11_action 42 = .ok (.invokespecial 111, 3) := dk_183 0 111 (dk_at dksX11_action_1 19 rfl rfl)
theorem dX11_action_45 : decode cX11_action 45 = .ok (.areturn, 1) := dk_176 (dk_at dksX11_action_1 22 rfl rfl)
abbrev cX11_effect : ByteArray := prog_36_method_6_code
def yX11_effect : MethodName := ⟨RX11, "effect", "()LContractMachine$Effect;"⟩
def dkwX11_effect_2 : List UInt8 := [4, 182, 0, 37, 42, 182, 0, 41, 43, 176]
abbrev dktX11_effect_2 : List UInt8 := dkwX11_effect_2 ++ []
def dkwX11_effect_1 : List UInt8 := [178, 0, 95, 167, 0, 6, 178, 0, 98, 76, 43, 178, 0, 98, 166, 0, 14, 42, 42, 18, 101, 182, 0, 78]
abbrev dktX11_effect_1 : List UInt8 := dkwX11_effect_1 ++ dktX11_effect_2
def dkwX11_effect_0 : List UInt8 := [42, 18, 86, 182, 0, 78, 153, 0, 9, 178, 0, 87, 167, 0, 21, 42, 18, 93, 182, 0, 78, 153, 0, 9]
abbrev dktX11_effect_0 : List UInt8 := dkwX11_effect_0 ++ dktX11_effect_1
theorem dksX11_effect_0 : cX11_effect.data.toList.drop 0 = dktX11_effect_0 := by decide +kernel
theorem dksX11_effect_1 : cX11_effect.data.toList.drop 24 = dktX11_effect_1 := dk_seg dksX11_effect_0 24 rfl rfl
theorem dksX11_effect_2 : cX11_effect.data.toList.drop 48 = dktX11_effect_2 := dk_seg dksX11_effect_1 24 rfl rfl
theorem dX11_effect_0 : decode cX11_effect 0 = .ok (.aload_n 0, 1) := dk_42 (dk_at dksX11_effect_0 0 rfl rfl)
theorem dX11_effect_1 : decode cX11_effect 1 = .ok (.ldc 86, 2) := dk_18 86 (dk_at dksX11_effect_0 1 rfl rfl)
theorem dX11_effect_3 : decode cX11_effect 3 = .ok (.invokevirtual 78, 3) := dk_182 0 78 (dk_at dksX11_effect_0 3 rfl rfl)
theorem dX11_effect_6 : decode cX11_effect 6 = .ok (.ifCond .eq 9, 3) := dk_153 0 9 (dk_at dksX11_effect_0 6 rfl rfl)
theorem dX11_effect_9 : decode cX11_effect 9 = .ok (.getstatic 87, 3) := dk_178 0 87 (dk_at dksX11_effect_0 9 rfl rfl)
theorem dX11_effect_12 : decode cX11_effect 12 = .ok (.goto 21, 3) := dk_167 0 21 (dk_at dksX11_effect_0 12 rfl rfl)
theorem dX11_effect_15 : decode cX11_effect 15 = .ok (.aload_n 0, 1) := dk_42 (dk_at dksX11_effect_0 15 rfl rfl)
theorem dX11_effect_16 : decode cX11_effect 16 = .ok (.ldc 93, 2) := dk_18 93 (dk_at dksX11_effect_0 16 rfl rfl)
theorem dX11_effect_18 : decode cX11_effect 18 = .ok (.invokevirtual 78, 3) := dk_182 0 78 (dk_at dksX11_effect_0 18 rfl rfl)
theorem dX11_effect_21 : decode cX11_effect 21 = .ok (.ifCond .eq 9, 3) := dk_153 0 9 (dk_at dksX11_effect_0 21 rfl rfl)
theorem dX11_effect_24 : decode cX11_effect 24 = .ok (.getstatic 95, 3) := dk_178 0 95 (dk_at dksX11_effect_1 0 rfl rfl)
theorem dX11_effect_27 : decode cX11_effect 27 = .ok (.goto 6, 3) := dk_167 0 6 (dk_at dksX11_effect_1 3 rfl rfl)
theorem dX11_effect_30 : decode cX11_effect 30 = .ok (.getstatic 98, 3) := dk_178 0 98 (dk_at dksX11_effect_1 6 rfl rfl)
theorem dX11_effect_33 : decode cX11_effect 33 = .ok (.astore_n 1, 1) := dk_76 (dk_at dksX11_effect_1 9 rfl rfl)
theorem dX11_effect_34 : decode cX11_effect 34 = .ok (.aload_n 1, 1) := dk_43 (dk_at dksX11_effect_1 10 rfl rfl)
theorem dX11_effect_35 : decode cX11_effect 35 = .ok (.getstatic 98, 3) := dk_178 0 98 (dk_at dksX11_effect_1 11 rfl rfl)
theorem dX11_effect_38 : decode cX11_effect 38 = .ok (.if_acmp .ne 14, 3) := dk_166 0 14 (dk_at dksX11_effect_1 14 rfl rfl)
theorem dX11_effect_41 : decode cX11_effect 41 = .ok (.aload_n 0, 1) := dk_42 (dk_at dksX11_effect_1 17 rfl rfl)
theorem dX11_effect_42 : decode cX11_effect 42 = .ok (.aload_n 0, 1) := dk_42 (dk_at dksX11_effect_1 18 rfl rfl)
theorem dX11_effect_43 : decode cX11_effect 43 = .ok (.ldc 101, 2) := dk_18 101 (dk_at dksX11_effect_1 19 rfl rfl)
theorem dX11_effect_45 : decode cX11_effect 45 = .ok (.invokevirtual 78, 3) := dk_182 0 78 (dk_at dksX11_effect_1 21 rfl rfl)
theorem dX11_effect_48 : decode cX11_effect 48 = .ok (.iconst 1, 1) := dk_4 (dk_at dksX11_effect_2 0 rfl rfl)
theorem dX11_effect_49 : decode cX11_effect 49 = .ok (.invokevirtual 37, 3) := dk_182 0 37 (dk_at dksX11_effect_2 1 rfl rfl)
theorem dX11_effect_52 : decode cX11_effect 52 = .ok (.aload_n 0, 1) := dk_42 (dk_at dksX11_effect_2 4 rfl rfl)
theorem dX11_effect_53 : decode cX11_effect 53 = .ok (.invokevirtual 41, 3) := dk_182 0 41 (dk_at dksX11_effect_2 5 rfl rfl)
theorem dX11_effect_56 : decode cX11_effect 56 = .ok (.aload_n 1, 1) := dk_43 (dk_at dksX11_effect_2 8 rfl rfl)
theorem dX11_effect_57 : decode cX11_effect 57 = .ok (.areturn, 1) := dk_176 (dk_at dksX11_effect_2 9 rfl rfl)
abbrev cX11_invariant : ByteArray := prog_36_method_9_code
def yX11_invariant : MethodName := ⟨RX11, "invariant", "(Z)V"⟩
def dkwX11_invariant_3 : List UInt8 := [185, 0, 48, 2, 0, 62, 177]
abbrev dktX11_invariant_3 : List UInt8 := dkwX11_invariant_3 ++ []
def dkwX11_invariant_2 : List UInt8 := [167, 0, 4, 2, 61, 42, 180, 0, 27, 180, 0, 141, 187, 0, 144, 89, 28, 42, 182, 0, 82, 183, 0, 146]
abbrev dktX11_invariant_2 : List UInt8 := dkwX11_invariant_2 ++ dktX11_invariant_3
def dkwX11_invariant_1 : List UInt8 := [182, 0, 37, 42, 182, 0, 41, 27, 153, 0, 17, 42, 42, 180, 0, 20, 180, 0, 117, 182, 0, 63]
abbrev dktX11_invariant_1 : List UInt8 := dkwX11_invariant_1 ++ dktX11_invariant_2
def dkwX11_invariant_0 : List UInt8 := [42, 42, 180, 0, 27, 180, 0, 141, 185, 0, 31, 1, 0, 16, 12, 162, 0, 7, 4, 167, 0, 4, 3, 8]
abbrev dktX11_invariant_0 : List UInt8 := dkwX11_invariant_0 ++ dktX11_invariant_1
theorem dksX11_invariant_0 : cX11_invariant.data.toList.drop 0 = dktX11_invariant_0 := by decide +kernel
theorem dksX11_invariant_1 : cX11_invariant.data.toList.drop 24 = dktX11_invariant_1 := dk_seg dksX11_invariant_0 24 rfl rfl
theorem dksX11_invariant_2 : cX11_invariant.data.toList.drop 46 = dktX11_invariant_2 := dk_seg dksX11_invariant_1 22 rfl rfl
theorem dksX11_invariant_3 : cX11_invariant.data.toList.drop 70 = dktX11_invariant_3 := dk_seg dksX11_invariant_2 24 rfl rfl
theorem dX11_invariant_0 : decode cX11_invariant 0 = .ok (.aload_n 0, 1) := dk_42 (dk_at dksX11_invariant_0 0 rfl rfl)
theorem dX11_invariant_1 : decode cX11_invariant 1 = .ok (.aload_n 0, 1) := dk_42 (dk_at dksX11_invariant_0 1 rfl rfl)
theorem dX11_invariant_2 : decode cX11_invariant 2 = .ok (.getfield 27, 3) := dk_180 0 27 (dk_at dksX11_invariant_0 2 rfl rfl)
theorem dX11_invariant_5 : decode cX11_invariant 5 = .ok (.getfield 141, 3) := dk_180 0 141 (dk_at dksX11_invariant_0 5 rfl rfl)
theorem dX11_invariant_8 : decode cX11_invariant 8 = .ok (.invokeinterface 31 1, 5) := by decide +kernel
theorem dX11_invariant_13 : decode cX11_invariant 13 = .ok (.bipush 12, 2) := dk_16 12 (dk_at dksX11_invariant_0 13 rfl rfl)
theorem dX11_invariant_15 : decode cX11_invariant 15 = .ok (.if_icmp .ge 7, 3) := dk_162 0 7 (dk_at dksX11_invariant_0 15 rfl rfl)
theorem dX11_invariant_18 : decode cX11_invariant 18 = .ok (.iconst 1, 1) := dk_4 (dk_at dksX11_invariant_0 18 rfl rfl)
theorem dX11_invariant_19 : decode cX11_invariant 19 = .ok (.goto 4, 3) := dk_167 0 4 (dk_at dksX11_invariant_0 19 rfl rfl)
theorem dX11_invariant_22 : decode cX11_invariant 22 = .ok (.iconst 0, 1) := dk_3 (dk_at dksX11_invariant_0 22 rfl rfl)
theorem dX11_invariant_23 : decode cX11_invariant 23 = .ok (.iconst 5, 1) := dk_8 (dk_at dksX11_invariant_0 23 rfl rfl)
theorem dX11_invariant_24 : decode cX11_invariant 24 = .ok (.invokevirtual 37, 3) := dk_182 0 37 (dk_at dksX11_invariant_1 0 rfl rfl)
theorem dX11_invariant_27 : decode cX11_invariant 27 = .ok (.aload_n 0, 1) := dk_42 (dk_at dksX11_invariant_1 3 rfl rfl)
theorem dX11_invariant_28 : decode cX11_invariant 28 = .ok (.invokevirtual 41, 3) := dk_182 0 41 (dk_at dksX11_invariant_1 4 rfl rfl)
theorem dX11_invariant_31 : decode cX11_invariant 31 = .ok (.iload_n 1, 1) := dk_27 (dk_at dksX11_invariant_1 7 rfl rfl)
theorem dX11_invariant_32 : decode cX11_invariant 32 = .ok (.ifCond .eq 17, 3) := dk_153 0 17 (dk_at dksX11_invariant_1 8 rfl rfl)
theorem dX11_invariant_35 : decode cX11_invariant 35 = .ok (.aload_n 0, 1) := dk_42 (dk_at dksX11_invariant_1 11 rfl rfl)
theorem dX11_invariant_36 : decode cX11_invariant 36 = .ok (.aload_n 0, 1) := dk_42 (dk_at dksX11_invariant_1 12 rfl rfl)
theorem dX11_invariant_37 : decode cX11_invariant 37 = .ok (.getfield 20, 3) := dk_180 0 20 (dk_at dksX11_invariant_1 13 rfl rfl)
theorem dX11_invariant_40 : decode cX11_invariant 40 = .ok (.getfield 117, 3) := dk_180 0 117 (dk_at dksX11_invariant_1 16 rfl rfl)
theorem dX11_invariant_43 : decode cX11_invariant 43 = .ok (.invokevirtual 63, 3) := dk_182 0 63 (dk_at dksX11_invariant_1 19 rfl rfl)
theorem dX11_invariant_46 : decode cX11_invariant 46 = .ok (.goto 4, 3) := dk_167 0 4 (dk_at dksX11_invariant_2 0 rfl rfl)
theorem dX11_invariant_49 : decode cX11_invariant 49 = .ok (.iconst (-1), 1) := dk_2 (dk_at dksX11_invariant_2 3 rfl rfl)
theorem dX11_invariant_50 : decode cX11_invariant 50 = .ok (.istore_n 2, 1) := dk_61 (dk_at dksX11_invariant_2 4 rfl rfl)
theorem dX11_invariant_51 : decode cX11_invariant 51 = .ok (.aload_n 0, 1) := dk_42 (dk_at dksX11_invariant_2 5 rfl rfl)
theorem dX11_invariant_52 : decode cX11_invariant 52 = .ok (.getfield 27, 3) := dk_180 0 27 (dk_at dksX11_invariant_2 6 rfl rfl)
theorem dX11_invariant_55 : decode cX11_invariant 55 = .ok (.getfield 141, 3) := dk_180 0 141 (dk_at dksX11_invariant_2 9 rfl rfl)
theorem dX11_invariant_58 : decode cX11_invariant 58 = .ok (.new 144, 3) := dk_187 0 144 (dk_at dksX11_invariant_2 12 rfl rfl)
theorem dX11_invariant_61 : decode cX11_invariant 61 = .ok (.dup, 1) := dk_89 (dk_at dksX11_invariant_2 15 rfl rfl)
theorem dX11_invariant_62 : decode cX11_invariant 62 = .ok (.iload_n 2, 1) := dk_28 (dk_at dksX11_invariant_2 16 rfl rfl)
theorem dX11_invariant_63 : decode cX11_invariant 63 = .ok (.aload_n 0, 1) := dk_42 (dk_at dksX11_invariant_2 17 rfl rfl)
theorem dX11_invariant_64 : decode cX11_invariant 64 = .ok (.invokevirtual 82, 3) := dk_182 0 82 (dk_at dksX11_invariant_2 18 rfl rfl)
theorem dX11_invariant_67 : decode cX11_invariant 67 = .ok (.invokespecial 146, 3) := dk_183 0 146 (dk_at dksX11_invariant_2 21 rfl rfl)
theorem dX11_invariant_70 : decode cX11_invariant 70 = .ok (.invokeinterface 48 2, 5) := by decide +kernel
theorem dX11_invariant_75 : decode cX11_invariant 75 = .ok (.istore_n 3, 1) := dk_62 (dk_at dksX11_invariant_3 5 rfl rfl)
theorem dX11_invariant_76 : decode cX11_invariant 76 = .ok (.return_, 1) := dk_177 (dk_at dksX11_invariant_3 6 rfl rfl)
theorem q153 : (Jvm.Cond.initialized "ContractMachine$SetupParser") ∈ lw_all := lw_g (lw_at lw_m1 33 rfl) rfl
theorem q559 : (Jvm.Cond.fieldLinkNest "ContractMachine$SetupParser" (117 : Nat) "ContractMachine$Definition" "states" "Ljava/util/List;" "ContractMachine") ∈ lw_tbl := lw_at lw_m2 199 rfl
theorem q564 : (Jvm.Cond.fieldLinkNest "ContractMachine$SetupParser" (120 : Nat) "ContractMachine$Definition" "events" "Ljava/util/List;" "ContractMachine") ∈ lw_tbl := lw_at lw_m2 204 rfl
theorem q567 : (Jvm.Cond.fieldLinkNest "ContractMachine$SetupParser" (52 : Nat) "ContractMachine$Definition" "variables" "Ljava/util/List;" "ContractMachine") ∈ lw_tbl := lw_at lw_m2 207 rfl
theorem q571 : (Jvm.Cond.fieldLinkNest "ContractMachine$SetupParser" (114 : Nat) "ContractMachine$Definition" "transitions" "Ljava/util/List;" "ContractMachine") ∈ lw_tbl := lw_at lw_m2 211 rfl
theorem q575 : (Jvm.Cond.fieldLinkNest "ContractMachine$SetupParser" (200 : Nat) "ContractMachine$Definition" "initial" "I" "ContractMachine") ∈ lw_tbl := lw_at lw_m2 215 rfl
theorem q597 : (Jvm.Cond.fieldLinkNest "ContractMachine$SetupParser" (141 : Nat) "ContractMachine$Run" "invariants" "Ljava/util/List;" "ContractMachine") ∈ lw_tbl := lw_at lw_m2 237 rfl
theorem q615 : (Jvm.Cond.fieldLinkNest "ContractMachine$SetupParser" (208 : Nat) "ContractMachine$Run" "configuration" "I" "ContractMachine") ∈ lw_tbl := lw_at lw_m3 15 rfl
theorem q729 : (Jvm.Cond.selects "ContractMachine$SetupParser" ({ cls := "java/lang/Object", name := "getClass", desc := "()Ljava/lang/Class;" } : Jvm.MethodName) ({ cls := "java/lang/Object", name := "getClass", desc := "()Ljava/lang/Class;" } : Jvm.MethodName)) ∈ lw_all := lw_g (lw_at lw_m3 129 rfl) rfl
theorem q966 : (Jvm.Cond.instantiable "ContractMachine$SetupParser" (9 : Nat)) ∈ lw_all := lw_g (lw_at lw_m4 126 rfl) rfl
theorem q968 : (Jvm.Cond.instanceMethod ({ cls := "ContractMachine$SetupParser", name := "<init>", desc := "(LContractMachine;)V" } : Jvm.MethodName)) ∈ lw_all := lw_g (lw_at lw_m4 128 rfl) rfl
theorem q969 : (Jvm.Cond.code ({ cls := "ContractMachine$SetupParser", name := "<init>", desc := "(LContractMachine;)V" } : Jvm.MethodName) prog_36_method_1_code (2 : Nat) (Option.none : Option Jvm.ClassFile.FieldType)) ∈ lw_all := lw_g (lw_at lw_m4 129 rfl) rfl
theorem q970 : (Jvm.Cond.methodLink "ContractMachine$SetupParser" (9 : Nat) ({ cls := "ContractMachine$Parser", name := "<init>", desc := "(LContractMachine;)V" } : Jvm.MethodName)) ∈ lw_all := lw_g (lw_at lw_m4 130 rfl) rfl
theorem q979 : (Jvm.Cond.selects "ContractMachine$SetupParser" ({ cls := "ContractMachine$Parser", name := "advance", desc := "()V" } : Jvm.MethodName) ({ cls := "ContractMachine$Parser", name := "advance", desc := "()V" } : Jvm.MethodName)) ∈ lw_all := lw_g (lw_at lw_m4 139 rfl) rfl
theorem q1117 : (Jvm.Cond.classLink "ContractMachine$SetupParser" (15 : Nat) "ContractMachine$Definition") ∈ lw_all := lw_g (lw_at lw_m5 37 rfl) rfl
theorem q1118 : (Jvm.Cond.methodLinkNest "ContractMachine$SetupParser" (17 : Nat) ({ cls := "ContractMachine$Definition", name := "<init>", desc := "()V" } : Jvm.MethodName) "ContractMachine") ∈ lw_tbl := lw_at lw_m5 38 rfl
theorem q1119 : (Jvm.Cond.classLink "ContractMachine$SetupParser" (24 : Nat) "ContractMachine$Run") ∈ lw_all := lw_g (lw_at lw_m5 39 rfl) rfl
theorem q1120 : (Jvm.Cond.methodLinkNest "ContractMachine$SetupParser" (26 : Nat) ({ cls := "ContractMachine$Run", name := "<init>", desc := "()V" } : Jvm.MethodName) "ContractMachine") ∈ lw_tbl := lw_at lw_m5 40 rfl
theorem q1121 : (Jvm.Cond.fieldLink "ContractMachine$SetupParser" (20 : Nat) "ContractMachine$SetupParser" "made" "LContractMachine$Definition;") ∈ lw_all := lw_g (lw_at lw_m5 41 rfl) rfl
theorem q1123 : (Jvm.Cond.fieldLink "ContractMachine$SetupParser" (27 : Nat) "ContractMachine$SetupParser" "begun" "LContractMachine$Run;") ∈ lw_all := lw_g (lw_at lw_m5 43 rfl) rfl
theorem q1124 : (Jvm.Cond.fieldLink "ContractMachine$SetupParser" (3 : Nat) "ContractMachine$SetupParser" "this$0" "LContractMachine;") ∈ lw_all := lw_g (lw_at lw_m5 44 rfl) rfl
theorem q1131 : (Jvm.Cond.laysFinal "ContractMachine$SetupParser" "ContractMachine$SetupParser" "made" "LContractMachine$Definition;") ∈ lw_all := lw_g (lw_at lw_m5 51 rfl) rfl
theorem q1132 : (Jvm.Cond.soleField "ContractMachine$SetupParser" "made") ∈ lw_all := lw_g (lw_at lw_m5 52 rfl) rfl
theorem q1133 : (Jvm.Cond.laysFinal "ContractMachine$SetupParser" "ContractMachine$SetupParser" "begun" "LContractMachine$Run;") ∈ lw_all := lw_g (lw_at lw_m5 53 rfl) rfl
theorem q1134 : (Jvm.Cond.soleField "ContractMachine$SetupParser" "begun") ∈ lw_all := lw_g (lw_at lw_m5 54 rfl) rfl
theorem q1135 : (Jvm.Cond.laysFinal "ContractMachine$SetupParser" "ContractMachine$SetupParser" "this$0" "LContractMachine;") ∈ lw_all := lw_g (lw_at lw_m5 55 rfl) rfl
theorem q1136 : (Jvm.Cond.soleField "ContractMachine$SetupParser" "this$0") ∈ lw_all := lw_g (lw_at lw_m5 56 rfl) rfl
theorem q1137 : (Jvm.Cond.lays "ContractMachine$SetupParser" "ContractMachine$Parser" "start" "I") ∈ lw_all := lw_g (lw_at lw_m5 57 rfl) rfl
theorem q1139 : (Jvm.Cond.lays "ContractMachine$SetupParser" "ContractMachine$Parser" "next" "I") ∈ lw_all := lw_g (lw_at lw_m5 59 rfl) rfl
theorem q1141 : (Jvm.Cond.lays "ContractMachine$SetupParser" "ContractMachine$Parser" "value" "I") ∈ lw_all := lw_g (lw_at lw_m5 61 rfl) rfl
theorem q1143 : (Jvm.Cond.lays "ContractMachine$SetupParser" "ContractMachine$Parser" "word" "Ljava/lang/String;") ∈ lw_all := lw_g (lw_at lw_m5 63 rfl) rfl
theorem q1145 : (Jvm.Cond.lays "ContractMachine$SetupParser" "ContractMachine$Parser" "token" "LContractMachine$Token;") ∈ lw_all := lw_g (lw_at lw_m5 65 rfl) rfl
theorem q1147 : (Jvm.Cond.laysFinal "ContractMachine$SetupParser" "ContractMachine$Parser" "this$0" "LContractMachine;") ∈ lw_all := lw_g (lw_at lw_m5 67 rfl) rfl
theorem q1149 : (Jvm.Cond.superclass "ContractMachine$SetupParser" "ContractMachine$Parser") ∈ lw_all := lw_g (lw_at lw_m5 69 rfl) rfl
theorem q1151 : (Jvm.Cond.instanceMethod ({ cls := "ContractMachine$SetupParser", name := "parse", desc := "()LContractMachine$Run;" } : Jvm.MethodName)) ∈ lw_all := lw_g (lw_at lw_m5 71 rfl) rfl
theorem q1152 : (Jvm.Cond.selects "ContractMachine$SetupParser" ({ cls := "ContractMachine$SetupParser", name := "parse", desc := "()LContractMachine$Run;" } : Jvm.MethodName) ({ cls := "ContractMachine$SetupParser", name := "parse", desc := "()LContractMachine$Run;" } : Jvm.MethodName)) ∈ lw_all := lw_g (lw_at lw_m5 72 rfl) rfl
theorem q1153 : (Jvm.Cond.code ({ cls := "ContractMachine$SetupParser", name := "parse", desc := "()LContractMachine$Run;" } : Jvm.MethodName) prog_36_method_11_code (1 : Nat) (Option.some (Jvm.ClassFile.FieldType.object "ContractMachine$Run"))) ∈ lw_all := lw_g (lw_at lw_m5 73 rfl) rfl
theorem q1154 : (Jvm.Cond.methodLink "ContractMachine$SetupParser" (186 : Nat) ({ cls := "ContractMachine$SetupParser", name := "isOver", desc := "()Z" } : Jvm.MethodName)) ∈ lw_all := lw_g (lw_at lw_m5 74 rfl) rfl
theorem q1155 : (Jvm.Cond.sameMethod "ContractMachine$SetupParser" "ContractMachine$Parser" "isOver" "()Z") ∈ lw_all := lw_g (lw_at lw_m5 75 rfl) rfl
theorem q1157 : (Jvm.Cond.selects "ContractMachine$SetupParser" ({ cls := "ContractMachine$SetupParser", name := "isOver", desc := "()Z" } : Jvm.MethodName) ({ cls := "ContractMachine$Parser", name := "isOver", desc := "()Z" } : Jvm.MethodName)) ∈ lw_all := lw_g (lw_at lw_m5 77 rfl) rfl
theorem q1160 : (Jvm.Cond.methodLink "ContractMachine$SetupParser" (190 : Nat) ({ cls := "ContractMachine$SetupParser", name := "word", desc := "()Ljava/lang/String;" } : Jvm.MethodName)) ∈ lw_all := lw_g (lw_at lw_m5 80 rfl) rfl
theorem q1161 : (Jvm.Cond.sameMethod "ContractMachine$SetupParser" "ContractMachine$Parser" "word" "()Ljava/lang/String;") ∈ lw_all := lw_g (lw_at lw_m5 81 rfl) rfl
theorem q1163 : (Jvm.Cond.selects "ContractMachine$SetupParser" ({ cls := "ContractMachine$SetupParser", name := "word", desc := "()Ljava/lang/String;" } : Jvm.MethodName) ({ cls := "ContractMachine$Parser", name := "word", desc := "()Ljava/lang/String;" } : Jvm.MethodName)) ∈ lw_all := lw_g (lw_at lw_m5 83 rfl) rfl
theorem q1166 : (Jvm.Cond.methodLink "ContractMachine$SetupParser" (194 : Nat) ({ cls := "ContractMachine$SetupParser", name := "statement", desc := "(Ljava/lang/String;)V" } : Jvm.MethodName)) ∈ lw_all := lw_g (lw_at lw_m5 86 rfl) rfl
theorem q1167 : (Jvm.Cond.privateMethod ({ cls := "ContractMachine$SetupParser", name := "statement", desc := "(Ljava/lang/String;)V" } : Jvm.MethodName)) ∈ lw_tbl := lw_at lw_m5 87 rfl
theorem q1168 : (Jvm.Cond.instanceMethod ({ cls := "ContractMachine$SetupParser", name := "statement", desc := "(Ljava/lang/String;)V" } : Jvm.MethodName)) ∈ lw_all := lw_g (lw_at lw_m5 88 rfl) rfl
theorem q1169 : (Jvm.Cond.code ({ cls := "ContractMachine$SetupParser", name := "statement", desc := "(Ljava/lang/String;)V" } : Jvm.MethodName) prog_36_method_10_code (4 : Nat) (Option.none : Option Jvm.ClassFile.FieldType)) ∈ lw_all := lw_g (lw_at lw_m5 89 rfl) rfl
theorem q1170 : (Jvm.Cond.methodLink "ContractMachine$SetupParser" (149 : Nat) ({ cls := "java/lang/String", name := "hashCode", desc := "()I" } : Jvm.MethodName)) ∈ lw_all := lw_g (lw_at lw_m5 90 rfl) rfl
theorem q1227 : (Jvm.Cond.stringRef "ContractMachine$SetupParser" (154 : Nat) "state") ∈ lw_tbl := lw_at lw_m5 147 rfl
theorem q1228 : (Jvm.Cond.methodLink "ContractMachine$SetupParser" (156 : Nat) ({ cls := "java/lang/String", name := "equals", desc := "(Ljava/lang/Object;)Z" } : Jvm.MethodName)) ∈ lw_all := lw_g (lw_at lw_m5 148 rfl) rfl
theorem q1236 : (Jvm.Cond.stringRef "ContractMachine$SetupParser" (159 : Nat) "event") ∈ lw_tbl := lw_at lw_m5 156 rfl
theorem q1237 : (Jvm.Cond.stringRef "ContractMachine$SetupParser" (161 : Nat) "var") ∈ lw_tbl := lw_at lw_m5 157 rfl
theorem q1238 : (Jvm.Cond.stringRef "ContractMachine$SetupParser" (163 : Nat) "on") ∈ lw_tbl := lw_at lw_m5 158 rfl
theorem q1239 : (Jvm.Cond.stringRef "ContractMachine$SetupParser" (165 : Nat) "always") ∈ lw_tbl := lw_at lw_m5 159 rfl
theorem q1240 : (Jvm.Cond.stringRef "ContractMachine$SetupParser" (167 : Nat) "inside") ∈ lw_tbl := lw_at lw_m5 160 rfl
theorem q1241 : (Jvm.Cond.methodLink "ContractMachine$SetupParser" (169 : Nat) ({ cls := "ContractMachine$SetupParser", name := "declare", desc := "(Ljava/util/List;I)V" } : Jvm.MethodName)) ∈ lw_all := lw_g (lw_at lw_m5 161 rfl) rfl
theorem q1242 : (Jvm.Cond.privateMethod ({ cls := "ContractMachine$SetupParser", name := "declare", desc := "(Ljava/util/List;I)V" } : Jvm.MethodName)) ∈ lw_tbl := lw_at lw_m5 162 rfl
theorem q1243 : (Jvm.Cond.instanceMethod ({ cls := "ContractMachine$SetupParser", name := "declare", desc := "(Ljava/util/List;I)V" } : Jvm.MethodName)) ∈ lw_all := lw_g (lw_at lw_m5 163 rfl) rfl
theorem q1244 : (Jvm.Cond.code ({ cls := "ContractMachine$SetupParser", name := "declare", desc := "(Ljava/util/List;I)V" } : Jvm.MethodName) prog_36_method_2_code (4 : Nat) (Option.none : Option Jvm.ClassFile.FieldType)) ∈ lw_all := lw_g (lw_at lw_m5 164 rfl) rfl
theorem q1245 : (Jvm.Cond.interfaceEntry "ContractMachine$SetupParser" (31 : Nat)) ∈ lw_tbl := lw_at lw_m5 165 rfl
theorem q1246 : (Jvm.Cond.methodLink "ContractMachine$SetupParser" (31 : Nat) ({ cls := "java/util/List", name := "size", desc := "()I" } : Jvm.MethodName)) ∈ lw_all := lw_g (lw_at lw_m5 166 rfl) rfl
theorem q1247 : (Jvm.Cond.methodLink "ContractMachine$SetupParser" (37 : Nat) ({ cls := "ContractMachine$SetupParser", name := "expect", desc := "(ZI)V" } : Jvm.MethodName)) ∈ lw_all := lw_g (lw_at lw_m5 167 rfl) rfl
theorem q1248 : (Jvm.Cond.sameMethod "ContractMachine$SetupParser" "ContractMachine$Parser" "expect" "(ZI)V") ∈ lw_all := lw_g (lw_at lw_m5 168 rfl) rfl
theorem q1250 : (Jvm.Cond.selects "ContractMachine$SetupParser" ({ cls := "ContractMachine$SetupParser", name := "expect", desc := "(ZI)V" } : Jvm.MethodName) ({ cls := "ContractMachine$Parser", name := "expect", desc := "(ZI)V" } : Jvm.MethodName)) ∈ lw_all := lw_g (lw_at lw_m5 170 rfl) rfl
theorem q1281 : (Jvm.Cond.methodLink "ContractMachine$SetupParser" (41 : Nat) ({ cls := "ContractMachine$SetupParser", name := "advance", desc := "()V" } : Jvm.MethodName)) ∈ lw_all := lw_g (lw_at lw_m5 201 rfl) rfl
theorem q1282 : (Jvm.Cond.sameMethod "ContractMachine$SetupParser" "ContractMachine$Parser" "advance" "()V") ∈ lw_all := lw_g (lw_at lw_m5 202 rfl) rfl
theorem q1284 : (Jvm.Cond.selects "ContractMachine$SetupParser" ({ cls := "ContractMachine$SetupParser", name := "advance", desc := "()V" } : Jvm.MethodName) ({ cls := "ContractMachine$Parser", name := "advance", desc := "()V" } : Jvm.MethodName)) ∈ lw_all := lw_g (lw_at lw_m5 204 rfl) rfl
theorem q1285 : (Jvm.Cond.methodLink "ContractMachine$SetupParser" (44 : Nat) ({ cls := "ContractMachine$SetupParser", name := "newName", desc := "(Ljava/util/List;)Ljava/lang/String;" } : Jvm.MethodName)) ∈ lw_all := lw_g (lw_at lw_m5 205 rfl) rfl
theorem q1286 : (Jvm.Cond.sameMethod "ContractMachine$SetupParser" "ContractMachine$Parser" "newName" "(Ljava/util/List;)Ljava/lang/String;") ∈ lw_all := lw_g (lw_at lw_m5 206 rfl) rfl
theorem q1288 : (Jvm.Cond.selects "ContractMachine$SetupParser" ({ cls := "ContractMachine$SetupParser", name := "newName", desc := "(Ljava/util/List;)Ljava/lang/String;" } : Jvm.MethodName) ({ cls := "ContractMachine$Parser", name := "newName", desc := "(Ljava/util/List;)Ljava/lang/String;" } : Jvm.MethodName)) ∈ lw_all := lw_g (lw_at lw_m5 208 rfl) rfl
theorem q1295 : (Jvm.Cond.selects "ContractMachine$SetupParser" ({ cls := "ContractMachine$Parser", name := "name", desc := "()Ljava/lang/String;" } : Jvm.MethodName) ({ cls := "ContractMachine$Parser", name := "name", desc := "()Ljava/lang/String;" } : Jvm.MethodName)) ∈ lw_all := lw_g (lw_at lw_m5 215 rfl) rfl
theorem q1322 : (Jvm.Cond.interfaceEntry "ContractMachine$SetupParser" (48 : Nat)) ∈ lw_tbl := lw_at lw_m6 2 rfl
theorem q1323 : (Jvm.Cond.methodLink "ContractMachine$SetupParser" (48 : Nat) ({ cls := "java/util/List", name := "add", desc := "(Ljava/lang/Object;)Z" } : Jvm.MethodName)) ∈ lw_all := lw_g (lw_at lw_m6 3 rfl) rfl
theorem q1324 : (Jvm.Cond.methodLink "ContractMachine$SetupParser" (173 : Nat) ({ cls := "ContractMachine$SetupParser", name := "variable", desc := "()V" } : Jvm.MethodName)) ∈ lw_all := lw_g (lw_at lw_m6 4 rfl) rfl
theorem q1325 : (Jvm.Cond.privateMethod ({ cls := "ContractMachine$SetupParser", name := "variable", desc := "()V" } : Jvm.MethodName)) ∈ lw_tbl := lw_at lw_m6 5 rfl
theorem q1326 : (Jvm.Cond.instanceMethod ({ cls := "ContractMachine$SetupParser", name := "variable", desc := "()V" } : Jvm.MethodName)) ∈ lw_all := lw_g (lw_at lw_m6 6 rfl) rfl
theorem q1327 : (Jvm.Cond.code ({ cls := "ContractMachine$SetupParser", name := "variable", desc := "()V" } : Jvm.MethodName) prog_36_method_3_code (2 : Nat) (Option.none : Option Jvm.ClassFile.FieldType)) ∈ lw_all := lw_g (lw_at lw_m6 7 rfl) rfl
theorem q1328 : (Jvm.Cond.methodLink "ContractMachine$SetupParser" (56 : Nat) ({ cls := "ContractMachine$SetupParser", name := "digit", desc := "()I" } : Jvm.MethodName)) ∈ lw_all := lw_g (lw_at lw_m6 8 rfl) rfl
theorem q1329 : (Jvm.Cond.sameMethod "ContractMachine$SetupParser" "ContractMachine$Parser" "digit" "()I") ∈ lw_all := lw_g (lw_at lw_m6 9 rfl) rfl
theorem q1331 : (Jvm.Cond.selects "ContractMachine$SetupParser" ({ cls := "ContractMachine$SetupParser", name := "digit", desc := "()I" } : Jvm.MethodName) ({ cls := "ContractMachine$Parser", name := "digit", desc := "()I" } : Jvm.MethodName)) ∈ lw_all := lw_g (lw_at lw_m6 11 rfl) rfl
theorem q1338 : (Jvm.Cond.selects "ContractMachine$SetupParser" ({ cls := "ContractMachine$Parser", name := "number", desc := "(II)I" } : Jvm.MethodName) ({ cls := "ContractMachine$Parser", name := "number", desc := "(II)I" } : Jvm.MethodName)) ∈ lw_all := lw_g (lw_at lw_m6 18 rfl) rfl
theorem q1340 : (Jvm.Cond.methodLink "ContractMachine$SetupParser" (59 : Nat) ({ cls := "ContractMachine$Definition", name := "addVariable", desc := "(Ljava/lang/String;I)V" } : Jvm.MethodName)) ∈ lw_all := lw_g (lw_at lw_m6 20 rfl) rfl
theorem q1341 : (Jvm.Cond.methodLink "ContractMachine$SetupParser" (176 : Nat) ({ cls := "ContractMachine$SetupParser", name := "transition", desc := "()V" } : Jvm.MethodName)) ∈ lw_all := lw_g (lw_at lw_m6 21 rfl) rfl
theorem q1342 : (Jvm.Cond.privateMethod ({ cls := "ContractMachine$SetupParser", name := "transition", desc := "()V" } : Jvm.MethodName)) ∈ lw_tbl := lw_at lw_m6 22 rfl
theorem q1343 : (Jvm.Cond.instanceMethod ({ cls := "ContractMachine$SetupParser", name := "transition", desc := "()V" } : Jvm.MethodName)) ∈ lw_all := lw_g (lw_at lw_m6 23 rfl) rfl
theorem q1344 : (Jvm.Cond.code ({ cls := "ContractMachine$SetupParser", name := "transition", desc := "()V" } : Jvm.MethodName) prog_36_method_8_code (6 : Nat) (Option.none : Option Jvm.ClassFile.FieldType)) ∈ lw_all := lw_g (lw_at lw_m6 24 rfl) rfl
theorem q1345 : (Jvm.Cond.methodLink "ContractMachine$SetupParser" (63 : Nat) ({ cls := "ContractMachine$SetupParser", name := "known", desc := "(Ljava/util/List;)I" } : Jvm.MethodName)) ∈ lw_all := lw_g (lw_at lw_m6 25 rfl) rfl
theorem q1346 : (Jvm.Cond.sameMethod "ContractMachine$SetupParser" "ContractMachine$Parser" "known" "(Ljava/util/List;)I") ∈ lw_all := lw_g (lw_at lw_m6 26 rfl) rfl
theorem q1348 : (Jvm.Cond.selects "ContractMachine$SetupParser" ({ cls := "ContractMachine$SetupParser", name := "known", desc := "(Ljava/util/List;)I" } : Jvm.MethodName) ({ cls := "ContractMachine$Parser", name := "known", desc := "(Ljava/util/List;)I" } : Jvm.MethodName)) ∈ lw_all := lw_g (lw_at lw_m6 28 rfl) rfl
theorem q1351 : (Jvm.Cond.stringRef "ContractMachine$SetupParser" (123 : Nat) "goto") ∈ lw_tbl := lw_at lw_m6 31 rfl
theorem q1352 : (Jvm.Cond.methodLink "ContractMachine$SetupParser" (125 : Nat) ({ cls := "ContractMachine$SetupParser", name := "keyword", desc := "(Ljava/lang/String;)V" } : Jvm.MethodName)) ∈ lw_all := lw_g (lw_at lw_m6 32 rfl) rfl
theorem q1353 : (Jvm.Cond.sameMethod "ContractMachine$SetupParser" "ContractMachine$Parser" "keyword" "(Ljava/lang/String;)V") ∈ lw_all := lw_g (lw_at lw_m6 33 rfl) rfl
theorem q1355 : (Jvm.Cond.selects "ContractMachine$SetupParser" ({ cls := "ContractMachine$SetupParser", name := "keyword", desc := "(Ljava/lang/String;)V" } : Jvm.MethodName) ({ cls := "ContractMachine$Parser", name := "keyword", desc := "(Ljava/lang/String;)V" } : Jvm.MethodName)) ∈ lw_all := lw_g (lw_at lw_m6 35 rfl) rfl
theorem q1362 : (Jvm.Cond.selects "ContractMachine$SetupParser" ({ cls := "ContractMachine$Parser", name := "isWord", desc := "(Ljava/lang/String;)Z" } : Jvm.MethodName) ({ cls := "ContractMachine$Parser", name := "isWord", desc := "(Ljava/lang/String;)Z" } : Jvm.MethodName)) ∈ lw_all := lw_g (lw_at lw_m6 42 rfl) rfl
theorem q1365 : (Jvm.Cond.methodLink "ContractMachine$SetupParser" (129 : Nat) ({ cls := "ContractMachine$SetupParser", name := "guard", desc := "()LContractMachine$Comparison;" } : Jvm.MethodName)) ∈ lw_all := lw_g (lw_at lw_m6 45 rfl) rfl
theorem q1366 : (Jvm.Cond.privateMethod ({ cls := "ContractMachine$SetupParser", name := "guard", desc := "()LContractMachine$Comparison;" } : Jvm.MethodName)) ∈ lw_tbl := lw_at lw_m6 46 rfl
theorem q1367 : (Jvm.Cond.instanceMethod ({ cls := "ContractMachine$SetupParser", name := "guard", desc := "()LContractMachine$Comparison;" } : Jvm.MethodName)) ∈ lw_all := lw_g (lw_at lw_m6 47 rfl) rfl
theorem q1368 : (Jvm.Cond.code ({ cls := "ContractMachine$SetupParser", name := "guard", desc := "()LContractMachine$Comparison;" } : Jvm.MethodName) prog_36_method_5_code (1 : Nat) (Option.some (Jvm.ClassFile.FieldType.object "ContractMachine$Comparison"))) ∈ lw_all := lw_g (lw_at lw_m6 48 rfl) rfl
theorem q1369 : (Jvm.Cond.stringRef "ContractMachine$SetupParser" (76 : Nat) "when") ∈ lw_tbl := lw_at lw_m6 49 rfl
theorem q1370 : (Jvm.Cond.methodLink "ContractMachine$SetupParser" (78 : Nat) ({ cls := "ContractMachine$SetupParser", name := "isWord", desc := "(Ljava/lang/String;)Z" } : Jvm.MethodName)) ∈ lw_all := lw_g (lw_at lw_m6 50 rfl) rfl
theorem q1371 : (Jvm.Cond.sameMethod "ContractMachine$SetupParser" "ContractMachine$Parser" "isWord" "(Ljava/lang/String;)Z") ∈ lw_all := lw_g (lw_at lw_m6 51 rfl) rfl
theorem q1373 : (Jvm.Cond.selects "ContractMachine$SetupParser" ({ cls := "ContractMachine$SetupParser", name := "isWord", desc := "(Ljava/lang/String;)Z" } : Jvm.MethodName) ({ cls := "ContractMachine$Parser", name := "isWord", desc := "(Ljava/lang/String;)Z" } : Jvm.MethodName)) ∈ lw_all := lw_g (lw_at lw_m6 53 rfl) rfl
theorem q1374 : (Jvm.Cond.methodLink "ContractMachine$SetupParser" (82 : Nat) ({ cls := "ContractMachine$SetupParser", name := "comparison", desc := "()LContractMachine$Comparison;" } : Jvm.MethodName)) ∈ lw_all := lw_g (lw_at lw_m6 54 rfl) rfl
theorem q1375 : (Jvm.Cond.privateMethod ({ cls := "ContractMachine$SetupParser", name := "comparison", desc := "()LContractMachine$Comparison;" } : Jvm.MethodName)) ∈ lw_tbl := lw_at lw_m6 55 rfl
theorem q1376 : (Jvm.Cond.instanceMethod ({ cls := "ContractMachine$SetupParser", name := "comparison", desc := "()LContractMachine$Comparison;" } : Jvm.MethodName)) ∈ lw_all := lw_g (lw_at lw_m6 56 rfl) rfl
theorem q1377 : (Jvm.Cond.code ({ cls := "ContractMachine$SetupParser", name := "comparison", desc := "()LContractMachine$Comparison;" } : Jvm.MethodName) prog_36_method_4_code (3 : Nat) (Option.some (Jvm.ClassFile.FieldType.object "ContractMachine$Comparison"))) ∈ lw_all := lw_g (lw_at lw_m6 57 rfl) rfl
theorem q1378 : (Jvm.Cond.methodLink "ContractMachine$SetupParser" (67 : Nat) ({ cls := "ContractMachine$SetupParser", name := "operator", desc := "()LContractMachine$Operator;" } : Jvm.MethodName)) ∈ lw_all := lw_g (lw_at lw_m6 58 rfl) rfl
theorem q1379 : (Jvm.Cond.sameMethod "ContractMachine$SetupParser" "ContractMachine$Parser" "operator" "()LContractMachine$Operator;") ∈ lw_all := lw_g (lw_at lw_m6 59 rfl) rfl
theorem q1381 : (Jvm.Cond.selects "ContractMachine$SetupParser" ({ cls := "ContractMachine$SetupParser", name := "operator", desc := "()LContractMachine$Operator;" } : Jvm.MethodName) ({ cls := "ContractMachine$Parser", name := "operator", desc := "()LContractMachine$Operator;" } : Jvm.MethodName)) ∈ lw_all := lw_g (lw_at lw_m6 61 rfl) rfl
theorem q1384 : (Jvm.Cond.classLink "ContractMachine$SetupParser" (71 : Nat) "ContractMachine$Comparison") ∈ lw_all := lw_g (lw_at lw_m6 64 rfl) rfl
theorem q1385 : (Jvm.Cond.methodLink "ContractMachine$SetupParser" (73 : Nat) ({ cls := "ContractMachine$Comparison", name := "<init>", desc := "(ILContractMachine$Operator;I)V" } : Jvm.MethodName)) ∈ lw_all := lw_g (lw_at lw_m6 65 rfl) rfl
theorem q1386 : (Jvm.Cond.classLink "ContractMachine$SetupParser" (132 : Nat) "ContractMachine$Transition") ∈ lw_all := lw_g (lw_at lw_m6 66 rfl) rfl
theorem q1387 : (Jvm.Cond.methodLink "ContractMachine$SetupParser" (134 : Nat) ({ cls := "ContractMachine$SetupParser", name := "action", desc := "()LContractMachine$Action;" } : Jvm.MethodName)) ∈ lw_all := lw_g (lw_at lw_m6 67 rfl) rfl
theorem q1388 : (Jvm.Cond.privateMethod ({ cls := "ContractMachine$SetupParser", name := "action", desc := "()LContractMachine$Action;" } : Jvm.MethodName)) ∈ lw_tbl := lw_at lw_m6 68 rfl
theorem q1389 : (Jvm.Cond.instanceMethod ({ cls := "ContractMachine$SetupParser", name := "action", desc := "()LContractMachine$Action;" } : Jvm.MethodName)) ∈ lw_all := lw_g (lw_at lw_m6 69 rfl) rfl
theorem q1390 : (Jvm.Cond.code ({ cls := "ContractMachine$SetupParser", name := "action", desc := "()LContractMachine$Action;" } : Jvm.MethodName) prog_36_method_7_code (3 : Nat) (Option.some (Jvm.ClassFile.FieldType.object "ContractMachine$Action"))) ∈ lw_all := lw_g (lw_at lw_m6 70 rfl) rfl
theorem q1391 : (Jvm.Cond.stringRef "ContractMachine$SetupParser" (103 : Nat) "do") ∈ lw_tbl := lw_at lw_m6 71 rfl
theorem q1392 : (Jvm.Cond.methodLink "ContractMachine$SetupParser" (105 : Nat) ({ cls := "ContractMachine$SetupParser", name := "effect", desc := "()LContractMachine$Effect;" } : Jvm.MethodName)) ∈ lw_all := lw_g (lw_at lw_m6 72 rfl) rfl
theorem q1393 : (Jvm.Cond.privateMethod ({ cls := "ContractMachine$SetupParser", name := "effect", desc := "()LContractMachine$Effect;" } : Jvm.MethodName)) ∈ lw_tbl := lw_at lw_m6 73 rfl
theorem q1394 : (Jvm.Cond.instanceMethod ({ cls := "ContractMachine$SetupParser", name := "effect", desc := "()LContractMachine$Effect;" } : Jvm.MethodName)) ∈ lw_all := lw_g (lw_at lw_m6 74 rfl) rfl
theorem q1395 : (Jvm.Cond.code ({ cls := "ContractMachine$SetupParser", name := "effect", desc := "()LContractMachine$Effect;" } : Jvm.MethodName) prog_36_method_6_code (2 : Nat) (Option.some (Jvm.ClassFile.FieldType.object "ContractMachine$Effect"))) ∈ lw_all := lw_g (lw_at lw_m6 75 rfl) rfl
theorem q1396 : (Jvm.Cond.stringRef "ContractMachine$SetupParser" (86 : Nat) "add") ∈ lw_tbl := lw_at lw_m6 76 rfl
theorem q1397 : (Jvm.Cond.fieldLink "ContractMachine$SetupParser" (87 : Nat) "ContractMachine$Effect" "ADD" "LContractMachine$Effect;") ∈ lw_all := lw_g (lw_at lw_m6 77 rfl) rfl
theorem q1398 : (Jvm.Cond.stringRef "ContractMachine$SetupParser" (93 : Nat) "sub") ∈ lw_tbl := lw_at lw_m6 78 rfl
theorem q1399 : (Jvm.Cond.fieldLink "ContractMachine$SetupParser" (95 : Nat) "ContractMachine$Effect" "SUB" "LContractMachine$Effect;") ∈ lw_all := lw_g (lw_at lw_m6 79 rfl) rfl
theorem q1400 : (Jvm.Cond.fieldLink "ContractMachine$SetupParser" (98 : Nat) "ContractMachine$Effect" "SET" "LContractMachine$Effect;") ∈ lw_all := lw_g (lw_at lw_m6 80 rfl) rfl
theorem q1401 : (Jvm.Cond.stringRef "ContractMachine$SetupParser" (101 : Nat) "set") ∈ lw_tbl := lw_at lw_m6 81 rfl
theorem q1402 : (Jvm.Cond.classLink "ContractMachine$SetupParser" (109 : Nat) "ContractMachine$Action") ∈ lw_all := lw_g (lw_at lw_m6 82 rfl) rfl
theorem q1403 : (Jvm.Cond.methodLink "ContractMachine$SetupParser" (111 : Nat) ({ cls := "ContractMachine$Action", name := "<init>", desc := "(ILContractMachine$Effect;I)V" } : Jvm.MethodName)) ∈ lw_all := lw_g (lw_at lw_m6 83 rfl) rfl
theorem q1404 : (Jvm.Cond.methodLink "ContractMachine$SetupParser" (138 : Nat) ({ cls := "ContractMachine$Transition", name := "<init>", desc := "(IIILContractMachine$Comparison;LContractMachine$Action;)V" } : Jvm.MethodName)) ∈ lw_all := lw_g (lw_at lw_m6 84 rfl) rfl
theorem q1405 : (Jvm.Cond.methodLink "ContractMachine$SetupParser" (179 : Nat) ({ cls := "ContractMachine$SetupParser", name := "invariant", desc := "(Z)V" } : Jvm.MethodName)) ∈ lw_all := lw_g (lw_at lw_m6 85 rfl) rfl
theorem q1406 : (Jvm.Cond.privateMethod ({ cls := "ContractMachine$SetupParser", name := "invariant", desc := "(Z)V" } : Jvm.MethodName)) ∈ lw_tbl := lw_at lw_m6 86 rfl
theorem q1407 : (Jvm.Cond.instanceMethod ({ cls := "ContractMachine$SetupParser", name := "invariant", desc := "(Z)V" } : Jvm.MethodName)) ∈ lw_all := lw_g (lw_at lw_m6 87 rfl) rfl
theorem q1408 : (Jvm.Cond.code ({ cls := "ContractMachine$SetupParser", name := "invariant", desc := "(Z)V" } : Jvm.MethodName) prog_36_method_9_code (4 : Nat) (Option.none : Option Jvm.ClassFile.FieldType)) ∈ lw_all := lw_g (lw_at lw_m6 88 rfl) rfl
theorem q1409 : (Jvm.Cond.classLink "ContractMachine$SetupParser" (144 : Nat) "ContractMachine$Invariant") ∈ lw_all := lw_g (lw_at lw_m6 89 rfl) rfl
theorem q1410 : (Jvm.Cond.methodLink "ContractMachine$SetupParser" (146 : Nat) ({ cls := "ContractMachine$Invariant", name := "<init>", desc := "(ILContractMachine$Comparison;)V" } : Jvm.MethodName)) ∈ lw_all := lw_g (lw_at lw_m6 90 rfl) rfl
theorem q1411 : (Jvm.Cond.methodLink "ContractMachine$SetupParser" (183 : Nat) ({ cls := "ContractMachine$SetupParser", name := "endStatement", desc := "()V" } : Jvm.MethodName)) ∈ lw_all := lw_g (lw_at lw_m6 91 rfl) rfl
theorem q1412 : (Jvm.Cond.sameMethod "ContractMachine$SetupParser" "ContractMachine$Parser" "endStatement" "()V") ∈ lw_all := lw_g (lw_at lw_m6 92 rfl) rfl
theorem q1414 : (Jvm.Cond.selects "ContractMachine$SetupParser" ({ cls := "ContractMachine$SetupParser", name := "endStatement", desc := "()V" } : Jvm.MethodName) ({ cls := "ContractMachine$Parser", name := "endStatement", desc := "()V" } : Jvm.MethodName)) ∈ lw_all := lw_g (lw_at lw_m6 94 rfl) rfl
theorem q1417 : (Jvm.Cond.methodLink "ContractMachine$SetupParser" (197 : Nat) ({ cls := "ContractMachine$Definition", name := "isComplete", desc := "()Z" } : Jvm.MethodName)) ∈ lw_all := lw_g (lw_at lw_m6 97 rfl) rfl
theorem q1430 : (Jvm.Cond.methodLink "ContractMachine$SetupParser" (204 : Nat) ({ cls := "ContractMachine$Run", name := "broken", desc := "(I)I" } : Jvm.MethodName)) ∈ lw_all := lw_g (lw_at lw_m6 110 rfl) rfl
theorem q1472 : (Jvm.Cond.methodLink "ContractMachine$SetupParser" (211 : Nat) ({ cls := "ContractMachine$Run", name := "clear", desc := "()V" } : Jvm.MethodName)) ∈ lw_all := lw_g (lw_at lw_m6 152 rfl) rfl
theorem q3276 : (Jvm.Cond.selects "ContractMachine$SetupParser" ({ cls := "ContractMachine$Parser", name := "expect", desc := "(ZI)V" } : Jvm.MethodName) ({ cls := "ContractMachine$Parser", name := "expect", desc := "(ZI)V" } : Jvm.MethodName)) ∈ lw_all := lw_g (lw_at lw_m14 36 rfl) rfl
theorem q3309 : (Jvm.Cond.castable "ContractMachine$SetupParser" "java/lang/Object") ∈ lw_tbl := lw_at lw_m14 69 rfl
theorem in_X11 : ∀ w ∈ wsX110, w ∈ lw_all := lw_in wsX110 [1137, 1139, 1141, 1143, 1145, 1147, 1131, 1133, 1135] (by decide +kernel) (by decide +kernel)
/-! ContractMachine$ParseException -/
set_option maxRecDepth 100000
def RX12 : String := "ContractMachine$ParseException"
def TX12 : u_T := fun k => match k with
  | 0 => ("java/lang/Throwable", "cause", "Ljava/lang/Throwable;", false)
  | 1 => ("java/lang/Throwable", "stackTrace", "[Ljava/lang/StackTraceElement;", false)
  | 2 => ("java/lang/Throwable", "suppressedExceptions", "Ljava/util/List;", false)
  | 3 => ("java/lang/Throwable", "detailMessage", "Ljava/lang/String;", false)
  | 4 => ("java/lang/Throwable", "backtrace", "Ljava/lang/Object;", false)
  | 5 => ("java/lang/Throwable", "depth", "I", false)
  | 6 => ("ContractMachine$ParseException", "code", "I", true)
  | _ => ("ContractMachine$ParseException", "offset", "I", true)
def tyX12 : Nat → FieldType := fun k => match k with
  | 0 => .object "java/lang/Throwable"
  | 1 => .array (.object "java/lang/StackTraceElement")
  | 2 => .object "java/util/List"
  | 3 => .object "java/lang/String"
  | 4 => .object "java/lang/Object"
  | 5 => .int
  | 6 => .int
  | _ => .int
abbrev wsX120 : List Cond := u_ws RX12 TX12 8
theorem nmX12 : ∀ a, a < 8 → ∀ b, b < 8 → a ≠ b → (TX12 a).2.1 ≠ (TX12 b).2.1 := by decide +kernel
theorem tyX12_ok : ∀ k, k < 8 → parseFieldDescriptor (TX12 k).2.2.1 = some (tyX12 k) := by decide +kernel
abbrev cX12_init : ByteArray := prog_26_method_1_code
def yX12_init : MethodName := ⟨RX12, "<init>", "(II)V"⟩
def dkwX12_init_0 : List UInt8 := [42, 1, 1, 3, 3, 183, 0, 1, 42, 27, 181, 0, 7, 42, 28, 181, 0, 13, 177]
abbrev dktX12_init_0 : List UInt8 := dkwX12_init_0 ++ []
theorem dksX12_init_0 : cX12_init.data.toList.drop 0 = dktX12_init_0 := by decide +kernel
theorem dX12_init_0 : decode cX12_init 0 = .ok (.aload_n 0, 1) := dk_42 (dk_at dksX12_init_0 0 rfl rfl)
theorem dX12_init_1 : decode cX12_init 1 = .ok (.aconst_null, 1) := dk_1 (dk_at dksX12_init_0 1 rfl rfl)
theorem dX12_init_2 : decode cX12_init 2 = .ok (.aconst_null, 1) := dk_1 (dk_at dksX12_init_0 2 rfl rfl)
theorem dX12_init_3 : decode cX12_init 3 = .ok (.iconst 0, 1) := dk_3 (dk_at dksX12_init_0 3 rfl rfl)
theorem dX12_init_4 : decode cX12_init 4 = .ok (.iconst 0, 1) := dk_3 (dk_at dksX12_init_0 4 rfl rfl)
theorem dX12_init_5 : decode cX12_init 5 = .ok (.invokespecial 1, 3) := dk_183 0 1 (dk_at dksX12_init_0 5 rfl rfl)
theorem dX12_init_8 : decode cX12_init 8 = .ok (.aload_n 0, 1) := dk_42 (dk_at dksX12_init_0 8 rfl rfl)
theorem dX12_init_9 : decode cX12_init 9 = .ok (.iload_n 1, 1) := dk_27 (dk_at dksX12_init_0 9 rfl rfl)
theorem dX12_init_10 : decode cX12_init 10 = .ok (.putfield 7, 3) := dk_181 0 7 (dk_at dksX12_init_0 10 rfl rfl)
theorem dX12_init_13 : decode cX12_init 13 = .ok (.aload_n 0, 1) := dk_42 (dk_at dksX12_init_0 13 rfl rfl)
theorem dX12_init_14 : decode cX12_init 14 = .ok (.iload_n 2, 1) := dk_28 (dk_at dksX12_init_0 14 rfl rfl)
theorem dX12_init_15 : decode cX12_init 15 = .ok (.putfield 13, 3) := dk_181 0 13 (dk_at dksX12_init_0 15 rfl rfl)
theorem dX12_init_18 : decode cX12_init 18 = .ok (.return_, 1) := dk_177 (dk_at dksX12_init_0 18 rfl rfl)
theorem q159 : (Jvm.Cond.initialized "ContractMachine$ParseException") ∈ lw_all := lw_g (lw_at lw_m1 39 rfl) rfl
theorem q258 : (Jvm.Cond.selects "ContractMachine$ParseException" ({ cls := "java/lang/Throwable", name := "fillInStackTrace", desc := "()Ljava/lang/Throwable;" } : Jvm.MethodName) ({ cls := "java/lang/Throwable", name := "fillInStackTrace", desc := "()Ljava/lang/Throwable;" } : Jvm.MethodName)) ∈ lw_all := lw_g (lw_at lw_m1 138 rfl) rfl
theorem q720 : (Jvm.Cond.selects "ContractMachine$ParseException" ({ cls := "java/lang/Object", name := "getClass", desc := "()Ljava/lang/Class;" } : Jvm.MethodName) ({ cls := "java/lang/Object", name := "getClass", desc := "()Ljava/lang/Class;" } : Jvm.MethodName)) ∈ lw_all := lw_g (lw_at lw_m3 120 rfl) rfl
theorem q1254 : (Jvm.Cond.instantiable "ContractMachine$ParseException" (8 : Nat)) ∈ lw_all := lw_g (lw_at lw_m5 174 rfl) rfl
theorem q1255 : (Jvm.Cond.castable "ContractMachine$ParseException" "ContractMachine$ParseException") ∈ lw_tbl := lw_at lw_m5 175 rfl
theorem q1256 : (Jvm.Cond.selects "ContractMachine$ParseException" ({ cls := "java/lang/Throwable", name := "fillInStackTrace", desc := "(I)Ljava/lang/Throwable;" } : Jvm.MethodName) ({ cls := "java/lang/Throwable", name := "fillInStackTrace", desc := "(I)Ljava/lang/Throwable;" } : Jvm.MethodName)) ∈ lw_all := lw_g (lw_at lw_m5 176 rfl) rfl
theorem q1257 : (Jvm.Cond.lays "ContractMachine$ParseException" "java/lang/Throwable" "cause" "Ljava/lang/Throwable;") ∈ lw_all := lw_g (lw_at lw_m5 177 rfl) rfl
theorem q1258 : (Jvm.Cond.lays "ContractMachine$ParseException" "java/lang/Throwable" "stackTrace" "[Ljava/lang/StackTraceElement;") ∈ lw_all := lw_g (lw_at lw_m5 178 rfl) rfl
theorem q1259 : (Jvm.Cond.lays "ContractMachine$ParseException" "java/lang/Throwable" "suppressedExceptions" "Ljava/util/List;") ∈ lw_all := lw_g (lw_at lw_m5 179 rfl) rfl
theorem q1260 : (Jvm.Cond.lays "ContractMachine$ParseException" "java/lang/Throwable" "detailMessage" "Ljava/lang/String;") ∈ lw_all := lw_g (lw_at lw_m5 180 rfl) rfl
theorem q1261 : (Jvm.Cond.lays "ContractMachine$ParseException" "java/lang/Throwable" "backtrace" "Ljava/lang/Object;") ∈ lw_all := lw_g (lw_at lw_m5 181 rfl) rfl
theorem q1263 : (Jvm.Cond.instanceMethod ({ cls := "ContractMachine$ParseException", name := "<init>", desc := "(II)V" } : Jvm.MethodName)) ∈ lw_all := lw_g (lw_at lw_m5 183 rfl) rfl
theorem q1264 : (Jvm.Cond.code ({ cls := "ContractMachine$ParseException", name := "<init>", desc := "(II)V" } : Jvm.MethodName) prog_26_method_1_code (3 : Nat) (Option.none : Option Jvm.ClassFile.FieldType)) ∈ lw_all := lw_g (lw_at lw_m5 184 rfl) rfl
theorem q1265 : (Jvm.Cond.methodLink "ContractMachine$ParseException" (1 : Nat) ({ cls := "java/lang/Exception", name := "<init>", desc := "(Ljava/lang/String;Ljava/lang/Throwable;ZZ)V" } : Jvm.MethodName)) ∈ lw_all := lw_g (lw_at lw_m5 185 rfl) rfl
theorem q1271 : (Jvm.Cond.fieldLink "ContractMachine$ParseException" (7 : Nat) "ContractMachine$ParseException" "code" "I") ∈ lw_all := lw_g (lw_at lw_m5 191 rfl) rfl
theorem q1273 : (Jvm.Cond.fieldLink "ContractMachine$ParseException" (13 : Nat) "ContractMachine$ParseException" "offset" "I") ∈ lw_all := lw_g (lw_at lw_m5 193 rfl) rfl
theorem q1275 : (Jvm.Cond.laysFinal "ContractMachine$ParseException" "ContractMachine$ParseException" "code" "I") ∈ lw_all := lw_g (lw_at lw_m5 195 rfl) rfl
theorem q1276 : (Jvm.Cond.soleField "ContractMachine$ParseException" "code") ∈ lw_all := lw_g (lw_at lw_m5 196 rfl) rfl
theorem q1277 : (Jvm.Cond.laysFinal "ContractMachine$ParseException" "ContractMachine$ParseException" "offset" "I") ∈ lw_all := lw_g (lw_at lw_m5 197 rfl) rfl
theorem q1278 : (Jvm.Cond.soleField "ContractMachine$ParseException" "offset") ∈ lw_all := lw_g (lw_at lw_m5 198 rfl) rfl
theorem q1279 : (Jvm.Cond.lays "ContractMachine$ParseException" "java/lang/Throwable" "depth" "I") ∈ lw_all := lw_g (lw_at lw_m5 199 rfl) rfl
theorem q1280 : (Jvm.Cond.superclass "ContractMachine$ParseException" "java/lang/Exception") ∈ lw_all := lw_g (lw_at lw_m5 200 rfl) rfl
theorem q3314 : (Jvm.Cond.castable "ContractMachine$ParseException" "java/lang/Object") ∈ lw_tbl := lw_at lw_m14 74 rfl
theorem in_X12 : ∀ w ∈ wsX120, w ∈ lw_all := lw_in wsX120 [1257, 1258, 1259, 1260, 1261, 1279, 1275, 1277] (by decide +kernel) (by decide +kernel)
/-! ContractMachine$ScriptParser -/
set_option maxRecDepth 100000
def RX13 : String := "ContractMachine$ScriptParser"
def TX13 : u_T := fun k => match k with
  | 0 => ("ContractMachine$Parser", "start", "I", false)
  | 1 => ("ContractMachine$Parser", "next", "I", false)
  | 2 => ("ContractMachine$Parser", "value", "I", false)
  | 3 => ("ContractMachine$Parser", "word", "Ljava/lang/String;", false)
  | 4 => ("ContractMachine$Parser", "token", "LContractMachine$Token;", false)
  | 5 => ("ContractMachine$Parser", "this$0", "LContractMachine;", true)
  | 6 => ("ContractMachine$ScriptParser", "commands", "[LContractMachine$Command;", true)
  | 7 => ("ContractMachine$ScriptParser", "count", "I", false)
  | _ => ("ContractMachine$ScriptParser", "this$0", "LContractMachine;", true)
def tyX13 : Nat → FieldType := fun k => match k with
  | 0 => .int
  | 1 => .int
  | 2 => .int
  | 3 => .object "java/lang/String"
  | 4 => .object "ContractMachine$Token"
  | 5 => .object "ContractMachine"
  | 6 => .array (.object "ContractMachine$Command")
  | 7 => .int
  | _ => .object "ContractMachine"
abbrev wsX130 : List Cond := u_ws RX13 TX13 9
-- two fields of one name: no nmX13
theorem tyX13_ok : ∀ k, k < 9 → parseFieldDescriptor (TX13 k).2.2.1 = some (tyX13 k) := by decide +kernel
abbrev cX13_init : ByteArray := prog_30_method_1_code
def yX13_init : MethodName := ⟨RX13, "<init>", "(LContractMachine;)V"⟩
def dkwX13_init_0 : List UInt8 := [42, 43, 181, 0, 3, 42, 43, 183, 0, 9, 42, 16, 30, 189, 0, 15, 181, 0, 17, 177]
abbrev dktX13_init_0 : List UInt8 := dkwX13_init_0 ++ []
theorem dksX13_init_0 : cX13_init.data.toList.drop 0 = dktX13_init_0 := by decide +kernel
theorem dX13_init_0 : decode cX13_init 0 = .ok (.aload_n 0, 1) := dk_42 (dk_at dksX13_init_0 0 rfl rfl)
theorem dX13_init_1 : decode cX13_init 1 = .ok (.aload_n 1, 1) := dk_43 (dk_at dksX13_init_0 1 rfl rfl)
theorem dX13_init_2 : decode cX13_init 2 = .ok (.putfield 3, 3) := dk_181 0 3 (dk_at dksX13_init_0 2 rfl rfl)
theorem dX13_init_5 : decode cX13_init 5 = .ok (.aload_n 0, 1) := dk_42 (dk_at dksX13_init_0 5 rfl rfl)
theorem dX13_init_6 : decode cX13_init 6 = .ok (.aload_n 1, 1) := dk_43 (dk_at dksX13_init_0 6 rfl rfl)
theorem dX13_init_7 : decode cX13_init 7 = .ok (.invokespecial 9, 3) := dk_183 0 9 (dk_at dksX13_init_0 7 rfl rfl)
theorem dX13_init_10 : decode cX13_init 10 = .ok (.aload_n 0, 1) := dk_42 (dk_at dksX13_init_0 10 rfl rfl)
theorem dX13_init_11 : decode cX13_init 11 = .ok (.bipush 30, 2) := dk_16 30 (dk_at dksX13_init_0 11 rfl rfl)
theorem dX13_init_13 : decode cX13_init 13 = .ok (.anewarray 15, 3) := dk_189 0 15 (dk_at dksX13_init_0 13 rfl rfl)
theorem dX13_init_16 : decode cX13_init 16 = .ok (.putfield 17, 3) := dk_181 0 17 (dk_at dksX13_init_0 16 rfl rfl)
theorem dX13_init_19 : decode cX13_init 19 = .ok (.return_, 1) := dk_177 (dk_at dksX13_init_0 19 rfl rfl)
abbrev cX13_parse : ByteArray := prog_30_method_8_code
def yX13_parse : MethodName := ⟨RX13, "parse", "()LContractMachine$ScriptParser;"⟩
def dkwX13_parse_3 : List UInt8 := [182, 0, 118, 167, 255, 183, 42, 176]
abbrev dktX13_parse_3 : List UInt8 := dkwX13_parse_3 ++ []
def dkwX13_parse_2 : List UInt8 := [180, 0, 17, 42, 180, 0, 106, 42, 43, 182, 0, 114, 83, 42, 89, 180, 0, 106, 4, 96, 181, 0, 106, 42]
abbrev dktX13_parse_2 : List UInt8 := dkwX13_parse_2 ++ dktX13_parse_3
def dkwX13_parse_1 : List UInt8 := [180, 0, 106, 16, 30, 162, 0, 7, 4, 167, 0, 4, 3, 8, 182, 0, 102, 42, 182, 0, 110, 42]
abbrev dktX13_parse_1 : List UInt8 := dkwX13_parse_1 ++ dktX13_parse_2
def dkwX13_parse_0 : List UInt8 := [42, 182, 0, 90, 154, 0, 72, 42, 182, 0, 94, 76, 42, 42, 43, 182, 0, 98, 4, 182, 0, 102, 42, 42]
abbrev dktX13_parse_0 : List UInt8 := dkwX13_parse_0 ++ dktX13_parse_1
theorem dksX13_parse_0 : cX13_parse.data.toList.drop 0 = dktX13_parse_0 := by decide +kernel
theorem dksX13_parse_1 : cX13_parse.data.toList.drop 24 = dktX13_parse_1 := dk_seg dksX13_parse_0 24 rfl rfl
theorem dksX13_parse_2 : cX13_parse.data.toList.drop 46 = dktX13_parse_2 := dk_seg dksX13_parse_1 22 rfl rfl
theorem dksX13_parse_3 : cX13_parse.data.toList.drop 70 = dktX13_parse_3 := dk_seg dksX13_parse_2 24 rfl rfl
theorem dX13_parse_0 : decode cX13_parse 0 = .ok (.aload_n 0, 1) := dk_42 (dk_at dksX13_parse_0 0 rfl rfl)
theorem dX13_parse_1 : decode cX13_parse 1 = .ok (.invokevirtual 90, 3) := dk_182 0 90 (dk_at dksX13_parse_0 1 rfl rfl)
theorem dX13_parse_4 : decode cX13_parse 4 = .ok (.ifCond .ne 72, 3) := dk_154 0 72 (dk_at dksX13_parse_0 4 rfl rfl)
theorem dX13_parse_7 : decode cX13_parse 7 = .ok (.aload_n 0, 1) := dk_42 (dk_at dksX13_parse_0 7 rfl rfl)
theorem dX13_parse_8 : decode cX13_parse 8 = .ok (.invokevirtual 94, 3) := dk_182 0 94 (dk_at dksX13_parse_0 8 rfl rfl)
theorem dX13_parse_11 : decode cX13_parse 11 = .ok (.astore_n 1, 1) := dk_76 (dk_at dksX13_parse_0 11 rfl rfl)
theorem dX13_parse_12 : decode cX13_parse 12 = .ok (.aload_n 0, 1) := dk_42 (dk_at dksX13_parse_0 12 rfl rfl)
theorem dX13_parse_13 : decode cX13_parse 13 = .ok (.aload_n 0, 1) := dk_42 (dk_at dksX13_parse_0 13 rfl rfl)
theorem dX13_parse_14 : decode cX13_parse 14 = .ok (.aload_n 1, 1) := dk_43 (dk_at dksX13_parse_0 14 rfl rfl)
theorem dX13_parse_15 : decode cX13_parse 15 = .ok (.invokevirtual 98, 3) := dk_182 0 98 (dk_at dksX13_parse_0 15 rfl rfl)
theorem dX13_parse_18 : decode cX13_parse 18 = .ok (.iconst 1, 1) := dk_4 (dk_at dksX13_parse_0 18 rfl rfl)
theorem dX13_parse_19 : decode cX13_parse 19 = .ok (.invokevirtual 102, 3) := dk_182 0 102 (dk_at dksX13_parse_0 19 rfl rfl)
theorem dX13_parse_22 : decode cX13_parse 22 = .ok (.aload_n 0, 1) := dk_42 (dk_at dksX13_parse_0 22 rfl rfl)
theorem dX13_parse_23 : decode cX13_parse 23 = .ok (.aload_n 0, 1) := dk_42 (dk_at dksX13_parse_0 23 rfl rfl)
theorem dX13_parse_24 : decode cX13_parse 24 = .ok (.getfield 106, 3) := dk_180 0 106 (dk_at dksX13_parse_1 0 rfl rfl)
theorem dX13_parse_27 : decode cX13_parse 27 = .ok (.bipush 30, 2) := dk_16 30 (dk_at dksX13_parse_1 3 rfl rfl)
theorem dX13_parse_29 : decode cX13_parse 29 = .ok (.if_icmp .ge 7, 3) := dk_162 0 7 (dk_at dksX13_parse_1 5 rfl rfl)
theorem dX13_parse_32 : decode cX13_parse 32 = .ok (.iconst 1, 1) := dk_4 (dk_at dksX13_parse_1 8 rfl rfl)
theorem dX13_parse_33 : decode cX13_parse 33 = .ok (.goto 4, 3) := dk_167 0 4 (dk_at dksX13_parse_1 9 rfl rfl)
theorem dX13_parse_36 : decode cX13_parse 36 = .ok (.iconst 0, 1) := dk_3 (dk_at dksX13_parse_1 12 rfl rfl)
theorem dX13_parse_37 : decode cX13_parse 37 = .ok (.iconst 5, 1) := dk_8 (dk_at dksX13_parse_1 13 rfl rfl)
theorem dX13_parse_38 : decode cX13_parse 38 = .ok (.invokevirtual 102, 3) := dk_182 0 102 (dk_at dksX13_parse_1 14 rfl rfl)
theorem dX13_parse_41 : decode cX13_parse 41 = .ok (.aload_n 0, 1) := dk_42 (dk_at dksX13_parse_1 17 rfl rfl)
theorem dX13_parse_42 : decode cX13_parse 42 = .ok (.invokevirtual 110, 3) := dk_182 0 110 (dk_at dksX13_parse_1 18 rfl rfl)
theorem dX13_parse_45 : decode cX13_parse 45 = .ok (.aload_n 0, 1) := dk_42 (dk_at dksX13_parse_1 21 rfl rfl)
theorem dX13_parse_46 : decode cX13_parse 46 = .ok (.getfield 17, 3) := dk_180 0 17 (dk_at dksX13_parse_2 0 rfl rfl)
theorem dX13_parse_49 : decode cX13_parse 49 = .ok (.aload_n 0, 1) := dk_42 (dk_at dksX13_parse_2 3 rfl rfl)
theorem dX13_parse_50 : decode cX13_parse 50 = .ok (.getfield 106, 3) := dk_180 0 106 (dk_at dksX13_parse_2 4 rfl rfl)
theorem dX13_parse_53 : decode cX13_parse 53 = .ok (.aload_n 0, 1) := dk_42 (dk_at dksX13_parse_2 7 rfl rfl)
theorem dX13_parse_54 : decode cX13_parse 54 = .ok (.aload_n 1, 1) := dk_43 (dk_at dksX13_parse_2 8 rfl rfl)
theorem dX13_parse_55 : decode cX13_parse 55 = .ok (.invokevirtual 114, 3) := dk_182 0 114 (dk_at dksX13_parse_2 9 rfl rfl)
theorem dX13_parse_58 : decode cX13_parse 58 = .ok (.aastore, 1) := dk_83 (dk_at dksX13_parse_2 12 rfl rfl)
theorem dX13_parse_59 : decode cX13_parse 59 = .ok (.aload_n 0, 1) := dk_42 (dk_at dksX13_parse_2 13 rfl rfl)
theorem dX13_parse_60 : decode cX13_parse 60 = .ok (.dup, 1) := dk_89 (dk_at dksX13_parse_2 14 rfl rfl)
theorem dX13_parse_61 : decode cX13_parse 61 = .ok (.getfield 106, 3) := dk_180 0 106 (dk_at dksX13_parse_2 15 rfl rfl)
theorem dX13_parse_64 : decode cX13_parse 64 = .ok (.iconst 1, 1) := dk_4 (dk_at dksX13_parse_2 18 rfl rfl)
theorem dX13_parse_65 : decode cX13_parse 65 = .ok (.iadd, 1) := dk_96 (dk_at dksX13_parse_2 19 rfl rfl)
theorem dX13_parse_66 : decode cX13_parse 66 = .ok (.putfield 106, 3) := dk_181 0 106 (dk_at dksX13_parse_2 20 rfl rfl)
theorem dX13_parse_69 : decode cX13_parse 69 = .ok (.aload_n 0, 1) := dk_42 (dk_at dksX13_parse_2 23 rfl rfl)
theorem dX13_parse_70 : decode cX13_parse 70 = .ok (.invokevirtual 118, 3) := dk_182 0 118 (dk_at dksX13_parse_3 0 rfl rfl)
theorem dX13_parse_73 : decode cX13_parse 73 = .ok (.goto (-73), 3) := dk_167 255 183 (dk_at dksX13_parse_3 3 rfl rfl)
theorem dX13_parse_76 : decode cX13_parse 76 = .ok (.aload_n 0, 1) := dk_42 (dk_at dksX13_parse_3 6 rfl rfl)
theorem dX13_parse_77 : decode cX13_parse 77 = .ok (.areturn, 1) := dk_176 (dk_at dksX13_parse_3 7 rfl rfl)
abbrev cX13_isCommand : ByteArray := prog_30_method_6_code
def yX13_isCommand : MethodName := ⟨RX13, "isCommand", "(Ljava/lang/String;)Z"⟩
def dkwX13_isCommand_6 : List UInt8 := [4, 167, 0, 4, 3, 172]
abbrev dktX13_isCommand_6 : List UInt8 := dkwX13_isCommand_6 ++ []
def dkwX13_isCommand_5 : List UInt8 := [170, 0, 0, 0, 0, 34, 0, 0, 0, 0, 0, 0, 0, 3, 0, 0, 0, 30, 0, 0, 0, 30, 0, 0, 0, 30, 0, 0, 0, 30]
abbrev dktX13_isCommand_5 : List UInt8 := dkwX13_isCommand_5 ++ dktX13_isCommand_6
def dkwX13_isCommand_4 : List UInt8 := [153, 0, 5, 6, 62, 29]
abbrev dktX13_isCommand_4 : List UInt8 := dkwX13_isCommand_4 ++ dktX13_isCommand_5
def dkwX13_isCommand_3 : List UInt8 := [62, 167, 0, 28, 44, 18, 73, 182, 0, 67, 153, 0, 19, 5, 62, 167, 0, 14, 44, 18, 75, 182, 0, 67]
abbrev dktX13_isCommand_3 : List UInt8 := dkwX13_isCommand_3 ++ dktX13_isCommand_4
def dkwX13_isCommand_2 : List UInt8 := [44, 18, 65, 182, 0, 67, 153, 0, 47, 3, 62, 167, 0, 42, 44, 18, 71, 182, 0, 67, 153, 0, 33, 4]
abbrev dktX13_isCommand_2 : List UInt8 := dkwX13_isCommand_2 ++ dktX13_isCommand_3
def dkwX13_isCommand_1 : List UInt8 := [171, 0, 0, 0, 0, 0, 0, 97, 0, 0, 0, 4, 0, 1, 188, 98, 0, 0, 0, 58, 0, 47, 246, 54, 0, 0, 0, 44, 5, 165, 182, 77, 0, 0, 0, 86, 6, 118, 29, 79, 0, 0, 0, 72]
abbrev dktX13_isCommand_1 : List UInt8 := dkwX13_isCommand_1 ++ dktX13_isCommand_2
def dkwX13_isCommand_0 : List UInt8 := [43, 77, 2, 62, 44, 182, 0, 60]
abbrev dktX13_isCommand_0 : List UInt8 := dkwX13_isCommand_0 ++ dktX13_isCommand_1
theorem dksX13_isCommand_0 : cX13_isCommand.data.toList.drop 0 = dktX13_isCommand_0 := by decide +kernel
theorem dksX13_isCommand_1 : cX13_isCommand.data.toList.drop 8 = dktX13_isCommand_1 := dk_seg dksX13_isCommand_0 8 rfl rfl
theorem dksX13_isCommand_2 : cX13_isCommand.data.toList.drop 52 = dktX13_isCommand_2 := dk_seg dksX13_isCommand_1 44 rfl rfl
theorem dksX13_isCommand_3 : cX13_isCommand.data.toList.drop 76 = dktX13_isCommand_3 := dk_seg dksX13_isCommand_2 24 rfl rfl
theorem dksX13_isCommand_4 : cX13_isCommand.data.toList.drop 100 = dktX13_isCommand_4 := dk_seg dksX13_isCommand_3 24 rfl rfl
theorem dksX13_isCommand_5 : cX13_isCommand.data.toList.drop 106 = dktX13_isCommand_5 := dk_seg dksX13_isCommand_4 6 rfl rfl
theorem dksX13_isCommand_6 : cX13_isCommand.data.toList.drop 136 = dktX13_isCommand_6 := dk_seg dksX13_isCommand_5 30 rfl rfl
theorem dX13_isCommand_0 : decode cX13_isCommand 0 = .ok (.aload_n 1, 1) := dk_43 (dk_at dksX13_isCommand_0 0 rfl rfl)
theorem dX13_isCommand_1 : decode cX13_isCommand 1 = .ok (.astore_n 2, 1) := dk_77 (dk_at dksX13_isCommand_0 1 rfl rfl)
theorem dX13_isCommand_2 : decode cX13_isCommand 2 = .ok (.iconst (-1), 1) := dk_2 (dk_at dksX13_isCommand_0 2 rfl rfl)
theorem dX13_isCommand_3 : decode cX13_isCommand 3 = .ok (.istore_n 3, 1) := dk_62 (dk_at dksX13_isCommand_0 3 rfl rfl)
theorem dX13_isCommand_4 : decode cX13_isCommand 4 = .ok (.aload_n 2, 1) := dk_44 (dk_at dksX13_isCommand_0 4 rfl rfl)
theorem dX13_isCommand_5 : decode cX13_isCommand 5 = .ok (.invokevirtual 60, 3) := dk_182 0 60 (dk_at dksX13_isCommand_0 5 rfl rfl)
theorem dX13_isCommand_8 : decode cX13_isCommand 8 = .ok (.lookupswitch 97 #[(113762, 58), (3143222, 44), (94746189, 86), (108404047, 72)], 44) := by decide +kernel
theorem dX13_isCommand_52 : decode cX13_isCommand 52 = .ok (.aload_n 2, 1) := dk_44 (dk_at dksX13_isCommand_2 0 rfl rfl)
theorem dX13_isCommand_53 : decode cX13_isCommand 53 = .ok (.ldc 65, 2) := dk_18 65 (dk_at dksX13_isCommand_2 1 rfl rfl)
theorem dX13_isCommand_55 : decode cX13_isCommand 55 = .ok (.invokevirtual 67, 3) := dk_182 0 67 (dk_at dksX13_isCommand_2 3 rfl rfl)
theorem dX13_isCommand_58 : decode cX13_isCommand 58 = .ok (.ifCond .eq 47, 3) := dk_153 0 47 (dk_at dksX13_isCommand_2 6 rfl rfl)
theorem dX13_isCommand_61 : decode cX13_isCommand 61 = .ok (.iconst 0, 1) := dk_3 (dk_at dksX13_isCommand_2 9 rfl rfl)
theorem dX13_isCommand_62 : decode cX13_isCommand 62 = .ok (.istore_n 3, 1) := dk_62 (dk_at dksX13_isCommand_2 10 rfl rfl)
theorem dX13_isCommand_63 : decode cX13_isCommand 63 = .ok (.goto 42, 3) := dk_167 0 42 (dk_at dksX13_isCommand_2 11 rfl rfl)
theorem dX13_isCommand_66 : decode cX13_isCommand 66 = .ok (.aload_n 2, 1) := dk_44 (dk_at dksX13_isCommand_2 14 rfl rfl)
theorem dX13_isCommand_67 : decode cX13_isCommand 67 = .ok (.ldc 71, 2) := dk_18 71 (dk_at dksX13_isCommand_2 15 rfl rfl)
theorem dX13_isCommand_69 : decode cX13_isCommand 69 = .ok (.invokevirtual 67, 3) := dk_182 0 67 (dk_at dksX13_isCommand_2 17 rfl rfl)
theorem dX13_isCommand_72 : decode cX13_isCommand 72 = .ok (.ifCond .eq 33, 3) := dk_153 0 33 (dk_at dksX13_isCommand_2 20 rfl rfl)
theorem dX13_isCommand_75 : decode cX13_isCommand 75 = .ok (.iconst 1, 1) := dk_4 (dk_at dksX13_isCommand_2 23 rfl rfl)
theorem dX13_isCommand_76 : decode cX13_isCommand 76 = .ok (.istore_n 3, 1) := dk_62 (dk_at dksX13_isCommand_3 0 rfl rfl)
theorem dX13_isCommand_77 : decode cX13_isCommand 77 = .ok (.goto 28, 3) := dk_167 0 28 (dk_at dksX13_isCommand_3 1 rfl rfl)
theorem dX13_isCommand_80 : decode cX13_isCommand 80 = .ok (.aload_n 2, 1) := dk_44 (dk_at dksX13_isCommand_3 4 rfl rfl)
theorem dX13_isCommand_81 : decode cX13_isCommand 81 = .ok (.ldc 73, 2) := dk_18 73 (dk_at dksX13_isCommand_3 5 rfl rfl)
theorem dX13_isCommand_83 : decode cX13_isCommand 83 = .ok (.invokevirtual 67, 3) := dk_182 0 67 (dk_at dksX13_isCommand_3 7 rfl rfl)
theorem dX13_isCommand_86 : decode cX13_isCommand 86 = .ok (.ifCond .eq 19, 3) := dk_153 0 19 (dk_at dksX13_isCommand_3 10 rfl rfl)
theorem dX13_isCommand_89 : decode cX13_isCommand 89 = .ok (.iconst 2, 1) := dk_5 (dk_at dksX13_isCommand_3 13 rfl rfl)
theorem dX13_isCommand_90 : decode cX13_isCommand 90 = .ok (.istore_n 3, 1) := dk_62 (dk_at dksX13_isCommand_3 14 rfl rfl)
theorem dX13_isCommand_91 : decode cX13_isCommand 91 = .ok (.goto 14, 3) := dk_167 0 14 (dk_at dksX13_isCommand_3 15 rfl rfl)
theorem dX13_isCommand_94 : decode cX13_isCommand 94 = .ok (.aload_n 2, 1) := dk_44 (dk_at dksX13_isCommand_3 18 rfl rfl)
theorem dX13_isCommand_95 : decode cX13_isCommand 95 = .ok (.ldc 75, 2) := dk_18 75 (dk_at dksX13_isCommand_3 19 rfl rfl)
theorem dX13_isCommand_97 : decode cX13_isCommand 97 = .ok (.invokevirtual 67, 3) := dk_182 0 67 (dk_at dksX13_isCommand_3 21 rfl rfl)
theorem dX13_isCommand_100 : decode cX13_isCommand 100 = .ok (.ifCond .eq 5, 3) := dk_153 0 5 (dk_at dksX13_isCommand_4 0 rfl rfl)
theorem dX13_isCommand_103 : decode cX13_isCommand 103 = .ok (.iconst 3, 1) := dk_6 (dk_at dksX13_isCommand_4 3 rfl rfl)
theorem dX13_isCommand_104 : decode cX13_isCommand 104 = .ok (.istore_n 3, 1) := dk_62 (dk_at dksX13_isCommand_4 4 rfl rfl)
theorem dX13_isCommand_105 : decode cX13_isCommand 105 = .ok (.iload_n 3, 1) := dk_29 (dk_at dksX13_isCommand_4 5 rfl rfl)
theorem dX13_isCommand_106 : decode cX13_isCommand 106 = .ok (.tableswitch 34 0 3 #[30, 30, 30, 30], 30) := by decide +kernel
theorem dX13_isCommand_136 : decode cX13_isCommand 136 = .ok (.iconst 1, 1) := dk_4 (dk_at dksX13_isCommand_6 0 rfl rfl)
theorem dX13_isCommand_137 : decode cX13_isCommand 137 = .ok (.goto 4, 3) := dk_167 0 4 (dk_at dksX13_isCommand_6 1 rfl rfl)
theorem dX13_isCommand_140 : decode cX13_isCommand 140 = .ok (.iconst 0, 1) := dk_3 (dk_at dksX13_isCommand_6 4 rfl rfl)
theorem dX13_isCommand_141 : decode cX13_isCommand 141 = .ok (.ireturn, 1) := dk_172 (dk_at dksX13_isCommand_6 5 rfl rfl)
abbrev cX13_command : ByteArray := prog_30_method_7_code
def yX13_command : MethodName := ⟨RX13, "command", "(Ljava/lang/String;)LContractMachine$Command;"⟩
def dkwX13_command_6 : List UInt8 := [182, 0, 87, 176]
abbrev dktX13_command_6 : List UInt8 := dkwX13_command_6 ++ []
def dkwX13_command_5 : List UInt8 := [42, 182, 0, 77, 167, 0, 21, 42, 182, 0, 81, 167, 0, 14, 42, 182, 0, 84, 167, 0, 7, 42]
abbrev dktX13_command_5 : List UInt8 := dkwX13_command_5 ++ dktX13_command_6
def dkwX13_command_4 : List UInt8 := [170, 0, 0, 0, 0, 0, 0, 49, 0, 0, 0, 0, 0, 0, 0, 2, 0, 0, 0, 28, 0, 0, 0, 35, 0, 0, 0, 42]
abbrev dktX13_command_4 : List UInt8 := dkwX13_command_4 ++ dktX13_command_5
def dkwX13_command_3 : List UInt8 := [62, 167, 0, 14, 44, 18, 73, 182, 0, 67, 153, 0, 5, 5, 62, 29]
abbrev dktX13_command_3 : List UInt8 := dkwX13_command_3 ++ dktX13_command_4
def dkwX13_command_2 : List UInt8 := [44, 18, 65, 182, 0, 67, 153, 0, 33, 3, 62, 167, 0, 28, 44, 18, 71, 182, 0, 67, 153, 0, 19, 4]
abbrev dktX13_command_2 : List UInt8 := dkwX13_command_2 ++ dktX13_command_3
def dkwX13_command_1 : List UInt8 := [171, 0, 0, 0, 0, 0, 0, 75, 0, 0, 0, 3, 0, 1, 188, 98, 0, 0, 0, 50, 0, 47, 246, 54, 0, 0, 0, 36, 6, 118, 29, 79, 0, 0, 0, 64]
abbrev dktX13_command_1 : List UInt8 := dkwX13_command_1 ++ dktX13_command_2
def dkwX13_command_0 : List UInt8 := [43, 77, 2, 62, 44, 182, 0, 60]
abbrev dktX13_command_0 : List UInt8 := dkwX13_command_0 ++ dktX13_command_1
theorem dksX13_command_0 : cX13_command.data.toList.drop 0 = dktX13_command_0 := by decide +kernel
theorem dksX13_command_1 : cX13_command.data.toList.drop 8 = dktX13_command_1 := dk_seg dksX13_command_0 8 rfl rfl
theorem dksX13_command_2 : cX13_command.data.toList.drop 44 = dktX13_command_2 := dk_seg dksX13_command_1 36 rfl rfl
theorem dksX13_command_3 : cX13_command.data.toList.drop 68 = dktX13_command_3 := dk_seg dksX13_command_2 24 rfl rfl
theorem dksX13_command_4 : cX13_command.data.toList.drop 84 = dktX13_command_4 := dk_seg dksX13_command_3 16 rfl rfl
theorem dksX13_command_5 : cX13_command.data.toList.drop 112 = dktX13_command_5 := dk_seg dksX13_command_4 28 rfl rfl
theorem dksX13_command_6 : cX13_command.data.toList.drop 134 = dktX13_command_6 := dk_seg dksX13_command_5 22 rfl rfl
theorem dX13_command_0 : decode cX13_command 0 = .ok (.aload_n 1, 1) := dk_43 (dk_at dksX13_command_0 0 rfl rfl)
theorem dX13_command_1 : decode cX13_command 1 = .ok (.astore_n 2, 1) := dk_77 (dk_at dksX13_command_0 1 rfl rfl)
theorem dX13_command_2 : decode cX13_command 2 = .ok (.iconst (-1), 1) := dk_2 (dk_at dksX13_command_0 2 rfl rfl)
theorem dX13_command_3 : decode cX13_command 3 = .ok (.istore_n 3, 1) := dk_62 (dk_at dksX13_command_0 3 rfl rfl)
theorem dX13_command_4 : decode cX13_command 4 = .ok (.aload_n 2, 1) := dk_44 (dk_at dksX13_command_0 4 rfl rfl)
theorem dX13_command_5 : decode cX13_command 5 = .ok (.invokevirtual 60, 3) := dk_182 0 60 (dk_at dksX13_command_0 5 rfl rfl)
theorem dX13_command_8 : decode cX13_command 8 = .ok (.lookupswitch 75 #[(113762, 50), (3143222, 36), (108404047, 64)], 36) := by decide +kernel
theorem dX13_command_44 : decode cX13_command 44 = .ok (.aload_n 2, 1) := dk_44 (dk_at dksX13_command_2 0 rfl rfl)
theorem dX13_command_45 : decode cX13_command 45 = .ok (.ldc 65, 2) := dk_18 65 (dk_at dksX13_command_2 1 rfl rfl)
theorem dX13_command_47 : decode cX13_command 47 = .ok (.invokevirtual 67, 3) := dk_182 0 67 (dk_at dksX13_command_2 3 rfl rfl)
theorem dX13_command_50 : decode cX13_command 50 = .ok (.ifCond .eq 33, 3) := dk_153 0 33 (dk_at dksX13_command_2 6 rfl rfl)
theorem dX13_command_53 : decode cX13_command 53 = .ok (.iconst 0, 1) := dk_3 (dk_at dksX13_command_2 9 rfl rfl)
theorem dX13_command_54 : decode cX13_command 54 = .ok (.istore_n 3, 1) := dk_62 (dk_at dksX13_command_2 10 rfl rfl)
theorem dX13_command_55 : decode cX13_command 55 = .ok (.goto 28, 3) := dk_167 0 28 (dk_at dksX13_command_2 11 rfl rfl)
theorem dX13_command_58 : decode cX13_command 58 = .ok (.aload_n 2, 1) := dk_44 (dk_at dksX13_command_2 14 rfl rfl)
theorem dX13_command_59 : decode cX13_command 59 = .ok (.ldc 71, 2) := dk_18 71 (dk_at dksX13_command_2 15 rfl rfl)
theorem dX13_command_61 : decode cX13_command 61 = .ok (.invokevirtual 67, 3) := dk_182 0 67 (dk_at dksX13_command_2 17 rfl rfl)
theorem dX13_command_64 : decode cX13_command 64 = .ok (.ifCond .eq 19, 3) := dk_153 0 19 (dk_at dksX13_command_2 20 rfl rfl)
theorem dX13_command_67 : decode cX13_command 67 = .ok (.iconst 1, 1) := dk_4 (dk_at dksX13_command_2 23 rfl rfl)
theorem dX13_command_68 : decode cX13_command 68 = .ok (.istore_n 3, 1) := dk_62 (dk_at dksX13_command_3 0 rfl rfl)
theorem dX13_command_69 : decode cX13_command 69 = .ok (.goto 14, 3) := dk_167 0 14 (dk_at dksX13_command_3 1 rfl rfl)
theorem dX13_command_72 : decode cX13_command 72 = .ok (.aload_n 2, 1) := dk_44 (dk_at dksX13_command_3 4 rfl rfl)
theorem dX13_command_73 : decode cX13_command 73 = .ok (.ldc 73, 2) := dk_18 73 (dk_at dksX13_command_3 5 rfl rfl)
theorem dX13_command_75 : decode cX13_command 75 = .ok (.invokevirtual 67, 3) := dk_182 0 67 (dk_at dksX13_command_3 7 rfl rfl)
theorem dX13_command_78 : decode cX13_command 78 = .ok (.ifCond .eq 5, 3) := dk_153 0 5 (dk_at dksX13_command_3 10 rfl rfl)
theorem dX13_command_81 : decode cX13_command 81 = .ok (.iconst 2, 1) := dk_5 (dk_at dksX13_command_3 13 rfl rfl)
theorem dX13_command_82 : decode cX13_command 82 = .ok (.istore_n 3, 1) := dk_62 (dk_at dksX13_command_3 14 rfl rfl)
theorem dX13_command_83 : decode cX13_command 83 = .ok (.iload_n 3, 1) := dk_29 (dk_at dksX13_command_3 15 rfl rfl)
theorem dX13_command_84 : decode cX13_command 84 = .ok (.tableswitch 49 0 2 #[28, 35, 42], 28) := by decide +kernel
theorem dX13_command_112 : decode cX13_command 112 = .ok (.aload_n 0, 1) := dk_42 (dk_at dksX13_command_5 0 rfl rfl)
theorem dX13_command_113 : decode cX13_command 113 = .ok (.invokevirtual 77, 3) := dk_182 0 77 (dk_at dksX13_command_5 1 rfl rfl)
theorem dX13_command_116 : decode cX13_command 116 = .ok (.goto 21, 3) := dk_167 0 21 (dk_at dksX13_command_5 4 rfl rfl)
theorem dX13_command_119 : decode cX13_command 119 = .ok (.aload_n 0, 1) := dk_42 (dk_at dksX13_command_5 7 rfl rfl)
theorem dX13_command_120 : decode cX13_command 120 = .ok (.invokevirtual 81, 3) := dk_182 0 81 (dk_at dksX13_command_5 8 rfl rfl)
theorem dX13_command_123 : decode cX13_command 123 = .ok (.goto 14, 3) := dk_167 0 14 (dk_at dksX13_command_5 11 rfl rfl)
theorem dX13_command_126 : decode cX13_command 126 = .ok (.aload_n 0, 1) := dk_42 (dk_at dksX13_command_5 14 rfl rfl)
theorem dX13_command_127 : decode cX13_command 127 = .ok (.invokevirtual 84, 3) := dk_182 0 84 (dk_at dksX13_command_5 15 rfl rfl)
theorem dX13_command_130 : decode cX13_command 130 = .ok (.goto 7, 3) := dk_167 0 7 (dk_at dksX13_command_5 18 rfl rfl)
theorem dX13_command_133 : decode cX13_command 133 = .ok (.aload_n 0, 1) := dk_42 (dk_at dksX13_command_5 21 rfl rfl)
theorem dX13_command_134 : decode cX13_command 134 = .ok (.invokevirtual 87, 3) := dk_182 0 87 (dk_at dksX13_command_6 0 rfl rfl)
theorem dX13_command_137 : decode cX13_command 137 = .ok (.areturn, 1) := dk_176 (dk_at dksX13_command_6 3 rfl rfl)
abbrev cX13_firing : ByteArray := prog_30_method_2_code
def yX13_firing : MethodName := ⟨RX13, "firing", "()LContractMachine$Command;"⟩
def dkwX13_firing_1 : List UInt8 := [176]
abbrev dktX13_firing_1 : List UInt8 := dkwX13_firing_1 ++ []
def dkwX13_firing_0 : List UInt8 := [42, 42, 180, 0, 3, 180, 0, 21, 180, 0, 25, 182, 0, 31, 60, 187, 0, 35, 89, 42, 27, 183, 0, 37]
abbrev dktX13_firing_0 : List UInt8 := dkwX13_firing_0 ++ dktX13_firing_1
theorem dksX13_firing_0 : cX13_firing.data.toList.drop 0 = dktX13_firing_0 := by decide +kernel
theorem dksX13_firing_1 : cX13_firing.data.toList.drop 24 = dktX13_firing_1 := dk_seg dksX13_firing_0 24 rfl rfl
theorem dX13_firing_0 : decode cX13_firing 0 = .ok (.aload_n 0, 1) := dk_42 (dk_at dksX13_firing_0 0 rfl rfl)
theorem dX13_firing_1 : decode cX13_firing 1 = .ok (.aload_n 0, 1) := dk_42 (dk_at dksX13_firing_0 1 rfl rfl)
theorem dX13_firing_2 : decode cX13_firing 2 = .ok (.getfield 3, 3) := dk_180 0 3 (dk_at dksX13_firing_0 2 rfl rfl)
theorem dX13_firing_5 : decode cX13_firing 5 = .ok (.getfield 21, 3) := dk_180 0 21 (dk_at dksX13_firing_0 5 rfl rfl)
theorem dX13_firing_8 : decode cX13_firing 8 = .ok (.getfield 25, 3) := dk_180 0 25 (dk_at dksX13_firing_0 8 rfl rfl)
theorem dX13_firing_11 : decode cX13_firing 11 = .ok (.invokevirtual 31, 3) := dk_182 0 31 (dk_at dksX13_firing_0 11 rfl rfl)
theorem dX13_firing_14 : decode cX13_firing 14 = .ok (.istore_n 1, 1) := dk_60 (dk_at dksX13_firing_0 14 rfl rfl)
theorem dX13_firing_15 : decode cX13_firing 15 = .ok (.new 35, 3) := dk_187 0 35 (dk_at dksX13_firing_0 15 rfl rfl)
theorem dX13_firing_18 : decode cX13_firing 18 = .ok (.dup, 1) := dk_89 (dk_at dksX13_firing_0 18 rfl rfl)
theorem dX13_firing_19 : decode cX13_firing 19 = .ok (.aload_n 0, 1) := dk_42 (dk_at dksX13_firing_0 19 rfl rfl)
theorem dX13_firing_20 : decode cX13_firing 20 = .ok (.iload_n 1, 1) := dk_27 (dk_at dksX13_firing_0 20 rfl rfl)
theorem dX13_firing_21 : decode cX13_firing 21 = .ok (.invokespecial 37, 3) := dk_183 0 37 (dk_at dksX13_firing_0 21 rfl rfl)
theorem dX13_firing_24 : decode cX13_firing 24 = .ok (.areturn, 1) := dk_176 (dk_at dksX13_firing_1 0 rfl rfl)
abbrev cX13_setting : ByteArray := prog_30_method_3_code
def yX13_setting : MethodName := ⟨RX13, "setting", "()LContractMachine$Command;"⟩
def dkwX13_setting_1 : List UInt8 := [42, 27, 28, 183, 0, 49, 176]
abbrev dktX13_setting_1 : List UInt8 := dkwX13_setting_1 ++ []
def dkwX13_setting_0 : List UInt8 := [42, 42, 180, 0, 3, 180, 0, 21, 180, 0, 40, 182, 0, 31, 60, 42, 182, 0, 43, 61, 187, 0, 47, 89]
abbrev dktX13_setting_0 : List UInt8 := dkwX13_setting_0 ++ dktX13_setting_1
theorem dksX13_setting_0 : cX13_setting.data.toList.drop 0 = dktX13_setting_0 := by decide +kernel
theorem dksX13_setting_1 : cX13_setting.data.toList.drop 24 = dktX13_setting_1 := dk_seg dksX13_setting_0 24 rfl rfl
theorem dX13_setting_0 : decode cX13_setting 0 = .ok (.aload_n 0, 1) := dk_42 (dk_at dksX13_setting_0 0 rfl rfl)
theorem dX13_setting_1 : decode cX13_setting 1 = .ok (.aload_n 0, 1) := dk_42 (dk_at dksX13_setting_0 1 rfl rfl)
theorem dX13_setting_2 : decode cX13_setting 2 = .ok (.getfield 3, 3) := dk_180 0 3 (dk_at dksX13_setting_0 2 rfl rfl)
theorem dX13_setting_5 : decode cX13_setting 5 = .ok (.getfield 21, 3) := dk_180 0 21 (dk_at dksX13_setting_0 5 rfl rfl)
theorem dX13_setting_8 : decode cX13_setting 8 = .ok (.getfield 40, 3) := dk_180 0 40 (dk_at dksX13_setting_0 8 rfl rfl)
theorem dX13_setting_11 : decode cX13_setting 11 = .ok (.invokevirtual 31, 3) := dk_182 0 31 (dk_at dksX13_setting_0 11 rfl rfl)
theorem dX13_setting_14 : decode cX13_setting 14 = .ok (.istore_n 1, 1) := dk_60 (dk_at dksX13_setting_0 14 rfl rfl)
theorem dX13_setting_15 : decode cX13_setting 15 = .ok (.aload_n 0, 1) := dk_42 (dk_at dksX13_setting_0 15 rfl rfl)
theorem dX13_setting_16 : decode cX13_setting 16 = .ok (.invokevirtual 43, 3) := dk_182 0 43 (dk_at dksX13_setting_0 16 rfl rfl)
theorem dX13_setting_19 : decode cX13_setting 19 = .ok (.istore_n 2, 1) := dk_61 (dk_at dksX13_setting_0 19 rfl rfl)
theorem dX13_setting_20 : decode cX13_setting 20 = .ok (.new 47, 3) := dk_187 0 47 (dk_at dksX13_setting_0 20 rfl rfl)
theorem dX13_setting_23 : decode cX13_setting 23 = .ok (.dup, 1) := dk_89 (dk_at dksX13_setting_0 23 rfl rfl)
theorem dX13_setting_24 : decode cX13_setting 24 = .ok (.aload_n 0, 1) := dk_42 (dk_at dksX13_setting_1 0 rfl rfl)
theorem dX13_setting_25 : decode cX13_setting 25 = .ok (.iload_n 1, 1) := dk_27 (dk_at dksX13_setting_1 1 rfl rfl)
theorem dX13_setting_26 : decode cX13_setting 26 = .ok (.iload_n 2, 1) := dk_28 (dk_at dksX13_setting_1 2 rfl rfl)
theorem dX13_setting_27 : decode cX13_setting 27 = .ok (.invokespecial 49, 3) := dk_183 0 49 (dk_at dksX13_setting_1 3 rfl rfl)
theorem dX13_setting_30 : decode cX13_setting 30 = .ok (.areturn, 1) := dk_176 (dk_at dksX13_setting_1 6 rfl rfl)
abbrev cX13_resetting : ByteArray := prog_30_method_4_code
def yX13_resetting : MethodName := ⟨RX13, "resetting", "()LContractMachine$Command;"⟩
def dkwX13_resetting_0 : List UInt8 := [187, 0, 52, 89, 42, 183, 0, 54, 176]
abbrev dktX13_resetting_0 : List UInt8 := dkwX13_resetting_0 ++ []
theorem dksX13_resetting_0 : cX13_resetting.data.toList.drop 0 = dktX13_resetting_0 := by decide +kernel
theorem dX13_resetting_0 : decode cX13_resetting 0 = .ok (.new 52, 3) := dk_187 0 52 (dk_at dksX13_resetting_0 0 rfl rfl)
theorem dX13_resetting_3 : decode cX13_resetting 3 = .ok (.dup, 1) := dk_89 (dk_at dksX13_resetting_0 3 rfl rfl)
theorem dX13_resetting_4 : decode cX13_resetting 4 = .ok (.aload_n 0, 1) := dk_42 (dk_at dksX13_resetting_0 4 rfl rfl)
theorem dX13_resetting_5 : decode cX13_resetting 5 = .ok (.invokespecial 54, 3) := dk_183 0 54 (dk_at dksX13_resetting_0 5 rfl rfl)
theorem dX13_resetting_8 : decode cX13_resetting 8 = .ok (.areturn, 1) := dk_176 (dk_at dksX13_resetting_0 8 rfl rfl)
abbrev cX13_clearing : ByteArray := prog_30_method_5_code
def yX13_clearing : MethodName := ⟨RX13, "clearing", "()LContractMachine$Command;"⟩
def dkwX13_clearing_0 : List UInt8 := [187, 0, 57, 89, 42, 183, 0, 59, 176]
abbrev dktX13_clearing_0 : List UInt8 := dkwX13_clearing_0 ++ []
theorem dksX13_clearing_0 : cX13_clearing.data.toList.drop 0 = dktX13_clearing_0 := by decide +kernel
theorem dX13_clearing_0 : decode cX13_clearing 0 = .ok (.new 57, 3) := dk_187 0 57 (dk_at dksX13_clearing_0 0 rfl rfl)
theorem dX13_clearing_3 : decode cX13_clearing 3 = .ok (.dup, 1) := dk_89 (dk_at dksX13_clearing_0 3 rfl rfl)
theorem dX13_clearing_4 : decode cX13_clearing 4 = .ok (.aload_n 0, 1) := dk_42 (dk_at dksX13_clearing_0 4 rfl rfl)
theorem dX13_clearing_5 : decode cX13_clearing 5 = .ok (.invokespecial 59, 3) := dk_183 0 59 (dk_at dksX13_clearing_0 5 rfl rfl)
theorem dX13_clearing_8 : decode cX13_clearing 8 = .ok (.areturn, 1) := dk_176 (dk_at dksX13_clearing_0 8 rfl rfl)
theorem q161 : (Jvm.Cond.initialized "ContractMachine$ScriptParser") ∈ lw_all := lw_g (lw_at lw_m1 41 rfl) rfl
theorem q562 : (Jvm.Cond.fieldLinkNest "ContractMachine$ScriptParser" (25 : Nat) "ContractMachine$Definition" "events" "Ljava/util/List;" "ContractMachine") ∈ lw_tbl := lw_at lw_m2 202 rfl
theorem q568 : (Jvm.Cond.fieldLinkNest "ContractMachine$ScriptParser" (40 : Nat) "ContractMachine$Definition" "variables" "Ljava/util/List;" "ContractMachine") ∈ lw_tbl := lw_at lw_m2 208 rfl
theorem q723 : (Jvm.Cond.selects "ContractMachine$ScriptParser" ({ cls := "java/lang/Object", name := "getClass", desc := "()Ljava/lang/Class;" } : Jvm.MethodName) ({ cls := "java/lang/Object", name := "getClass", desc := "()Ljava/lang/Class;" } : Jvm.MethodName)) ∈ lw_all := lw_g (lw_at lw_m3 123 rfl) rfl
theorem q890 : (Jvm.Cond.fieldLinkNest "ContractMachine$ScriptParser" (21 : Nat) "ContractMachine" "definition" "LContractMachine$Definition;" "ContractMachine") ∈ lw_tbl := lw_at lw_m4 50 rfl
theorem q978 : (Jvm.Cond.selects "ContractMachine$ScriptParser" ({ cls := "ContractMachine$Parser", name := "advance", desc := "()V" } : Jvm.MethodName) ({ cls := "ContractMachine$Parser", name := "advance", desc := "()V" } : Jvm.MethodName)) ∈ lw_all := lw_g (lw_at lw_m4 138 rfl) rfl
theorem q1294 : (Jvm.Cond.selects "ContractMachine$ScriptParser" ({ cls := "ContractMachine$Parser", name := "name", desc := "()Ljava/lang/String;" } : Jvm.MethodName) ({ cls := "ContractMachine$Parser", name := "name", desc := "()Ljava/lang/String;" } : Jvm.MethodName)) ∈ lw_all := lw_g (lw_at lw_m5 214 rfl) rfl
theorem q1337 : (Jvm.Cond.selects "ContractMachine$ScriptParser" ({ cls := "ContractMachine$Parser", name := "number", desc := "(II)I" } : Jvm.MethodName) ({ cls := "ContractMachine$Parser", name := "number", desc := "(II)I" } : Jvm.MethodName)) ∈ lw_all := lw_g (lw_at lw_m6 17 rfl) rfl
theorem q1361 : (Jvm.Cond.selects "ContractMachine$ScriptParser" ({ cls := "ContractMachine$Parser", name := "isWord", desc := "(Ljava/lang/String;)Z" } : Jvm.MethodName) ({ cls := "ContractMachine$Parser", name := "isWord", desc := "(Ljava/lang/String;)Z" } : Jvm.MethodName)) ∈ lw_all := lw_g (lw_at lw_m6 41 rfl) rfl
theorem q1491 : (Jvm.Cond.instantiable "ContractMachine$ScriptParser" (9 : Nat)) ∈ lw_all := lw_g (lw_at lw_m6 171 rfl) rfl
theorem q1493 : (Jvm.Cond.instanceMethod ({ cls := "ContractMachine$ScriptParser", name := "<init>", desc := "(LContractMachine;)V" } : Jvm.MethodName)) ∈ lw_all := lw_g (lw_at lw_m6 173 rfl) rfl
theorem q1494 : (Jvm.Cond.code ({ cls := "ContractMachine$ScriptParser", name := "<init>", desc := "(LContractMachine;)V" } : Jvm.MethodName) prog_30_method_1_code (2 : Nat) (Option.none : Option Jvm.ClassFile.FieldType)) ∈ lw_all := lw_g (lw_at lw_m6 174 rfl) rfl
theorem q1495 : (Jvm.Cond.methodLink "ContractMachine$ScriptParser" (9 : Nat) ({ cls := "ContractMachine$Parser", name := "<init>", desc := "(LContractMachine;)V" } : Jvm.MethodName)) ∈ lw_all := lw_g (lw_at lw_m6 175 rfl) rfl
theorem q1496 : (Jvm.Cond.classLink "ContractMachine$ScriptParser" (15 : Nat) "ContractMachine$Command") ∈ lw_all := lw_g (lw_at lw_m6 176 rfl) rfl
theorem q1498 : (Jvm.Cond.fieldLink "ContractMachine$ScriptParser" (17 : Nat) "ContractMachine$ScriptParser" "commands" "[LContractMachine$Command;") ∈ lw_all := lw_g (lw_at lw_m6 178 rfl) rfl
theorem q1500 : (Jvm.Cond.fieldLink "ContractMachine$ScriptParser" (106 : Nat) "ContractMachine$ScriptParser" "count" "I") ∈ lw_all := lw_g (lw_at lw_m6 180 rfl) rfl
theorem q1502 : (Jvm.Cond.fieldLink "ContractMachine$ScriptParser" (3 : Nat) "ContractMachine$ScriptParser" "this$0" "LContractMachine;") ∈ lw_all := lw_g (lw_at lw_m6 182 rfl) rfl
theorem q1507 : (Jvm.Cond.laysFinal "ContractMachine$ScriptParser" "ContractMachine$ScriptParser" "commands" "[LContractMachine$Command;") ∈ lw_all := lw_g (lw_at lw_m6 187 rfl) rfl
theorem q1508 : (Jvm.Cond.soleField "ContractMachine$ScriptParser" "commands") ∈ lw_all := lw_g (lw_at lw_m6 188 rfl) rfl
theorem q1509 : (Jvm.Cond.lays "ContractMachine$ScriptParser" "ContractMachine$ScriptParser" "count" "I") ∈ lw_all := lw_g (lw_at lw_m6 189 rfl) rfl
theorem q1510 : (Jvm.Cond.soleField "ContractMachine$ScriptParser" "count") ∈ lw_all := lw_g (lw_at lw_m6 190 rfl) rfl
theorem q1511 : (Jvm.Cond.laysFinal "ContractMachine$ScriptParser" "ContractMachine$ScriptParser" "this$0" "LContractMachine;") ∈ lw_all := lw_g (lw_at lw_m6 191 rfl) rfl
theorem q1512 : (Jvm.Cond.soleField "ContractMachine$ScriptParser" "this$0") ∈ lw_all := lw_g (lw_at lw_m6 192 rfl) rfl
theorem q1513 : (Jvm.Cond.lays "ContractMachine$ScriptParser" "ContractMachine$Parser" "start" "I") ∈ lw_all := lw_g (lw_at lw_m6 193 rfl) rfl
theorem q1514 : (Jvm.Cond.lays "ContractMachine$ScriptParser" "ContractMachine$Parser" "next" "I") ∈ lw_all := lw_g (lw_at lw_m6 194 rfl) rfl
theorem q1515 : (Jvm.Cond.lays "ContractMachine$ScriptParser" "ContractMachine$Parser" "value" "I") ∈ lw_all := lw_g (lw_at lw_m6 195 rfl) rfl
theorem q1516 : (Jvm.Cond.lays "ContractMachine$ScriptParser" "ContractMachine$Parser" "word" "Ljava/lang/String;") ∈ lw_all := lw_g (lw_at lw_m6 196 rfl) rfl
theorem q1517 : (Jvm.Cond.lays "ContractMachine$ScriptParser" "ContractMachine$Parser" "token" "LContractMachine$Token;") ∈ lw_all := lw_g (lw_at lw_m6 197 rfl) rfl
theorem q1518 : (Jvm.Cond.laysFinal "ContractMachine$ScriptParser" "ContractMachine$Parser" "this$0" "LContractMachine;") ∈ lw_all := lw_g (lw_at lw_m6 198 rfl) rfl
theorem q1519 : (Jvm.Cond.superclass "ContractMachine$ScriptParser" "ContractMachine$Parser") ∈ lw_all := lw_g (lw_at lw_m6 199 rfl) rfl
theorem q1521 : (Jvm.Cond.instanceMethod ({ cls := "ContractMachine$ScriptParser", name := "parse", desc := "()LContractMachine$ScriptParser;" } : Jvm.MethodName)) ∈ lw_all := lw_g (lw_at lw_m6 201 rfl) rfl
theorem q1522 : (Jvm.Cond.selects "ContractMachine$ScriptParser" ({ cls := "ContractMachine$ScriptParser", name := "parse", desc := "()LContractMachine$ScriptParser;" } : Jvm.MethodName) ({ cls := "ContractMachine$ScriptParser", name := "parse", desc := "()LContractMachine$ScriptParser;" } : Jvm.MethodName)) ∈ lw_all := lw_g (lw_at lw_m6 202 rfl) rfl
theorem q1523 : (Jvm.Cond.code ({ cls := "ContractMachine$ScriptParser", name := "parse", desc := "()LContractMachine$ScriptParser;" } : Jvm.MethodName) prog_30_method_8_code (2 : Nat) (Option.some (Jvm.ClassFile.FieldType.object "ContractMachine$ScriptParser"))) ∈ lw_all := lw_g (lw_at lw_m6 203 rfl) rfl
theorem q1524 : (Jvm.Cond.methodLink "ContractMachine$ScriptParser" (90 : Nat) ({ cls := "ContractMachine$ScriptParser", name := "isOver", desc := "()Z" } : Jvm.MethodName)) ∈ lw_all := lw_g (lw_at lw_m6 204 rfl) rfl
theorem q1525 : (Jvm.Cond.sameMethod "ContractMachine$ScriptParser" "ContractMachine$Parser" "isOver" "()Z") ∈ lw_all := lw_g (lw_at lw_m6 205 rfl) rfl
theorem q1526 : (Jvm.Cond.selects "ContractMachine$ScriptParser" ({ cls := "ContractMachine$ScriptParser", name := "isOver", desc := "()Z" } : Jvm.MethodName) ({ cls := "ContractMachine$Parser", name := "isOver", desc := "()Z" } : Jvm.MethodName)) ∈ lw_all := lw_g (lw_at lw_m6 206 rfl) rfl
theorem q1527 : (Jvm.Cond.methodLink "ContractMachine$ScriptParser" (94 : Nat) ({ cls := "ContractMachine$ScriptParser", name := "word", desc := "()Ljava/lang/String;" } : Jvm.MethodName)) ∈ lw_all := lw_g (lw_at lw_m6 207 rfl) rfl
theorem q1528 : (Jvm.Cond.sameMethod "ContractMachine$ScriptParser" "ContractMachine$Parser" "word" "()Ljava/lang/String;") ∈ lw_all := lw_g (lw_at lw_m6 208 rfl) rfl
theorem q1529 : (Jvm.Cond.selects "ContractMachine$ScriptParser" ({ cls := "ContractMachine$ScriptParser", name := "word", desc := "()Ljava/lang/String;" } : Jvm.MethodName) ({ cls := "ContractMachine$Parser", name := "word", desc := "()Ljava/lang/String;" } : Jvm.MethodName)) ∈ lw_all := lw_g (lw_at lw_m6 209 rfl) rfl
theorem q1530 : (Jvm.Cond.methodLink "ContractMachine$ScriptParser" (98 : Nat) ({ cls := "ContractMachine$ScriptParser", name := "isCommand", desc := "(Ljava/lang/String;)Z" } : Jvm.MethodName)) ∈ lw_all := lw_g (lw_at lw_m6 210 rfl) rfl
theorem q1531 : (Jvm.Cond.privateMethod ({ cls := "ContractMachine$ScriptParser", name := "isCommand", desc := "(Ljava/lang/String;)Z" } : Jvm.MethodName)) ∈ lw_tbl := lw_at lw_m6 211 rfl
theorem q1532 : (Jvm.Cond.instanceMethod ({ cls := "ContractMachine$ScriptParser", name := "isCommand", desc := "(Ljava/lang/String;)Z" } : Jvm.MethodName)) ∈ lw_all := lw_g (lw_at lw_m6 212 rfl) rfl
theorem q1533 : (Jvm.Cond.code ({ cls := "ContractMachine$ScriptParser", name := "isCommand", desc := "(Ljava/lang/String;)Z" } : Jvm.MethodName) prog_30_method_6_code (4 : Nat) (Option.some Jvm.ClassFile.FieldType.boolean)) ∈ lw_all := lw_g (lw_at lw_m6 213 rfl) rfl
theorem q1534 : (Jvm.Cond.methodLink "ContractMachine$ScriptParser" (60 : Nat) ({ cls := "java/lang/String", name := "hashCode", desc := "()I" } : Jvm.MethodName)) ∈ lw_all := lw_g (lw_at lw_m6 214 rfl) rfl
theorem q1535 : (Jvm.Cond.stringRef "ContractMachine$ScriptParser" (65 : Nat) "fire") ∈ lw_tbl := lw_at lw_m6 215 rfl
theorem q1536 : (Jvm.Cond.methodLink "ContractMachine$ScriptParser" (67 : Nat) ({ cls := "java/lang/String", name := "equals", desc := "(Ljava/lang/Object;)Z" } : Jvm.MethodName)) ∈ lw_all := lw_g (lw_at lw_m6 216 rfl) rfl
theorem q1537 : (Jvm.Cond.stringRef "ContractMachine$ScriptParser" (71 : Nat) "set") ∈ lw_tbl := lw_at lw_m6 217 rfl
theorem q1538 : (Jvm.Cond.stringRef "ContractMachine$ScriptParser" (73 : Nat) "reset") ∈ lw_tbl := lw_at lw_m6 218 rfl
theorem q1539 : (Jvm.Cond.stringRef "ContractMachine$ScriptParser" (75 : Nat) "clear") ∈ lw_tbl := lw_at lw_m6 219 rfl
theorem q1540 : (Jvm.Cond.methodLink "ContractMachine$ScriptParser" (102 : Nat) ({ cls := "ContractMachine$ScriptParser", name := "expect", desc := "(ZI)V" } : Jvm.MethodName)) ∈ lw_all := lw_g (lw_at lw_m6 220 rfl) rfl
theorem q1541 : (Jvm.Cond.sameMethod "ContractMachine$ScriptParser" "ContractMachine$Parser" "expect" "(ZI)V") ∈ lw_all := lw_g (lw_at lw_m6 221 rfl) rfl
theorem q1542 : (Jvm.Cond.selects "ContractMachine$ScriptParser" ({ cls := "ContractMachine$ScriptParser", name := "expect", desc := "(ZI)V" } : Jvm.MethodName) ({ cls := "ContractMachine$Parser", name := "expect", desc := "(ZI)V" } : Jvm.MethodName)) ∈ lw_all := lw_g (lw_at lw_m6 222 rfl) rfl
theorem q1543 : (Jvm.Cond.methodLink "ContractMachine$ScriptParser" (110 : Nat) ({ cls := "ContractMachine$ScriptParser", name := "advance", desc := "()V" } : Jvm.MethodName)) ∈ lw_all := lw_g (lw_at lw_m6 223 rfl) rfl
theorem q1544 : (Jvm.Cond.sameMethod "ContractMachine$ScriptParser" "ContractMachine$Parser" "advance" "()V") ∈ lw_all := lw_g (lw_at lw_m6 224 rfl) rfl
theorem q1545 : (Jvm.Cond.selects "ContractMachine$ScriptParser" ({ cls := "ContractMachine$ScriptParser", name := "advance", desc := "()V" } : Jvm.MethodName) ({ cls := "ContractMachine$Parser", name := "advance", desc := "()V" } : Jvm.MethodName)) ∈ lw_all := lw_g (lw_at lw_m6 225 rfl) rfl
theorem q1546 : (Jvm.Cond.methodLink "ContractMachine$ScriptParser" (114 : Nat) ({ cls := "ContractMachine$ScriptParser", name := "command", desc := "(Ljava/lang/String;)LContractMachine$Command;" } : Jvm.MethodName)) ∈ lw_all := lw_g (lw_at lw_m6 226 rfl) rfl
theorem q1547 : (Jvm.Cond.privateMethod ({ cls := "ContractMachine$ScriptParser", name := "command", desc := "(Ljava/lang/String;)LContractMachine$Command;" } : Jvm.MethodName)) ∈ lw_tbl := lw_at lw_m6 227 rfl
theorem q1548 : (Jvm.Cond.instanceMethod ({ cls := "ContractMachine$ScriptParser", name := "command", desc := "(Ljava/lang/String;)LContractMachine$Command;" } : Jvm.MethodName)) ∈ lw_all := lw_g (lw_at lw_m6 228 rfl) rfl
theorem q1549 : (Jvm.Cond.code ({ cls := "ContractMachine$ScriptParser", name := "command", desc := "(Ljava/lang/String;)LContractMachine$Command;" } : Jvm.MethodName) prog_30_method_7_code (4 : Nat) (Option.some (Jvm.ClassFile.FieldType.object "ContractMachine$Command"))) ∈ lw_all := lw_g (lw_at lw_m6 229 rfl) rfl
theorem q1550 : (Jvm.Cond.methodLink "ContractMachine$ScriptParser" (77 : Nat) ({ cls := "ContractMachine$ScriptParser", name := "firing", desc := "()LContractMachine$Command;" } : Jvm.MethodName)) ∈ lw_all := lw_g (lw_at lw_m6 230 rfl) rfl
theorem q1551 : (Jvm.Cond.privateMethod ({ cls := "ContractMachine$ScriptParser", name := "firing", desc := "()LContractMachine$Command;" } : Jvm.MethodName)) ∈ lw_tbl := lw_at lw_m6 231 rfl
theorem q1552 : (Jvm.Cond.instanceMethod ({ cls := "ContractMachine$ScriptParser", name := "firing", desc := "()LContractMachine$Command;" } : Jvm.MethodName)) ∈ lw_all := lw_g (lw_at lw_m6 232 rfl) rfl
theorem q1553 : (Jvm.Cond.code ({ cls := "ContractMachine$ScriptParser", name := "firing", desc := "()LContractMachine$Command;" } : Jvm.MethodName) prog_30_method_2_code (2 : Nat) (Option.some (Jvm.ClassFile.FieldType.object "ContractMachine$Command"))) ∈ lw_all := lw_g (lw_at lw_m6 233 rfl) rfl
theorem q1554 : (Jvm.Cond.methodLink "ContractMachine$ScriptParser" (31 : Nat) ({ cls := "ContractMachine$ScriptParser", name := "known", desc := "(Ljava/util/List;)I" } : Jvm.MethodName)) ∈ lw_all := lw_g (lw_at lw_m6 234 rfl) rfl
theorem q1555 : (Jvm.Cond.sameMethod "ContractMachine$ScriptParser" "ContractMachine$Parser" "known" "(Ljava/util/List;)I") ∈ lw_all := lw_g (lw_at lw_m6 235 rfl) rfl
theorem q1556 : (Jvm.Cond.selects "ContractMachine$ScriptParser" ({ cls := "ContractMachine$ScriptParser", name := "known", desc := "(Ljava/util/List;)I" } : Jvm.MethodName) ({ cls := "ContractMachine$Parser", name := "known", desc := "(Ljava/util/List;)I" } : Jvm.MethodName)) ∈ lw_all := lw_g (lw_at lw_m6 236 rfl) rfl
theorem q1557 : (Jvm.Cond.classLink "ContractMachine$ScriptParser" (35 : Nat) "ContractMachine$ScriptParser$1") ∈ lw_all := lw_g (lw_at lw_m6 237 rfl) rfl
theorem q1559 : (Jvm.Cond.methodLink "ContractMachine$ScriptParser" (37 : Nat) ({ cls := "ContractMachine$ScriptParser$1", name := "<init>", desc := "(LContractMachine$ScriptParser;I)V" } : Jvm.MethodName)) ∈ lw_all := lw_g (lw_at lw_m6 239 rfl) rfl
theorem q1573 : (Jvm.Cond.methodLink "ContractMachine$ScriptParser" (81 : Nat) ({ cls := "ContractMachine$ScriptParser", name := "setting", desc := "()LContractMachine$Command;" } : Jvm.MethodName)) ∈ lw_all := lw_g (lw_at lw_m7 13 rfl) rfl
theorem q1574 : (Jvm.Cond.privateMethod ({ cls := "ContractMachine$ScriptParser", name := "setting", desc := "()LContractMachine$Command;" } : Jvm.MethodName)) ∈ lw_tbl := lw_at lw_m7 14 rfl
theorem q1575 : (Jvm.Cond.instanceMethod ({ cls := "ContractMachine$ScriptParser", name := "setting", desc := "()LContractMachine$Command;" } : Jvm.MethodName)) ∈ lw_all := lw_g (lw_at lw_m7 15 rfl) rfl
theorem q1576 : (Jvm.Cond.code ({ cls := "ContractMachine$ScriptParser", name := "setting", desc := "()LContractMachine$Command;" } : Jvm.MethodName) prog_30_method_3_code (3 : Nat) (Option.some (Jvm.ClassFile.FieldType.object "ContractMachine$Command"))) ∈ lw_all := lw_g (lw_at lw_m7 16 rfl) rfl
theorem q1577 : (Jvm.Cond.methodLink "ContractMachine$ScriptParser" (43 : Nat) ({ cls := "ContractMachine$ScriptParser", name := "digit", desc := "()I" } : Jvm.MethodName)) ∈ lw_all := lw_g (lw_at lw_m7 17 rfl) rfl
theorem q1578 : (Jvm.Cond.sameMethod "ContractMachine$ScriptParser" "ContractMachine$Parser" "digit" "()I") ∈ lw_all := lw_g (lw_at lw_m7 18 rfl) rfl
theorem q1579 : (Jvm.Cond.selects "ContractMachine$ScriptParser" ({ cls := "ContractMachine$ScriptParser", name := "digit", desc := "()I" } : Jvm.MethodName) ({ cls := "ContractMachine$Parser", name := "digit", desc := "()I" } : Jvm.MethodName)) ∈ lw_all := lw_g (lw_at lw_m7 19 rfl) rfl
theorem q1580 : (Jvm.Cond.classLink "ContractMachine$ScriptParser" (47 : Nat) "ContractMachine$ScriptParser$2") ∈ lw_all := lw_g (lw_at lw_m7 20 rfl) rfl
theorem q1582 : (Jvm.Cond.methodLink "ContractMachine$ScriptParser" (49 : Nat) ({ cls := "ContractMachine$ScriptParser$2", name := "<init>", desc := "(LContractMachine$ScriptParser;II)V" } : Jvm.MethodName)) ∈ lw_all := lw_g (lw_at lw_m7 22 rfl) rfl
theorem q1596 : (Jvm.Cond.methodLink "ContractMachine$ScriptParser" (84 : Nat) ({ cls := "ContractMachine$ScriptParser", name := "resetting", desc := "()LContractMachine$Command;" } : Jvm.MethodName)) ∈ lw_all := lw_g (lw_at lw_m7 36 rfl) rfl
theorem q1597 : (Jvm.Cond.privateMethod ({ cls := "ContractMachine$ScriptParser", name := "resetting", desc := "()LContractMachine$Command;" } : Jvm.MethodName)) ∈ lw_tbl := lw_at lw_m7 37 rfl
theorem q1598 : (Jvm.Cond.instanceMethod ({ cls := "ContractMachine$ScriptParser", name := "resetting", desc := "()LContractMachine$Command;" } : Jvm.MethodName)) ∈ lw_all := lw_g (lw_at lw_m7 38 rfl) rfl
theorem q1599 : (Jvm.Cond.code ({ cls := "ContractMachine$ScriptParser", name := "resetting", desc := "()LContractMachine$Command;" } : Jvm.MethodName) prog_30_method_4_code (1 : Nat) (Option.some (Jvm.ClassFile.FieldType.object "ContractMachine$Command"))) ∈ lw_all := lw_g (lw_at lw_m7 39 rfl) rfl
theorem q1600 : (Jvm.Cond.classLink "ContractMachine$ScriptParser" (52 : Nat) "ContractMachine$ScriptParser$3") ∈ lw_all := lw_g (lw_at lw_m7 40 rfl) rfl
theorem q1602 : (Jvm.Cond.methodLink "ContractMachine$ScriptParser" (54 : Nat) ({ cls := "ContractMachine$ScriptParser$3", name := "<init>", desc := "(LContractMachine$ScriptParser;)V" } : Jvm.MethodName)) ∈ lw_all := lw_g (lw_at lw_m7 42 rfl) rfl
theorem q1610 : (Jvm.Cond.methodLink "ContractMachine$ScriptParser" (87 : Nat) ({ cls := "ContractMachine$ScriptParser", name := "clearing", desc := "()LContractMachine$Command;" } : Jvm.MethodName)) ∈ lw_all := lw_g (lw_at lw_m7 50 rfl) rfl
theorem q1611 : (Jvm.Cond.privateMethod ({ cls := "ContractMachine$ScriptParser", name := "clearing", desc := "()LContractMachine$Command;" } : Jvm.MethodName)) ∈ lw_tbl := lw_at lw_m7 51 rfl
theorem q1612 : (Jvm.Cond.instanceMethod ({ cls := "ContractMachine$ScriptParser", name := "clearing", desc := "()LContractMachine$Command;" } : Jvm.MethodName)) ∈ lw_all := lw_g (lw_at lw_m7 52 rfl) rfl
theorem q1613 : (Jvm.Cond.code ({ cls := "ContractMachine$ScriptParser", name := "clearing", desc := "()LContractMachine$Command;" } : Jvm.MethodName) prog_30_method_5_code (1 : Nat) (Option.some (Jvm.ClassFile.FieldType.object "ContractMachine$Command"))) ∈ lw_all := lw_g (lw_at lw_m7 53 rfl) rfl
theorem q1614 : (Jvm.Cond.classLink "ContractMachine$ScriptParser" (57 : Nat) "ContractMachine$ScriptParser$4") ∈ lw_all := lw_g (lw_at lw_m7 54 rfl) rfl
theorem q1616 : (Jvm.Cond.methodLink "ContractMachine$ScriptParser" (59 : Nat) ({ cls := "ContractMachine$ScriptParser$4", name := "<init>", desc := "(LContractMachine$ScriptParser;)V" } : Jvm.MethodName)) ∈ lw_all := lw_g (lw_at lw_m7 56 rfl) rfl
theorem q1624 : (Jvm.Cond.methodLink "ContractMachine$ScriptParser" (118 : Nat) ({ cls := "ContractMachine$ScriptParser", name := "endStatement", desc := "()V" } : Jvm.MethodName)) ∈ lw_all := lw_g (lw_at lw_m7 64 rfl) rfl
theorem q1625 : (Jvm.Cond.sameMethod "ContractMachine$ScriptParser" "ContractMachine$Parser" "endStatement" "()V") ∈ lw_all := lw_g (lw_at lw_m7 65 rfl) rfl
theorem q1626 : (Jvm.Cond.selects "ContractMachine$ScriptParser" ({ cls := "ContractMachine$ScriptParser", name := "endStatement", desc := "()V" } : Jvm.MethodName) ({ cls := "ContractMachine$Parser", name := "endStatement", desc := "()V" } : Jvm.MethodName)) ∈ lw_all := lw_g (lw_at lw_m7 66 rfl) rfl
theorem q3275 : (Jvm.Cond.selects "ContractMachine$ScriptParser" ({ cls := "ContractMachine$Parser", name := "expect", desc := "(ZI)V" } : Jvm.MethodName) ({ cls := "ContractMachine$Parser", name := "expect", desc := "(ZI)V" } : Jvm.MethodName)) ∈ lw_all := lw_g (lw_at lw_m14 35 rfl) rfl
theorem q3315 : (Jvm.Cond.castable "ContractMachine$ScriptParser" "java/lang/Object") ∈ lw_tbl := lw_at lw_m14 75 rfl
theorem in_X13 : ∀ w ∈ wsX130, w ∈ lw_all := lw_in wsX130 [1513, 1514, 1515, 1516, 1517, 1518, 1507, 1509, 1511] (by decide +kernel) (by decide +kernel)
/-! ContractMachine$Command -/
set_option maxRecDepth 100000
def RX14 : String := "ContractMachine$Command"
abbrev cX14_init : ByteArray := prog_9_method_1_code
def yX14_init : MethodName := ⟨RX14, "<init>", "()V"⟩
theorem dX14_init_0 : decode cX14_init 0 = .ok (.aload_n 0, 1) := by decide +kernel
theorem dX14_init_1 : decode cX14_init 1 = .ok (.invokespecial 1, 3) := by decide +kernel
theorem dX14_init_4 : decode cX14_init 4 = .ok (.return_, 1) := by decide +kernel
theorem q162 : (Jvm.Cond.initialized "ContractMachine$Command") ∈ lw_all := lw_g (lw_at lw_m1 42 rfl) rfl
theorem q1563 : (Jvm.Cond.instanceMethod ({ cls := "ContractMachine$Command", name := "<init>", desc := "()V" } : Jvm.MethodName)) ∈ lw_all := lw_g (lw_at lw_m7 3 rfl) rfl
theorem q1564 : (Jvm.Cond.code ({ cls := "ContractMachine$Command", name := "<init>", desc := "()V" } : Jvm.MethodName) prog_9_method_1_code (1 : Nat) (Option.none : Option Jvm.ClassFile.FieldType)) ∈ lw_all := lw_g (lw_at lw_m7 4 rfl) rfl
theorem q1565 : (Jvm.Cond.methodLink "ContractMachine$Command" (1 : Nat) ({ cls := "java/lang/Object", name := "<init>", desc := "()V" } : Jvm.MethodName)) ∈ lw_all := lw_g (lw_at lw_m7 5 rfl) rfl
theorem q1772 : (Jvm.Cond.declares ({ cls := "ContractMachine$Command", name := "execute", desc := "()Z" } : Jvm.MethodName)) ∈ lw_tbl := lw_at lw_m7 212 rfl
theorem q1773 : (Jvm.Cond.sameMethod "ContractMachine$Command" "ContractMachine$Command" "execute" "()Z") ∈ lw_all := lw_g (lw_at lw_m7 213 rfl) rfl
theorem q3287 : (Jvm.Cond.castable "ContractMachine$Command" "java/lang/Object") ∈ lw_tbl := lw_at lw_m14 47 rfl
/-! ContractMachine$ScriptParser$1 -/
set_option maxRecDepth 100000
def RX15 : String := "ContractMachine$ScriptParser$1"
def TX15 : u_T := fun k => match k with
  | 0 => ("ContractMachine$ScriptParser$1", "val$event", "I", true)
  | _ => ("ContractMachine$ScriptParser$1", "this$1", "LContractMachine$ScriptParser;", true)
def tyX15 : Nat → FieldType := fun k => match k with
  | 0 => .int
  | _ => .object "ContractMachine$ScriptParser"
abbrev wsX150 : List Cond := u_ws RX15 TX15 2
theorem nmX15 : ∀ a, a < 2 → ∀ b, b < 2 → a ≠ b → (TX15 a).2.1 ≠ (TX15 b).2.1 := by decide +kernel
theorem tyX15_ok : ∀ k, k < 2 → parseFieldDescriptor (TX15 k).2.2.1 = some (tyX15 k) := by decide +kernel
abbrev cX15_init : ByteArray := prog_31_method_1_code
def yX15_init : MethodName := ⟨RX15, "<init>", "(LContractMachine$ScriptParser;I)V"⟩
def dkwX15_init_0 : List UInt8 := [42, 43, 181, 0, 1, 42, 28, 181, 0, 7, 42, 183, 0, 11, 177]
abbrev dktX15_init_0 : List UInt8 := dkwX15_init_0 ++ []
theorem dksX15_init_0 : cX15_init.data.toList.drop 0 = dktX15_init_0 := by decide +kernel
theorem dX15_init_0 : decode cX15_init 0 = .ok (.aload_n 0, 1) := dk_42 (dk_at dksX15_init_0 0 rfl rfl)
theorem dX15_init_1 : decode cX15_init 1 = .ok (.aload_n 1, 1) := dk_43 (dk_at dksX15_init_0 1 rfl rfl)
theorem dX15_init_2 : decode cX15_init 2 = .ok (.putfield 1, 3) := dk_181 0 1 (dk_at dksX15_init_0 2 rfl rfl)
theorem dX15_init_5 : decode cX15_init 5 = .ok (.aload_n 0, 1) := dk_42 (dk_at dksX15_init_0 5 rfl rfl)
theorem dX15_init_6 : decode cX15_init 6 = .ok (.iload_n 2, 1) := dk_28 (dk_at dksX15_init_0 6 rfl rfl)
theorem dX15_init_7 : decode cX15_init 7 = .ok (.putfield 7, 3) := dk_181 0 7 (dk_at dksX15_init_0 7 rfl rfl)
theorem dX15_init_10 : decode cX15_init 10 = .ok (.aload_n 0, 1) := dk_42 (dk_at dksX15_init_0 10 rfl rfl)
theorem dX15_init_11 : decode cX15_init 11 = .ok (.invokespecial 11, 3) := dk_183 0 11 (dk_at dksX15_init_0 11 rfl rfl)
theorem dX15_init_14 : decode cX15_init 14 = .ok (.return_, 1) := dk_177 (dk_at dksX15_init_0 14 rfl rfl)
abbrev cX15_execute : ByteArray := prog_31_method_2_code
def yX15_execute : MethodName := ⟨RX15, "execute", "()Z"⟩
def dkwX15_execute_1 : List UInt8 := [185, 0, 33, 2, 0, 4, 172]
abbrev dktX15_execute_1 : List UInt8 := dkwX15_execute_1 ++ []
def dkwX15_execute_0 : List UInt8 := [42, 180, 0, 1, 180, 0, 17, 42, 180, 0, 7, 182, 0, 23, 42, 180, 0, 1, 180, 0, 17, 180, 0, 29]
abbrev dktX15_execute_0 : List UInt8 := dkwX15_execute_0 ++ dktX15_execute_1
theorem dksX15_execute_0 : cX15_execute.data.toList.drop 0 = dktX15_execute_0 := by decide +kernel
theorem dksX15_execute_1 : cX15_execute.data.toList.drop 24 = dktX15_execute_1 := dk_seg dksX15_execute_0 24 rfl rfl
theorem dX15_execute_0 : decode cX15_execute 0 = .ok (.aload_n 0, 1) := dk_42 (dk_at dksX15_execute_0 0 rfl rfl)
theorem dX15_execute_1 : decode cX15_execute 1 = .ok (.getfield 1, 3) := dk_180 0 1 (dk_at dksX15_execute_0 1 rfl rfl)
theorem dX15_execute_4 : decode cX15_execute 4 = .ok (.getfield 17, 3) := dk_180 0 17 (dk_at dksX15_execute_0 4 rfl rfl)
theorem dX15_execute_7 : decode cX15_execute 7 = .ok (.aload_n 0, 1) := dk_42 (dk_at dksX15_execute_0 7 rfl rfl)
theorem dX15_execute_8 : decode cX15_execute 8 = .ok (.getfield 7, 3) := dk_180 0 7 (dk_at dksX15_execute_0 8 rfl rfl)
theorem dX15_execute_11 : decode cX15_execute 11 = .ok (.invokevirtual 23, 3) := dk_182 0 23 (dk_at dksX15_execute_0 11 rfl rfl)
theorem dX15_execute_14 : decode cX15_execute 14 = .ok (.aload_n 0, 1) := dk_42 (dk_at dksX15_execute_0 14 rfl rfl)
theorem dX15_execute_15 : decode cX15_execute 15 = .ok (.getfield 1, 3) := dk_180 0 1 (dk_at dksX15_execute_0 15 rfl rfl)
theorem dX15_execute_18 : decode cX15_execute 18 = .ok (.getfield 17, 3) := dk_180 0 17 (dk_at dksX15_execute_0 18 rfl rfl)
theorem dX15_execute_21 : decode cX15_execute 21 = .ok (.getfield 29, 3) := dk_180 0 29 (dk_at dksX15_execute_0 21 rfl rfl)
theorem dX15_execute_24 : decode cX15_execute 24 = .ok (.invokeinterface 33 2, 5) := by decide +kernel
theorem dX15_execute_29 : decode cX15_execute 29 = .ok (.iconst 1, 1) := dk_4 (dk_at dksX15_execute_1 5 rfl rfl)
theorem dX15_execute_30 : decode cX15_execute 30 = .ok (.ireturn, 1) := dk_172 (dk_at dksX15_execute_1 6 rfl rfl)
theorem q163 : (Jvm.Cond.initialized "ContractMachine$ScriptParser$1") ∈ lw_all := lw_g (lw_at lw_m1 43 rfl) rfl
theorem q724 : (Jvm.Cond.selects "ContractMachine$ScriptParser$1" ({ cls := "java/lang/Object", name := "getClass", desc := "()Ljava/lang/Class;" } : Jvm.MethodName) ({ cls := "java/lang/Object", name := "getClass", desc := "()Ljava/lang/Class;" } : Jvm.MethodName)) ∈ lw_all := lw_g (lw_at lw_m3 124 rfl) rfl
theorem q894 : (Jvm.Cond.fieldLinkNest "ContractMachine$ScriptParser$1" (29 : Nat) "ContractMachine" "run" "LContractMachine$Run;" "ContractMachine") ∈ lw_tbl := lw_at lw_m4 54 rfl
theorem q1503 : (Jvm.Cond.fieldLink "ContractMachine$ScriptParser$1" (17 : Nat) "ContractMachine$ScriptParser" "this$0" "LContractMachine;") ∈ lw_all := lw_g (lw_at lw_m6 183 rfl) rfl
theorem q1558 : (Jvm.Cond.instantiable "ContractMachine$ScriptParser$1" (2 : Nat)) ∈ lw_all := lw_g (lw_at lw_m6 238 rfl) rfl
theorem q1560 : (Jvm.Cond.instanceMethod ({ cls := "ContractMachine$ScriptParser$1", name := "<init>", desc := "(LContractMachine$ScriptParser;I)V" } : Jvm.MethodName)) ∈ lw_all := lw_g (lw_at lw_m7 0 rfl) rfl
theorem q1561 : (Jvm.Cond.code ({ cls := "ContractMachine$ScriptParser$1", name := "<init>", desc := "(LContractMachine$ScriptParser;I)V" } : Jvm.MethodName) prog_31_method_1_code (3 : Nat) (Option.none : Option Jvm.ClassFile.FieldType)) ∈ lw_all := lw_g (lw_at lw_m7 1 rfl) rfl
theorem q1562 : (Jvm.Cond.methodLinkNest "ContractMachine$ScriptParser$1" (11 : Nat) ({ cls := "ContractMachine$Command", name := "<init>", desc := "()V" } : Jvm.MethodName) "ContractMachine") ∈ lw_tbl := lw_at lw_m7 2 rfl
theorem q1566 : (Jvm.Cond.fieldLink "ContractMachine$ScriptParser$1" (7 : Nat) "ContractMachine$ScriptParser$1" "val$event" "I") ∈ lw_all := lw_g (lw_at lw_m7 6 rfl) rfl
theorem q1567 : (Jvm.Cond.fieldLink "ContractMachine$ScriptParser$1" (1 : Nat) "ContractMachine$ScriptParser$1" "this$1" "LContractMachine$ScriptParser;") ∈ lw_all := lw_g (lw_at lw_m7 7 rfl) rfl
theorem q1568 : (Jvm.Cond.laysFinal "ContractMachine$ScriptParser$1" "ContractMachine$ScriptParser$1" "val$event" "I") ∈ lw_all := lw_g (lw_at lw_m7 8 rfl) rfl
theorem q1569 : (Jvm.Cond.soleField "ContractMachine$ScriptParser$1" "val$event") ∈ lw_all := lw_g (lw_at lw_m7 9 rfl) rfl
theorem q1570 : (Jvm.Cond.laysFinal "ContractMachine$ScriptParser$1" "ContractMachine$ScriptParser$1" "this$1" "LContractMachine$ScriptParser;") ∈ lw_all := lw_g (lw_at lw_m7 10 rfl) rfl
theorem q1571 : (Jvm.Cond.soleField "ContractMachine$ScriptParser$1" "this$1") ∈ lw_all := lw_g (lw_at lw_m7 11 rfl) rfl
theorem q1572 : (Jvm.Cond.superclass "ContractMachine$ScriptParser$1" "ContractMachine$Command") ∈ lw_all := lw_g (lw_at lw_m7 12 rfl) rfl
theorem q1774 : (Jvm.Cond.selects "ContractMachine$ScriptParser$1" ({ cls := "ContractMachine$Command", name := "execute", desc := "()Z" } : Jvm.MethodName) ({ cls := "ContractMachine$ScriptParser$1", name := "execute", desc := "()Z" } : Jvm.MethodName)) ∈ lw_all := lw_g (lw_at lw_m7 214 rfl) rfl
theorem q1775 : (Jvm.Cond.instanceMethod ({ cls := "ContractMachine$ScriptParser$1", name := "execute", desc := "()Z" } : Jvm.MethodName)) ∈ lw_all := lw_g (lw_at lw_m7 215 rfl) rfl
theorem q1776 : (Jvm.Cond.code ({ cls := "ContractMachine$ScriptParser$1", name := "execute", desc := "()Z" } : Jvm.MethodName) prog_31_method_2_code (1 : Nat) (Option.some Jvm.ClassFile.FieldType.boolean)) ∈ lw_all := lw_g (lw_at lw_m7 216 rfl) rfl
theorem q1777 : (Jvm.Cond.methodLinkNest "ContractMachine$ScriptParser$1" (23 : Nat) ({ cls := "ContractMachine", name := "outcome", desc := "(I)LContractMachine$Outcome;" } : Jvm.MethodName) "ContractMachine") ∈ lw_tbl := lw_at lw_m7 217 rfl
theorem q1860 : (Jvm.Cond.interfaceEntry "ContractMachine$ScriptParser$1" (33 : Nat)) ∈ lw_tbl := lw_at lw_m8 60 rfl
theorem q1861 : (Jvm.Cond.methodLink "ContractMachine$ScriptParser$1" (33 : Nat) ({ cls := "ContractMachine$Outcome", name := "applyTo", desc := "(LContractMachine$Run;)V" } : Jvm.MethodName)) ∈ lw_all := lw_g (lw_at lw_m8 61 rfl) rfl
theorem q3316 : (Jvm.Cond.castable "ContractMachine$ScriptParser$1" "java/lang/Object") ∈ lw_tbl := lw_at lw_m14 76 rfl
theorem q3342 : (Jvm.Cond.castable "ContractMachine$ScriptParser$1" "ContractMachine$Command") ∈ lw_tbl := lw_at lw_m14 102 rfl
theorem in_X15 : ∀ w ∈ wsX150, w ∈ lw_all := lw_in wsX150 [1568, 1570] (by decide +kernel) (by decide +kernel)
/-! ContractMachine$ScriptParser$2 -/
set_option maxRecDepth 100000
def RX16 : String := "ContractMachine$ScriptParser$2"
def TX16 : u_T := fun k => match k with
  | 0 => ("ContractMachine$ScriptParser$2", "val$variable", "I", true)
  | 1 => ("ContractMachine$ScriptParser$2", "val$value", "I", true)
  | _ => ("ContractMachine$ScriptParser$2", "this$1", "LContractMachine$ScriptParser;", true)
def tyX16 : Nat → FieldType := fun k => match k with
  | 0 => .int
  | 1 => .int
  | _ => .object "ContractMachine$ScriptParser"
abbrev wsX160 : List Cond := u_ws RX16 TX16 3
theorem nmX16 : ∀ a, a < 3 → ∀ b, b < 3 → a ≠ b → (TX16 a).2.1 ≠ (TX16 b).2.1 := by decide +kernel
theorem tyX16_ok : ∀ k, k < 3 → parseFieldDescriptor (TX16 k).2.2.1 = some (tyX16 k) := by decide +kernel
abbrev cX16_init : ByteArray := prog_32_method_1_code
def yX16_init : MethodName := ⟨RX16, "<init>", "(LContractMachine$ScriptParser;II)V"⟩
def dkwX16_init_0 : List UInt8 := [42, 43, 181, 0, 1, 42, 28, 181, 0, 7, 42, 29, 181, 0, 11, 42, 183, 0, 14, 177]
abbrev dktX16_init_0 : List UInt8 := dkwX16_init_0 ++ []
theorem dksX16_init_0 : cX16_init.data.toList.drop 0 = dktX16_init_0 := by decide +kernel
theorem dX16_init_0 : decode cX16_init 0 = .ok (.aload_n 0, 1) := dk_42 (dk_at dksX16_init_0 0 rfl rfl)
theorem dX16_init_1 : decode cX16_init 1 = .ok (.aload_n 1, 1) := dk_43 (dk_at dksX16_init_0 1 rfl rfl)
theorem dX16_init_2 : decode cX16_init 2 = .ok (.putfield 1, 3) := dk_181 0 1 (dk_at dksX16_init_0 2 rfl rfl)
theorem dX16_init_5 : decode cX16_init 5 = .ok (.aload_n 0, 1) := dk_42 (dk_at dksX16_init_0 5 rfl rfl)
theorem dX16_init_6 : decode cX16_init 6 = .ok (.iload_n 2, 1) := dk_28 (dk_at dksX16_init_0 6 rfl rfl)
theorem dX16_init_7 : decode cX16_init 7 = .ok (.putfield 7, 3) := dk_181 0 7 (dk_at dksX16_init_0 7 rfl rfl)
theorem dX16_init_10 : decode cX16_init 10 = .ok (.aload_n 0, 1) := dk_42 (dk_at dksX16_init_0 10 rfl rfl)
theorem dX16_init_11 : decode cX16_init 11 = .ok (.iload_n 3, 1) := dk_29 (dk_at dksX16_init_0 11 rfl rfl)
theorem dX16_init_12 : decode cX16_init 12 = .ok (.putfield 11, 3) := dk_181 0 11 (dk_at dksX16_init_0 12 rfl rfl)
theorem dX16_init_15 : decode cX16_init 15 = .ok (.aload_n 0, 1) := dk_42 (dk_at dksX16_init_0 15 rfl rfl)
theorem dX16_init_16 : decode cX16_init 16 = .ok (.invokespecial 14, 3) := dk_183 0 14 (dk_at dksX16_init_0 16 rfl rfl)
theorem dX16_init_19 : decode cX16_init 19 = .ok (.return_, 1) := dk_177 (dk_at dksX16_init_0 19 rfl rfl)
abbrev cX16_execute : ByteArray := prog_32_method_2_code
def yX16_execute : MethodName := ⟨RX16, "execute", "()Z"⟩
def dkwX16_execute_2 : List UInt8 := [3, 172]
abbrev dktX16_execute_2 : List UInt8 := dkwX16_execute_2 ++ []
def dkwX16_execute_1 : List UInt8 := [180, 0, 1, 180, 0, 20, 42, 180, 0, 7, 42, 180, 0, 11, 182, 0, 32, 155, 0, 7, 4, 167, 0, 4]
abbrev dktX16_execute_1 : List UInt8 := dkwX16_execute_1 ++ dktX16_execute_2
def dkwX16_execute_0 : List UInt8 := [42, 180, 0, 1, 180, 0, 20, 42, 180, 0, 7, 42, 180, 0, 11, 182, 0, 26, 153, 0, 28, 42]
abbrev dktX16_execute_0 : List UInt8 := dkwX16_execute_0 ++ dktX16_execute_1
theorem dksX16_execute_0 : cX16_execute.data.toList.drop 0 = dktX16_execute_0 := by decide +kernel
theorem dksX16_execute_1 : cX16_execute.data.toList.drop 22 = dktX16_execute_1 := dk_seg dksX16_execute_0 22 rfl rfl
theorem dksX16_execute_2 : cX16_execute.data.toList.drop 46 = dktX16_execute_2 := dk_seg dksX16_execute_1 24 rfl rfl
theorem dX16_execute_0 : decode cX16_execute 0 = .ok (.aload_n 0, 1) := dk_42 (dk_at dksX16_execute_0 0 rfl rfl)
theorem dX16_execute_1 : decode cX16_execute 1 = .ok (.getfield 1, 3) := dk_180 0 1 (dk_at dksX16_execute_0 1 rfl rfl)
theorem dX16_execute_4 : decode cX16_execute 4 = .ok (.getfield 20, 3) := dk_180 0 20 (dk_at dksX16_execute_0 4 rfl rfl)
theorem dX16_execute_7 : decode cX16_execute 7 = .ok (.aload_n 0, 1) := dk_42 (dk_at dksX16_execute_0 7 rfl rfl)
theorem dX16_execute_8 : decode cX16_execute 8 = .ok (.getfield 7, 3) := dk_180 0 7 (dk_at dksX16_execute_0 8 rfl rfl)
theorem dX16_execute_11 : decode cX16_execute 11 = .ok (.aload_n 0, 1) := dk_42 (dk_at dksX16_execute_0 11 rfl rfl)
theorem dX16_execute_12 : decode cX16_execute 12 = .ok (.getfield 11, 3) := dk_180 0 11 (dk_at dksX16_execute_0 12 rfl rfl)
theorem dX16_execute_15 : decode cX16_execute 15 = .ok (.invokevirtual 26, 3) := dk_182 0 26 (dk_at dksX16_execute_0 15 rfl rfl)
theorem dX16_execute_18 : decode cX16_execute 18 = .ok (.ifCond .eq 28, 3) := dk_153 0 28 (dk_at dksX16_execute_0 18 rfl rfl)
theorem dX16_execute_21 : decode cX16_execute 21 = .ok (.aload_n 0, 1) := dk_42 (dk_at dksX16_execute_0 21 rfl rfl)
theorem dX16_execute_22 : decode cX16_execute 22 = .ok (.getfield 1, 3) := dk_180 0 1 (dk_at dksX16_execute_1 0 rfl rfl)
theorem dX16_execute_25 : decode cX16_execute 25 = .ok (.getfield 20, 3) := dk_180 0 20 (dk_at dksX16_execute_1 3 rfl rfl)
theorem dX16_execute_28 : decode cX16_execute 28 = .ok (.aload_n 0, 1) := dk_42 (dk_at dksX16_execute_1 6 rfl rfl)
theorem dX16_execute_29 : decode cX16_execute 29 = .ok (.getfield 7, 3) := dk_180 0 7 (dk_at dksX16_execute_1 7 rfl rfl)
theorem dX16_execute_32 : decode cX16_execute 32 = .ok (.aload_n 0, 1) := dk_42 (dk_at dksX16_execute_1 10 rfl rfl)
theorem dX16_execute_33 : decode cX16_execute 33 = .ok (.getfield 11, 3) := dk_180 0 11 (dk_at dksX16_execute_1 11 rfl rfl)
theorem dX16_execute_36 : decode cX16_execute 36 = .ok (.invokevirtual 32, 3) := dk_182 0 32 (dk_at dksX16_execute_1 14 rfl rfl)
theorem dX16_execute_39 : decode cX16_execute 39 = .ok (.ifCond .lt 7, 3) := dk_155 0 7 (dk_at dksX16_execute_1 17 rfl rfl)
theorem dX16_execute_42 : decode cX16_execute 42 = .ok (.iconst 1, 1) := dk_4 (dk_at dksX16_execute_1 20 rfl rfl)
theorem dX16_execute_43 : decode cX16_execute 43 = .ok (.goto 4, 3) := dk_167 0 4 (dk_at dksX16_execute_1 21 rfl rfl)
theorem dX16_execute_46 : decode cX16_execute 46 = .ok (.iconst 0, 1) := dk_3 (dk_at dksX16_execute_2 0 rfl rfl)
theorem dX16_execute_47 : decode cX16_execute 47 = .ok (.ireturn, 1) := dk_172 (dk_at dksX16_execute_2 1 rfl rfl)
theorem q164 : (Jvm.Cond.initialized "ContractMachine$ScriptParser$2") ∈ lw_all := lw_g (lw_at lw_m1 44 rfl) rfl
theorem q725 : (Jvm.Cond.selects "ContractMachine$ScriptParser$2" ({ cls := "java/lang/Object", name := "getClass", desc := "()Ljava/lang/Class;" } : Jvm.MethodName) ({ cls := "java/lang/Object", name := "getClass", desc := "()Ljava/lang/Class;" } : Jvm.MethodName)) ∈ lw_all := lw_g (lw_at lw_m3 125 rfl) rfl
theorem q1504 : (Jvm.Cond.fieldLink "ContractMachine$ScriptParser$2" (20 : Nat) "ContractMachine$ScriptParser" "this$0" "LContractMachine;") ∈ lw_all := lw_g (lw_at lw_m6 184 rfl) rfl
theorem q1581 : (Jvm.Cond.instantiable "ContractMachine$ScriptParser$2" (3 : Nat)) ∈ lw_all := lw_g (lw_at lw_m7 21 rfl) rfl
theorem q1583 : (Jvm.Cond.instanceMethod ({ cls := "ContractMachine$ScriptParser$2", name := "<init>", desc := "(LContractMachine$ScriptParser;II)V" } : Jvm.MethodName)) ∈ lw_all := lw_g (lw_at lw_m7 23 rfl) rfl
theorem q1584 : (Jvm.Cond.code ({ cls := "ContractMachine$ScriptParser$2", name := "<init>", desc := "(LContractMachine$ScriptParser;II)V" } : Jvm.MethodName) prog_32_method_1_code (4 : Nat) (Option.none : Option Jvm.ClassFile.FieldType)) ∈ lw_all := lw_g (lw_at lw_m7 24 rfl) rfl
theorem q1585 : (Jvm.Cond.methodLinkNest "ContractMachine$ScriptParser$2" (14 : Nat) ({ cls := "ContractMachine$Command", name := "<init>", desc := "()V" } : Jvm.MethodName) "ContractMachine") ∈ lw_tbl := lw_at lw_m7 25 rfl
theorem q1586 : (Jvm.Cond.fieldLink "ContractMachine$ScriptParser$2" (7 : Nat) "ContractMachine$ScriptParser$2" "val$variable" "I") ∈ lw_all := lw_g (lw_at lw_m7 26 rfl) rfl
theorem q1587 : (Jvm.Cond.fieldLink "ContractMachine$ScriptParser$2" (11 : Nat) "ContractMachine$ScriptParser$2" "val$value" "I") ∈ lw_all := lw_g (lw_at lw_m7 27 rfl) rfl
theorem q1588 : (Jvm.Cond.fieldLink "ContractMachine$ScriptParser$2" (1 : Nat) "ContractMachine$ScriptParser$2" "this$1" "LContractMachine$ScriptParser;") ∈ lw_all := lw_g (lw_at lw_m7 28 rfl) rfl
theorem q1589 : (Jvm.Cond.laysFinal "ContractMachine$ScriptParser$2" "ContractMachine$ScriptParser$2" "val$variable" "I") ∈ lw_all := lw_g (lw_at lw_m7 29 rfl) rfl
theorem q1590 : (Jvm.Cond.soleField "ContractMachine$ScriptParser$2" "val$variable") ∈ lw_all := lw_g (lw_at lw_m7 30 rfl) rfl
theorem q1591 : (Jvm.Cond.laysFinal "ContractMachine$ScriptParser$2" "ContractMachine$ScriptParser$2" "val$value" "I") ∈ lw_all := lw_g (lw_at lw_m7 31 rfl) rfl
theorem q1592 : (Jvm.Cond.soleField "ContractMachine$ScriptParser$2" "val$value") ∈ lw_all := lw_g (lw_at lw_m7 32 rfl) rfl
theorem q1593 : (Jvm.Cond.laysFinal "ContractMachine$ScriptParser$2" "ContractMachine$ScriptParser$2" "this$1" "LContractMachine$ScriptParser;") ∈ lw_all := lw_g (lw_at lw_m7 33 rfl) rfl
theorem q1594 : (Jvm.Cond.soleField "ContractMachine$ScriptParser$2" "this$1") ∈ lw_all := lw_g (lw_at lw_m7 34 rfl) rfl
theorem q1595 : (Jvm.Cond.superclass "ContractMachine$ScriptParser$2" "ContractMachine$Command") ∈ lw_all := lw_g (lw_at lw_m7 35 rfl) rfl
theorem q1882 : (Jvm.Cond.selects "ContractMachine$ScriptParser$2" ({ cls := "ContractMachine$Command", name := "execute", desc := "()Z" } : Jvm.MethodName) ({ cls := "ContractMachine$ScriptParser$2", name := "execute", desc := "()Z" } : Jvm.MethodName)) ∈ lw_all := lw_g (lw_at lw_m8 82 rfl) rfl
theorem q1883 : (Jvm.Cond.instanceMethod ({ cls := "ContractMachine$ScriptParser$2", name := "execute", desc := "()Z" } : Jvm.MethodName)) ∈ lw_all := lw_g (lw_at lw_m8 83 rfl) rfl
theorem q1884 : (Jvm.Cond.code ({ cls := "ContractMachine$ScriptParser$2", name := "execute", desc := "()Z" } : Jvm.MethodName) prog_32_method_2_code (1 : Nat) (Option.some Jvm.ClassFile.FieldType.boolean)) ∈ lw_all := lw_g (lw_at lw_m8 84 rfl) rfl
theorem q1885 : (Jvm.Cond.methodLinkNest "ContractMachine$ScriptParser$2" (26 : Nat) ({ cls := "ContractMachine", name := "canSet", desc := "(II)Z" } : Jvm.MethodName) "ContractMachine") ∈ lw_tbl := lw_at lw_m8 85 rfl
theorem q1898 : (Jvm.Cond.methodLinkNest "ContractMachine$ScriptParser$2" (32 : Nat) ({ cls := "ContractMachine", name := "set", desc := "(II)I" } : Jvm.MethodName) "ContractMachine") ∈ lw_tbl := lw_at lw_m8 98 rfl
theorem q3317 : (Jvm.Cond.castable "ContractMachine$ScriptParser$2" "java/lang/Object") ∈ lw_tbl := lw_at lw_m14 77 rfl
theorem q3343 : (Jvm.Cond.castable "ContractMachine$ScriptParser$2" "ContractMachine$Command") ∈ lw_tbl := lw_at lw_m14 103 rfl
theorem in_X16 : ∀ w ∈ wsX160, w ∈ lw_all := lw_in wsX160 [1589, 1591, 1593] (by decide +kernel) (by decide +kernel)
/-! ContractMachine$ScriptParser$3 -/
set_option maxRecDepth 100000
def RX17 : String := "ContractMachine$ScriptParser$3"
def TX17 : u_T := fun k => match k with
  | _ => ("ContractMachine$ScriptParser$3", "this$1", "LContractMachine$ScriptParser;", true)
def tyX17 : Nat → FieldType := fun k => match k with
  | _ => .object "ContractMachine$ScriptParser"
abbrev wsX170 : List Cond := u_ws RX17 TX17 1
theorem nmX17 : ∀ a, a < 1 → ∀ b, b < 1 → a ≠ b → (TX17 a).2.1 ≠ (TX17 b).2.1 := by decide +kernel
theorem tyX17_ok : ∀ k, k < 1 → parseFieldDescriptor (TX17 k).2.2.1 = some (tyX17 k) := by decide +kernel
abbrev cX17_init : ByteArray := prog_33_method_1_code
def yX17_init : MethodName := ⟨RX17, "<init>", "(LContractMachine$ScriptParser;)V"⟩
def dkwX17_init_0 : List UInt8 := [42, 43, 181, 0, 1, 42, 183, 0, 7, 177]
abbrev dktX17_init_0 : List UInt8 := dkwX17_init_0 ++ []
theorem dksX17_init_0 : cX17_init.data.toList.drop 0 = dktX17_init_0 := by decide +kernel
theorem dX17_init_0 : decode cX17_init 0 = .ok (.aload_n 0, 1) := dk_42 (dk_at dksX17_init_0 0 rfl rfl)
theorem dX17_init_1 : decode cX17_init 1 = .ok (.aload_n 1, 1) := dk_43 (dk_at dksX17_init_0 1 rfl rfl)
theorem dX17_init_2 : decode cX17_init 2 = .ok (.putfield 1, 3) := dk_181 0 1 (dk_at dksX17_init_0 2 rfl rfl)
theorem dX17_init_5 : decode cX17_init 5 = .ok (.aload_n 0, 1) := dk_42 (dk_at dksX17_init_0 5 rfl rfl)
theorem dX17_init_6 : decode cX17_init 6 = .ok (.invokespecial 7, 3) := dk_183 0 7 (dk_at dksX17_init_0 6 rfl rfl)
theorem dX17_init_9 : decode cX17_init 9 = .ok (.return_, 1) := dk_177 (dk_at dksX17_init_0 9 rfl rfl)
abbrev cX17_execute : ByteArray := prog_33_method_2_code
def yX17_execute : MethodName := ⟨RX17, "execute", "()Z"⟩
def dkwX17_execute_0 : List UInt8 := [42, 180, 0, 1, 180, 0, 13, 182, 0, 19, 155, 0, 7, 4, 167, 0, 4, 3, 172]
abbrev dktX17_execute_0 : List UInt8 := dkwX17_execute_0 ++ []
theorem dksX17_execute_0 : cX17_execute.data.toList.drop 0 = dktX17_execute_0 := by decide +kernel
theorem dX17_execute_0 : decode cX17_execute 0 = .ok (.aload_n 0, 1) := dk_42 (dk_at dksX17_execute_0 0 rfl rfl)
theorem dX17_execute_1 : decode cX17_execute 1 = .ok (.getfield 1, 3) := dk_180 0 1 (dk_at dksX17_execute_0 1 rfl rfl)
theorem dX17_execute_4 : decode cX17_execute 4 = .ok (.getfield 13, 3) := dk_180 0 13 (dk_at dksX17_execute_0 4 rfl rfl)
theorem dX17_execute_7 : decode cX17_execute 7 = .ok (.invokevirtual 19, 3) := dk_182 0 19 (dk_at dksX17_execute_0 7 rfl rfl)
theorem dX17_execute_10 : decode cX17_execute 10 = .ok (.ifCond .lt 7, 3) := dk_155 0 7 (dk_at dksX17_execute_0 10 rfl rfl)
theorem dX17_execute_13 : decode cX17_execute 13 = .ok (.iconst 1, 1) := dk_4 (dk_at dksX17_execute_0 13 rfl rfl)
theorem dX17_execute_14 : decode cX17_execute 14 = .ok (.goto 4, 3) := dk_167 0 4 (dk_at dksX17_execute_0 14 rfl rfl)
theorem dX17_execute_17 : decode cX17_execute 17 = .ok (.iconst 0, 1) := dk_3 (dk_at dksX17_execute_0 17 rfl rfl)
theorem dX17_execute_18 : decode cX17_execute 18 = .ok (.ireturn, 1) := dk_172 (dk_at dksX17_execute_0 18 rfl rfl)
theorem q165 : (Jvm.Cond.initialized "ContractMachine$ScriptParser$3") ∈ lw_all := lw_g (lw_at lw_m1 45 rfl) rfl
theorem q726 : (Jvm.Cond.selects "ContractMachine$ScriptParser$3" ({ cls := "java/lang/Object", name := "getClass", desc := "()Ljava/lang/Class;" } : Jvm.MethodName) ({ cls := "java/lang/Object", name := "getClass", desc := "()Ljava/lang/Class;" } : Jvm.MethodName)) ∈ lw_all := lw_g (lw_at lw_m3 126 rfl) rfl
theorem q1505 : (Jvm.Cond.fieldLink "ContractMachine$ScriptParser$3" (13 : Nat) "ContractMachine$ScriptParser" "this$0" "LContractMachine;") ∈ lw_all := lw_g (lw_at lw_m6 185 rfl) rfl
theorem q1601 : (Jvm.Cond.instantiable "ContractMachine$ScriptParser$3" (1 : Nat)) ∈ lw_all := lw_g (lw_at lw_m7 41 rfl) rfl
theorem q1603 : (Jvm.Cond.instanceMethod ({ cls := "ContractMachine$ScriptParser$3", name := "<init>", desc := "(LContractMachine$ScriptParser;)V" } : Jvm.MethodName)) ∈ lw_all := lw_g (lw_at lw_m7 43 rfl) rfl
theorem q1604 : (Jvm.Cond.code ({ cls := "ContractMachine$ScriptParser$3", name := "<init>", desc := "(LContractMachine$ScriptParser;)V" } : Jvm.MethodName) prog_33_method_1_code (2 : Nat) (Option.none : Option Jvm.ClassFile.FieldType)) ∈ lw_all := lw_g (lw_at lw_m7 44 rfl) rfl
theorem q1605 : (Jvm.Cond.methodLinkNest "ContractMachine$ScriptParser$3" (7 : Nat) ({ cls := "ContractMachine$Command", name := "<init>", desc := "()V" } : Jvm.MethodName) "ContractMachine") ∈ lw_tbl := lw_at lw_m7 45 rfl
theorem q1606 : (Jvm.Cond.fieldLink "ContractMachine$ScriptParser$3" (1 : Nat) "ContractMachine$ScriptParser$3" "this$1" "LContractMachine$ScriptParser;") ∈ lw_all := lw_g (lw_at lw_m7 46 rfl) rfl
theorem q1607 : (Jvm.Cond.laysFinal "ContractMachine$ScriptParser$3" "ContractMachine$ScriptParser$3" "this$1" "LContractMachine$ScriptParser;") ∈ lw_all := lw_g (lw_at lw_m7 47 rfl) rfl
theorem q1608 : (Jvm.Cond.soleField "ContractMachine$ScriptParser$3" "this$1") ∈ lw_all := lw_g (lw_at lw_m7 48 rfl) rfl
theorem q1609 : (Jvm.Cond.superclass "ContractMachine$ScriptParser$3" "ContractMachine$Command") ∈ lw_all := lw_g (lw_at lw_m7 49 rfl) rfl
theorem q1902 : (Jvm.Cond.selects "ContractMachine$ScriptParser$3" ({ cls := "ContractMachine$Command", name := "execute", desc := "()Z" } : Jvm.MethodName) ({ cls := "ContractMachine$ScriptParser$3", name := "execute", desc := "()Z" } : Jvm.MethodName)) ∈ lw_all := lw_g (lw_at lw_m8 102 rfl) rfl
theorem q1903 : (Jvm.Cond.instanceMethod ({ cls := "ContractMachine$ScriptParser$3", name := "execute", desc := "()Z" } : Jvm.MethodName)) ∈ lw_all := lw_g (lw_at lw_m8 103 rfl) rfl
theorem q1904 : (Jvm.Cond.code ({ cls := "ContractMachine$ScriptParser$3", name := "execute", desc := "()Z" } : Jvm.MethodName) prog_33_method_2_code (1 : Nat) (Option.some Jvm.ClassFile.FieldType.boolean)) ∈ lw_all := lw_g (lw_at lw_m8 104 rfl) rfl
theorem q1905 : (Jvm.Cond.methodLinkNest "ContractMachine$ScriptParser$3" (19 : Nat) ({ cls := "ContractMachine", name := "restart", desc := "()I" } : Jvm.MethodName) "ContractMachine") ∈ lw_tbl := lw_at lw_m8 105 rfl
theorem q3318 : (Jvm.Cond.castable "ContractMachine$ScriptParser$3" "java/lang/Object") ∈ lw_tbl := lw_at lw_m14 78 rfl
theorem q3344 : (Jvm.Cond.castable "ContractMachine$ScriptParser$3" "ContractMachine$Command") ∈ lw_tbl := lw_at lw_m14 104 rfl
theorem in_X17 : ∀ w ∈ wsX170, w ∈ lw_all := lw_in wsX170 [1607] (by decide +kernel) (by decide +kernel)
/-! ContractMachine$ScriptParser$4 -/
set_option maxRecDepth 100000
def RX18 : String := "ContractMachine$ScriptParser$4"
def TX18 : u_T := fun k => match k with
  | _ => ("ContractMachine$ScriptParser$4", "this$1", "LContractMachine$ScriptParser;", true)
def tyX18 : Nat → FieldType := fun k => match k with
  | _ => .object "ContractMachine$ScriptParser"
abbrev wsX180 : List Cond := u_ws RX18 TX18 1
theorem nmX18 : ∀ a, a < 1 → ∀ b, b < 1 → a ≠ b → (TX18 a).2.1 ≠ (TX18 b).2.1 := by decide +kernel
theorem tyX18_ok : ∀ k, k < 1 → parseFieldDescriptor (TX18 k).2.2.1 = some (tyX18 k) := by decide +kernel
abbrev cX18_init : ByteArray := prog_34_method_1_code
def yX18_init : MethodName := ⟨RX18, "<init>", "(LContractMachine$ScriptParser;)V"⟩
def dkwX18_init_0 : List UInt8 := [42, 43, 181, 0, 1, 42, 183, 0, 7, 177]
abbrev dktX18_init_0 : List UInt8 := dkwX18_init_0 ++ []
theorem dksX18_init_0 : cX18_init.data.toList.drop 0 = dktX18_init_0 := by decide +kernel
theorem dX18_init_0 : decode cX18_init 0 = .ok (.aload_n 0, 1) := dk_42 (dk_at dksX18_init_0 0 rfl rfl)
theorem dX18_init_1 : decode cX18_init 1 = .ok (.aload_n 1, 1) := dk_43 (dk_at dksX18_init_0 1 rfl rfl)
theorem dX18_init_2 : decode cX18_init 2 = .ok (.putfield 1, 3) := dk_181 0 1 (dk_at dksX18_init_0 2 rfl rfl)
theorem dX18_init_5 : decode cX18_init 5 = .ok (.aload_n 0, 1) := dk_42 (dk_at dksX18_init_0 5 rfl rfl)
theorem dX18_init_6 : decode cX18_init 6 = .ok (.invokespecial 7, 3) := dk_183 0 7 (dk_at dksX18_init_0 6 rfl rfl)
theorem dX18_init_9 : decode cX18_init 9 = .ok (.return_, 1) := dk_177 (dk_at dksX18_init_0 9 rfl rfl)
abbrev cX18_execute : ByteArray := prog_34_method_2_code
def yX18_execute : MethodName := ⟨RX18, "execute", "()Z"⟩
def dkwX18_execute_0 : List UInt8 := [42, 180, 0, 1, 180, 0, 13, 180, 0, 19, 182, 0, 25, 4, 172]
abbrev dktX18_execute_0 : List UInt8 := dkwX18_execute_0 ++ []
theorem dksX18_execute_0 : cX18_execute.data.toList.drop 0 = dktX18_execute_0 := by decide +kernel
theorem dX18_execute_0 : decode cX18_execute 0 = .ok (.aload_n 0, 1) := dk_42 (dk_at dksX18_execute_0 0 rfl rfl)
theorem dX18_execute_1 : decode cX18_execute 1 = .ok (.getfield 1, 3) := dk_180 0 1 (dk_at dksX18_execute_0 1 rfl rfl)
theorem dX18_execute_4 : decode cX18_execute 4 = .ok (.getfield 13, 3) := dk_180 0 13 (dk_at dksX18_execute_0 4 rfl rfl)
theorem dX18_execute_7 : decode cX18_execute 7 = .ok (.getfield 19, 3) := dk_180 0 19 (dk_at dksX18_execute_0 7 rfl rfl)
theorem dX18_execute_10 : decode cX18_execute 10 = .ok (.invokevirtual 25, 3) := dk_182 0 25 (dk_at dksX18_execute_0 10 rfl rfl)
theorem dX18_execute_13 : decode cX18_execute 13 = .ok (.iconst 1, 1) := dk_4 (dk_at dksX18_execute_0 13 rfl rfl)
theorem dX18_execute_14 : decode cX18_execute 14 = .ok (.ireturn, 1) := dk_172 (dk_at dksX18_execute_0 14 rfl rfl)
theorem q166 : (Jvm.Cond.initialized "ContractMachine$ScriptParser$4") ∈ lw_all := lw_g (lw_at lw_m1 46 rfl) rfl
theorem q727 : (Jvm.Cond.selects "ContractMachine$ScriptParser$4" ({ cls := "java/lang/Object", name := "getClass", desc := "()Ljava/lang/Class;" } : Jvm.MethodName) ({ cls := "java/lang/Object", name := "getClass", desc := "()Ljava/lang/Class;" } : Jvm.MethodName)) ∈ lw_all := lw_g (lw_at lw_m3 127 rfl) rfl
theorem q893 : (Jvm.Cond.fieldLinkNest "ContractMachine$ScriptParser$4" (19 : Nat) "ContractMachine" "run" "LContractMachine$Run;" "ContractMachine") ∈ lw_tbl := lw_at lw_m4 53 rfl
theorem q1506 : (Jvm.Cond.fieldLink "ContractMachine$ScriptParser$4" (13 : Nat) "ContractMachine$ScriptParser" "this$0" "LContractMachine;") ∈ lw_all := lw_g (lw_at lw_m6 186 rfl) rfl
theorem q1615 : (Jvm.Cond.instantiable "ContractMachine$ScriptParser$4" (1 : Nat)) ∈ lw_all := lw_g (lw_at lw_m7 55 rfl) rfl
theorem q1617 : (Jvm.Cond.instanceMethod ({ cls := "ContractMachine$ScriptParser$4", name := "<init>", desc := "(LContractMachine$ScriptParser;)V" } : Jvm.MethodName)) ∈ lw_all := lw_g (lw_at lw_m7 57 rfl) rfl
theorem q1618 : (Jvm.Cond.code ({ cls := "ContractMachine$ScriptParser$4", name := "<init>", desc := "(LContractMachine$ScriptParser;)V" } : Jvm.MethodName) prog_34_method_1_code (2 : Nat) (Option.none : Option Jvm.ClassFile.FieldType)) ∈ lw_all := lw_g (lw_at lw_m7 58 rfl) rfl
theorem q1619 : (Jvm.Cond.methodLinkNest "ContractMachine$ScriptParser$4" (7 : Nat) ({ cls := "ContractMachine$Command", name := "<init>", desc := "()V" } : Jvm.MethodName) "ContractMachine") ∈ lw_tbl := lw_at lw_m7 59 rfl
theorem q1620 : (Jvm.Cond.fieldLink "ContractMachine$ScriptParser$4" (1 : Nat) "ContractMachine$ScriptParser$4" "this$1" "LContractMachine$ScriptParser;") ∈ lw_all := lw_g (lw_at lw_m7 60 rfl) rfl
theorem q1621 : (Jvm.Cond.laysFinal "ContractMachine$ScriptParser$4" "ContractMachine$ScriptParser$4" "this$1" "LContractMachine$ScriptParser;") ∈ lw_all := lw_g (lw_at lw_m7 61 rfl) rfl
theorem q1622 : (Jvm.Cond.soleField "ContractMachine$ScriptParser$4" "this$1") ∈ lw_all := lw_g (lw_at lw_m7 62 rfl) rfl
theorem q1623 : (Jvm.Cond.superclass "ContractMachine$ScriptParser$4" "ContractMachine$Command") ∈ lw_all := lw_g (lw_at lw_m7 63 rfl) rfl
theorem q1910 : (Jvm.Cond.selects "ContractMachine$ScriptParser$4" ({ cls := "ContractMachine$Command", name := "execute", desc := "()Z" } : Jvm.MethodName) ({ cls := "ContractMachine$ScriptParser$4", name := "execute", desc := "()Z" } : Jvm.MethodName)) ∈ lw_all := lw_g (lw_at lw_m8 110 rfl) rfl
theorem q1911 : (Jvm.Cond.instanceMethod ({ cls := "ContractMachine$ScriptParser$4", name := "execute", desc := "()Z" } : Jvm.MethodName)) ∈ lw_all := lw_g (lw_at lw_m8 111 rfl) rfl
theorem q1912 : (Jvm.Cond.code ({ cls := "ContractMachine$ScriptParser$4", name := "execute", desc := "()Z" } : Jvm.MethodName) prog_34_method_2_code (1 : Nat) (Option.some Jvm.ClassFile.FieldType.boolean)) ∈ lw_all := lw_g (lw_at lw_m8 112 rfl) rfl
theorem q1913 : (Jvm.Cond.methodLink "ContractMachine$ScriptParser$4" (25 : Nat) ({ cls := "ContractMachine$Run", name := "clear", desc := "()V" } : Jvm.MethodName)) ∈ lw_all := lw_g (lw_at lw_m8 113 rfl) rfl
theorem q3319 : (Jvm.Cond.castable "ContractMachine$ScriptParser$4" "java/lang/Object") ∈ lw_tbl := lw_at lw_m14 79 rfl
theorem q3345 : (Jvm.Cond.castable "ContractMachine$ScriptParser$4" "ContractMachine$Command") ∈ lw_tbl := lw_at lw_m14 105 rfl
theorem in_X18 : ∀ w ∈ wsX180, w ∈ lw_all := lw_in wsX180 [1621] (by decide +kernel) (by decide +kernel)
/-! ContractMachine$Rejected -/
set_option maxRecDepth 100000
def RX19 : String := "ContractMachine$Rejected"
def TX19 : u_T := fun k => match k with
  | _ => ("ContractMachine$Rejected", "verdict", "I", true)
def tyX19 : Nat → FieldType := fun k => match k with
  | _ => .int
abbrev wsX190 : List Cond := u_ws RX19 TX19 1
theorem nmX19 : ∀ a, a < 1 → ∀ b, b < 1 → a ≠ b → (TX19 a).2.1 ≠ (TX19 b).2.1 := by decide +kernel
theorem tyX19_ok : ∀ k, k < 1 → parseFieldDescriptor (TX19 k).2.2.1 = some (tyX19 k) := by decide +kernel
abbrev cX19_init : ByteArray := prog_28_method_1_code
def yX19_init : MethodName := ⟨RX19, "<init>", "(I)V"⟩
def dkwX19_init_0 : List UInt8 := [42, 183, 0, 1, 42, 27, 181, 0, 7, 177]
abbrev dktX19_init_0 : List UInt8 := dkwX19_init_0 ++ []
theorem dksX19_init_0 : cX19_init.data.toList.drop 0 = dktX19_init_0 := by decide +kernel
theorem dX19_init_0 : decode cX19_init 0 = .ok (.aload_n 0, 1) := dk_42 (dk_at dksX19_init_0 0 rfl rfl)
theorem dX19_init_1 : decode cX19_init 1 = .ok (.invokespecial 1, 3) := dk_183 0 1 (dk_at dksX19_init_0 1 rfl rfl)
theorem dX19_init_4 : decode cX19_init 4 = .ok (.aload_n 0, 1) := dk_42 (dk_at dksX19_init_0 4 rfl rfl)
theorem dX19_init_5 : decode cX19_init 5 = .ok (.iload_n 1, 1) := dk_27 (dk_at dksX19_init_0 5 rfl rfl)
theorem dX19_init_6 : decode cX19_init 6 = .ok (.putfield 7, 3) := dk_181 0 7 (dk_at dksX19_init_0 6 rfl rfl)
theorem dX19_init_9 : decode cX19_init 9 = .ok (.return_, 1) := dk_177 (dk_at dksX19_init_0 9 rfl rfl)
abbrev cX19_applyTo : ByteArray := prog_28_method_3_code
def yX19_applyTo : MethodName := ⟨RX19, "applyTo", "(LContractMachine$Run;)V"⟩
def dkwX19_applyTo_0 : List UInt8 := [43, 180, 0, 13, 42, 180, 0, 7, 92, 46, 4, 96, 79, 177]
abbrev dktX19_applyTo_0 : List UInt8 := dkwX19_applyTo_0 ++ []
theorem dksX19_applyTo_0 : cX19_applyTo.data.toList.drop 0 = dktX19_applyTo_0 := by decide +kernel
theorem dX19_applyTo_0 : decode cX19_applyTo 0 = .ok (.aload_n 1, 1) := dk_43 (dk_at dksX19_applyTo_0 0 rfl rfl)
theorem dX19_applyTo_1 : decode cX19_applyTo 1 = .ok (.getfield 13, 3) := dk_180 0 13 (dk_at dksX19_applyTo_0 1 rfl rfl)
theorem dX19_applyTo_4 : decode cX19_applyTo 4 = .ok (.aload_n 0, 1) := dk_42 (dk_at dksX19_applyTo_0 4 rfl rfl)
theorem dX19_applyTo_5 : decode cX19_applyTo 5 = .ok (.getfield 7, 3) := dk_180 0 7 (dk_at dksX19_applyTo_0 5 rfl rfl)
theorem dX19_applyTo_8 : decode cX19_applyTo 8 = .ok (.dup2, 1) := dk_92 (dk_at dksX19_applyTo_0 8 rfl rfl)
theorem dX19_applyTo_9 : decode cX19_applyTo 9 = .ok (.iaload, 1) := dk_46 (dk_at dksX19_applyTo_0 9 rfl rfl)
theorem dX19_applyTo_10 : decode cX19_applyTo 10 = .ok (.iconst 1, 1) := dk_4 (dk_at dksX19_applyTo_0 10 rfl rfl)
theorem dX19_applyTo_11 : decode cX19_applyTo 11 = .ok (.iadd, 1) := dk_96 (dk_at dksX19_applyTo_0 11 rfl rfl)
theorem dX19_applyTo_12 : decode cX19_applyTo 12 = .ok (.iastore, 1) := dk_79 (dk_at dksX19_applyTo_0 12 rfl rfl)
theorem dX19_applyTo_13 : decode cX19_applyTo 13 = .ok (.return_, 1) := dk_177 (dk_at dksX19_applyTo_0 13 rfl rfl)
abbrev cX19_verdict : ByteArray := prog_28_method_2_code
def yX19_verdict : MethodName := ⟨RX19, "verdict", "()I"⟩
theorem dX19_verdict_0 : decode cX19_verdict 0 = .ok (.aload_n 0, 1) := by decide +kernel
theorem dX19_verdict_1 : decode cX19_verdict 1 = .ok (.getfield 7, 3) := by decide +kernel
theorem dX19_verdict_4 : decode cX19_verdict 4 = .ok (.ireturn, 1) := by decide +kernel
theorem q170 : (Jvm.Cond.initialized "ContractMachine$Rejected") ∈ lw_all := lw_g (lw_at lw_m1 50 rfl) rfl
theorem q605 : (Jvm.Cond.fieldLinkNest "ContractMachine$Rejected" (13 : Nat) "ContractMachine$Run" "rejected" "[I" "ContractMachine") ∈ lw_tbl := lw_at lw_m3 5 rfl
theorem q721 : (Jvm.Cond.selects "ContractMachine$Rejected" ({ cls := "java/lang/Object", name := "getClass", desc := "()Ljava/lang/Class;" } : Jvm.MethodName) ({ cls := "java/lang/Object", name := "getClass", desc := "()Ljava/lang/Class;" } : Jvm.MethodName)) ∈ lw_all := lw_g (lw_at lw_m3 121 rfl) rfl
theorem q1831 : (Jvm.Cond.instantiable "ContractMachine$Rejected" (1 : Nat)) ∈ lw_all := lw_g (lw_at lw_m8 31 rfl) rfl
theorem q1833 : (Jvm.Cond.instanceMethod ({ cls := "ContractMachine$Rejected", name := "<init>", desc := "(I)V" } : Jvm.MethodName)) ∈ lw_all := lw_g (lw_at lw_m8 33 rfl) rfl
theorem q1834 : (Jvm.Cond.code ({ cls := "ContractMachine$Rejected", name := "<init>", desc := "(I)V" } : Jvm.MethodName) prog_28_method_1_code (2 : Nat) (Option.none : Option Jvm.ClassFile.FieldType)) ∈ lw_all := lw_g (lw_at lw_m8 34 rfl) rfl
theorem q1835 : (Jvm.Cond.methodLink "ContractMachine$Rejected" (1 : Nat) ({ cls := "java/lang/Object", name := "<init>", desc := "()V" } : Jvm.MethodName)) ∈ lw_all := lw_g (lw_at lw_m8 35 rfl) rfl
theorem q1836 : (Jvm.Cond.fieldLink "ContractMachine$Rejected" (7 : Nat) "ContractMachine$Rejected" "verdict" "I") ∈ lw_all := lw_g (lw_at lw_m8 36 rfl) rfl
theorem q1837 : (Jvm.Cond.laysFinal "ContractMachine$Rejected" "ContractMachine$Rejected" "verdict" "I") ∈ lw_all := lw_g (lw_at lw_m8 37 rfl) rfl
theorem q1838 : (Jvm.Cond.soleField "ContractMachine$Rejected" "verdict") ∈ lw_all := lw_g (lw_at lw_m8 38 rfl) rfl
theorem q1839 : (Jvm.Cond.superclass "ContractMachine$Rejected" "java/lang/Object") ∈ lw_all := lw_g (lw_at lw_m8 39 rfl) rfl
theorem q1876 : (Jvm.Cond.castable "ContractMachine$Rejected" "ContractMachine$Outcome") ∈ lw_tbl := lw_at lw_m8 76 rfl
theorem q1877 : (Jvm.Cond.selects "ContractMachine$Rejected" ({ cls := "ContractMachine$Outcome", name := "applyTo", desc := "(LContractMachine$Run;)V" } : Jvm.MethodName) ({ cls := "ContractMachine$Rejected", name := "applyTo", desc := "(LContractMachine$Run;)V" } : Jvm.MethodName)) ∈ lw_all := lw_g (lw_at lw_m8 77 rfl) rfl
theorem q1878 : (Jvm.Cond.unhidden "ContractMachine$Rejected" "applyTo" "(LContractMachine$Run;)V") ∈ lw_tbl := lw_at lw_m8 78 rfl
theorem q1879 : (Jvm.Cond.instanceMethod ({ cls := "ContractMachine$Rejected", name := "applyTo", desc := "(LContractMachine$Run;)V" } : Jvm.MethodName)) ∈ lw_all := lw_g (lw_at lw_m8 79 rfl) rfl
theorem q1880 : (Jvm.Cond.publicMethod ({ cls := "ContractMachine$Rejected", name := "applyTo", desc := "(LContractMachine$Run;)V" } : Jvm.MethodName)) ∈ lw_tbl := lw_at lw_m8 80 rfl
theorem q1881 : (Jvm.Cond.code ({ cls := "ContractMachine$Rejected", name := "applyTo", desc := "(LContractMachine$Run;)V" } : Jvm.MethodName) prog_28_method_3_code (2 : Nat) (Option.none : Option Jvm.ClassFile.FieldType)) ∈ lw_all := lw_g (lw_at lw_m8 81 rfl) rfl
theorem q2524 : (Jvm.Cond.selects "ContractMachine$Rejected" ({ cls := "ContractMachine$Outcome", name := "verdict", desc := "()I" } : Jvm.MethodName) ({ cls := "ContractMachine$Rejected", name := "verdict", desc := "()I" } : Jvm.MethodName)) ∈ lw_all := lw_g (lw_at lw_m11 4 rfl) rfl
theorem q2525 : (Jvm.Cond.unhidden "ContractMachine$Rejected" "verdict" "()I") ∈ lw_tbl := lw_at lw_m11 5 rfl
theorem q2526 : (Jvm.Cond.instanceMethod ({ cls := "ContractMachine$Rejected", name := "verdict", desc := "()I" } : Jvm.MethodName)) ∈ lw_all := lw_g (lw_at lw_m11 6 rfl) rfl
theorem q2527 : (Jvm.Cond.publicMethod ({ cls := "ContractMachine$Rejected", name := "verdict", desc := "()I" } : Jvm.MethodName)) ∈ lw_tbl := lw_at lw_m11 7 rfl
theorem q2528 : (Jvm.Cond.code ({ cls := "ContractMachine$Rejected", name := "verdict", desc := "()I" } : Jvm.MethodName) prog_28_method_2_code (1 : Nat) (Option.some Jvm.ClassFile.FieldType.int)) ∈ lw_all := lw_g (lw_at lw_m11 8 rfl) rfl
theorem q3323 : (Jvm.Cond.castable "ContractMachine$Rejected" "java/lang/Object") ∈ lw_tbl := lw_at lw_m14 83 rfl
theorem in_X19 : ∀ w ∈ wsX190, w ∈ lw_all := lw_in wsX190 [1837] (by decide +kernel) (by decide +kernel)
/-! ContractMachine$Operator -/
set_option maxRecDepth 100000
def RX2 : String := "ContractMachine$Operator"
abbrev cX2_values : ByteArray := prog_18_method_1_code
def yX2_values : MethodName := ⟨RX2, "values", "()[LContractMachine$Operator;"⟩
def dkwX2_values_0 : List UInt8 := [178, 0, 22, 182, 0, 26, 192, 0, 27, 176]
abbrev dktX2_values_0 : List UInt8 := dkwX2_values_0 ++ []
theorem dksX2_values_0 : cX2_values.data.toList.drop 0 = dktX2_values_0 := by decide +kernel
theorem dX2_values_0 : decode cX2_values 0 = .ok (.getstatic 22, 3) := dk_178 0 22 (dk_at dksX2_values_0 0 rfl rfl)
theorem dX2_values_3 : decode cX2_values 3 = .ok (.invokevirtual 26, 3) := dk_182 0 26 (dk_at dksX2_values_0 3 rfl rfl)
theorem dX2_values_6 : decode cX2_values 6 = .ok (.checkcast 27, 3) := dk_192 0 27 (dk_at dksX2_values_0 6 rfl rfl)
theorem dX2_values_9 : decode cX2_values 9 = .ok (.areturn, 1) := dk_176 (dk_at dksX2_values_0 9 rfl rfl)
theorem q123 : (Jvm.Cond.initialized "ContractMachine$Operator") ∈ lw_all := lw_g (lw_at lw_m1 3 rfl) rfl
theorem q191 : (Jvm.Cond.static ({ cls := "ContractMachine$Operator", name := "values", desc := "()[LContractMachine$Operator;" } : Jvm.MethodName)) ∈ lw_all := lw_g (lw_at lw_m1 71 rfl) rfl
theorem q192 : (Jvm.Cond.code ({ cls := "ContractMachine$Operator", name := "values", desc := "()[LContractMachine$Operator;" } : Jvm.MethodName) prog_18_method_1_code (0 : Nat) (Option.some (Jvm.ClassFile.FieldType.array (Jvm.ClassFile.FieldType.object "ContractMachine$Operator")))) ∈ lw_all := lw_g (lw_at lw_m1 72 rfl) rfl
theorem q193 : (Jvm.Cond.fieldLink "ContractMachine$Operator" (22 : Nat) "ContractMachine$Operator" "$VALUES" "[LContractMachine$Operator;") ∈ lw_all := lw_g (lw_at lw_m1 73 rfl) rfl
theorem q194 : (Jvm.Cond.laysStatic "ContractMachine$Operator" "$VALUES" "[LContractMachine$Operator;") ∈ lw_tbl := lw_at lw_m1 74 rfl
theorem q195 : (Jvm.Cond.methodLink "ContractMachine$Operator" (26 : Nat) ({ cls := "[LContractMachine$Operator;", name := "clone", desc := "()Ljava/lang/Object;" } : Jvm.MethodName)) ∈ lw_all := lw_g (lw_at lw_m1 75 rfl) rfl
theorem q202 : (Jvm.Cond.classLink "ContractMachine$Operator" (27 : Nat) "[LContractMachine$Operator;") ∈ lw_all := lw_g (lw_at lw_m1 82 rfl) rfl
theorem q835 : (Jvm.Cond.laysStatic "ContractMachine$Operator" "ABOVE_IT" "LContractMachine$Operator;") ∈ lw_tbl := lw_at lw_m3 235 rfl
theorem q851 : (Jvm.Cond.laysStatic "ContractMachine$Operator" "ATLEAST_IT" "LContractMachine$Operator;") ∈ lw_tbl := lw_at lw_m4 11 rfl
theorem q859 : (Jvm.Cond.laysStatic "ContractMachine$Operator" "ATMOST_IT" "LContractMachine$Operator;") ∈ lw_tbl := lw_at lw_m4 19 rfl
theorem q1452 : (Jvm.Cond.declares ({ cls := "ContractMachine$Operator", name := "holds", desc := "(II)Z" } : Jvm.MethodName)) ∈ lw_tbl := lw_at lw_m6 132 rfl
theorem q1453 : (Jvm.Cond.sameMethod "ContractMachine$Operator" "ContractMachine$Operator" "holds" "(II)Z") ∈ lw_all := lw_g (lw_at lw_m6 133 rfl) rfl
theorem q3285 : (Jvm.Cond.castable "ContractMachine$Operator" "java/lang/Object") ∈ lw_tbl := lw_at lw_m14 45 rfl
theorem q3361 : (Jvm.Cond.laysStatic "ContractMachine$Operator" "BELOW_IT" "LContractMachine$Operator;") ∈ lw_tbl := lw_at lw_m14 121 rfl
theorem q3362 : (Jvm.Cond.laysStatic "ContractMachine$Operator" "EQUALS_IT" "LContractMachine$Operator;") ∈ lw_tbl := lw_at lw_m14 122 rfl
theorem q3363 : (Jvm.Cond.laysStatic "ContractMachine$Operator" "DIFFERS_IT" "LContractMachine$Operator;") ∈ lw_tbl := lw_at lw_m14 123 rfl
theorem q3364 : (Jvm.Cond.stringRef "ContractMachine$Operator" (80 : Nat) "above") ∈ lw_tbl := lw_at lw_m14 124 rfl
theorem q3365 : (Jvm.Cond.stringRef "ContractMachine$Operator" (74 : Nat) "atleast") ∈ lw_tbl := lw_at lw_m14 125 rfl
theorem q3366 : (Jvm.Cond.stringRef "ContractMachine$Operator" (56 : Nat) "atmost") ∈ lw_tbl := lw_at lw_m14 126 rfl
theorem q3367 : (Jvm.Cond.stringRef "ContractMachine$Operator" (48 : Nat) "below") ∈ lw_tbl := lw_at lw_m14 127 rfl
theorem q3368 : (Jvm.Cond.stringRef "ContractMachine$Operator" (62 : Nat) "equals") ∈ lw_tbl := lw_at lw_m14 128 rfl
theorem q3369 : (Jvm.Cond.stringRef "ContractMachine$Operator" (68 : Nat) "differs") ∈ lw_tbl := lw_at lw_m14 129 rfl
/-! ContractMachine$Accepted -/
set_option maxRecDepth 100000
def RX20 : String := "ContractMachine$Accepted"
def TX20 : u_T := fun k => match k with
  | 0 => ("ContractMachine$Accepted", "event", "I", true)
  | 1 => ("ContractMachine$Accepted", "transition", "I", true)
  | _ => ("ContractMachine$Accepted", "next", "I", true)
def tyX20 : Nat → FieldType := fun k => match k with
  | 0 => .int
  | 1 => .int
  | _ => .int
abbrev wsX200 : List Cond := u_ws RX20 TX20 3
theorem nmX20 : ∀ a, a < 3 → ∀ b, b < 3 → a ≠ b → (TX20 a).2.1 ≠ (TX20 b).2.1 := by decide +kernel
theorem tyX20_ok : ∀ k, k < 3 → parseFieldDescriptor (TX20 k).2.2.1 = some (tyX20 k) := by decide +kernel
abbrev cX20_init : ByteArray := prog_7_method_1_code
def yX20_init : MethodName := ⟨RX20, "<init>", "(III)V"⟩
def dkwX20_init_0 : List UInt8 := [42, 183, 0, 3, 42, 27, 181, 0, 9, 42, 28, 181, 0, 15, 42, 29, 181, 0, 18, 177]
abbrev dktX20_init_0 : List UInt8 := dkwX20_init_0 ++ []
theorem dksX20_init_0 : cX20_init.data.toList.drop 0 = dktX20_init_0 := by decide +kernel
theorem dX20_init_0 : decode cX20_init 0 = .ok (.aload_n 0, 1) := dk_42 (dk_at dksX20_init_0 0 rfl rfl)
theorem dX20_init_1 : decode cX20_init 1 = .ok (.invokespecial 3, 3) := dk_183 0 3 (dk_at dksX20_init_0 1 rfl rfl)
theorem dX20_init_4 : decode cX20_init 4 = .ok (.aload_n 0, 1) := dk_42 (dk_at dksX20_init_0 4 rfl rfl)
theorem dX20_init_5 : decode cX20_init 5 = .ok (.iload_n 1, 1) := dk_27 (dk_at dksX20_init_0 5 rfl rfl)
theorem dX20_init_6 : decode cX20_init 6 = .ok (.putfield 9, 3) := dk_181 0 9 (dk_at dksX20_init_0 6 rfl rfl)
theorem dX20_init_9 : decode cX20_init 9 = .ok (.aload_n 0, 1) := dk_42 (dk_at dksX20_init_0 9 rfl rfl)
theorem dX20_init_10 : decode cX20_init 10 = .ok (.iload_n 2, 1) := dk_28 (dk_at dksX20_init_0 10 rfl rfl)
theorem dX20_init_11 : decode cX20_init 11 = .ok (.putfield 15, 3) := dk_181 0 15 (dk_at dksX20_init_0 11 rfl rfl)
theorem dX20_init_14 : decode cX20_init 14 = .ok (.aload_n 0, 1) := dk_42 (dk_at dksX20_init_0 14 rfl rfl)
theorem dX20_init_15 : decode cX20_init 15 = .ok (.iload_n 3, 1) := dk_29 (dk_at dksX20_init_0 15 rfl rfl)
theorem dX20_init_16 : decode cX20_init 16 = .ok (.putfield 18, 3) := dk_181 0 18 (dk_at dksX20_init_0 16 rfl rfl)
theorem dX20_init_19 : decode cX20_init 19 = .ok (.return_, 1) := dk_177 (dk_at dksX20_init_0 19 rfl rfl)
abbrev cX20_applyTo : ByteArray := prog_7_method_3_code
def yX20_applyTo : MethodName := ⟨RX20, "applyTo", "(LContractMachine$Run;)V"⟩
def dkwX20_applyTo_2 : List UInt8 := [180, 0, 9, 42, 180, 0, 15, 182, 0, 40, 177]
abbrev dktX20_applyTo_2 : List UInt8 := dkwX20_applyTo_2 ++ []
def dkwX20_applyTo_1 : List UInt8 := [180, 0, 30, 43, 182, 0, 33, 92, 46, 4, 96, 79, 43, 89, 180, 0, 37, 4, 96, 181, 0, 37, 43, 42]
abbrev dktX20_applyTo_1 : List UInt8 := dkwX20_applyTo_1 ++ dktX20_applyTo_2
def dkwX20_applyTo_0 : List UInt8 := [43, 42, 180, 0, 18, 181, 0, 21, 43, 180, 0, 26, 42, 180, 0, 15, 92, 46, 4, 96, 79, 43]
abbrev dktX20_applyTo_0 : List UInt8 := dkwX20_applyTo_0 ++ dktX20_applyTo_1
theorem dksX20_applyTo_0 : cX20_applyTo.data.toList.drop 0 = dktX20_applyTo_0 := by decide +kernel
theorem dksX20_applyTo_1 : cX20_applyTo.data.toList.drop 22 = dktX20_applyTo_1 := dk_seg dksX20_applyTo_0 22 rfl rfl
theorem dksX20_applyTo_2 : cX20_applyTo.data.toList.drop 46 = dktX20_applyTo_2 := dk_seg dksX20_applyTo_1 24 rfl rfl
theorem dX20_applyTo_0 : decode cX20_applyTo 0 = .ok (.aload_n 1, 1) := dk_43 (dk_at dksX20_applyTo_0 0 rfl rfl)
theorem dX20_applyTo_1 : decode cX20_applyTo 1 = .ok (.aload_n 0, 1) := dk_42 (dk_at dksX20_applyTo_0 1 rfl rfl)
theorem dX20_applyTo_2 : decode cX20_applyTo 2 = .ok (.getfield 18, 3) := dk_180 0 18 (dk_at dksX20_applyTo_0 2 rfl rfl)
theorem dX20_applyTo_5 : decode cX20_applyTo 5 = .ok (.putfield 21, 3) := dk_181 0 21 (dk_at dksX20_applyTo_0 5 rfl rfl)
theorem dX20_applyTo_8 : decode cX20_applyTo 8 = .ok (.aload_n 1, 1) := dk_43 (dk_at dksX20_applyTo_0 8 rfl rfl)
theorem dX20_applyTo_9 : decode cX20_applyTo 9 = .ok (.getfield 26, 3) := dk_180 0 26 (dk_at dksX20_applyTo_0 9 rfl rfl)
theorem dX20_applyTo_12 : decode cX20_applyTo 12 = .ok (.aload_n 0, 1) := dk_42 (dk_at dksX20_applyTo_0 12 rfl rfl)
theorem dX20_applyTo_13 : decode cX20_applyTo 13 = .ok (.getfield 15, 3) := dk_180 0 15 (dk_at dksX20_applyTo_0 13 rfl rfl)
theorem dX20_applyTo_16 : decode cX20_applyTo 16 = .ok (.dup2, 1) := dk_92 (dk_at dksX20_applyTo_0 16 rfl rfl)
theorem dX20_applyTo_17 : decode cX20_applyTo 17 = .ok (.iaload, 1) := dk_46 (dk_at dksX20_applyTo_0 17 rfl rfl)
theorem dX20_applyTo_18 : decode cX20_applyTo 18 = .ok (.iconst 1, 1) := dk_4 (dk_at dksX20_applyTo_0 18 rfl rfl)
theorem dX20_applyTo_19 : decode cX20_applyTo 19 = .ok (.iadd, 1) := dk_96 (dk_at dksX20_applyTo_0 19 rfl rfl)
theorem dX20_applyTo_20 : decode cX20_applyTo 20 = .ok (.iastore, 1) := dk_79 (dk_at dksX20_applyTo_0 20 rfl rfl)
theorem dX20_applyTo_21 : decode cX20_applyTo 21 = .ok (.aload_n 1, 1) := dk_43 (dk_at dksX20_applyTo_0 21 rfl rfl)
theorem dX20_applyTo_22 : decode cX20_applyTo 22 = .ok (.getfield 30, 3) := dk_180 0 30 (dk_at dksX20_applyTo_1 0 rfl rfl)
theorem dX20_applyTo_25 : decode cX20_applyTo 25 = .ok (.aload_n 1, 1) := dk_43 (dk_at dksX20_applyTo_1 3 rfl rfl)
theorem dX20_applyTo_26 : decode cX20_applyTo 26 = .ok (.invokevirtual 33, 3) := dk_182 0 33 (dk_at dksX20_applyTo_1 4 rfl rfl)
theorem dX20_applyTo_29 : decode cX20_applyTo 29 = .ok (.dup2, 1) := dk_92 (dk_at dksX20_applyTo_1 7 rfl rfl)
theorem dX20_applyTo_30 : decode cX20_applyTo 30 = .ok (.iaload, 1) := dk_46 (dk_at dksX20_applyTo_1 8 rfl rfl)
theorem dX20_applyTo_31 : decode cX20_applyTo 31 = .ok (.iconst 1, 1) := dk_4 (dk_at dksX20_applyTo_1 9 rfl rfl)
theorem dX20_applyTo_32 : decode cX20_applyTo 32 = .ok (.iadd, 1) := dk_96 (dk_at dksX20_applyTo_1 10 rfl rfl)
theorem dX20_applyTo_33 : decode cX20_applyTo 33 = .ok (.iastore, 1) := dk_79 (dk_at dksX20_applyTo_1 11 rfl rfl)
theorem dX20_applyTo_34 : decode cX20_applyTo 34 = .ok (.aload_n 1, 1) := dk_43 (dk_at dksX20_applyTo_1 12 rfl rfl)
theorem dX20_applyTo_35 : decode cX20_applyTo 35 = .ok (.dup, 1) := dk_89 (dk_at dksX20_applyTo_1 13 rfl rfl)
theorem dX20_applyTo_36 : decode cX20_applyTo 36 = .ok (.getfield 37, 3) := dk_180 0 37 (dk_at dksX20_applyTo_1 14 rfl rfl)
theorem dX20_applyTo_39 : decode cX20_applyTo 39 = .ok (.iconst 1, 1) := dk_4 (dk_at dksX20_applyTo_1 17 rfl rfl)
theorem dX20_applyTo_40 : decode cX20_applyTo 40 = .ok (.iadd, 1) := dk_96 (dk_at dksX20_applyTo_1 18 rfl rfl)
theorem dX20_applyTo_41 : decode cX20_applyTo 41 = .ok (.putfield 37, 3) := dk_181 0 37 (dk_at dksX20_applyTo_1 19 rfl rfl)
theorem dX20_applyTo_44 : decode cX20_applyTo 44 = .ok (.aload_n 1, 1) := dk_43 (dk_at dksX20_applyTo_1 22 rfl rfl)
theorem dX20_applyTo_45 : decode cX20_applyTo 45 = .ok (.aload_n 0, 1) := dk_42 (dk_at dksX20_applyTo_1 23 rfl rfl)
theorem dX20_applyTo_46 : decode cX20_applyTo 46 = .ok (.getfield 9, 3) := dk_180 0 9 (dk_at dksX20_applyTo_2 0 rfl rfl)
theorem dX20_applyTo_49 : decode cX20_applyTo 49 = .ok (.aload_n 0, 1) := dk_42 (dk_at dksX20_applyTo_2 3 rfl rfl)
theorem dX20_applyTo_50 : decode cX20_applyTo 50 = .ok (.getfield 15, 3) := dk_180 0 15 (dk_at dksX20_applyTo_2 4 rfl rfl)
theorem dX20_applyTo_53 : decode cX20_applyTo 53 = .ok (.invokevirtual 40, 3) := dk_182 0 40 (dk_at dksX20_applyTo_2 7 rfl rfl)
theorem dX20_applyTo_56 : decode cX20_applyTo 56 = .ok (.return_, 1) := dk_177 (dk_at dksX20_applyTo_2 10 rfl rfl)
abbrev cX20_verdict : ByteArray := prog_7_method_2_code
def yX20_verdict : MethodName := ⟨RX20, "verdict", "()I"⟩
theorem dX20_verdict_0 : decode cX20_verdict 0 = .ok (.iconst 0, 1) := by decide +kernel
theorem dX20_verdict_1 : decode cX20_verdict 1 = .ok (.ireturn, 1) := by decide +kernel
theorem q171 : (Jvm.Cond.initialized "ContractMachine$Accepted") ∈ lw_all := lw_g (lw_at lw_m1 51 rfl) rfl
theorem q599 : (Jvm.Cond.fieldLinkNest "ContractMachine$Accepted" (26 : Nat) "ContractMachine$Run" "taken" "[I" "ContractMachine") ∈ lw_tbl := lw_at lw_m2 239 rfl
theorem q602 : (Jvm.Cond.fieldLinkNest "ContractMachine$Accepted" (30 : Nat) "ContractMachine$Run" "visits" "[I" "ContractMachine") ∈ lw_tbl := lw_at lw_m3 2 rfl
theorem q612 : (Jvm.Cond.fieldLinkNest "ContractMachine$Accepted" (21 : Nat) "ContractMachine$Run" "configuration" "I" "ContractMachine") ∈ lw_tbl := lw_at lw_m3 12 rfl
theorem q617 : (Jvm.Cond.fieldLinkNest "ContractMachine$Accepted" (37 : Nat) "ContractMachine$Run" "accepted" "I" "ContractMachine") ∈ lw_tbl := lw_at lw_m3 17 rfl
theorem q706 : (Jvm.Cond.selects "ContractMachine$Accepted" ({ cls := "java/lang/Object", name := "getClass", desc := "()Ljava/lang/Class;" } : Jvm.MethodName) ({ cls := "java/lang/Object", name := "getClass", desc := "()Ljava/lang/Class;" } : Jvm.MethodName)) ∈ lw_all := lw_g (lw_at lw_m3 106 rfl) rfl
theorem q1841 : (Jvm.Cond.instantiable "ContractMachine$Accepted" (3 : Nat)) ∈ lw_all := lw_g (lw_at lw_m8 41 rfl) rfl
theorem q1847 : (Jvm.Cond.instanceMethod ({ cls := "ContractMachine$Accepted", name := "<init>", desc := "(III)V" } : Jvm.MethodName)) ∈ lw_all := lw_g (lw_at lw_m8 47 rfl) rfl
theorem q1848 : (Jvm.Cond.code ({ cls := "ContractMachine$Accepted", name := "<init>", desc := "(III)V" } : Jvm.MethodName) prog_7_method_1_code (4 : Nat) (Option.none : Option Jvm.ClassFile.FieldType)) ∈ lw_all := lw_g (lw_at lw_m8 48 rfl) rfl
theorem q1849 : (Jvm.Cond.methodLink "ContractMachine$Accepted" (3 : Nat) ({ cls := "java/lang/Object", name := "<init>", desc := "()V" } : Jvm.MethodName)) ∈ lw_all := lw_g (lw_at lw_m8 49 rfl) rfl
theorem q1850 : (Jvm.Cond.fieldLink "ContractMachine$Accepted" (9 : Nat) "ContractMachine$Accepted" "event" "I") ∈ lw_all := lw_g (lw_at lw_m8 50 rfl) rfl
theorem q1851 : (Jvm.Cond.fieldLink "ContractMachine$Accepted" (15 : Nat) "ContractMachine$Accepted" "transition" "I") ∈ lw_all := lw_g (lw_at lw_m8 51 rfl) rfl
theorem q1852 : (Jvm.Cond.fieldLink "ContractMachine$Accepted" (18 : Nat) "ContractMachine$Accepted" "next" "I") ∈ lw_all := lw_g (lw_at lw_m8 52 rfl) rfl
theorem q1853 : (Jvm.Cond.laysFinal "ContractMachine$Accepted" "ContractMachine$Accepted" "event" "I") ∈ lw_all := lw_g (lw_at lw_m8 53 rfl) rfl
theorem q1854 : (Jvm.Cond.soleField "ContractMachine$Accepted" "event") ∈ lw_all := lw_g (lw_at lw_m8 54 rfl) rfl
theorem q1855 : (Jvm.Cond.laysFinal "ContractMachine$Accepted" "ContractMachine$Accepted" "transition" "I") ∈ lw_all := lw_g (lw_at lw_m8 55 rfl) rfl
theorem q1856 : (Jvm.Cond.soleField "ContractMachine$Accepted" "transition") ∈ lw_all := lw_g (lw_at lw_m8 56 rfl) rfl
theorem q1857 : (Jvm.Cond.laysFinal "ContractMachine$Accepted" "ContractMachine$Accepted" "next" "I") ∈ lw_all := lw_g (lw_at lw_m8 57 rfl) rfl
theorem q1858 : (Jvm.Cond.soleField "ContractMachine$Accepted" "next") ∈ lw_all := lw_g (lw_at lw_m8 58 rfl) rfl
theorem q1859 : (Jvm.Cond.superclass "ContractMachine$Accepted" "java/lang/Object") ∈ lw_all := lw_g (lw_at lw_m8 59 rfl) rfl
theorem q1864 : (Jvm.Cond.castable "ContractMachine$Accepted" "ContractMachine$Outcome") ∈ lw_tbl := lw_at lw_m8 64 rfl
theorem q1865 : (Jvm.Cond.selects "ContractMachine$Accepted" ({ cls := "ContractMachine$Outcome", name := "applyTo", desc := "(LContractMachine$Run;)V" } : Jvm.MethodName) ({ cls := "ContractMachine$Accepted", name := "applyTo", desc := "(LContractMachine$Run;)V" } : Jvm.MethodName)) ∈ lw_all := lw_g (lw_at lw_m8 65 rfl) rfl
theorem q1866 : (Jvm.Cond.unhidden "ContractMachine$Accepted" "applyTo" "(LContractMachine$Run;)V") ∈ lw_tbl := lw_at lw_m8 66 rfl
theorem q1867 : (Jvm.Cond.instanceMethod ({ cls := "ContractMachine$Accepted", name := "applyTo", desc := "(LContractMachine$Run;)V" } : Jvm.MethodName)) ∈ lw_all := lw_g (lw_at lw_m8 67 rfl) rfl
theorem q1868 : (Jvm.Cond.publicMethod ({ cls := "ContractMachine$Accepted", name := "applyTo", desc := "(LContractMachine$Run;)V" } : Jvm.MethodName)) ∈ lw_tbl := lw_at lw_m8 68 rfl
theorem q1869 : (Jvm.Cond.code ({ cls := "ContractMachine$Accepted", name := "applyTo", desc := "(LContractMachine$Run;)V" } : Jvm.MethodName) prog_7_method_3_code (2 : Nat) (Option.none : Option Jvm.ClassFile.FieldType)) ∈ lw_all := lw_g (lw_at lw_m8 69 rfl) rfl
theorem q1870 : (Jvm.Cond.methodLink "ContractMachine$Accepted" (33 : Nat) ({ cls := "ContractMachine$Run", name := "state", desc := "()I" } : Jvm.MethodName)) ∈ lw_all := lw_g (lw_at lw_m8 70 rfl) rfl
theorem q1871 : (Jvm.Cond.methodLink "ContractMachine$Accepted" (40 : Nat) ({ cls := "ContractMachine$Run", name := "trace", desc := "(II)V" } : Jvm.MethodName)) ∈ lw_all := lw_g (lw_at lw_m8 71 rfl) rfl
theorem q2519 : (Jvm.Cond.selects "ContractMachine$Accepted" ({ cls := "ContractMachine$Outcome", name := "verdict", desc := "()I" } : Jvm.MethodName) ({ cls := "ContractMachine$Accepted", name := "verdict", desc := "()I" } : Jvm.MethodName)) ∈ lw_all := lw_g (lw_at lw_m10 239 rfl) rfl
theorem q2520 : (Jvm.Cond.unhidden "ContractMachine$Accepted" "verdict" "()I") ∈ lw_tbl := lw_at lw_m11 0 rfl
theorem q2521 : (Jvm.Cond.instanceMethod ({ cls := "ContractMachine$Accepted", name := "verdict", desc := "()I" } : Jvm.MethodName)) ∈ lw_all := lw_g (lw_at lw_m11 1 rfl) rfl
theorem q2522 : (Jvm.Cond.publicMethod ({ cls := "ContractMachine$Accepted", name := "verdict", desc := "()I" } : Jvm.MethodName)) ∈ lw_tbl := lw_at lw_m11 2 rfl
theorem q2523 : (Jvm.Cond.code ({ cls := "ContractMachine$Accepted", name := "verdict", desc := "()I" } : Jvm.MethodName) prog_7_method_2_code (1 : Nat) (Option.some Jvm.ClassFile.FieldType.int)) ∈ lw_all := lw_g (lw_at lw_m11 3 rfl) rfl
theorem q3324 : (Jvm.Cond.castable "ContractMachine$Accepted" "java/lang/Object") ∈ lw_tbl := lw_at lw_m14 84 rfl
theorem in_X20 : ∀ w ∈ wsX200, w ∈ lw_all := lw_in wsX200 [1853, 1855, 1857] (by decide +kernel) (by decide +kernel)
/-! ContractMachine$Search -/
set_option maxRecDepth 100000
def RX21 : String := "ContractMachine$Search"
def TX21 : u_T := fun k => match k with
  | 0 => ("ContractMachine$Search", "begin", "I", false)
  | 1 => ("ContractMachine$Search", "end", "I", false)
  | _ => ("ContractMachine$Search", "this$0", "LContractMachine;", true)
def tyX21 : Nat → FieldType := fun k => match k with
  | 0 => .int
  | 1 => .int
  | _ => .object "ContractMachine"
abbrev wsX210 : List Cond := u_ws RX21 TX21 3
theorem nmX21 : ∀ a, a < 3 → ∀ b, b < 3 → a ≠ b → (TX21 a).2.1 ≠ (TX21 b).2.1 := by decide +kernel
theorem tyX21_ok : ∀ k, k < 3 → parseFieldDescriptor (TX21 k).2.2.1 = some (tyX21 k) := by decide +kernel
abbrev cX21_init : ByteArray := prog_35_method_1_code
def yX21_init : MethodName := ⟨RX21, "<init>", "(LContractMachine;)V"⟩
def dkwX21_init_1 : List UInt8 := [79, 132, 2, 1, 167, 255, 239, 177]
abbrev dktX21_init_1 : List UInt8 := dkwX21_init_1 ++ []
def dkwX21_init_0 : List UInt8 := [42, 43, 181, 0, 3, 42, 183, 0, 9, 3, 61, 28, 17, 39, 16, 162, 0, 16, 43, 180, 0, 15, 28, 2]
abbrev dktX21_init_0 : List UInt8 := dkwX21_init_0 ++ dktX21_init_1
theorem dksX21_init_0 : cX21_init.data.toList.drop 0 = dktX21_init_0 := by decide +kernel
theorem dksX21_init_1 : cX21_init.data.toList.drop 24 = dktX21_init_1 := dk_seg dksX21_init_0 24 rfl rfl
theorem dX21_init_0 : decode cX21_init 0 = .ok (.aload_n 0, 1) := dk_42 (dk_at dksX21_init_0 0 rfl rfl)
theorem dX21_init_1 : decode cX21_init 1 = .ok (.aload_n 1, 1) := dk_43 (dk_at dksX21_init_0 1 rfl rfl)
theorem dX21_init_2 : decode cX21_init 2 = .ok (.putfield 3, 3) := dk_181 0 3 (dk_at dksX21_init_0 2 rfl rfl)
theorem dX21_init_5 : decode cX21_init 5 = .ok (.aload_n 0, 1) := dk_42 (dk_at dksX21_init_0 5 rfl rfl)
theorem dX21_init_6 : decode cX21_init 6 = .ok (.invokespecial 9, 3) := dk_183 0 9 (dk_at dksX21_init_0 6 rfl rfl)
theorem dX21_init_9 : decode cX21_init 9 = .ok (.iconst 0, 1) := dk_3 (dk_at dksX21_init_0 9 rfl rfl)
theorem dX21_init_10 : decode cX21_init 10 = .ok (.istore_n 2, 1) := dk_61 (dk_at dksX21_init_0 10 rfl rfl)
theorem dX21_init_11 : decode cX21_init 11 = .ok (.iload_n 2, 1) := dk_28 (dk_at dksX21_init_0 11 rfl rfl)
theorem dX21_init_12 : decode cX21_init 12 = .ok (.sipush 10000, 3) := dk_17 39 16 (dk_at dksX21_init_0 12 rfl rfl)
theorem dX21_init_15 : decode cX21_init 15 = .ok (.if_icmp .ge 16, 3) := dk_162 0 16 (dk_at dksX21_init_0 15 rfl rfl)
theorem dX21_init_18 : decode cX21_init 18 = .ok (.aload_n 1, 1) := dk_43 (dk_at dksX21_init_0 18 rfl rfl)
theorem dX21_init_19 : decode cX21_init 19 = .ok (.getfield 15, 3) := dk_180 0 15 (dk_at dksX21_init_0 19 rfl rfl)
theorem dX21_init_22 : decode cX21_init 22 = .ok (.iload_n 2, 1) := dk_28 (dk_at dksX21_init_0 22 rfl rfl)
theorem dX21_init_23 : decode cX21_init 23 = .ok (.iconst (-1), 1) := dk_2 (dk_at dksX21_init_0 23 rfl rfl)
theorem dX21_init_24 : decode cX21_init 24 = .ok (.iastore, 1) := dk_79 (dk_at dksX21_init_1 0 rfl rfl)
theorem dX21_init_25 : decode cX21_init 25 = .ok (.iinc 2 1, 3) := dk_132 2 1 (dk_at dksX21_init_1 1 rfl rfl)
theorem dX21_init_28 : decode cX21_init 28 = .ok (.goto (-17), 3) := dk_167 255 239 (dk_at dksX21_init_1 4 rfl rfl)
theorem dX21_init_31 : decode cX21_init 31 = .ok (.return_, 1) := dk_177 (dk_at dksX21_init_1 7 rfl rfl)
abbrev cX21_inBreadth : ByteArray := prog_35_method_4_code
def yX21_inBreadth : MethodName := ⟨RX21, "inBreadth", "(LContractMachine$Visitor;)I"⟩
def dkwX21_inBreadth_3 : List UInt8 := [167, 255, 201, 42, 180, 0, 62, 172]
abbrev dktX21_inBreadth_3 : List UInt8 := dkwX21_inBreadth_3 ++ []
def dkwX21_inBreadth_2 : List UInt8 := [61, 42, 89, 180, 0, 62, 4, 96, 181, 0, 62, 43, 28, 185, 0, 71, 2, 0, 42, 28, 182, 0, 75]
abbrev dktX21_inBreadth_2 : List UInt8 := dkwX21_inBreadth_2 ++ dktX21_inBreadth_3
def dkwX21_inBreadth_1 : List UInt8 := [162, 0, 50, 43, 185, 0, 65, 1, 0, 154, 0, 41, 42, 180, 0, 3, 180, 0, 22, 42, 180, 0, 62, 46]
abbrev dktX21_inBreadth_1 : List UInt8 := dkwX21_inBreadth_1 ++ dktX21_inBreadth_2
def dkwX21_inBreadth_0 : List UInt8 := [42, 42, 180, 0, 3, 180, 0, 53, 180, 0, 57, 3, 2, 182, 0, 49, 42, 180, 0, 62, 42, 180, 0, 25]
abbrev dktX21_inBreadth_0 : List UInt8 := dkwX21_inBreadth_0 ++ dktX21_inBreadth_1
theorem dksX21_inBreadth_0 : cX21_inBreadth.data.toList.drop 0 = dktX21_inBreadth_0 := by decide +kernel
theorem dksX21_inBreadth_1 : cX21_inBreadth.data.toList.drop 24 = dktX21_inBreadth_1 := dk_seg dksX21_inBreadth_0 24 rfl rfl
theorem dksX21_inBreadth_2 : cX21_inBreadth.data.toList.drop 48 = dktX21_inBreadth_2 := dk_seg dksX21_inBreadth_1 24 rfl rfl
theorem dksX21_inBreadth_3 : cX21_inBreadth.data.toList.drop 71 = dktX21_inBreadth_3 := dk_seg dksX21_inBreadth_2 23 rfl rfl
theorem dX21_inBreadth_0 : decode cX21_inBreadth 0 = .ok (.aload_n 0, 1) := dk_42 (dk_at dksX21_inBreadth_0 0 rfl rfl)
theorem dX21_inBreadth_1 : decode cX21_inBreadth 1 = .ok (.aload_n 0, 1) := dk_42 (dk_at dksX21_inBreadth_0 1 rfl rfl)
theorem dX21_inBreadth_2 : decode cX21_inBreadth 2 = .ok (.getfield 3, 3) := dk_180 0 3 (dk_at dksX21_inBreadth_0 2 rfl rfl)
theorem dX21_inBreadth_5 : decode cX21_inBreadth 5 = .ok (.getfield 53, 3) := dk_180 0 53 (dk_at dksX21_inBreadth_0 5 rfl rfl)
theorem dX21_inBreadth_8 : decode cX21_inBreadth 8 = .ok (.getfield 57, 3) := dk_180 0 57 (dk_at dksX21_inBreadth_0 8 rfl rfl)
theorem dX21_inBreadth_11 : decode cX21_inBreadth 11 = .ok (.iconst 0, 1) := dk_3 (dk_at dksX21_inBreadth_0 11 rfl rfl)
theorem dX21_inBreadth_12 : decode cX21_inBreadth 12 = .ok (.iconst (-1), 1) := dk_2 (dk_at dksX21_inBreadth_0 12 rfl rfl)
theorem dX21_inBreadth_13 : decode cX21_inBreadth 13 = .ok (.invokevirtual 49, 3) := dk_182 0 49 (dk_at dksX21_inBreadth_0 13 rfl rfl)
theorem dX21_inBreadth_16 : decode cX21_inBreadth 16 = .ok (.aload_n 0, 1) := dk_42 (dk_at dksX21_inBreadth_0 16 rfl rfl)
theorem dX21_inBreadth_17 : decode cX21_inBreadth 17 = .ok (.getfield 62, 3) := dk_180 0 62 (dk_at dksX21_inBreadth_0 17 rfl rfl)
theorem dX21_inBreadth_20 : decode cX21_inBreadth 20 = .ok (.aload_n 0, 1) := dk_42 (dk_at dksX21_inBreadth_0 20 rfl rfl)
theorem dX21_inBreadth_21 : decode cX21_inBreadth 21 = .ok (.getfield 25, 3) := dk_180 0 25 (dk_at dksX21_inBreadth_0 21 rfl rfl)
theorem dX21_inBreadth_24 : decode cX21_inBreadth 24 = .ok (.if_icmp .ge 50, 3) := dk_162 0 50 (dk_at dksX21_inBreadth_1 0 rfl rfl)
theorem dX21_inBreadth_27 : decode cX21_inBreadth 27 = .ok (.aload_n 1, 1) := dk_43 (dk_at dksX21_inBreadth_1 3 rfl rfl)
theorem dX21_inBreadth_28 : decode cX21_inBreadth 28 = .ok (.invokeinterface 65 1, 5) := by decide +kernel
theorem dX21_inBreadth_33 : decode cX21_inBreadth 33 = .ok (.ifCond .ne 41, 3) := dk_154 0 41 (dk_at dksX21_inBreadth_1 9 rfl rfl)
theorem dX21_inBreadth_36 : decode cX21_inBreadth 36 = .ok (.aload_n 0, 1) := dk_42 (dk_at dksX21_inBreadth_1 12 rfl rfl)
theorem dX21_inBreadth_37 : decode cX21_inBreadth 37 = .ok (.getfield 3, 3) := dk_180 0 3 (dk_at dksX21_inBreadth_1 13 rfl rfl)
theorem dX21_inBreadth_40 : decode cX21_inBreadth 40 = .ok (.getfield 22, 3) := dk_180 0 22 (dk_at dksX21_inBreadth_1 16 rfl rfl)
theorem dX21_inBreadth_43 : decode cX21_inBreadth 43 = .ok (.aload_n 0, 1) := dk_42 (dk_at dksX21_inBreadth_1 19 rfl rfl)
theorem dX21_inBreadth_44 : decode cX21_inBreadth 44 = .ok (.getfield 62, 3) := dk_180 0 62 (dk_at dksX21_inBreadth_1 20 rfl rfl)
theorem dX21_inBreadth_47 : decode cX21_inBreadth 47 = .ok (.iaload, 1) := dk_46 (dk_at dksX21_inBreadth_1 23 rfl rfl)
theorem dX21_inBreadth_48 : decode cX21_inBreadth 48 = .ok (.istore_n 2, 1) := dk_61 (dk_at dksX21_inBreadth_2 0 rfl rfl)
theorem dX21_inBreadth_49 : decode cX21_inBreadth 49 = .ok (.aload_n 0, 1) := dk_42 (dk_at dksX21_inBreadth_2 1 rfl rfl)
theorem dX21_inBreadth_50 : decode cX21_inBreadth 50 = .ok (.dup, 1) := dk_89 (dk_at dksX21_inBreadth_2 2 rfl rfl)
theorem dX21_inBreadth_51 : decode cX21_inBreadth 51 = .ok (.getfield 62, 3) := dk_180 0 62 (dk_at dksX21_inBreadth_2 3 rfl rfl)
theorem dX21_inBreadth_54 : decode cX21_inBreadth 54 = .ok (.iconst 1, 1) := dk_4 (dk_at dksX21_inBreadth_2 6 rfl rfl)
theorem dX21_inBreadth_55 : decode cX21_inBreadth 55 = .ok (.iadd, 1) := dk_96 (dk_at dksX21_inBreadth_2 7 rfl rfl)
theorem dX21_inBreadth_56 : decode cX21_inBreadth 56 = .ok (.putfield 62, 3) := dk_181 0 62 (dk_at dksX21_inBreadth_2 8 rfl rfl)
theorem dX21_inBreadth_59 : decode cX21_inBreadth 59 = .ok (.aload_n 1, 1) := dk_43 (dk_at dksX21_inBreadth_2 11 rfl rfl)
theorem dX21_inBreadth_60 : decode cX21_inBreadth 60 = .ok (.iload_n 2, 1) := dk_28 (dk_at dksX21_inBreadth_2 12 rfl rfl)
theorem dX21_inBreadth_61 : decode cX21_inBreadth 61 = .ok (.invokeinterface 71 2, 5) := by decide +kernel
theorem dX21_inBreadth_66 : decode cX21_inBreadth 66 = .ok (.aload_n 0, 1) := dk_42 (dk_at dksX21_inBreadth_2 18 rfl rfl)
theorem dX21_inBreadth_67 : decode cX21_inBreadth 67 = .ok (.iload_n 2, 1) := dk_28 (dk_at dksX21_inBreadth_2 19 rfl rfl)
theorem dX21_inBreadth_68 : decode cX21_inBreadth 68 = .ok (.invokevirtual 75, 3) := dk_182 0 75 (dk_at dksX21_inBreadth_2 20 rfl rfl)
theorem dX21_inBreadth_71 : decode cX21_inBreadth 71 = .ok (.goto (-55), 3) := dk_167 255 201 (dk_at dksX21_inBreadth_3 0 rfl rfl)
theorem dX21_inBreadth_74 : decode cX21_inBreadth 74 = .ok (.aload_n 0, 1) := dk_42 (dk_at dksX21_inBreadth_3 3 rfl rfl)
theorem dX21_inBreadth_75 : decode cX21_inBreadth 75 = .ok (.getfield 62, 3) := dk_180 0 62 (dk_at dksX21_inBreadth_3 4 rfl rfl)
theorem dX21_inBreadth_78 : decode cX21_inBreadth 78 = .ok (.ireturn, 1) := dk_172 (dk_at dksX21_inBreadth_3 7 rfl rfl)
abbrev cX21_mark : ByteArray := prog_35_method_2_code
def yX21_mark : MethodName := ⟨RX21, "mark", "(III)V"⟩
def dkwX21_mark_1 : List UInt8 := [180, 0, 22, 42, 180, 0, 25, 27, 79, 42, 89, 180, 0, 25, 4, 96, 181, 0, 25, 177]
abbrev dktX21_mark_1 : List UInt8 := dkwX21_mark_1 ++ []
def dkwX21_mark_0 : List UInt8 := [42, 180, 0, 3, 180, 0, 15, 27, 28, 79, 42, 180, 0, 3, 180, 0, 19, 27, 29, 79, 42, 180, 0, 3]
abbrev dktX21_mark_0 : List UInt8 := dkwX21_mark_0 ++ dktX21_mark_1
theorem dksX21_mark_0 : cX21_mark.data.toList.drop 0 = dktX21_mark_0 := by decide +kernel
theorem dksX21_mark_1 : cX21_mark.data.toList.drop 24 = dktX21_mark_1 := dk_seg dksX21_mark_0 24 rfl rfl
theorem dX21_mark_0 : decode cX21_mark 0 = .ok (.aload_n 0, 1) := dk_42 (dk_at dksX21_mark_0 0 rfl rfl)
theorem dX21_mark_1 : decode cX21_mark 1 = .ok (.getfield 3, 3) := dk_180 0 3 (dk_at dksX21_mark_0 1 rfl rfl)
theorem dX21_mark_4 : decode cX21_mark 4 = .ok (.getfield 15, 3) := dk_180 0 15 (dk_at dksX21_mark_0 4 rfl rfl)
theorem dX21_mark_7 : decode cX21_mark 7 = .ok (.iload_n 1, 1) := dk_27 (dk_at dksX21_mark_0 7 rfl rfl)
theorem dX21_mark_8 : decode cX21_mark 8 = .ok (.iload_n 2, 1) := dk_28 (dk_at dksX21_mark_0 8 rfl rfl)
theorem dX21_mark_9 : decode cX21_mark 9 = .ok (.iastore, 1) := dk_79 (dk_at dksX21_mark_0 9 rfl rfl)
theorem dX21_mark_10 : decode cX21_mark 10 = .ok (.aload_n 0, 1) := dk_42 (dk_at dksX21_mark_0 10 rfl rfl)
theorem dX21_mark_11 : decode cX21_mark 11 = .ok (.getfield 3, 3) := dk_180 0 3 (dk_at dksX21_mark_0 11 rfl rfl)
theorem dX21_mark_14 : decode cX21_mark 14 = .ok (.getfield 19, 3) := dk_180 0 19 (dk_at dksX21_mark_0 14 rfl rfl)
theorem dX21_mark_17 : decode cX21_mark 17 = .ok (.iload_n 1, 1) := dk_27 (dk_at dksX21_mark_0 17 rfl rfl)
theorem dX21_mark_18 : decode cX21_mark 18 = .ok (.iload_n 3, 1) := dk_29 (dk_at dksX21_mark_0 18 rfl rfl)
theorem dX21_mark_19 : decode cX21_mark 19 = .ok (.iastore, 1) := dk_79 (dk_at dksX21_mark_0 19 rfl rfl)
theorem dX21_mark_20 : decode cX21_mark 20 = .ok (.aload_n 0, 1) := dk_42 (dk_at dksX21_mark_0 20 rfl rfl)
theorem dX21_mark_21 : decode cX21_mark 21 = .ok (.getfield 3, 3) := dk_180 0 3 (dk_at dksX21_mark_0 21 rfl rfl)
theorem dX21_mark_24 : decode cX21_mark 24 = .ok (.getfield 22, 3) := dk_180 0 22 (dk_at dksX21_mark_1 0 rfl rfl)
theorem dX21_mark_27 : decode cX21_mark 27 = .ok (.aload_n 0, 1) := dk_42 (dk_at dksX21_mark_1 3 rfl rfl)
theorem dX21_mark_28 : decode cX21_mark 28 = .ok (.getfield 25, 3) := dk_180 0 25 (dk_at dksX21_mark_1 4 rfl rfl)
theorem dX21_mark_31 : decode cX21_mark 31 = .ok (.iload_n 1, 1) := dk_27 (dk_at dksX21_mark_1 7 rfl rfl)
theorem dX21_mark_32 : decode cX21_mark 32 = .ok (.iastore, 1) := dk_79 (dk_at dksX21_mark_1 8 rfl rfl)
theorem dX21_mark_33 : decode cX21_mark 33 = .ok (.aload_n 0, 1) := dk_42 (dk_at dksX21_mark_1 9 rfl rfl)
theorem dX21_mark_34 : decode cX21_mark 34 = .ok (.dup, 1) := dk_89 (dk_at dksX21_mark_1 10 rfl rfl)
theorem dX21_mark_35 : decode cX21_mark 35 = .ok (.getfield 25, 3) := dk_180 0 25 (dk_at dksX21_mark_1 11 rfl rfl)
theorem dX21_mark_38 : decode cX21_mark 38 = .ok (.iconst 1, 1) := dk_4 (dk_at dksX21_mark_1 14 rfl rfl)
theorem dX21_mark_39 : decode cX21_mark 39 = .ok (.iadd, 1) := dk_96 (dk_at dksX21_mark_1 15 rfl rfl)
theorem dX21_mark_40 : decode cX21_mark 40 = .ok (.putfield 25, 3) := dk_181 0 25 (dk_at dksX21_mark_1 16 rfl rfl)
theorem dX21_mark_43 : decode cX21_mark 43 = .ok (.return_, 1) := dk_177 (dk_at dksX21_mark_1 19 rfl rfl)
abbrev cX21_expand : ByteArray := prog_35_method_3_code
def yX21_expand : MethodName := ⟨RX21, "expand", "(I)V"⟩
def dkwX21_expand_4 : List UInt8 := [21, 4, 182, 0, 49, 132, 2, 1, 167, 255, 158, 177]
abbrev dktX21_expand_4 : List UInt8 := dkwX21_expand_4 ++ []
def dkwX21_expand_3 : List UInt8 := [180, 0, 3, 180, 0, 19, 27, 46, 54, 4, 42, 29, 42, 180, 0, 3, 180, 0, 15, 27, 46, 4, 96]
abbrev dktX21_expand_3 : List UInt8 := dkwX21_expand_3 ++ dktX21_expand_4
def dkwX21_expand_2 : List UInt8 := [159, 0, 6, 167, 0, 48, 42, 180, 0, 3, 180, 0, 15, 27, 46, 154, 0, 7, 28, 167, 0, 12, 42]
abbrev dktX21_expand_2 : List UInt8 := dkwX21_expand_2 ++ dktX21_expand_3
def dkwX21_expand_1 : List UInt8 := [180, 0, 3, 27, 28, 182, 0, 45, 62, 29, 2, 159, 0, 64, 42, 180, 0, 3, 180, 0, 15, 29, 46, 2]
abbrev dktX21_expand_1 : List UInt8 := dkwX21_expand_1 ++ dktX21_expand_2
def dkwX21_expand_0 : List UInt8 := [3, 61, 28, 42, 180, 0, 3, 180, 0, 29, 180, 0, 33, 185, 0, 39, 1, 0, 162, 0, 85, 42]
abbrev dktX21_expand_0 : List UInt8 := dkwX21_expand_0 ++ dktX21_expand_1
theorem dksX21_expand_0 : cX21_expand.data.toList.drop 0 = dktX21_expand_0 := by decide +kernel
theorem dksX21_expand_1 : cX21_expand.data.toList.drop 22 = dktX21_expand_1 := dk_seg dksX21_expand_0 22 rfl rfl
theorem dksX21_expand_2 : cX21_expand.data.toList.drop 46 = dktX21_expand_2 := dk_seg dksX21_expand_1 24 rfl rfl
theorem dksX21_expand_3 : cX21_expand.data.toList.drop 69 = dktX21_expand_3 := dk_seg dksX21_expand_2 23 rfl rfl
theorem dksX21_expand_4 : cX21_expand.data.toList.drop 92 = dktX21_expand_4 := dk_seg dksX21_expand_3 23 rfl rfl
theorem dX21_expand_0 : decode cX21_expand 0 = .ok (.iconst 0, 1) := dk_3 (dk_at dksX21_expand_0 0 rfl rfl)
theorem dX21_expand_1 : decode cX21_expand 1 = .ok (.istore_n 2, 1) := dk_61 (dk_at dksX21_expand_0 1 rfl rfl)
theorem dX21_expand_2 : decode cX21_expand 2 = .ok (.iload_n 2, 1) := dk_28 (dk_at dksX21_expand_0 2 rfl rfl)
theorem dX21_expand_3 : decode cX21_expand 3 = .ok (.aload_n 0, 1) := dk_42 (dk_at dksX21_expand_0 3 rfl rfl)
theorem dX21_expand_4 : decode cX21_expand 4 = .ok (.getfield 3, 3) := dk_180 0 3 (dk_at dksX21_expand_0 4 rfl rfl)
theorem dX21_expand_7 : decode cX21_expand 7 = .ok (.getfield 29, 3) := dk_180 0 29 (dk_at dksX21_expand_0 7 rfl rfl)
theorem dX21_expand_10 : decode cX21_expand 10 = .ok (.getfield 33, 3) := dk_180 0 33 (dk_at dksX21_expand_0 10 rfl rfl)
theorem dX21_expand_13 : decode cX21_expand 13 = .ok (.invokeinterface 39 1, 5) := by decide +kernel
theorem dX21_expand_18 : decode cX21_expand 18 = .ok (.if_icmp .ge 85, 3) := dk_162 0 85 (dk_at dksX21_expand_0 18 rfl rfl)
theorem dX21_expand_21 : decode cX21_expand 21 = .ok (.aload_n 0, 1) := dk_42 (dk_at dksX21_expand_0 21 rfl rfl)
theorem dX21_expand_22 : decode cX21_expand 22 = .ok (.getfield 3, 3) := dk_180 0 3 (dk_at dksX21_expand_1 0 rfl rfl)
theorem dX21_expand_25 : decode cX21_expand 25 = .ok (.iload_n 1, 1) := dk_27 (dk_at dksX21_expand_1 3 rfl rfl)
theorem dX21_expand_26 : decode cX21_expand 26 = .ok (.iload_n 2, 1) := dk_28 (dk_at dksX21_expand_1 4 rfl rfl)
theorem dX21_expand_27 : decode cX21_expand 27 = .ok (.invokevirtual 45, 3) := dk_182 0 45 (dk_at dksX21_expand_1 5 rfl rfl)
theorem dX21_expand_30 : decode cX21_expand 30 = .ok (.istore_n 3, 1) := dk_62 (dk_at dksX21_expand_1 8 rfl rfl)
theorem dX21_expand_31 : decode cX21_expand 31 = .ok (.iload_n 3, 1) := dk_29 (dk_at dksX21_expand_1 9 rfl rfl)
theorem dX21_expand_32 : decode cX21_expand 32 = .ok (.iconst (-1), 1) := dk_2 (dk_at dksX21_expand_1 10 rfl rfl)
theorem dX21_expand_33 : decode cX21_expand 33 = .ok (.if_icmp .eq 64, 3) := dk_159 0 64 (dk_at dksX21_expand_1 11 rfl rfl)
theorem dX21_expand_36 : decode cX21_expand 36 = .ok (.aload_n 0, 1) := dk_42 (dk_at dksX21_expand_1 14 rfl rfl)
theorem dX21_expand_37 : decode cX21_expand 37 = .ok (.getfield 3, 3) := dk_180 0 3 (dk_at dksX21_expand_1 15 rfl rfl)
theorem dX21_expand_40 : decode cX21_expand 40 = .ok (.getfield 15, 3) := dk_180 0 15 (dk_at dksX21_expand_1 18 rfl rfl)
theorem dX21_expand_43 : decode cX21_expand 43 = .ok (.iload_n 3, 1) := dk_29 (dk_at dksX21_expand_1 21 rfl rfl)
theorem dX21_expand_44 : decode cX21_expand 44 = .ok (.iaload, 1) := dk_46 (dk_at dksX21_expand_1 22 rfl rfl)
theorem dX21_expand_45 : decode cX21_expand 45 = .ok (.iconst (-1), 1) := dk_2 (dk_at dksX21_expand_1 23 rfl rfl)
theorem dX21_expand_46 : decode cX21_expand 46 = .ok (.if_icmp .eq 6, 3) := dk_159 0 6 (dk_at dksX21_expand_2 0 rfl rfl)
theorem dX21_expand_49 : decode cX21_expand 49 = .ok (.goto 48, 3) := dk_167 0 48 (dk_at dksX21_expand_2 3 rfl rfl)
theorem dX21_expand_52 : decode cX21_expand 52 = .ok (.aload_n 0, 1) := dk_42 (dk_at dksX21_expand_2 6 rfl rfl)
theorem dX21_expand_53 : decode cX21_expand 53 = .ok (.getfield 3, 3) := dk_180 0 3 (dk_at dksX21_expand_2 7 rfl rfl)
theorem dX21_expand_56 : decode cX21_expand 56 = .ok (.getfield 15, 3) := dk_180 0 15 (dk_at dksX21_expand_2 10 rfl rfl)
theorem dX21_expand_59 : decode cX21_expand 59 = .ok (.iload_n 1, 1) := dk_27 (dk_at dksX21_expand_2 13 rfl rfl)
theorem dX21_expand_60 : decode cX21_expand 60 = .ok (.iaload, 1) := dk_46 (dk_at dksX21_expand_2 14 rfl rfl)
theorem dX21_expand_61 : decode cX21_expand 61 = .ok (.ifCond .ne 7, 3) := dk_154 0 7 (dk_at dksX21_expand_2 15 rfl rfl)
theorem dX21_expand_64 : decode cX21_expand 64 = .ok (.iload_n 2, 1) := dk_28 (dk_at dksX21_expand_2 18 rfl rfl)
theorem dX21_expand_65 : decode cX21_expand 65 = .ok (.goto 12, 3) := dk_167 0 12 (dk_at dksX21_expand_2 19 rfl rfl)
theorem dX21_expand_68 : decode cX21_expand 68 = .ok (.aload_n 0, 1) := dk_42 (dk_at dksX21_expand_2 22 rfl rfl)
theorem dX21_expand_69 : decode cX21_expand 69 = .ok (.getfield 3, 3) := dk_180 0 3 (dk_at dksX21_expand_3 0 rfl rfl)
theorem dX21_expand_72 : decode cX21_expand 72 = .ok (.getfield 19, 3) := dk_180 0 19 (dk_at dksX21_expand_3 3 rfl rfl)
theorem dX21_expand_75 : decode cX21_expand 75 = .ok (.iload_n 1, 1) := dk_27 (dk_at dksX21_expand_3 6 rfl rfl)
theorem dX21_expand_76 : decode cX21_expand 76 = .ok (.iaload, 1) := dk_46 (dk_at dksX21_expand_3 7 rfl rfl)
theorem dX21_expand_77 : decode cX21_expand 77 = .ok (.istore 4, 2) := dk_54 4 (dk_at dksX21_expand_3 8 rfl rfl)
theorem dX21_expand_79 : decode cX21_expand 79 = .ok (.aload_n 0, 1) := dk_42 (dk_at dksX21_expand_3 10 rfl rfl)
theorem dX21_expand_80 : decode cX21_expand 80 = .ok (.iload_n 3, 1) := dk_29 (dk_at dksX21_expand_3 11 rfl rfl)
theorem dX21_expand_81 : decode cX21_expand 81 = .ok (.aload_n 0, 1) := dk_42 (dk_at dksX21_expand_3 12 rfl rfl)
theorem dX21_expand_82 : decode cX21_expand 82 = .ok (.getfield 3, 3) := dk_180 0 3 (dk_at dksX21_expand_3 13 rfl rfl)
theorem dX21_expand_85 : decode cX21_expand 85 = .ok (.getfield 15, 3) := dk_180 0 15 (dk_at dksX21_expand_3 16 rfl rfl)
theorem dX21_expand_88 : decode cX21_expand 88 = .ok (.iload_n 1, 1) := dk_27 (dk_at dksX21_expand_3 19 rfl rfl)
theorem dX21_expand_89 : decode cX21_expand 89 = .ok (.iaload, 1) := dk_46 (dk_at dksX21_expand_3 20 rfl rfl)
theorem dX21_expand_90 : decode cX21_expand 90 = .ok (.iconst 1, 1) := dk_4 (dk_at dksX21_expand_3 21 rfl rfl)
theorem dX21_expand_91 : decode cX21_expand 91 = .ok (.iadd, 1) := dk_96 (dk_at dksX21_expand_3 22 rfl rfl)
theorem dX21_expand_92 : decode cX21_expand 92 = .ok (.iload 4, 2) := dk_21 4 (dk_at dksX21_expand_4 0 rfl rfl)
theorem dX21_expand_94 : decode cX21_expand 94 = .ok (.invokevirtual 49, 3) := dk_182 0 49 (dk_at dksX21_expand_4 2 rfl rfl)
theorem dX21_expand_97 : decode cX21_expand 97 = .ok (.iinc 2 1, 3) := dk_132 2 1 (dk_at dksX21_expand_4 5 rfl rfl)
theorem dX21_expand_100 : decode cX21_expand 100 = .ok (.goto (-98), 3) := dk_167 255 158 (dk_at dksX21_expand_4 8 rfl rfl)
theorem dX21_expand_103 : decode cX21_expand 103 = .ok (.return_, 1) := dk_177 (dk_at dksX21_expand_4 11 rfl rfl)
abbrev cX21_inDepth : ByteArray := prog_35_method_5_code
def yX21_inDepth : MethodName := ⟨RX21, "inDepth", "()I"⟩
def dkwX21_inDepth_2 : List UInt8 := [42, 180, 0, 25, 46, 182, 0, 75, 167, 255, 220, 27, 172]
abbrev dktX21_inDepth_2 : List UInt8 := dkwX21_inDepth_2 ++ []
def dkwX21_inDepth_1 : List UInt8 := [158, 0, 35, 42, 89, 180, 0, 25, 4, 100, 181, 0, 25, 132, 1, 1, 42, 42, 180, 0, 3, 180, 0, 22]
abbrev dktX21_inDepth_1 : List UInt8 := dkwX21_inDepth_1 ++ dktX21_inDepth_2
def dkwX21_inDepth_0 : List UInt8 := [3, 60, 42, 42, 180, 0, 3, 180, 0, 53, 180, 0, 57, 3, 2, 182, 0, 49, 42, 180, 0, 25]
abbrev dktX21_inDepth_0 : List UInt8 := dkwX21_inDepth_0 ++ dktX21_inDepth_1
theorem dksX21_inDepth_0 : cX21_inDepth.data.toList.drop 0 = dktX21_inDepth_0 := by decide +kernel
theorem dksX21_inDepth_1 : cX21_inDepth.data.toList.drop 22 = dktX21_inDepth_1 := dk_seg dksX21_inDepth_0 22 rfl rfl
theorem dksX21_inDepth_2 : cX21_inDepth.data.toList.drop 46 = dktX21_inDepth_2 := dk_seg dksX21_inDepth_1 24 rfl rfl
theorem dX21_inDepth_0 : decode cX21_inDepth 0 = .ok (.iconst 0, 1) := dk_3 (dk_at dksX21_inDepth_0 0 rfl rfl)
theorem dX21_inDepth_1 : decode cX21_inDepth 1 = .ok (.istore_n 1, 1) := dk_60 (dk_at dksX21_inDepth_0 1 rfl rfl)
theorem dX21_inDepth_2 : decode cX21_inDepth 2 = .ok (.aload_n 0, 1) := dk_42 (dk_at dksX21_inDepth_0 2 rfl rfl)
theorem dX21_inDepth_3 : decode cX21_inDepth 3 = .ok (.aload_n 0, 1) := dk_42 (dk_at dksX21_inDepth_0 3 rfl rfl)
theorem dX21_inDepth_4 : decode cX21_inDepth 4 = .ok (.getfield 3, 3) := dk_180 0 3 (dk_at dksX21_inDepth_0 4 rfl rfl)
theorem dX21_inDepth_7 : decode cX21_inDepth 7 = .ok (.getfield 53, 3) := dk_180 0 53 (dk_at dksX21_inDepth_0 7 rfl rfl)
theorem dX21_inDepth_10 : decode cX21_inDepth 10 = .ok (.getfield 57, 3) := dk_180 0 57 (dk_at dksX21_inDepth_0 10 rfl rfl)
theorem dX21_inDepth_13 : decode cX21_inDepth 13 = .ok (.iconst 0, 1) := dk_3 (dk_at dksX21_inDepth_0 13 rfl rfl)
theorem dX21_inDepth_14 : decode cX21_inDepth 14 = .ok (.iconst (-1), 1) := dk_2 (dk_at dksX21_inDepth_0 14 rfl rfl)
theorem dX21_inDepth_15 : decode cX21_inDepth 15 = .ok (.invokevirtual 49, 3) := dk_182 0 49 (dk_at dksX21_inDepth_0 15 rfl rfl)
theorem dX21_inDepth_18 : decode cX21_inDepth 18 = .ok (.aload_n 0, 1) := dk_42 (dk_at dksX21_inDepth_0 18 rfl rfl)
theorem dX21_inDepth_19 : decode cX21_inDepth 19 = .ok (.getfield 25, 3) := dk_180 0 25 (dk_at dksX21_inDepth_0 19 rfl rfl)
theorem dX21_inDepth_22 : decode cX21_inDepth 22 = .ok (.ifCond .le 35, 3) := dk_158 0 35 (dk_at dksX21_inDepth_1 0 rfl rfl)
theorem dX21_inDepth_25 : decode cX21_inDepth 25 = .ok (.aload_n 0, 1) := dk_42 (dk_at dksX21_inDepth_1 3 rfl rfl)
theorem dX21_inDepth_26 : decode cX21_inDepth 26 = .ok (.dup, 1) := dk_89 (dk_at dksX21_inDepth_1 4 rfl rfl)
theorem dX21_inDepth_27 : decode cX21_inDepth 27 = .ok (.getfield 25, 3) := dk_180 0 25 (dk_at dksX21_inDepth_1 5 rfl rfl)
theorem dX21_inDepth_30 : decode cX21_inDepth 30 = .ok (.iconst 1, 1) := dk_4 (dk_at dksX21_inDepth_1 8 rfl rfl)
theorem dX21_inDepth_31 : decode cX21_inDepth 31 = .ok (.isub, 1) := dk_100 (dk_at dksX21_inDepth_1 9 rfl rfl)
theorem dX21_inDepth_32 : decode cX21_inDepth 32 = .ok (.putfield 25, 3) := dk_181 0 25 (dk_at dksX21_inDepth_1 10 rfl rfl)
theorem dX21_inDepth_35 : decode cX21_inDepth 35 = .ok (.iinc 1 1, 3) := dk_132 1 1 (dk_at dksX21_inDepth_1 13 rfl rfl)
theorem dX21_inDepth_38 : decode cX21_inDepth 38 = .ok (.aload_n 0, 1) := dk_42 (dk_at dksX21_inDepth_1 16 rfl rfl)
theorem dX21_inDepth_39 : decode cX21_inDepth 39 = .ok (.aload_n 0, 1) := dk_42 (dk_at dksX21_inDepth_1 17 rfl rfl)
theorem dX21_inDepth_40 : decode cX21_inDepth 40 = .ok (.getfield 3, 3) := dk_180 0 3 (dk_at dksX21_inDepth_1 18 rfl rfl)
theorem dX21_inDepth_43 : decode cX21_inDepth 43 = .ok (.getfield 22, 3) := dk_180 0 22 (dk_at dksX21_inDepth_1 21 rfl rfl)
theorem dX21_inDepth_46 : decode cX21_inDepth 46 = .ok (.aload_n 0, 1) := dk_42 (dk_at dksX21_inDepth_2 0 rfl rfl)
theorem dX21_inDepth_47 : decode cX21_inDepth 47 = .ok (.getfield 25, 3) := dk_180 0 25 (dk_at dksX21_inDepth_2 1 rfl rfl)
theorem dX21_inDepth_50 : decode cX21_inDepth 50 = .ok (.iaload, 1) := dk_46 (dk_at dksX21_inDepth_2 4 rfl rfl)
theorem dX21_inDepth_51 : decode cX21_inDepth 51 = .ok (.invokevirtual 75, 3) := dk_182 0 75 (dk_at dksX21_inDepth_2 5 rfl rfl)
theorem dX21_inDepth_54 : decode cX21_inDepth 54 = .ok (.goto (-36), 3) := dk_167 255 220 (dk_at dksX21_inDepth_2 8 rfl rfl)
theorem dX21_inDepth_57 : decode cX21_inDepth 57 = .ok (.iload_n 1, 1) := dk_27 (dk_at dksX21_inDepth_2 11 rfl rfl)
theorem dX21_inDepth_58 : decode cX21_inDepth 58 = .ok (.ireturn, 1) := dk_172 (dk_at dksX21_inDepth_2 12 rfl rfl)
theorem q174 : (Jvm.Cond.initialized "ContractMachine$Search") ∈ lw_all := lw_g (lw_at lw_m1 54 rfl) rfl
theorem q563 : (Jvm.Cond.fieldLinkNest "ContractMachine$Search" (33 : Nat) "ContractMachine$Definition" "events" "Ljava/util/List;" "ContractMachine") ∈ lw_tbl := lw_at lw_m2 203 rfl
theorem q613 : (Jvm.Cond.fieldLinkNest "ContractMachine$Search" (57 : Nat) "ContractMachine$Run" "configuration" "I" "ContractMachine") ∈ lw_tbl := lw_at lw_m3 13 rfl
theorem q728 : (Jvm.Cond.selects "ContractMachine$Search" ({ cls := "java/lang/Object", name := "getClass", desc := "()Ljava/lang/Class;" } : Jvm.MethodName) ({ cls := "java/lang/Object", name := "getClass", desc := "()Ljava/lang/Class;" } : Jvm.MethodName)) ∈ lw_all := lw_g (lw_at lw_m3 128 rfl) rfl
theorem q891 : (Jvm.Cond.fieldLinkNest "ContractMachine$Search" (29 : Nat) "ContractMachine" "definition" "LContractMachine$Definition;" "ContractMachine") ∈ lw_tbl := lw_at lw_m4 51 rfl
theorem q895 : (Jvm.Cond.fieldLinkNest "ContractMachine$Search" (53 : Nat) "ContractMachine" "run" "LContractMachine$Run;" "ContractMachine") ∈ lw_tbl := lw_at lw_m4 55 rfl
theorem q899 : (Jvm.Cond.fieldLinkNest "ContractMachine$Search" (15 : Nat) "ContractMachine" "depths" "[I" "ContractMachine") ∈ lw_tbl := lw_at lw_m4 59 rfl
theorem q901 : (Jvm.Cond.fieldLinkNest "ContractMachine$Search" (19 : Nat) "ContractMachine" "firsts" "[I" "ContractMachine") ∈ lw_tbl := lw_at lw_m4 61 rfl
theorem q903 : (Jvm.Cond.fieldLinkNest "ContractMachine$Search" (22 : Nat) "ContractMachine" "queue" "[I" "ContractMachine") ∈ lw_tbl := lw_at lw_m4 63 rfl
theorem q1999 : (Jvm.Cond.instantiable "ContractMachine$Search" (3 : Nat)) ∈ lw_all := lw_g (lw_at lw_m8 199 rfl) rfl
theorem q2001 : (Jvm.Cond.instanceMethod ({ cls := "ContractMachine$Search", name := "<init>", desc := "(LContractMachine;)V" } : Jvm.MethodName)) ∈ lw_all := lw_g (lw_at lw_m8 201 rfl) rfl
theorem q2002 : (Jvm.Cond.code ({ cls := "ContractMachine$Search", name := "<init>", desc := "(LContractMachine;)V" } : Jvm.MethodName) prog_35_method_1_code (3 : Nat) (Option.none : Option Jvm.ClassFile.FieldType)) ∈ lw_all := lw_g (lw_at lw_m8 202 rfl) rfl
theorem q2003 : (Jvm.Cond.methodLink "ContractMachine$Search" (9 : Nat) ({ cls := "java/lang/Object", name := "<init>", desc := "()V" } : Jvm.MethodName)) ∈ lw_all := lw_g (lw_at lw_m8 203 rfl) rfl
theorem q2004 : (Jvm.Cond.fieldLink "ContractMachine$Search" (62 : Nat) "ContractMachine$Search" "begin" "I") ∈ lw_all := lw_g (lw_at lw_m8 204 rfl) rfl
theorem q2005 : (Jvm.Cond.fieldLink "ContractMachine$Search" (25 : Nat) "ContractMachine$Search" "end" "I") ∈ lw_all := lw_g (lw_at lw_m8 205 rfl) rfl
theorem q2006 : (Jvm.Cond.fieldLink "ContractMachine$Search" (3 : Nat) "ContractMachine$Search" "this$0" "LContractMachine;") ∈ lw_all := lw_g (lw_at lw_m8 206 rfl) rfl
theorem q2007 : (Jvm.Cond.lays "ContractMachine$Search" "ContractMachine$Search" "begin" "I") ∈ lw_all := lw_g (lw_at lw_m8 207 rfl) rfl
theorem q2008 : (Jvm.Cond.soleField "ContractMachine$Search" "begin") ∈ lw_all := lw_g (lw_at lw_m8 208 rfl) rfl
theorem q2009 : (Jvm.Cond.lays "ContractMachine$Search" "ContractMachine$Search" "end" "I") ∈ lw_all := lw_g (lw_at lw_m8 209 rfl) rfl
theorem q2010 : (Jvm.Cond.soleField "ContractMachine$Search" "end") ∈ lw_all := lw_g (lw_at lw_m8 210 rfl) rfl
theorem q2011 : (Jvm.Cond.laysFinal "ContractMachine$Search" "ContractMachine$Search" "this$0" "LContractMachine;") ∈ lw_all := lw_g (lw_at lw_m8 211 rfl) rfl
theorem q2012 : (Jvm.Cond.soleField "ContractMachine$Search" "this$0") ∈ lw_all := lw_g (lw_at lw_m8 212 rfl) rfl
theorem q2013 : (Jvm.Cond.superclass "ContractMachine$Search" "java/lang/Object") ∈ lw_all := lw_g (lw_at lw_m8 213 rfl) rfl
theorem q2025 : (Jvm.Cond.instanceMethod ({ cls := "ContractMachine$Search", name := "inBreadth", desc := "(LContractMachine$Visitor;)I" } : Jvm.MethodName)) ∈ lw_all := lw_g (lw_at lw_m8 225 rfl) rfl
theorem q2026 : (Jvm.Cond.selects "ContractMachine$Search" ({ cls := "ContractMachine$Search", name := "inBreadth", desc := "(LContractMachine$Visitor;)I" } : Jvm.MethodName) ({ cls := "ContractMachine$Search", name := "inBreadth", desc := "(LContractMachine$Visitor;)I" } : Jvm.MethodName)) ∈ lw_all := lw_g (lw_at lw_m8 226 rfl) rfl
theorem q2027 : (Jvm.Cond.code ({ cls := "ContractMachine$Search", name := "inBreadth", desc := "(LContractMachine$Visitor;)I" } : Jvm.MethodName) prog_35_method_4_code (3 : Nat) (Option.some Jvm.ClassFile.FieldType.int)) ∈ lw_all := lw_g (lw_at lw_m8 227 rfl) rfl
theorem q2028 : (Jvm.Cond.methodLink "ContractMachine$Search" (49 : Nat) ({ cls := "ContractMachine$Search", name := "mark", desc := "(III)V" } : Jvm.MethodName)) ∈ lw_all := lw_g (lw_at lw_m8 228 rfl) rfl
theorem q2029 : (Jvm.Cond.privateMethod ({ cls := "ContractMachine$Search", name := "mark", desc := "(III)V" } : Jvm.MethodName)) ∈ lw_tbl := lw_at lw_m8 229 rfl
theorem q2030 : (Jvm.Cond.instanceMethod ({ cls := "ContractMachine$Search", name := "mark", desc := "(III)V" } : Jvm.MethodName)) ∈ lw_all := lw_g (lw_at lw_m8 230 rfl) rfl
theorem q2031 : (Jvm.Cond.code ({ cls := "ContractMachine$Search", name := "mark", desc := "(III)V" } : Jvm.MethodName) prog_35_method_2_code (4 : Nat) (Option.none : Option Jvm.ClassFile.FieldType)) ∈ lw_all := lw_g (lw_at lw_m8 231 rfl) rfl
theorem q2032 : (Jvm.Cond.interfaceEntry "ContractMachine$Search" (65 : Nat)) ∈ lw_tbl := lw_at lw_m8 232 rfl
theorem q2033 : (Jvm.Cond.methodLink "ContractMachine$Search" (65 : Nat) ({ cls := "ContractMachine$Visitor", name := "isDone", desc := "()Z" } : Jvm.MethodName)) ∈ lw_all := lw_g (lw_at lw_m8 233 rfl) rfl
theorem q2055 : (Jvm.Cond.interfaceEntry "ContractMachine$Search" (71 : Nat)) ∈ lw_tbl := lw_at lw_m9 15 rfl
theorem q2056 : (Jvm.Cond.methodLink "ContractMachine$Search" (71 : Nat) ({ cls := "ContractMachine$Visitor", name := "visit", desc := "(I)V" } : Jvm.MethodName)) ∈ lw_all := lw_g (lw_at lw_m9 16 rfl) rfl
theorem q2094 : (Jvm.Cond.methodLink "ContractMachine$Search" (75 : Nat) ({ cls := "ContractMachine$Search", name := "expand", desc := "(I)V" } : Jvm.MethodName)) ∈ lw_all := lw_g (lw_at lw_m9 54 rfl) rfl
theorem q2095 : (Jvm.Cond.privateMethod ({ cls := "ContractMachine$Search", name := "expand", desc := "(I)V" } : Jvm.MethodName)) ∈ lw_tbl := lw_at lw_m9 55 rfl
theorem q2096 : (Jvm.Cond.instanceMethod ({ cls := "ContractMachine$Search", name := "expand", desc := "(I)V" } : Jvm.MethodName)) ∈ lw_all := lw_g (lw_at lw_m9 56 rfl) rfl
theorem q2097 : (Jvm.Cond.code ({ cls := "ContractMachine$Search", name := "expand", desc := "(I)V" } : Jvm.MethodName) prog_35_method_3_code (5 : Nat) (Option.none : Option Jvm.ClassFile.FieldType)) ∈ lw_all := lw_g (lw_at lw_m9 57 rfl) rfl
theorem q2098 : (Jvm.Cond.interfaceEntry "ContractMachine$Search" (39 : Nat)) ∈ lw_tbl := lw_at lw_m9 58 rfl
theorem q2099 : (Jvm.Cond.methodLink "ContractMachine$Search" (39 : Nat) ({ cls := "java/util/List", name := "size", desc := "()I" } : Jvm.MethodName)) ∈ lw_all := lw_g (lw_at lw_m9 59 rfl) rfl
theorem q2100 : (Jvm.Cond.methodLinkNest "ContractMachine$Search" (45 : Nat) ({ cls := "ContractMachine", name := "next", desc := "(II)I" } : Jvm.MethodName) "ContractMachine") ∈ lw_tbl := lw_at lw_m9 60 rfl
theorem q2144 : (Jvm.Cond.instanceMethod ({ cls := "ContractMachine$Search", name := "inDepth", desc := "()I" } : Jvm.MethodName)) ∈ lw_all := lw_g (lw_at lw_m9 104 rfl) rfl
theorem q2145 : (Jvm.Cond.selects "ContractMachine$Search" ({ cls := "ContractMachine$Search", name := "inDepth", desc := "()I" } : Jvm.MethodName) ({ cls := "ContractMachine$Search", name := "inDepth", desc := "()I" } : Jvm.MethodName)) ∈ lw_all := lw_g (lw_at lw_m9 105 rfl) rfl
theorem q2146 : (Jvm.Cond.code ({ cls := "ContractMachine$Search", name := "inDepth", desc := "()I" } : Jvm.MethodName) prog_35_method_5_code (2 : Nat) (Option.some Jvm.ClassFile.FieldType.int)) ∈ lw_all := lw_g (lw_at lw_m9 106 rfl) rfl
theorem q3327 : (Jvm.Cond.castable "ContractMachine$Search" "java/lang/Object") ∈ lw_tbl := lw_at lw_m14 87 rfl
theorem in_X21 : ∀ w ∈ wsX210, w ∈ lw_all := lw_in wsX210 [2007, 2009, 2011] (by decide +kernel) (by decide +kernel)
/-! ContractMachine$2 -/
set_option maxRecDepth 100000
def RX22 : String := "ContractMachine$2"
def TX22 : u_T := fun k => match k with
  | _ => ("ContractMachine$2", "this$0", "LContractMachine;", true)
def tyX22 : Nat → FieldType := fun k => match k with
  | _ => .object "ContractMachine"
abbrev wsX220 : List Cond := u_ws RX22 TX22 1
theorem nmX22 : ∀ a, a < 1 → ∀ b, b < 1 → a ≠ b → (TX22 a).2.1 ≠ (TX22 b).2.1 := by decide +kernel
theorem tyX22_ok : ∀ k, k < 1 → parseFieldDescriptor (TX22 k).2.2.1 = some (tyX22 k) := by decide +kernel
abbrev cX22_init : ByteArray := prog_3_method_1_code
def yX22_init : MethodName := ⟨RX22, "<init>", "(LContractMachine;)V"⟩
def dkwX22_init_0 : List UInt8 := [42, 43, 181, 0, 1, 42, 183, 0, 7, 177]
abbrev dktX22_init_0 : List UInt8 := dkwX22_init_0 ++ []
theorem dksX22_init_0 : cX22_init.data.toList.drop 0 = dktX22_init_0 := by decide +kernel
theorem dX22_init_0 : decode cX22_init 0 = .ok (.aload_n 0, 1) := dk_42 (dk_at dksX22_init_0 0 rfl rfl)
theorem dX22_init_1 : decode cX22_init 1 = .ok (.aload_n 1, 1) := dk_43 (dk_at dksX22_init_0 1 rfl rfl)
theorem dX22_init_2 : decode cX22_init 2 = .ok (.putfield 1, 3) := dk_181 0 1 (dk_at dksX22_init_0 2 rfl rfl)
theorem dX22_init_5 : decode cX22_init 5 = .ok (.aload_n 0, 1) := dk_42 (dk_at dksX22_init_0 5 rfl rfl)
theorem dX22_init_6 : decode cX22_init 6 = .ok (.invokespecial 7, 3) := dk_183 0 7 (dk_at dksX22_init_0 6 rfl rfl)
theorem dX22_init_9 : decode cX22_init 9 = .ok (.return_, 1) := dk_177 (dk_at dksX22_init_0 9 rfl rfl)
abbrev cX22_visit : ByteArray := prog_3_method_2_code
def yX22_visit : MethodName := ⟨RX22, "visit", "(I)V"⟩
theorem dX22_visit_0 : decode cX22_visit 0 = .ok (.return_, 1) := by decide +kernel
theorem q175 : (Jvm.Cond.initialized "ContractMachine$2") ∈ lw_all := lw_g (lw_at lw_m1 55 rfl) rfl
theorem q702 : (Jvm.Cond.selects "ContractMachine$2" ({ cls := "java/lang/Object", name := "getClass", desc := "()Ljava/lang/Class;" } : Jvm.MethodName) ({ cls := "java/lang/Object", name := "getClass", desc := "()Ljava/lang/Class;" } : Jvm.MethodName)) ∈ lw_all := lw_g (lw_at lw_m3 102 rfl) rfl
theorem q2015 : (Jvm.Cond.instantiable "ContractMachine$2" (1 : Nat)) ∈ lw_all := lw_g (lw_at lw_m8 215 rfl) rfl
theorem q2017 : (Jvm.Cond.instanceMethod ({ cls := "ContractMachine$2", name := "<init>", desc := "(LContractMachine;)V" } : Jvm.MethodName)) ∈ lw_all := lw_g (lw_at lw_m8 217 rfl) rfl
theorem q2018 : (Jvm.Cond.code ({ cls := "ContractMachine$2", name := "<init>", desc := "(LContractMachine;)V" } : Jvm.MethodName) prog_3_method_1_code (2 : Nat) (Option.none : Option Jvm.ClassFile.FieldType)) ∈ lw_all := lw_g (lw_at lw_m8 218 rfl) rfl
theorem q2019 : (Jvm.Cond.methodLink "ContractMachine$2" (7 : Nat) ({ cls := "java/lang/Object", name := "<init>", desc := "()V" } : Jvm.MethodName)) ∈ lw_all := lw_g (lw_at lw_m8 219 rfl) rfl
theorem q2020 : (Jvm.Cond.fieldLink "ContractMachine$2" (1 : Nat) "ContractMachine$2" "this$0" "LContractMachine;") ∈ lw_all := lw_g (lw_at lw_m8 220 rfl) rfl
theorem q2021 : (Jvm.Cond.laysFinal "ContractMachine$2" "ContractMachine$2" "this$0" "LContractMachine;") ∈ lw_all := lw_g (lw_at lw_m8 221 rfl) rfl
theorem q2022 : (Jvm.Cond.soleField "ContractMachine$2" "this$0") ∈ lw_all := lw_g (lw_at lw_m8 222 rfl) rfl
theorem q2023 : (Jvm.Cond.superclass "ContractMachine$2" "java/lang/Object") ∈ lw_all := lw_g (lw_at lw_m8 223 rfl) rfl
theorem q2042 : (Jvm.Cond.castable "ContractMachine$2" "ContractMachine$Visitor") ∈ lw_tbl := lw_at lw_m9 2 rfl
theorem q2043 : (Jvm.Cond.unhidden "ContractMachine$2" "isDone" "()Z") ∈ lw_tbl := lw_at lw_m9 3 rfl
theorem q2079 : (Jvm.Cond.selects "ContractMachine$2" ({ cls := "ContractMachine$Visitor", name := "visit", desc := "(I)V" } : Jvm.MethodName) ({ cls := "ContractMachine$2", name := "visit", desc := "(I)V" } : Jvm.MethodName)) ∈ lw_all := lw_g (lw_at lw_m9 39 rfl) rfl
theorem q2080 : (Jvm.Cond.unhidden "ContractMachine$2" "visit" "(I)V") ∈ lw_tbl := lw_at lw_m9 40 rfl
theorem q2081 : (Jvm.Cond.instanceMethod ({ cls := "ContractMachine$2", name := "visit", desc := "(I)V" } : Jvm.MethodName)) ∈ lw_all := lw_g (lw_at lw_m9 41 rfl) rfl
theorem q2082 : (Jvm.Cond.publicMethod ({ cls := "ContractMachine$2", name := "visit", desc := "(I)V" } : Jvm.MethodName)) ∈ lw_tbl := lw_at lw_m9 42 rfl
theorem q2083 : (Jvm.Cond.code ({ cls := "ContractMachine$2", name := "visit", desc := "(I)V" } : Jvm.MethodName) prog_3_method_2_code (2 : Nat) (Option.none : Option Jvm.ClassFile.FieldType)) ∈ lw_all := lw_g (lw_at lw_m9 43 rfl) rfl
theorem q3328 : (Jvm.Cond.castable "ContractMachine$2" "java/lang/Object") ∈ lw_tbl := lw_at lw_m14 88 rfl
theorem in_X22 : ∀ w ∈ wsX220, w ∈ lw_all := lw_in wsX220 [2021] (by decide +kernel) (by decide +kernel)
/-! ContractMachine$Finder -/
set_option maxRecDepth 100000
def RX23 : String := "ContractMachine$Finder"
abbrev cX23_isDone : ByteArray := prog_16_method_4_code
def yX23_isDone : MethodName := ⟨RX23, "isDone", "()Z"⟩
def dkwX23_isDone_0 : List UInt8 := [42, 180, 0, 3, 180, 0, 15, 2, 159, 0, 7, 4, 167, 0, 4, 3, 172]
abbrev dktX23_isDone_0 : List UInt8 := dkwX23_isDone_0 ++ []
theorem dksX23_isDone_0 : cX23_isDone.data.toList.drop 0 = dktX23_isDone_0 := by decide +kernel
theorem dX23_isDone_0 : decode cX23_isDone 0 = .ok (.aload_n 0, 1) := dk_42 (dk_at dksX23_isDone_0 0 rfl rfl)
theorem dX23_isDone_1 : decode cX23_isDone 1 = .ok (.getfield 3, 3) := dk_180 0 3 (dk_at dksX23_isDone_0 1 rfl rfl)
theorem dX23_isDone_4 : decode cX23_isDone 4 = .ok (.getfield 15, 3) := dk_180 0 15 (dk_at dksX23_isDone_0 4 rfl rfl)
theorem dX23_isDone_7 : decode cX23_isDone 7 = .ok (.iconst (-1), 1) := dk_2 (dk_at dksX23_isDone_0 7 rfl rfl)
theorem dX23_isDone_8 : decode cX23_isDone 8 = .ok (.if_icmp .eq 7, 3) := dk_159 0 7 (dk_at dksX23_isDone_0 8 rfl rfl)
theorem dX23_isDone_11 : decode cX23_isDone 11 = .ok (.iconst 1, 1) := dk_4 (dk_at dksX23_isDone_0 11 rfl rfl)
theorem dX23_isDone_12 : decode cX23_isDone 12 = .ok (.goto 4, 3) := dk_167 0 4 (dk_at dksX23_isDone_0 12 rfl rfl)
theorem dX23_isDone_15 : decode cX23_isDone 15 = .ok (.iconst 0, 1) := dk_3 (dk_at dksX23_isDone_0 15 rfl rfl)
theorem dX23_isDone_16 : decode cX23_isDone 16 = .ok (.ireturn, 1) := dk_172 (dk_at dksX23_isDone_0 16 rfl rfl)
abbrev cX23_visit : ByteArray := prog_16_method_3_code
def yX23_visit : MethodName := ⟨RX23, "visit", "(I)V"⟩
def dkwX23_visit_0 : List UInt8 := [42, 27, 182, 0, 19, 153, 0, 11, 42, 180, 0, 3, 27, 181, 0, 15, 177]
abbrev dktX23_visit_0 : List UInt8 := dkwX23_visit_0 ++ []
theorem dksX23_visit_0 : cX23_visit.data.toList.drop 0 = dktX23_visit_0 := by decide +kernel
theorem dX23_visit_0 : decode cX23_visit 0 = .ok (.aload_n 0, 1) := dk_42 (dk_at dksX23_visit_0 0 rfl rfl)
theorem dX23_visit_1 : decode cX23_visit 1 = .ok (.iload_n 1, 1) := dk_27 (dk_at dksX23_visit_0 1 rfl rfl)
theorem dX23_visit_2 : decode cX23_visit 2 = .ok (.invokevirtual 19, 3) := dk_182 0 19 (dk_at dksX23_visit_0 2 rfl rfl)
theorem dX23_visit_5 : decode cX23_visit 5 = .ok (.ifCond .eq 11, 3) := dk_153 0 11 (dk_at dksX23_visit_0 5 rfl rfl)
theorem dX23_visit_8 : decode cX23_visit 8 = .ok (.aload_n 0, 1) := dk_42 (dk_at dksX23_visit_0 8 rfl rfl)
theorem dX23_visit_9 : decode cX23_visit 9 = .ok (.getfield 3, 3) := dk_180 0 3 (dk_at dksX23_visit_0 9 rfl rfl)
theorem dX23_visit_12 : decode cX23_visit 12 = .ok (.iload_n 1, 1) := dk_27 (dk_at dksX23_visit_0 12 rfl rfl)
theorem dX23_visit_13 : decode cX23_visit 13 = .ok (.putfield 15, 3) := dk_181 0 15 (dk_at dksX23_visit_0 13 rfl rfl)
theorem dX23_visit_16 : decode cX23_visit 16 = .ok (.return_, 1) := dk_177 (dk_at dksX23_visit_0 16 rfl rfl)
abbrev cX23_init : ByteArray := prog_16_method_1_code
def yX23_init : MethodName := ⟨RX23, "<init>", "(LContractMachine;)V"⟩
def dkwX23_init_0 : List UInt8 := [42, 43, 181, 0, 3, 42, 183, 0, 9, 43, 2, 181, 0, 15, 177]
abbrev dktX23_init_0 : List UInt8 := dkwX23_init_0 ++ []
theorem dksX23_init_0 : cX23_init.data.toList.drop 0 = dktX23_init_0 := by decide +kernel
theorem dX23_init_0 : decode cX23_init 0 = .ok (.aload_n 0, 1) := dk_42 (dk_at dksX23_init_0 0 rfl rfl)
theorem dX23_init_1 : decode cX23_init 1 = .ok (.aload_n 1, 1) := dk_43 (dk_at dksX23_init_0 1 rfl rfl)
theorem dX23_init_2 : decode cX23_init 2 = .ok (.putfield 3, 3) := dk_181 0 3 (dk_at dksX23_init_0 2 rfl rfl)
theorem dX23_init_5 : decode cX23_init 5 = .ok (.aload_n 0, 1) := dk_42 (dk_at dksX23_init_0 5 rfl rfl)
theorem dX23_init_6 : decode cX23_init 6 = .ok (.invokespecial 9, 3) := dk_183 0 9 (dk_at dksX23_init_0 6 rfl rfl)
theorem dX23_init_9 : decode cX23_init 9 = .ok (.aload_n 1, 1) := dk_43 (dk_at dksX23_init_0 9 rfl rfl)
theorem dX23_init_10 : decode cX23_init 10 = .ok (.iconst (-1), 1) := dk_2 (dk_at dksX23_init_0 10 rfl rfl)
theorem dX23_init_11 : decode cX23_init 11 = .ok (.putfield 15, 3) := dk_181 0 15 (dk_at dksX23_init_0 11 rfl rfl)
theorem dX23_init_14 : decode cX23_init 14 = .ok (.return_, 1) := dk_177 (dk_at dksX23_init_0 14 rfl rfl)
theorem q176 : (Jvm.Cond.initialized "ContractMachine$Finder") ∈ lw_all := lw_g (lw_at lw_m1 56 rfl) rfl
theorem q905 : (Jvm.Cond.fieldLinkNest "ContractMachine$Finder" (15 : Nat) "ContractMachine" "found" "I" "ContractMachine") ∈ lw_tbl := lw_at lw_m4 65 rfl
theorem q2039 : (Jvm.Cond.instanceMethod ({ cls := "ContractMachine$Finder", name := "isDone", desc := "()Z" } : Jvm.MethodName)) ∈ lw_all := lw_g (lw_at lw_m8 239 rfl) rfl
theorem q2040 : (Jvm.Cond.publicMethod ({ cls := "ContractMachine$Finder", name := "isDone", desc := "()Z" } : Jvm.MethodName)) ∈ lw_tbl := lw_at lw_m9 0 rfl
theorem q2041 : (Jvm.Cond.code ({ cls := "ContractMachine$Finder", name := "isDone", desc := "()Z" } : Jvm.MethodName) prog_16_method_4_code (1 : Nat) (Option.some Jvm.ClassFile.FieldType.boolean)) ∈ lw_all := lw_g (lw_at lw_m9 1 rfl) rfl
theorem q2061 : (Jvm.Cond.instanceMethod ({ cls := "ContractMachine$Finder", name := "visit", desc := "(I)V" } : Jvm.MethodName)) ∈ lw_all := lw_g (lw_at lw_m9 21 rfl) rfl
theorem q2062 : (Jvm.Cond.publicMethod ({ cls := "ContractMachine$Finder", name := "visit", desc := "(I)V" } : Jvm.MethodName)) ∈ lw_tbl := lw_at lw_m9 22 rfl
theorem q2063 : (Jvm.Cond.code ({ cls := "ContractMachine$Finder", name := "visit", desc := "(I)V" } : Jvm.MethodName) prog_16_method_3_code (2 : Nat) (Option.none : Option Jvm.ClassFile.FieldType)) ∈ lw_all := lw_g (lw_at lw_m9 23 rfl) rfl
theorem q2064 : (Jvm.Cond.methodLink "ContractMachine$Finder" (19 : Nat) ({ cls := "ContractMachine$Finder", name := "isSought", desc := "(I)Z" } : Jvm.MethodName)) ∈ lw_all := lw_g (lw_at lw_m9 24 rfl) rfl
theorem q2065 : (Jvm.Cond.declares ({ cls := "ContractMachine$Finder", name := "isSought", desc := "(I)Z" } : Jvm.MethodName)) ∈ lw_tbl := lw_at lw_m9 25 rfl
theorem q2066 : (Jvm.Cond.sameMethod "ContractMachine$Finder" "ContractMachine$Finder" "isSought" "(I)Z") ∈ lw_all := lw_g (lw_at lw_m9 26 rfl) rfl
theorem q2125 : (Jvm.Cond.instanceMethod ({ cls := "ContractMachine$Finder", name := "<init>", desc := "(LContractMachine;)V" } : Jvm.MethodName)) ∈ lw_all := lw_g (lw_at lw_m9 85 rfl) rfl
theorem q2126 : (Jvm.Cond.code ({ cls := "ContractMachine$Finder", name := "<init>", desc := "(LContractMachine;)V" } : Jvm.MethodName) prog_16_method_1_code (2 : Nat) (Option.none : Option Jvm.ClassFile.FieldType)) ∈ lw_all := lw_g (lw_at lw_m9 86 rfl) rfl
theorem q2127 : (Jvm.Cond.methodLink "ContractMachine$Finder" (9 : Nat) ({ cls := "java/lang/Object", name := "<init>", desc := "()V" } : Jvm.MethodName)) ∈ lw_all := lw_g (lw_at lw_m9 87 rfl) rfl
theorem q2129 : (Jvm.Cond.fieldLink "ContractMachine$Finder" (3 : Nat) "ContractMachine$Finder" "this$0" "LContractMachine;") ∈ lw_all := lw_g (lw_at lw_m9 89 rfl) rfl
theorem q2133 : (Jvm.Cond.soleField "ContractMachine$Finder" "this$0") ∈ lw_all := lw_g (lw_at lw_m9 93 rfl) rfl
/-! ContractMachine$1 -/
set_option maxRecDepth 100000
def RX24 : String := "ContractMachine$1"
def TX24 : u_T := fun k => match k with
  | 0 => ("ContractMachine$Finder", "this$0", "LContractMachine;", true)
  | 1 => ("ContractMachine$1", "val$state", "I", true)
  | _ => ("ContractMachine$1", "this$0", "LContractMachine;", true)
def tyX24 : Nat → FieldType := fun k => match k with
  | 0 => .object "ContractMachine"
  | 1 => .int
  | _ => .object "ContractMachine"
abbrev wsX240 : List Cond := u_ws RX24 TX24 3
-- two fields of one name: no nmX24
theorem tyX24_ok : ∀ k, k < 3 → parseFieldDescriptor (TX24 k).2.2.1 = some (tyX24 k) := by decide +kernel
abbrev cX24_isSought : ByteArray := prog_2_method_2_code
def yX24_isSought : MethodName := ⟨RX24, "isSought", "(I)Z"⟩
def dkwX24_isSought_0 : List UInt8 := [27, 17, 3, 232, 108, 42, 180, 0, 9, 160, 0, 7, 4, 167, 0, 4, 3, 172]
abbrev dktX24_isSought_0 : List UInt8 := dkwX24_isSought_0 ++ []
theorem dksX24_isSought_0 : cX24_isSought.data.toList.drop 0 = dktX24_isSought_0 := by decide +kernel
theorem dX24_isSought_0 : decode cX24_isSought 0 = .ok (.iload_n 1, 1) := dk_27 (dk_at dksX24_isSought_0 0 rfl rfl)
theorem dX24_isSought_1 : decode cX24_isSought 1 = .ok (.sipush 1000, 3) := dk_17 3 232 (dk_at dksX24_isSought_0 1 rfl rfl)
theorem dX24_isSought_4 : decode cX24_isSought 4 = .ok (.idiv, 1) := dk_108 (dk_at dksX24_isSought_0 4 rfl rfl)
theorem dX24_isSought_5 : decode cX24_isSought 5 = .ok (.aload_n 0, 1) := dk_42 (dk_at dksX24_isSought_0 5 rfl rfl)
theorem dX24_isSought_6 : decode cX24_isSought 6 = .ok (.getfield 9, 3) := dk_180 0 9 (dk_at dksX24_isSought_0 6 rfl rfl)
theorem dX24_isSought_9 : decode cX24_isSought 9 = .ok (.if_icmp .ne 7, 3) := dk_160 0 7 (dk_at dksX24_isSought_0 9 rfl rfl)
theorem dX24_isSought_12 : decode cX24_isSought 12 = .ok (.iconst 1, 1) := dk_4 (dk_at dksX24_isSought_0 12 rfl rfl)
theorem dX24_isSought_13 : decode cX24_isSought 13 = .ok (.goto 4, 3) := dk_167 0 4 (dk_at dksX24_isSought_0 13 rfl rfl)
theorem dX24_isSought_16 : decode cX24_isSought 16 = .ok (.iconst 0, 1) := dk_3 (dk_at dksX24_isSought_0 16 rfl rfl)
theorem dX24_isSought_17 : decode cX24_isSought 17 = .ok (.ireturn, 1) := dk_172 (dk_at dksX24_isSought_0 17 rfl rfl)
abbrev cX24_init : ByteArray := prog_2_method_1_code
def yX24_init : MethodName := ⟨RX24, "<init>", "(LContractMachine;I)V"⟩
def dkwX24_init_0 : List UInt8 := [42, 43, 181, 0, 3, 42, 28, 181, 0, 9, 42, 43, 183, 0, 13, 177]
abbrev dktX24_init_0 : List UInt8 := dkwX24_init_0 ++ []
theorem dksX24_init_0 : cX24_init.data.toList.drop 0 = dktX24_init_0 := by decide +kernel
theorem dX24_init_0 : decode cX24_init 0 = .ok (.aload_n 0, 1) := dk_42 (dk_at dksX24_init_0 0 rfl rfl)
theorem dX24_init_1 : decode cX24_init 1 = .ok (.aload_n 1, 1) := dk_43 (dk_at dksX24_init_0 1 rfl rfl)
theorem dX24_init_2 : decode cX24_init 2 = .ok (.putfield 3, 3) := dk_181 0 3 (dk_at dksX24_init_0 2 rfl rfl)
theorem dX24_init_5 : decode cX24_init 5 = .ok (.aload_n 0, 1) := dk_42 (dk_at dksX24_init_0 5 rfl rfl)
theorem dX24_init_6 : decode cX24_init 6 = .ok (.iload_n 2, 1) := dk_28 (dk_at dksX24_init_0 6 rfl rfl)
theorem dX24_init_7 : decode cX24_init 7 = .ok (.putfield 9, 3) := dk_181 0 9 (dk_at dksX24_init_0 7 rfl rfl)
theorem dX24_init_10 : decode cX24_init 10 = .ok (.aload_n 0, 1) := dk_42 (dk_at dksX24_init_0 10 rfl rfl)
theorem dX24_init_11 : decode cX24_init 11 = .ok (.aload_n 1, 1) := dk_43 (dk_at dksX24_init_0 11 rfl rfl)
theorem dX24_init_12 : decode cX24_init 12 = .ok (.invokespecial 13, 3) := dk_183 0 13 (dk_at dksX24_init_0 12 rfl rfl)
theorem dX24_init_15 : decode cX24_init 15 = .ok (.return_, 1) := dk_177 (dk_at dksX24_init_0 15 rfl rfl)
theorem q177 : (Jvm.Cond.initialized "ContractMachine$1") ∈ lw_all := lw_g (lw_at lw_m1 57 rfl) rfl
theorem q701 : (Jvm.Cond.selects "ContractMachine$1" ({ cls := "java/lang/Object", name := "getClass", desc := "()Ljava/lang/Class;" } : Jvm.MethodName) ({ cls := "java/lang/Object", name := "getClass", desc := "()Ljava/lang/Class;" } : Jvm.MethodName)) ∈ lw_all := lw_g (lw_at lw_m3 101 rfl) rfl
theorem q2036 : (Jvm.Cond.castable "ContractMachine$1" "ContractMachine$Visitor") ∈ lw_tbl := lw_at lw_m8 236 rfl
theorem q2037 : (Jvm.Cond.selects "ContractMachine$1" ({ cls := "ContractMachine$Visitor", name := "isDone", desc := "()Z" } : Jvm.MethodName) ({ cls := "ContractMachine$Finder", name := "isDone", desc := "()Z" } : Jvm.MethodName)) ∈ lw_all := lw_g (lw_at lw_m8 237 rfl) rfl
theorem q2038 : (Jvm.Cond.unhidden "ContractMachine$1" "isDone" "()Z") ∈ lw_tbl := lw_at lw_m8 238 rfl
theorem q2059 : (Jvm.Cond.selects "ContractMachine$1" ({ cls := "ContractMachine$Visitor", name := "visit", desc := "(I)V" } : Jvm.MethodName) ({ cls := "ContractMachine$Finder", name := "visit", desc := "(I)V" } : Jvm.MethodName)) ∈ lw_all := lw_g (lw_at lw_m9 19 rfl) rfl
theorem q2060 : (Jvm.Cond.unhidden "ContractMachine$1" "visit" "(I)V") ∈ lw_tbl := lw_at lw_m9 20 rfl
theorem q2067 : (Jvm.Cond.selects "ContractMachine$1" ({ cls := "ContractMachine$Finder", name := "isSought", desc := "(I)Z" } : Jvm.MethodName) ({ cls := "ContractMachine$1", name := "isSought", desc := "(I)Z" } : Jvm.MethodName)) ∈ lw_all := lw_g (lw_at lw_m9 27 rfl) rfl
theorem q2068 : (Jvm.Cond.instanceMethod ({ cls := "ContractMachine$1", name := "isSought", desc := "(I)Z" } : Jvm.MethodName)) ∈ lw_all := lw_g (lw_at lw_m9 28 rfl) rfl
theorem q2069 : (Jvm.Cond.code ({ cls := "ContractMachine$1", name := "isSought", desc := "(I)Z" } : Jvm.MethodName) prog_2_method_2_code (2 : Nat) (Option.some Jvm.ClassFile.FieldType.boolean)) ∈ lw_all := lw_g (lw_at lw_m9 29 rfl) rfl
theorem q2454 : (Jvm.Cond.instantiable "ContractMachine$1" (3 : Nat)) ∈ lw_all := lw_g (lw_at lw_m10 174 rfl) rfl
theorem q2456 : (Jvm.Cond.instanceMethod ({ cls := "ContractMachine$1", name := "<init>", desc := "(LContractMachine;I)V" } : Jvm.MethodName)) ∈ lw_all := lw_g (lw_at lw_m10 176 rfl) rfl
theorem q2457 : (Jvm.Cond.code ({ cls := "ContractMachine$1", name := "<init>", desc := "(LContractMachine;I)V" } : Jvm.MethodName) prog_2_method_1_code (3 : Nat) (Option.none : Option Jvm.ClassFile.FieldType)) ∈ lw_all := lw_g (lw_at lw_m10 177 rfl) rfl
theorem q2458 : (Jvm.Cond.methodLink "ContractMachine$1" (13 : Nat) ({ cls := "ContractMachine$Finder", name := "<init>", desc := "(LContractMachine;)V" } : Jvm.MethodName)) ∈ lw_all := lw_g (lw_at lw_m10 178 rfl) rfl
theorem q2459 : (Jvm.Cond.fieldLink "ContractMachine$1" (9 : Nat) "ContractMachine$1" "val$state" "I") ∈ lw_all := lw_g (lw_at lw_m10 179 rfl) rfl
theorem q2460 : (Jvm.Cond.fieldLink "ContractMachine$1" (3 : Nat) "ContractMachine$1" "this$0" "LContractMachine;") ∈ lw_all := lw_g (lw_at lw_m10 180 rfl) rfl
theorem q2461 : (Jvm.Cond.laysFinal "ContractMachine$1" "ContractMachine$1" "val$state" "I") ∈ lw_all := lw_g (lw_at lw_m10 181 rfl) rfl
theorem q2462 : (Jvm.Cond.soleField "ContractMachine$1" "val$state") ∈ lw_all := lw_g (lw_at lw_m10 182 rfl) rfl
theorem q2463 : (Jvm.Cond.laysFinal "ContractMachine$1" "ContractMachine$1" "this$0" "LContractMachine;") ∈ lw_all := lw_g (lw_at lw_m10 183 rfl) rfl
theorem q2464 : (Jvm.Cond.soleField "ContractMachine$1" "this$0") ∈ lw_all := lw_g (lw_at lw_m10 184 rfl) rfl
theorem q2465 : (Jvm.Cond.laysFinal "ContractMachine$1" "ContractMachine$Finder" "this$0" "LContractMachine;") ∈ lw_all := lw_g (lw_at lw_m10 185 rfl) rfl
theorem q2466 : (Jvm.Cond.superclass "ContractMachine$1" "ContractMachine$Finder") ∈ lw_all := lw_g (lw_at lw_m10 186 rfl) rfl
theorem q3329 : (Jvm.Cond.castable "ContractMachine$1" "java/lang/Object") ∈ lw_tbl := lw_at lw_m14 89 rfl
theorem in_X24 : ∀ w ∈ wsX240, w ∈ lw_all := lw_in wsX240 [2465, 2461, 2463] (by decide +kernel) (by decide +kernel)
/-! ContractMachine$3 -/
set_option maxRecDepth 100000
def RX25 : String := "ContractMachine$3"
def TX25 : u_T := fun k => match k with
  | 0 => ("ContractMachine$Finder", "this$0", "LContractMachine;", true)
  | 1 => ("ContractMachine$3", "val$t", "LContractMachine$Transition;", true)
  | 2 => ("ContractMachine$3", "val$transition", "I", true)
  | _ => ("ContractMachine$3", "this$0", "LContractMachine;", true)
def tyX25 : Nat → FieldType := fun k => match k with
  | 0 => .object "ContractMachine"
  | 1 => .object "ContractMachine$Transition"
  | 2 => .int
  | _ => .object "ContractMachine"
abbrev wsX250 : List Cond := u_ws RX25 TX25 4
-- two fields of one name: no nmX25
theorem tyX25_ok : ∀ k, k < 4 → parseFieldDescriptor (TX25 k).2.2.1 = some (tyX25 k) := by decide +kernel
abbrev cX25_isSought : ByteArray := prog_4_method_2_code
def yX25_isSought : MethodName := ⟨RX25, "isSought", "(I)Z"⟩
def dkwX25_isSought_2 : List UInt8 := [167, 0, 4, 3, 172]
abbrev dktX25_isSought_2 : List UInt8 := dkwX25_isSought_2 ++ []
def dkwX25_isSought_1 : List UInt8 := [160, 0, 26, 42, 180, 0, 3, 27, 42, 180, 0, 9, 180, 0, 27, 182, 0, 38, 2, 159, 0, 7, 4]
abbrev dktX25_isSought_1 : List UInt8 := dkwX25_isSought_1 ++ dktX25_isSought_2
def dkwX25_isSought_0 : List UInt8 := [42, 180, 0, 3, 180, 0, 23, 27, 42, 180, 0, 9, 180, 0, 27, 182, 0, 32, 42, 180, 0, 13]
abbrev dktX25_isSought_0 : List UInt8 := dkwX25_isSought_0 ++ dktX25_isSought_1
theorem dksX25_isSought_0 : cX25_isSought.data.toList.drop 0 = dktX25_isSought_0 := by decide +kernel
theorem dksX25_isSought_1 : cX25_isSought.data.toList.drop 22 = dktX25_isSought_1 := dk_seg dksX25_isSought_0 22 rfl rfl
theorem dksX25_isSought_2 : cX25_isSought.data.toList.drop 45 = dktX25_isSought_2 := dk_seg dksX25_isSought_1 23 rfl rfl
theorem dX25_isSought_0 : decode cX25_isSought 0 = .ok (.aload_n 0, 1) := dk_42 (dk_at dksX25_isSought_0 0 rfl rfl)
theorem dX25_isSought_1 : decode cX25_isSought 1 = .ok (.getfield 3, 3) := dk_180 0 3 (dk_at dksX25_isSought_0 1 rfl rfl)
theorem dX25_isSought_4 : decode cX25_isSought 4 = .ok (.getfield 23, 3) := dk_180 0 23 (dk_at dksX25_isSought_0 4 rfl rfl)
theorem dX25_isSought_7 : decode cX25_isSought 7 = .ok (.iload_n 1, 1) := dk_27 (dk_at dksX25_isSought_0 7 rfl rfl)
theorem dX25_isSought_8 : decode cX25_isSought 8 = .ok (.aload_n 0, 1) := dk_42 (dk_at dksX25_isSought_0 8 rfl rfl)
theorem dX25_isSought_9 : decode cX25_isSought 9 = .ok (.getfield 9, 3) := dk_180 0 9 (dk_at dksX25_isSought_0 9 rfl rfl)
theorem dX25_isSought_12 : decode cX25_isSought 12 = .ok (.getfield 27, 3) := dk_180 0 27 (dk_at dksX25_isSought_0 12 rfl rfl)
theorem dX25_isSought_15 : decode cX25_isSought 15 = .ok (.invokevirtual 32, 3) := dk_182 0 32 (dk_at dksX25_isSought_0 15 rfl rfl)
theorem dX25_isSought_18 : decode cX25_isSought 18 = .ok (.aload_n 0, 1) := dk_42 (dk_at dksX25_isSought_0 18 rfl rfl)
theorem dX25_isSought_19 : decode cX25_isSought 19 = .ok (.getfield 13, 3) := dk_180 0 13 (dk_at dksX25_isSought_0 19 rfl rfl)
theorem dX25_isSought_22 : decode cX25_isSought 22 = .ok (.if_icmp .ne 26, 3) := dk_160 0 26 (dk_at dksX25_isSought_1 0 rfl rfl)
theorem dX25_isSought_25 : decode cX25_isSought 25 = .ok (.aload_n 0, 1) := dk_42 (dk_at dksX25_isSought_1 3 rfl rfl)
theorem dX25_isSought_26 : decode cX25_isSought 26 = .ok (.getfield 3, 3) := dk_180 0 3 (dk_at dksX25_isSought_1 4 rfl rfl)
theorem dX25_isSought_29 : decode cX25_isSought 29 = .ok (.iload_n 1, 1) := dk_27 (dk_at dksX25_isSought_1 7 rfl rfl)
theorem dX25_isSought_30 : decode cX25_isSought 30 = .ok (.aload_n 0, 1) := dk_42 (dk_at dksX25_isSought_1 8 rfl rfl)
theorem dX25_isSought_31 : decode cX25_isSought 31 = .ok (.getfield 9, 3) := dk_180 0 9 (dk_at dksX25_isSought_1 9 rfl rfl)
theorem dX25_isSought_34 : decode cX25_isSought 34 = .ok (.getfield 27, 3) := dk_180 0 27 (dk_at dksX25_isSought_1 12 rfl rfl)
theorem dX25_isSought_37 : decode cX25_isSought 37 = .ok (.invokevirtual 38, 3) := dk_182 0 38 (dk_at dksX25_isSought_1 15 rfl rfl)
theorem dX25_isSought_40 : decode cX25_isSought 40 = .ok (.iconst (-1), 1) := dk_2 (dk_at dksX25_isSought_1 18 rfl rfl)
theorem dX25_isSought_41 : decode cX25_isSought 41 = .ok (.if_icmp .eq 7, 3) := dk_159 0 7 (dk_at dksX25_isSought_1 19 rfl rfl)
theorem dX25_isSought_44 : decode cX25_isSought 44 = .ok (.iconst 1, 1) := dk_4 (dk_at dksX25_isSought_1 22 rfl rfl)
theorem dX25_isSought_45 : decode cX25_isSought 45 = .ok (.goto 4, 3) := dk_167 0 4 (dk_at dksX25_isSought_2 0 rfl rfl)
theorem dX25_isSought_48 : decode cX25_isSought 48 = .ok (.iconst 0, 1) := dk_3 (dk_at dksX25_isSought_2 3 rfl rfl)
theorem dX25_isSought_49 : decode cX25_isSought 49 = .ok (.ireturn, 1) := dk_172 (dk_at dksX25_isSought_2 4 rfl rfl)
abbrev cX25_init : ByteArray := prog_4_method_1_code
def yX25_init : MethodName := ⟨RX25, "<init>", "(LContractMachine;LContractMachine$Transition;I)V"⟩
def dkwX25_init_0 : List UInt8 := [42, 43, 181, 0, 3, 42, 44, 181, 0, 9, 42, 29, 181, 0, 13, 42, 43, 183, 0, 17, 177]
abbrev dktX25_init_0 : List UInt8 := dkwX25_init_0 ++ []
theorem dksX25_init_0 : cX25_init.data.toList.drop 0 = dktX25_init_0 := by decide +kernel
theorem dX25_init_0 : decode cX25_init 0 = .ok (.aload_n 0, 1) := dk_42 (dk_at dksX25_init_0 0 rfl rfl)
theorem dX25_init_1 : decode cX25_init 1 = .ok (.aload_n 1, 1) := dk_43 (dk_at dksX25_init_0 1 rfl rfl)
theorem dX25_init_2 : decode cX25_init 2 = .ok (.putfield 3, 3) := dk_181 0 3 (dk_at dksX25_init_0 2 rfl rfl)
theorem dX25_init_5 : decode cX25_init 5 = .ok (.aload_n 0, 1) := dk_42 (dk_at dksX25_init_0 5 rfl rfl)
theorem dX25_init_6 : decode cX25_init 6 = .ok (.aload_n 2, 1) := dk_44 (dk_at dksX25_init_0 6 rfl rfl)
theorem dX25_init_7 : decode cX25_init 7 = .ok (.putfield 9, 3) := dk_181 0 9 (dk_at dksX25_init_0 7 rfl rfl)
theorem dX25_init_10 : decode cX25_init 10 = .ok (.aload_n 0, 1) := dk_42 (dk_at dksX25_init_0 10 rfl rfl)
theorem dX25_init_11 : decode cX25_init 11 = .ok (.iload_n 3, 1) := dk_29 (dk_at dksX25_init_0 11 rfl rfl)
theorem dX25_init_12 : decode cX25_init 12 = .ok (.putfield 13, 3) := dk_181 0 13 (dk_at dksX25_init_0 12 rfl rfl)
theorem dX25_init_15 : decode cX25_init 15 = .ok (.aload_n 0, 1) := dk_42 (dk_at dksX25_init_0 15 rfl rfl)
theorem dX25_init_16 : decode cX25_init 16 = .ok (.aload_n 1, 1) := dk_43 (dk_at dksX25_init_0 16 rfl rfl)
theorem dX25_init_17 : decode cX25_init 17 = .ok (.invokespecial 17, 3) := dk_183 0 17 (dk_at dksX25_init_0 17 rfl rfl)
theorem dX25_init_20 : decode cX25_init 20 = .ok (.return_, 1) := dk_177 (dk_at dksX25_init_0 20 rfl rfl)
theorem q178 : (Jvm.Cond.initialized "ContractMachine$3") ∈ lw_all := lw_g (lw_at lw_m1 58 rfl) rfl
theorem q703 : (Jvm.Cond.selects "ContractMachine$3" ({ cls := "java/lang/Object", name := "getClass", desc := "()Ljava/lang/Class;" } : Jvm.MethodName) ({ cls := "java/lang/Object", name := "getClass", desc := "()Ljava/lang/Class;" } : Jvm.MethodName)) ∈ lw_all := lw_g (lw_at lw_m3 103 rfl) rfl
theorem q813 : (Jvm.Cond.fieldLinkNest "ContractMachine$3" (27 : Nat) "ContractMachine$Transition" "event" "I" "ContractMachine") ∈ lw_tbl := lw_at lw_m3 213 rfl
theorem q889 : (Jvm.Cond.fieldLinkNest "ContractMachine$3" (23 : Nat) "ContractMachine" "definition" "LContractMachine$Definition;" "ContractMachine") ∈ lw_tbl := lw_at lw_m4 49 rfl
theorem q2047 : (Jvm.Cond.castable "ContractMachine$3" "ContractMachine$Visitor") ∈ lw_tbl := lw_at lw_m9 7 rfl
theorem q2048 : (Jvm.Cond.selects "ContractMachine$3" ({ cls := "ContractMachine$Visitor", name := "isDone", desc := "()Z" } : Jvm.MethodName) ({ cls := "ContractMachine$Finder", name := "isDone", desc := "()Z" } : Jvm.MethodName)) ∈ lw_all := lw_g (lw_at lw_m9 8 rfl) rfl
theorem q2049 : (Jvm.Cond.unhidden "ContractMachine$3" "isDone" "()Z") ∈ lw_tbl := lw_at lw_m9 9 rfl
theorem q2070 : (Jvm.Cond.selects "ContractMachine$3" ({ cls := "ContractMachine$Finder", name := "isSought", desc := "(I)Z" } : Jvm.MethodName) ({ cls := "ContractMachine$3", name := "isSought", desc := "(I)Z" } : Jvm.MethodName)) ∈ lw_all := lw_g (lw_at lw_m9 30 rfl) rfl
theorem q2071 : (Jvm.Cond.instanceMethod ({ cls := "ContractMachine$3", name := "isSought", desc := "(I)Z" } : Jvm.MethodName)) ∈ lw_all := lw_g (lw_at lw_m9 31 rfl) rfl
theorem q2072 : (Jvm.Cond.code ({ cls := "ContractMachine$3", name := "isSought", desc := "(I)Z" } : Jvm.MethodName) prog_4_method_2_code (2 : Nat) (Option.some Jvm.ClassFile.FieldType.boolean)) ∈ lw_all := lw_g (lw_at lw_m9 32 rfl) rfl
theorem q2073 : (Jvm.Cond.methodLink "ContractMachine$3" (32 : Nat) ({ cls := "ContractMachine$Definition", name := "choose", desc := "(II)I" } : Jvm.MethodName)) ∈ lw_all := lw_g (lw_at lw_m9 33 rfl) rfl
theorem q2074 : (Jvm.Cond.methodLinkNest "ContractMachine$3" (38 : Nat) ({ cls := "ContractMachine", name := "next", desc := "(II)I" } : Jvm.MethodName) "ContractMachine") ∈ lw_tbl := lw_at lw_m9 34 rfl
theorem q2084 : (Jvm.Cond.selects "ContractMachine$3" ({ cls := "ContractMachine$Visitor", name := "visit", desc := "(I)V" } : Jvm.MethodName) ({ cls := "ContractMachine$Finder", name := "visit", desc := "(I)V" } : Jvm.MethodName)) ∈ lw_all := lw_g (lw_at lw_m9 44 rfl) rfl
theorem q2085 : (Jvm.Cond.unhidden "ContractMachine$3" "visit" "(I)V") ∈ lw_tbl := lw_at lw_m9 45 rfl
theorem q2475 : (Jvm.Cond.instantiable "ContractMachine$3" (4 : Nat)) ∈ lw_all := lw_g (lw_at lw_m10 195 rfl) rfl
theorem q2477 : (Jvm.Cond.instanceMethod ({ cls := "ContractMachine$3", name := "<init>", desc := "(LContractMachine;LContractMachine$Transition;I)V" } : Jvm.MethodName)) ∈ lw_all := lw_g (lw_at lw_m10 197 rfl) rfl
theorem q2478 : (Jvm.Cond.code ({ cls := "ContractMachine$3", name := "<init>", desc := "(LContractMachine;LContractMachine$Transition;I)V" } : Jvm.MethodName) prog_4_method_1_code (4 : Nat) (Option.none : Option Jvm.ClassFile.FieldType)) ∈ lw_all := lw_g (lw_at lw_m10 198 rfl) rfl
theorem q2479 : (Jvm.Cond.methodLink "ContractMachine$3" (17 : Nat) ({ cls := "ContractMachine$Finder", name := "<init>", desc := "(LContractMachine;)V" } : Jvm.MethodName)) ∈ lw_all := lw_g (lw_at lw_m10 199 rfl) rfl
theorem q2480 : (Jvm.Cond.fieldLink "ContractMachine$3" (9 : Nat) "ContractMachine$3" "val$t" "LContractMachine$Transition;") ∈ lw_all := lw_g (lw_at lw_m10 200 rfl) rfl
theorem q2481 : (Jvm.Cond.fieldLink "ContractMachine$3" (13 : Nat) "ContractMachine$3" "val$transition" "I") ∈ lw_all := lw_g (lw_at lw_m10 201 rfl) rfl
theorem q2482 : (Jvm.Cond.fieldLink "ContractMachine$3" (3 : Nat) "ContractMachine$3" "this$0" "LContractMachine;") ∈ lw_all := lw_g (lw_at lw_m10 202 rfl) rfl
theorem q2483 : (Jvm.Cond.laysFinal "ContractMachine$3" "ContractMachine$3" "val$t" "LContractMachine$Transition;") ∈ lw_all := lw_g (lw_at lw_m10 203 rfl) rfl
theorem q2484 : (Jvm.Cond.soleField "ContractMachine$3" "val$t") ∈ lw_all := lw_g (lw_at lw_m10 204 rfl) rfl
theorem q2485 : (Jvm.Cond.laysFinal "ContractMachine$3" "ContractMachine$3" "val$transition" "I") ∈ lw_all := lw_g (lw_at lw_m10 205 rfl) rfl
theorem q2486 : (Jvm.Cond.soleField "ContractMachine$3" "val$transition") ∈ lw_all := lw_g (lw_at lw_m10 206 rfl) rfl
theorem q2487 : (Jvm.Cond.laysFinal "ContractMachine$3" "ContractMachine$3" "this$0" "LContractMachine;") ∈ lw_all := lw_g (lw_at lw_m10 207 rfl) rfl
theorem q2488 : (Jvm.Cond.soleField "ContractMachine$3" "this$0") ∈ lw_all := lw_g (lw_at lw_m10 208 rfl) rfl
theorem q2489 : (Jvm.Cond.laysFinal "ContractMachine$3" "ContractMachine$Finder" "this$0" "LContractMachine;") ∈ lw_all := lw_g (lw_at lw_m10 209 rfl) rfl
theorem q2490 : (Jvm.Cond.superclass "ContractMachine$3" "ContractMachine$Finder") ∈ lw_all := lw_g (lw_at lw_m10 210 rfl) rfl
theorem q3330 : (Jvm.Cond.castable "ContractMachine$3" "java/lang/Object") ∈ lw_tbl := lw_at lw_m14 90 rfl
theorem in_X25 : ∀ w ∈ wsX250, w ∈ lw_all := lw_in wsX250 [2489, 2483, 2485, 2487] (by decide +kernel) (by decide +kernel)
/-! ContractMachine$4 -/
set_option maxRecDepth 100000
def RX26 : String := "ContractMachine$4"
def TX26 : u_T := fun k => match k with
  | _ => ("ContractMachine$4", "this$0", "LContractMachine;", true)
def tyX26 : Nat → FieldType := fun k => match k with
  | _ => .object "ContractMachine"
abbrev wsX260 : List Cond := u_ws RX26 TX26 1
theorem nmX26 : ∀ a, a < 1 → ∀ b, b < 1 → a ≠ b → (TX26 a).2.1 ≠ (TX26 b).2.1 := by decide +kernel
theorem tyX26_ok : ∀ k, k < 1 → parseFieldDescriptor (TX26 k).2.2.1 = some (tyX26 k) := by decide +kernel
abbrev cX26_visit : ByteArray := prog_5_method_2_code
def yX26_visit : MethodName := ⟨RX26, "visit", "(I)V"⟩
def dkwX26_visit_1 : List UInt8 := [177]
abbrev dktX26_visit_1 : List UInt8 := dkwX26_visit_1 ++ []
def dkwX26_visit_0 : List UInt8 := [42, 180, 0, 1, 27, 182, 0, 13, 153, 0, 16, 42, 180, 0, 1, 89, 180, 0, 19, 4, 96, 181, 0, 19]
abbrev dktX26_visit_0 : List UInt8 := dkwX26_visit_0 ++ dktX26_visit_1
theorem dksX26_visit_0 : cX26_visit.data.toList.drop 0 = dktX26_visit_0 := by decide +kernel
theorem dksX26_visit_1 : cX26_visit.data.toList.drop 24 = dktX26_visit_1 := dk_seg dksX26_visit_0 24 rfl rfl
theorem dX26_visit_0 : decode cX26_visit 0 = .ok (.aload_n 0, 1) := dk_42 (dk_at dksX26_visit_0 0 rfl rfl)
theorem dX26_visit_1 : decode cX26_visit 1 = .ok (.getfield 1, 3) := dk_180 0 1 (dk_at dksX26_visit_0 1 rfl rfl)
theorem dX26_visit_4 : decode cX26_visit 4 = .ok (.iload_n 1, 1) := dk_27 (dk_at dksX26_visit_0 4 rfl rfl)
theorem dX26_visit_5 : decode cX26_visit 5 = .ok (.invokevirtual 13, 3) := dk_182 0 13 (dk_at dksX26_visit_0 5 rfl rfl)
theorem dX26_visit_8 : decode cX26_visit 8 = .ok (.ifCond .eq 16, 3) := dk_153 0 16 (dk_at dksX26_visit_0 8 rfl rfl)
theorem dX26_visit_11 : decode cX26_visit 11 = .ok (.aload_n 0, 1) := dk_42 (dk_at dksX26_visit_0 11 rfl rfl)
theorem dX26_visit_12 : decode cX26_visit 12 = .ok (.getfield 1, 3) := dk_180 0 1 (dk_at dksX26_visit_0 12 rfl rfl)
theorem dX26_visit_15 : decode cX26_visit 15 = .ok (.dup, 1) := dk_89 (dk_at dksX26_visit_0 15 rfl rfl)
theorem dX26_visit_16 : decode cX26_visit 16 = .ok (.getfield 19, 3) := dk_180 0 19 (dk_at dksX26_visit_0 16 rfl rfl)
theorem dX26_visit_19 : decode cX26_visit 19 = .ok (.iconst 1, 1) := dk_4 (dk_at dksX26_visit_0 19 rfl rfl)
theorem dX26_visit_20 : decode cX26_visit 20 = .ok (.iadd, 1) := dk_96 (dk_at dksX26_visit_0 20 rfl rfl)
theorem dX26_visit_21 : decode cX26_visit 21 = .ok (.putfield 19, 3) := dk_181 0 19 (dk_at dksX26_visit_0 21 rfl rfl)
theorem dX26_visit_24 : decode cX26_visit 24 = .ok (.return_, 1) := dk_177 (dk_at dksX26_visit_1 0 rfl rfl)
abbrev cX26_init : ByteArray := prog_5_method_1_code
def yX26_init : MethodName := ⟨RX26, "<init>", "(LContractMachine;)V"⟩
def dkwX26_init_0 : List UInt8 := [42, 43, 181, 0, 1, 42, 183, 0, 7, 177]
abbrev dktX26_init_0 : List UInt8 := dkwX26_init_0 ++ []
theorem dksX26_init_0 : cX26_init.data.toList.drop 0 = dktX26_init_0 := by decide +kernel
theorem dX26_init_0 : decode cX26_init 0 = .ok (.aload_n 0, 1) := dk_42 (dk_at dksX26_init_0 0 rfl rfl)
theorem dX26_init_1 : decode cX26_init 1 = .ok (.aload_n 1, 1) := dk_43 (dk_at dksX26_init_0 1 rfl rfl)
theorem dX26_init_2 : decode cX26_init 2 = .ok (.putfield 1, 3) := dk_181 0 1 (dk_at dksX26_init_0 2 rfl rfl)
theorem dX26_init_5 : decode cX26_init 5 = .ok (.aload_n 0, 1) := dk_42 (dk_at dksX26_init_0 5 rfl rfl)
theorem dX26_init_6 : decode cX26_init 6 = .ok (.invokespecial 7, 3) := dk_183 0 7 (dk_at dksX26_init_0 6 rfl rfl)
theorem dX26_init_9 : decode cX26_init 9 = .ok (.return_, 1) := dk_177 (dk_at dksX26_init_0 9 rfl rfl)
theorem q179 : (Jvm.Cond.initialized "ContractMachine$4") ∈ lw_all := lw_g (lw_at lw_m1 59 rfl) rfl
theorem q704 : (Jvm.Cond.selects "ContractMachine$4" ({ cls := "java/lang/Object", name := "getClass", desc := "()Ljava/lang/Class;" } : Jvm.MethodName) ({ cls := "java/lang/Object", name := "getClass", desc := "()Ljava/lang/Class;" } : Jvm.MethodName)) ∈ lw_all := lw_g (lw_at lw_m3 104 rfl) rfl
theorem q907 : (Jvm.Cond.fieldLinkNest "ContractMachine$4" (19 : Nat) "ContractMachine" "deadlocks" "I" "ContractMachine") ∈ lw_tbl := lw_at lw_m4 67 rfl
theorem q2050 : (Jvm.Cond.castable "ContractMachine$4" "ContractMachine$Visitor") ∈ lw_tbl := lw_at lw_m9 10 rfl
theorem q2051 : (Jvm.Cond.unhidden "ContractMachine$4" "isDone" "()Z") ∈ lw_tbl := lw_at lw_m9 11 rfl
theorem q2086 : (Jvm.Cond.selects "ContractMachine$4" ({ cls := "ContractMachine$Visitor", name := "visit", desc := "(I)V" } : Jvm.MethodName) ({ cls := "ContractMachine$4", name := "visit", desc := "(I)V" } : Jvm.MethodName)) ∈ lw_all := lw_g (lw_at lw_m9 46 rfl) rfl
theorem q2087 : (Jvm.Cond.unhidden "ContractMachine$4" "visit" "(I)V") ∈ lw_tbl := lw_at lw_m9 47 rfl
theorem q2088 : (Jvm.Cond.instanceMethod ({ cls := "ContractMachine$4", name := "visit", desc := "(I)V" } : Jvm.MethodName)) ∈ lw_all := lw_g (lw_at lw_m9 48 rfl) rfl
theorem q2089 : (Jvm.Cond.publicMethod ({ cls := "ContractMachine$4", name := "visit", desc := "(I)V" } : Jvm.MethodName)) ∈ lw_tbl := lw_at lw_m9 49 rfl
theorem q2090 : (Jvm.Cond.code ({ cls := "ContractMachine$4", name := "visit", desc := "(I)V" } : Jvm.MethodName) prog_5_method_2_code (2 : Nat) (Option.none : Option Jvm.ClassFile.FieldType)) ∈ lw_all := lw_g (lw_at lw_m9 50 rfl) rfl
theorem q2091 : (Jvm.Cond.methodLinkNest "ContractMachine$4" (13 : Nat) ({ cls := "ContractMachine", name := "isDeadlock", desc := "(I)Z" } : Jvm.MethodName) "ContractMachine") ∈ lw_tbl := lw_at lw_m9 51 rfl
theorem q2106 : (Jvm.Cond.instantiable "ContractMachine$4" (1 : Nat)) ∈ lw_all := lw_g (lw_at lw_m9 66 rfl) rfl
theorem q2108 : (Jvm.Cond.instanceMethod ({ cls := "ContractMachine$4", name := "<init>", desc := "(LContractMachine;)V" } : Jvm.MethodName)) ∈ lw_all := lw_g (lw_at lw_m9 68 rfl) rfl
theorem q2109 : (Jvm.Cond.code ({ cls := "ContractMachine$4", name := "<init>", desc := "(LContractMachine;)V" } : Jvm.MethodName) prog_5_method_1_code (2 : Nat) (Option.none : Option Jvm.ClassFile.FieldType)) ∈ lw_all := lw_g (lw_at lw_m9 69 rfl) rfl
theorem q2110 : (Jvm.Cond.methodLink "ContractMachine$4" (7 : Nat) ({ cls := "java/lang/Object", name := "<init>", desc := "()V" } : Jvm.MethodName)) ∈ lw_all := lw_g (lw_at lw_m9 70 rfl) rfl
theorem q2111 : (Jvm.Cond.fieldLink "ContractMachine$4" (1 : Nat) "ContractMachine$4" "this$0" "LContractMachine;") ∈ lw_all := lw_g (lw_at lw_m9 71 rfl) rfl
theorem q2112 : (Jvm.Cond.laysFinal "ContractMachine$4" "ContractMachine$4" "this$0" "LContractMachine;") ∈ lw_all := lw_g (lw_at lw_m9 72 rfl) rfl
theorem q2113 : (Jvm.Cond.soleField "ContractMachine$4" "this$0") ∈ lw_all := lw_g (lw_at lw_m9 73 rfl) rfl
theorem q2114 : (Jvm.Cond.superclass "ContractMachine$4" "java/lang/Object") ∈ lw_all := lw_g (lw_at lw_m9 74 rfl) rfl
theorem q3331 : (Jvm.Cond.castable "ContractMachine$4" "java/lang/Object") ∈ lw_tbl := lw_at lw_m14 91 rfl
theorem in_X26 : ∀ w ∈ wsX260, w ∈ lw_all := lw_in wsX260 [2112] (by decide +kernel) (by decide +kernel)
/-! ContractMachine$5 -/
set_option maxRecDepth 100000
def RX27 : String := "ContractMachine$5"
def TX27 : u_T := fun k => match k with
  | 0 => ("ContractMachine$Finder", "this$0", "LContractMachine;", true)
  | _ => ("ContractMachine$5", "this$0", "LContractMachine;", true)
def tyX27 : Nat → FieldType := fun k => match k with
  | 0 => .object "ContractMachine"
  | _ => .object "ContractMachine"
abbrev wsX270 : List Cond := u_ws RX27 TX27 2
-- two fields of one name: no nmX27
theorem tyX27_ok : ∀ k, k < 2 → parseFieldDescriptor (TX27 k).2.2.1 = some (tyX27 k) := by decide +kernel
abbrev cX27_isSought : ByteArray := prog_6_method_2_code
def yX27_isSought : MethodName := ⟨RX27, "isSought", "(I)Z"⟩
def dkwX27_isSought_0 : List UInt8 := [42, 180, 0, 1, 27, 182, 0, 13, 172]
abbrev dktX27_isSought_0 : List UInt8 := dkwX27_isSought_0 ++ []
theorem dksX27_isSought_0 : cX27_isSought.data.toList.drop 0 = dktX27_isSought_0 := by decide +kernel
theorem dX27_isSought_0 : decode cX27_isSought 0 = .ok (.aload_n 0, 1) := dk_42 (dk_at dksX27_isSought_0 0 rfl rfl)
theorem dX27_isSought_1 : decode cX27_isSought 1 = .ok (.getfield 1, 3) := dk_180 0 1 (dk_at dksX27_isSought_0 1 rfl rfl)
theorem dX27_isSought_4 : decode cX27_isSought 4 = .ok (.iload_n 1, 1) := dk_27 (dk_at dksX27_isSought_0 4 rfl rfl)
theorem dX27_isSought_5 : decode cX27_isSought 5 = .ok (.invokevirtual 13, 3) := dk_182 0 13 (dk_at dksX27_isSought_0 5 rfl rfl)
theorem dX27_isSought_8 : decode cX27_isSought 8 = .ok (.ireturn, 1) := dk_172 (dk_at dksX27_isSought_0 8 rfl rfl)
abbrev cX27_init : ByteArray := prog_6_method_1_code
def yX27_init : MethodName := ⟨RX27, "<init>", "(LContractMachine;)V"⟩
def dkwX27_init_0 : List UInt8 := [42, 43, 181, 0, 1, 42, 43, 183, 0, 7, 177]
abbrev dktX27_init_0 : List UInt8 := dkwX27_init_0 ++ []
theorem dksX27_init_0 : cX27_init.data.toList.drop 0 = dktX27_init_0 := by decide +kernel
theorem dX27_init_0 : decode cX27_init 0 = .ok (.aload_n 0, 1) := dk_42 (dk_at dksX27_init_0 0 rfl rfl)
theorem dX27_init_1 : decode cX27_init 1 = .ok (.aload_n 1, 1) := dk_43 (dk_at dksX27_init_0 1 rfl rfl)
theorem dX27_init_2 : decode cX27_init 2 = .ok (.putfield 1, 3) := dk_181 0 1 (dk_at dksX27_init_0 2 rfl rfl)
theorem dX27_init_5 : decode cX27_init 5 = .ok (.aload_n 0, 1) := dk_42 (dk_at dksX27_init_0 5 rfl rfl)
theorem dX27_init_6 : decode cX27_init 6 = .ok (.aload_n 1, 1) := dk_43 (dk_at dksX27_init_0 6 rfl rfl)
theorem dX27_init_7 : decode cX27_init 7 = .ok (.invokespecial 7, 3) := dk_183 0 7 (dk_at dksX27_init_0 7 rfl rfl)
theorem dX27_init_10 : decode cX27_init 10 = .ok (.return_, 1) := dk_177 (dk_at dksX27_init_0 10 rfl rfl)
theorem q180 : (Jvm.Cond.initialized "ContractMachine$5") ∈ lw_all := lw_g (lw_at lw_m1 60 rfl) rfl
theorem q705 : (Jvm.Cond.selects "ContractMachine$5" ({ cls := "java/lang/Object", name := "getClass", desc := "()Ljava/lang/Class;" } : Jvm.MethodName) ({ cls := "java/lang/Object", name := "getClass", desc := "()Ljava/lang/Class;" } : Jvm.MethodName)) ∈ lw_all := lw_g (lw_at lw_m3 105 rfl) rfl
theorem q2052 : (Jvm.Cond.castable "ContractMachine$5" "ContractMachine$Visitor") ∈ lw_tbl := lw_at lw_m9 12 rfl
theorem q2053 : (Jvm.Cond.selects "ContractMachine$5" ({ cls := "ContractMachine$Visitor", name := "isDone", desc := "()Z" } : Jvm.MethodName) ({ cls := "ContractMachine$Finder", name := "isDone", desc := "()Z" } : Jvm.MethodName)) ∈ lw_all := lw_g (lw_at lw_m9 13 rfl) rfl
theorem q2054 : (Jvm.Cond.unhidden "ContractMachine$5" "isDone" "()Z") ∈ lw_tbl := lw_at lw_m9 14 rfl
theorem q2075 : (Jvm.Cond.selects "ContractMachine$5" ({ cls := "ContractMachine$Finder", name := "isSought", desc := "(I)Z" } : Jvm.MethodName) ({ cls := "ContractMachine$5", name := "isSought", desc := "(I)Z" } : Jvm.MethodName)) ∈ lw_all := lw_g (lw_at lw_m9 35 rfl) rfl
theorem q2076 : (Jvm.Cond.instanceMethod ({ cls := "ContractMachine$5", name := "isSought", desc := "(I)Z" } : Jvm.MethodName)) ∈ lw_all := lw_g (lw_at lw_m9 36 rfl) rfl
theorem q2077 : (Jvm.Cond.code ({ cls := "ContractMachine$5", name := "isSought", desc := "(I)Z" } : Jvm.MethodName) prog_6_method_2_code (2 : Nat) (Option.some Jvm.ClassFile.FieldType.boolean)) ∈ lw_all := lw_g (lw_at lw_m9 37 rfl) rfl
theorem q2078 : (Jvm.Cond.methodLinkNest "ContractMachine$5" (13 : Nat) ({ cls := "ContractMachine", name := "isDeadlock", desc := "(I)Z" } : Jvm.MethodName) "ContractMachine") ∈ lw_tbl := lw_at lw_m9 38 rfl
theorem q2092 : (Jvm.Cond.selects "ContractMachine$5" ({ cls := "ContractMachine$Visitor", name := "visit", desc := "(I)V" } : Jvm.MethodName) ({ cls := "ContractMachine$Finder", name := "visit", desc := "(I)V" } : Jvm.MethodName)) ∈ lw_all := lw_g (lw_at lw_m9 52 rfl) rfl
theorem q2093 : (Jvm.Cond.unhidden "ContractMachine$5" "visit" "(I)V") ∈ lw_tbl := lw_at lw_m9 53 rfl
theorem q2120 : (Jvm.Cond.instantiable "ContractMachine$5" (2 : Nat)) ∈ lw_all := lw_g (lw_at lw_m9 80 rfl) rfl
theorem q2122 : (Jvm.Cond.instanceMethod ({ cls := "ContractMachine$5", name := "<init>", desc := "(LContractMachine;)V" } : Jvm.MethodName)) ∈ lw_all := lw_g (lw_at lw_m9 82 rfl) rfl
theorem q2123 : (Jvm.Cond.code ({ cls := "ContractMachine$5", name := "<init>", desc := "(LContractMachine;)V" } : Jvm.MethodName) prog_6_method_1_code (2 : Nat) (Option.none : Option Jvm.ClassFile.FieldType)) ∈ lw_all := lw_g (lw_at lw_m9 83 rfl) rfl
theorem q2124 : (Jvm.Cond.methodLink "ContractMachine$5" (7 : Nat) ({ cls := "ContractMachine$Finder", name := "<init>", desc := "(LContractMachine;)V" } : Jvm.MethodName)) ∈ lw_all := lw_g (lw_at lw_m9 84 rfl) rfl
theorem q2128 : (Jvm.Cond.fieldLink "ContractMachine$5" (1 : Nat) "ContractMachine$5" "this$0" "LContractMachine;") ∈ lw_all := lw_g (lw_at lw_m9 88 rfl) rfl
theorem q2130 : (Jvm.Cond.laysFinal "ContractMachine$5" "ContractMachine$5" "this$0" "LContractMachine;") ∈ lw_all := lw_g (lw_at lw_m9 90 rfl) rfl
theorem q2131 : (Jvm.Cond.soleField "ContractMachine$5" "this$0") ∈ lw_all := lw_g (lw_at lw_m9 91 rfl) rfl
theorem q2132 : (Jvm.Cond.laysFinal "ContractMachine$5" "ContractMachine$Finder" "this$0" "LContractMachine;") ∈ lw_all := lw_g (lw_at lw_m9 92 rfl) rfl
theorem q2134 : (Jvm.Cond.superclass "ContractMachine$5" "ContractMachine$Finder") ∈ lw_all := lw_g (lw_at lw_m9 94 rfl) rfl
theorem q3332 : (Jvm.Cond.castable "ContractMachine$5" "java/lang/Object") ∈ lw_tbl := lw_at lw_m14 92 rfl
theorem in_X27 : ∀ w ∈ wsX270, w ∈ lw_all := lw_in wsX270 [2132, 2130] (by decide +kernel) (by decide +kernel)
/-! ContractMachine$Effect$1 -/
set_option maxRecDepth 100000
def RX28 : String := "ContractMachine$Effect$1"
abbrev cX28_apply : ByteArray := prog_13_method_2_code
def yX28_apply : MethodName := ⟨RX28, "apply", "(II)I"⟩
def dkwX28_apply_0 : List UInt8 := [27, 28, 96, 172]
abbrev dktX28_apply_0 : List UInt8 := dkwX28_apply_0 ++ []
theorem dksX28_apply_0 : cX28_apply.data.toList.drop 0 = dktX28_apply_0 := by decide +kernel
theorem dX28_apply_0 : decode cX28_apply 0 = .ok (.iload_n 1, 1) := dk_27 (dk_at dksX28_apply_0 0 rfl rfl)
theorem dX28_apply_1 : decode cX28_apply 1 = .ok (.iload_n 2, 1) := dk_28 (dk_at dksX28_apply_0 1 rfl rfl)
theorem dX28_apply_2 : decode cX28_apply 2 = .ok (.iadd, 1) := dk_96 (dk_at dksX28_apply_0 2 rfl rfl)
theorem dX28_apply_3 : decode cX28_apply 3 = .ok (.ireturn, 1) := dk_172 (dk_at dksX28_apply_0 3 rfl rfl)
theorem q710 : (Jvm.Cond.selects "ContractMachine$Effect$1" ({ cls := "java/lang/Object", name := "getClass", desc := "()Ljava/lang/Class;" } : Jvm.MethodName) ({ cls := "java/lang/Object", name := "getClass", desc := "()Ljava/lang/Class;" } : Jvm.MethodName)) ∈ lw_all := lw_g (lw_at lw_m3 110 rfl) rfl
theorem q1817 : (Jvm.Cond.selects "ContractMachine$Effect$1" ({ cls := "ContractMachine$Effect", name := "apply", desc := "(II)I" } : Jvm.MethodName) ({ cls := "ContractMachine$Effect$1", name := "apply", desc := "(II)I" } : Jvm.MethodName)) ∈ lw_all := lw_g (lw_at lw_m8 17 rfl) rfl
theorem q1818 : (Jvm.Cond.instanceMethod ({ cls := "ContractMachine$Effect$1", name := "apply", desc := "(II)I" } : Jvm.MethodName)) ∈ lw_all := lw_g (lw_at lw_m8 18 rfl) rfl
theorem q1819 : (Jvm.Cond.code ({ cls := "ContractMachine$Effect$1", name := "apply", desc := "(II)I" } : Jvm.MethodName) prog_13_method_2_code (3 : Nat) (Option.some Jvm.ClassFile.FieldType.int)) ∈ lw_all := lw_g (lw_at lw_m8 19 rfl) rfl
theorem q3302 : (Jvm.Cond.castable "ContractMachine$Effect$1" "java/lang/Object") ∈ lw_tbl := lw_at lw_m14 62 rfl
/-! ContractMachine$Effect$2 -/
set_option maxRecDepth 100000
def RX29 : String := "ContractMachine$Effect$2"
abbrev cX29_apply : ByteArray := prog_14_method_2_code
def yX29_apply : MethodName := ⟨RX29, "apply", "(II)I"⟩
def dkwX29_apply_0 : List UInt8 := [27, 28, 100, 172]
abbrev dktX29_apply_0 : List UInt8 := dkwX29_apply_0 ++ []
theorem dksX29_apply_0 : cX29_apply.data.toList.drop 0 = dktX29_apply_0 := by decide +kernel
theorem dX29_apply_0 : decode cX29_apply 0 = .ok (.iload_n 1, 1) := dk_27 (dk_at dksX29_apply_0 0 rfl rfl)
theorem dX29_apply_1 : decode cX29_apply 1 = .ok (.iload_n 2, 1) := dk_28 (dk_at dksX29_apply_0 1 rfl rfl)
theorem dX29_apply_2 : decode cX29_apply 2 = .ok (.isub, 1) := dk_100 (dk_at dksX29_apply_0 2 rfl rfl)
theorem dX29_apply_3 : decode cX29_apply 3 = .ok (.ireturn, 1) := dk_172 (dk_at dksX29_apply_0 3 rfl rfl)
theorem q711 : (Jvm.Cond.selects "ContractMachine$Effect$2" ({ cls := "java/lang/Object", name := "getClass", desc := "()Ljava/lang/Class;" } : Jvm.MethodName) ({ cls := "java/lang/Object", name := "getClass", desc := "()Ljava/lang/Class;" } : Jvm.MethodName)) ∈ lw_all := lw_g (lw_at lw_m3 111 rfl) rfl
theorem q1820 : (Jvm.Cond.selects "ContractMachine$Effect$2" ({ cls := "ContractMachine$Effect", name := "apply", desc := "(II)I" } : Jvm.MethodName) ({ cls := "ContractMachine$Effect$2", name := "apply", desc := "(II)I" } : Jvm.MethodName)) ∈ lw_all := lw_g (lw_at lw_m8 20 rfl) rfl
theorem q1821 : (Jvm.Cond.instanceMethod ({ cls := "ContractMachine$Effect$2", name := "apply", desc := "(II)I" } : Jvm.MethodName)) ∈ lw_all := lw_g (lw_at lw_m8 21 rfl) rfl
theorem q1822 : (Jvm.Cond.code ({ cls := "ContractMachine$Effect$2", name := "apply", desc := "(II)I" } : Jvm.MethodName) prog_14_method_2_code (3 : Nat) (Option.some Jvm.ClassFile.FieldType.int)) ∈ lw_all := lw_g (lw_at lw_m8 22 rfl) rfl
theorem q3305 : (Jvm.Cond.castable "ContractMachine$Effect$2" "java/lang/Object") ∈ lw_tbl := lw_at lw_m14 65 rfl
/-! ContractMachine$Definition -/
set_option maxRecDepth 100000
def RX3 : String := "ContractMachine$Definition"
def TX3 : u_T := fun k => match k with
  | 0 => ("ContractMachine$Definition", "states", "Ljava/util/List;", true)
  | 1 => ("ContractMachine$Definition", "events", "Ljava/util/List;", true)
  | 2 => ("ContractMachine$Definition", "variables", "Ljava/util/List;", true)
  | 3 => ("ContractMachine$Definition", "transitions", "Ljava/util/List;", true)
  | _ => ("ContractMachine$Definition", "initial", "I", false)
def tyX3 : Nat → FieldType := fun k => match k with
  | 0 => .object "java/util/List"
  | 1 => .object "java/util/List"
  | 2 => .object "java/util/List"
  | 3 => .object "java/util/List"
  | _ => .int
abbrev wsX30 : List Cond := u_ws RX3 TX3 5
theorem nmX3 : ∀ a, a < 5 → ∀ b, b < 5 → a ≠ b → (TX3 a).2.1 ≠ (TX3 b).2.1 := by decide +kernel
theorem tyX3_ok : ∀ k, k < 5 → parseFieldDescriptor (TX3 k).2.2.1 = some (tyX3 k) := by decide +kernel
abbrev cX3_init : ByteArray := prog_11_method_1_code
def yX3_init : MethodName := ⟨RX3, "<init>", "()V"⟩
def dkwX3_init_2 : List UInt8 := [16, 24, 183, 0, 11, 181, 0, 26, 177]
abbrev dktX3_init_2 : List UInt8 := dkwX3_init_2 ++ []
def dkwX3_init_1 : List UInt8 := [183, 0, 11, 181, 0, 20, 42, 187, 0, 9, 89, 6, 183, 0, 11, 181, 0, 23, 42, 187, 0, 9, 89]
abbrev dktX3_init_1 : List UInt8 := dkwX3_init_1 ++ dktX3_init_2
def dkwX3_init_0 : List UInt8 := [42, 183, 0, 3, 42, 187, 0, 9, 89, 16, 10, 183, 0, 11, 181, 0, 14, 42, 187, 0, 9, 89, 16, 8]
abbrev dktX3_init_0 : List UInt8 := dkwX3_init_0 ++ dktX3_init_1
theorem dksX3_init_0 : cX3_init.data.toList.drop 0 = dktX3_init_0 := by decide +kernel
theorem dksX3_init_1 : cX3_init.data.toList.drop 24 = dktX3_init_1 := dk_seg dksX3_init_0 24 rfl rfl
theorem dksX3_init_2 : cX3_init.data.toList.drop 47 = dktX3_init_2 := dk_seg dksX3_init_1 23 rfl rfl
theorem dX3_init_0 : decode cX3_init 0 = .ok (.aload_n 0, 1) := dk_42 (dk_at dksX3_init_0 0 rfl rfl)
theorem dX3_init_1 : decode cX3_init 1 = .ok (.invokespecial 3, 3) := dk_183 0 3 (dk_at dksX3_init_0 1 rfl rfl)
theorem dX3_init_4 : decode cX3_init 4 = .ok (.aload_n 0, 1) := dk_42 (dk_at dksX3_init_0 4 rfl rfl)
theorem dX3_init_5 : decode cX3_init 5 = .ok (.new 9, 3) := dk_187 0 9 (dk_at dksX3_init_0 5 rfl rfl)
theorem dX3_init_8 : decode cX3_init 8 = .ok (.dup, 1) := dk_89 (dk_at dksX3_init_0 8 rfl rfl)
theorem dX3_init_9 : decode cX3_init 9 = .ok (.bipush 10, 2) := dk_16 10 (dk_at dksX3_init_0 9 rfl rfl)
theorem dX3_init_11 : decode cX3_init 11 = .ok (.invokespecial 11, 3) := dk_183 0 11 (dk_at dksX3_init_0 11 rfl rfl)
theorem dX3_init_14 : decode cX3_init 14 = .ok (.putfield 14, 3) := dk_181 0 14 (dk_at dksX3_init_0 14 rfl rfl)
theorem dX3_init_17 : decode cX3_init 17 = .ok (.aload_n 0, 1) := dk_42 (dk_at dksX3_init_0 17 rfl rfl)
theorem dX3_init_18 : decode cX3_init 18 = .ok (.new 9, 3) := dk_187 0 9 (dk_at dksX3_init_0 18 rfl rfl)
theorem dX3_init_21 : decode cX3_init 21 = .ok (.dup, 1) := dk_89 (dk_at dksX3_init_0 21 rfl rfl)
theorem dX3_init_22 : decode cX3_init 22 = .ok (.bipush 8, 2) := dk_16 8 (dk_at dksX3_init_0 22 rfl rfl)
theorem dX3_init_24 : decode cX3_init 24 = .ok (.invokespecial 11, 3) := dk_183 0 11 (dk_at dksX3_init_1 0 rfl rfl)
theorem dX3_init_27 : decode cX3_init 27 = .ok (.putfield 20, 3) := dk_181 0 20 (dk_at dksX3_init_1 3 rfl rfl)
theorem dX3_init_30 : decode cX3_init 30 = .ok (.aload_n 0, 1) := dk_42 (dk_at dksX3_init_1 6 rfl rfl)
theorem dX3_init_31 : decode cX3_init 31 = .ok (.new 9, 3) := dk_187 0 9 (dk_at dksX3_init_1 7 rfl rfl)
theorem dX3_init_34 : decode cX3_init 34 = .ok (.dup, 1) := dk_89 (dk_at dksX3_init_1 10 rfl rfl)
theorem dX3_init_35 : decode cX3_init 35 = .ok (.iconst 3, 1) := dk_6 (dk_at dksX3_init_1 11 rfl rfl)
theorem dX3_init_36 : decode cX3_init 36 = .ok (.invokespecial 11, 3) := dk_183 0 11 (dk_at dksX3_init_1 12 rfl rfl)
theorem dX3_init_39 : decode cX3_init 39 = .ok (.putfield 23, 3) := dk_181 0 23 (dk_at dksX3_init_1 15 rfl rfl)
theorem dX3_init_42 : decode cX3_init 42 = .ok (.aload_n 0, 1) := dk_42 (dk_at dksX3_init_1 18 rfl rfl)
theorem dX3_init_43 : decode cX3_init 43 = .ok (.new 9, 3) := dk_187 0 9 (dk_at dksX3_init_1 19 rfl rfl)
theorem dX3_init_46 : decode cX3_init 46 = .ok (.dup, 1) := dk_89 (dk_at dksX3_init_1 22 rfl rfl)
theorem dX3_init_47 : decode cX3_init 47 = .ok (.bipush 24, 2) := dk_16 24 (dk_at dksX3_init_2 0 rfl rfl)
theorem dX3_init_49 : decode cX3_init 49 = .ok (.invokespecial 11, 3) := dk_183 0 11 (dk_at dksX3_init_2 2 rfl rfl)
theorem dX3_init_52 : decode cX3_init 52 = .ok (.putfield 26, 3) := dk_181 0 26 (dk_at dksX3_init_2 5 rfl rfl)
theorem dX3_init_55 : decode cX3_init 55 = .ok (.return_, 1) := dk_177 (dk_at dksX3_init_2 8 rfl rfl)
abbrev cX3_addVariable : ByteArray := prog_11_method_3_code
def yX3_addVariable : MethodName := ⟨RX3, "addVariable", "(Ljava/lang/String;I)V"⟩
def dkwX3_addVariable_1 : List UInt8 := [180, 0, 23, 43, 185, 0, 53, 2, 0, 62, 177]
abbrev dktX3_addVariable_1 : List UInt8 := dkwX3_addVariable_1 ++ []
def dkwX3_addVariable_0 : List UInt8 := [42, 89, 180, 0, 45, 28, 42, 180, 0, 23, 185, 0, 29, 1, 0, 184, 0, 49, 104, 96, 181, 0, 45, 42]
abbrev dktX3_addVariable_0 : List UInt8 := dkwX3_addVariable_0 ++ dktX3_addVariable_1
theorem dksX3_addVariable_0 : cX3_addVariable.data.toList.drop 0 = dktX3_addVariable_0 := by decide +kernel
theorem dksX3_addVariable_1 : cX3_addVariable.data.toList.drop 24 = dktX3_addVariable_1 := dk_seg dksX3_addVariable_0 24 rfl rfl
theorem dX3_addVariable_0 : decode cX3_addVariable 0 = .ok (.aload_n 0, 1) := dk_42 (dk_at dksX3_addVariable_0 0 rfl rfl)
theorem dX3_addVariable_1 : decode cX3_addVariable 1 = .ok (.dup, 1) := dk_89 (dk_at dksX3_addVariable_0 1 rfl rfl)
theorem dX3_addVariable_2 : decode cX3_addVariable 2 = .ok (.getfield 45, 3) := dk_180 0 45 (dk_at dksX3_addVariable_0 2 rfl rfl)
theorem dX3_addVariable_5 : decode cX3_addVariable 5 = .ok (.iload_n 2, 1) := dk_28 (dk_at dksX3_addVariable_0 5 rfl rfl)
theorem dX3_addVariable_6 : decode cX3_addVariable 6 = .ok (.aload_n 0, 1) := dk_42 (dk_at dksX3_addVariable_0 6 rfl rfl)
theorem dX3_addVariable_7 : decode cX3_addVariable 7 = .ok (.getfield 23, 3) := dk_180 0 23 (dk_at dksX3_addVariable_0 7 rfl rfl)
theorem dX3_addVariable_10 : decode cX3_addVariable 10 = .ok (.invokeinterface 29 1, 5) := by decide +kernel
theorem dX3_addVariable_15 : decode cX3_addVariable 15 = .ok (.invokestatic 49, 3) := dk_184 0 49 (dk_at dksX3_addVariable_0 15 rfl rfl)
theorem dX3_addVariable_18 : decode cX3_addVariable 18 = .ok (.imul, 1) := dk_104 (dk_at dksX3_addVariable_0 18 rfl rfl)
theorem dX3_addVariable_19 : decode cX3_addVariable 19 = .ok (.iadd, 1) := dk_96 (dk_at dksX3_addVariable_0 19 rfl rfl)
theorem dX3_addVariable_20 : decode cX3_addVariable 20 = .ok (.putfield 45, 3) := dk_181 0 45 (dk_at dksX3_addVariable_0 20 rfl rfl)
theorem dX3_addVariable_23 : decode cX3_addVariable 23 = .ok (.aload_n 0, 1) := dk_42 (dk_at dksX3_addVariable_0 23 rfl rfl)
theorem dX3_addVariable_24 : decode cX3_addVariable 24 = .ok (.getfield 23, 3) := dk_180 0 23 (dk_at dksX3_addVariable_1 0 rfl rfl)
theorem dX3_addVariable_27 : decode cX3_addVariable 27 = .ok (.aload_n 1, 1) := dk_43 (dk_at dksX3_addVariable_1 3 rfl rfl)
theorem dX3_addVariable_28 : decode cX3_addVariable 28 = .ok (.invokeinterface 53 2, 5) := by decide +kernel
theorem dX3_addVariable_33 : decode cX3_addVariable 33 = .ok (.istore_n 3, 1) := dk_62 (dk_at dksX3_addVariable_1 9 rfl rfl)
theorem dX3_addVariable_34 : decode cX3_addVariable 34 = .ok (.return_, 1) := dk_177 (dk_at dksX3_addVariable_1 10 rfl rfl)
abbrev cX3_indexOf : ByteArray := prog_11_method_2_code
def yX3_indexOf : MethodName := ⟨RX3, "indexOf", "(Ljava/util/List;Ljava/lang/String;)I"⟩
def dkwX3_indexOf_1 : List UInt8 := [182, 0, 41, 153, 0, 5, 28, 172, 132, 2, 1, 167, 255, 224, 2, 172]
abbrev dktX3_indexOf_1 : List UInt8 := dkwX3_indexOf_1 ++ []
def dkwX3_indexOf_0 : List UInt8 := [3, 61, 28, 42, 185, 0, 29, 1, 0, 162, 0, 28, 42, 28, 185, 0, 35, 2, 0, 192, 0, 39, 43]
abbrev dktX3_indexOf_0 : List UInt8 := dkwX3_indexOf_0 ++ dktX3_indexOf_1
theorem dksX3_indexOf_0 : cX3_indexOf.data.toList.drop 0 = dktX3_indexOf_0 := by decide +kernel
theorem dksX3_indexOf_1 : cX3_indexOf.data.toList.drop 23 = dktX3_indexOf_1 := dk_seg dksX3_indexOf_0 23 rfl rfl
theorem dX3_indexOf_0 : decode cX3_indexOf 0 = .ok (.iconst 0, 1) := dk_3 (dk_at dksX3_indexOf_0 0 rfl rfl)
theorem dX3_indexOf_1 : decode cX3_indexOf 1 = .ok (.istore_n 2, 1) := dk_61 (dk_at dksX3_indexOf_0 1 rfl rfl)
theorem dX3_indexOf_2 : decode cX3_indexOf 2 = .ok (.iload_n 2, 1) := dk_28 (dk_at dksX3_indexOf_0 2 rfl rfl)
theorem dX3_indexOf_3 : decode cX3_indexOf 3 = .ok (.aload_n 0, 1) := dk_42 (dk_at dksX3_indexOf_0 3 rfl rfl)
theorem dX3_indexOf_4 : decode cX3_indexOf 4 = .ok (.invokeinterface 29 1, 5) := by decide +kernel
theorem dX3_indexOf_9 : decode cX3_indexOf 9 = .ok (.if_icmp .ge 28, 3) := dk_162 0 28 (dk_at dksX3_indexOf_0 9 rfl rfl)
theorem dX3_indexOf_12 : decode cX3_indexOf 12 = .ok (.aload_n 0, 1) := dk_42 (dk_at dksX3_indexOf_0 12 rfl rfl)
theorem dX3_indexOf_13 : decode cX3_indexOf 13 = .ok (.iload_n 2, 1) := dk_28 (dk_at dksX3_indexOf_0 13 rfl rfl)
theorem dX3_indexOf_14 : decode cX3_indexOf 14 = .ok (.invokeinterface 35 2, 5) := by decide +kernel
theorem dX3_indexOf_19 : decode cX3_indexOf 19 = .ok (.checkcast 39, 3) := dk_192 0 39 (dk_at dksX3_indexOf_0 19 rfl rfl)
theorem dX3_indexOf_22 : decode cX3_indexOf 22 = .ok (.aload_n 1, 1) := dk_43 (dk_at dksX3_indexOf_0 22 rfl rfl)
theorem dX3_indexOf_23 : decode cX3_indexOf 23 = .ok (.invokevirtual 41, 3) := dk_182 0 41 (dk_at dksX3_indexOf_1 0 rfl rfl)
theorem dX3_indexOf_26 : decode cX3_indexOf 26 = .ok (.ifCond .eq 5, 3) := dk_153 0 5 (dk_at dksX3_indexOf_1 3 rfl rfl)
theorem dX3_indexOf_29 : decode cX3_indexOf 29 = .ok (.iload_n 2, 1) := dk_28 (dk_at dksX3_indexOf_1 6 rfl rfl)
theorem dX3_indexOf_30 : decode cX3_indexOf 30 = .ok (.ireturn, 1) := dk_172 (dk_at dksX3_indexOf_1 7 rfl rfl)
theorem dX3_indexOf_31 : decode cX3_indexOf 31 = .ok (.iinc 2 1, 3) := dk_132 2 1 (dk_at dksX3_indexOf_1 8 rfl rfl)
theorem dX3_indexOf_34 : decode cX3_indexOf 34 = .ok (.goto (-32), 3) := dk_167 255 224 (dk_at dksX3_indexOf_1 11 rfl rfl)
theorem dX3_indexOf_37 : decode cX3_indexOf 37 = .ok (.iconst (-1), 1) := dk_2 (dk_at dksX3_indexOf_1 14 rfl rfl)
theorem dX3_indexOf_38 : decode cX3_indexOf 38 = .ok (.ireturn, 1) := dk_172 (dk_at dksX3_indexOf_1 15 rfl rfl)
abbrev cX3_isComplete : ByteArray := prog_11_method_4_code
def yX3_isComplete : MethodName := ⟨RX3, "isComplete", "()Z"⟩
def dkwX3_isComplete_1 : List UInt8 := [42, 180, 0, 23, 185, 0, 56, 1, 0, 154, 0, 7, 4, 167, 0, 4, 3, 172]
abbrev dktX3_isComplete_1 : List UInt8 := dkwX3_isComplete_1 ++ []
def dkwX3_isComplete_0 : List UInt8 := [42, 180, 0, 14, 185, 0, 56, 1, 0, 154, 0, 31, 42, 180, 0, 20, 185, 0, 56, 1, 0, 154, 0, 19]
abbrev dktX3_isComplete_0 : List UInt8 := dkwX3_isComplete_0 ++ dktX3_isComplete_1
theorem dksX3_isComplete_0 : cX3_isComplete.data.toList.drop 0 = dktX3_isComplete_0 := by decide +kernel
theorem dksX3_isComplete_1 : cX3_isComplete.data.toList.drop 24 = dktX3_isComplete_1 := dk_seg dksX3_isComplete_0 24 rfl rfl
theorem dX3_isComplete_0 : decode cX3_isComplete 0 = .ok (.aload_n 0, 1) := dk_42 (dk_at dksX3_isComplete_0 0 rfl rfl)
theorem dX3_isComplete_1 : decode cX3_isComplete 1 = .ok (.getfield 14, 3) := dk_180 0 14 (dk_at dksX3_isComplete_0 1 rfl rfl)
theorem dX3_isComplete_4 : decode cX3_isComplete 4 = .ok (.invokeinterface 56 1, 5) := by decide +kernel
theorem dX3_isComplete_9 : decode cX3_isComplete 9 = .ok (.ifCond .ne 31, 3) := dk_154 0 31 (dk_at dksX3_isComplete_0 9 rfl rfl)
theorem dX3_isComplete_12 : decode cX3_isComplete 12 = .ok (.aload_n 0, 1) := dk_42 (dk_at dksX3_isComplete_0 12 rfl rfl)
theorem dX3_isComplete_13 : decode cX3_isComplete 13 = .ok (.getfield 20, 3) := dk_180 0 20 (dk_at dksX3_isComplete_0 13 rfl rfl)
theorem dX3_isComplete_16 : decode cX3_isComplete 16 = .ok (.invokeinterface 56 1, 5) := by decide +kernel
theorem dX3_isComplete_21 : decode cX3_isComplete 21 = .ok (.ifCond .ne 19, 3) := dk_154 0 19 (dk_at dksX3_isComplete_0 21 rfl rfl)
theorem dX3_isComplete_24 : decode cX3_isComplete 24 = .ok (.aload_n 0, 1) := dk_42 (dk_at dksX3_isComplete_1 0 rfl rfl)
theorem dX3_isComplete_25 : decode cX3_isComplete 25 = .ok (.getfield 23, 3) := dk_180 0 23 (dk_at dksX3_isComplete_1 1 rfl rfl)
theorem dX3_isComplete_28 : decode cX3_isComplete 28 = .ok (.invokeinterface 56 1, 5) := by decide +kernel
theorem dX3_isComplete_33 : decode cX3_isComplete 33 = .ok (.ifCond .ne 7, 3) := dk_154 0 7 (dk_at dksX3_isComplete_1 9 rfl rfl)
theorem dX3_isComplete_36 : decode cX3_isComplete 36 = .ok (.iconst 1, 1) := dk_4 (dk_at dksX3_isComplete_1 12 rfl rfl)
theorem dX3_isComplete_37 : decode cX3_isComplete 37 = .ok (.goto 4, 3) := dk_167 0 4 (dk_at dksX3_isComplete_1 13 rfl rfl)
theorem dX3_isComplete_40 : decode cX3_isComplete 40 = .ok (.iconst 0, 1) := dk_3 (dk_at dksX3_isComplete_1 16 rfl rfl)
theorem dX3_isComplete_41 : decode cX3_isComplete 41 = .ok (.ireturn, 1) := dk_172 (dk_at dksX3_isComplete_1 17 rfl rfl)
abbrev cX3_choose : ByteArray := prog_11_method_7_code
def yX3_choose : MethodName := ⟨RX3, "choose", "(II)I"⟩
def dkwX3_choose_3 : List UInt8 := [167, 255, 196, 2, 172]
abbrev dktX3_choose_3 : List UInt8 := dkwX3_choose_3 ++ []
def dkwX3_choose_2 : List UInt8 := [153, 0, 19, 25, 5, 27, 17, 3, 232, 112, 182, 0, 72, 153, 0, 6, 21, 4, 172, 132, 4, 1]
abbrev dktX3_choose_2 : List UInt8 := dkwX3_choose_2 ++ dktX3_choose_3
def dkwX3_choose_1 : List UInt8 := [180, 0, 26, 21, 4, 185, 0, 35, 2, 0, 192, 0, 61, 58, 5, 42, 25, 5, 29, 28, 182, 0, 68]
abbrev dktX3_choose_1 : List UInt8 := dkwX3_choose_1 ++ dktX3_choose_2
def dkwX3_choose_0 : List UInt8 := [27, 17, 3, 232, 108, 62, 3, 54, 4, 21, 4, 42, 180, 0, 26, 185, 0, 29, 1, 0, 162, 0, 52, 42]
abbrev dktX3_choose_0 : List UInt8 := dkwX3_choose_0 ++ dktX3_choose_1
theorem dksX3_choose_0 : cX3_choose.data.toList.drop 0 = dktX3_choose_0 := by decide +kernel
theorem dksX3_choose_1 : cX3_choose.data.toList.drop 24 = dktX3_choose_1 := dk_seg dksX3_choose_0 24 rfl rfl
theorem dksX3_choose_2 : cX3_choose.data.toList.drop 47 = dktX3_choose_2 := dk_seg dksX3_choose_1 23 rfl rfl
theorem dksX3_choose_3 : cX3_choose.data.toList.drop 69 = dktX3_choose_3 := dk_seg dksX3_choose_2 22 rfl rfl
theorem dX3_choose_0 : decode cX3_choose 0 = .ok (.iload_n 1, 1) := dk_27 (dk_at dksX3_choose_0 0 rfl rfl)
theorem dX3_choose_1 : decode cX3_choose 1 = .ok (.sipush 1000, 3) := dk_17 3 232 (dk_at dksX3_choose_0 1 rfl rfl)
theorem dX3_choose_4 : decode cX3_choose 4 = .ok (.idiv, 1) := dk_108 (dk_at dksX3_choose_0 4 rfl rfl)
theorem dX3_choose_5 : decode cX3_choose 5 = .ok (.istore_n 3, 1) := dk_62 (dk_at dksX3_choose_0 5 rfl rfl)
theorem dX3_choose_6 : decode cX3_choose 6 = .ok (.iconst 0, 1) := dk_3 (dk_at dksX3_choose_0 6 rfl rfl)
theorem dX3_choose_7 : decode cX3_choose 7 = .ok (.istore 4, 2) := dk_54 4 (dk_at dksX3_choose_0 7 rfl rfl)
theorem dX3_choose_9 : decode cX3_choose 9 = .ok (.iload 4, 2) := dk_21 4 (dk_at dksX3_choose_0 9 rfl rfl)
theorem dX3_choose_11 : decode cX3_choose 11 = .ok (.aload_n 0, 1) := dk_42 (dk_at dksX3_choose_0 11 rfl rfl)
theorem dX3_choose_12 : decode cX3_choose 12 = .ok (.getfield 26, 3) := dk_180 0 26 (dk_at dksX3_choose_0 12 rfl rfl)
theorem dX3_choose_15 : decode cX3_choose 15 = .ok (.invokeinterface 29 1, 5) := by decide +kernel
theorem dX3_choose_20 : decode cX3_choose 20 = .ok (.if_icmp .ge 52, 3) := dk_162 0 52 (dk_at dksX3_choose_0 20 rfl rfl)
theorem dX3_choose_23 : decode cX3_choose 23 = .ok (.aload_n 0, 1) := dk_42 (dk_at dksX3_choose_0 23 rfl rfl)
theorem dX3_choose_24 : decode cX3_choose 24 = .ok (.getfield 26, 3) := dk_180 0 26 (dk_at dksX3_choose_1 0 rfl rfl)
theorem dX3_choose_27 : decode cX3_choose 27 = .ok (.iload 4, 2) := dk_21 4 (dk_at dksX3_choose_1 3 rfl rfl)
theorem dX3_choose_29 : decode cX3_choose 29 = .ok (.invokeinterface 35 2, 5) := by decide +kernel
theorem dX3_choose_34 : decode cX3_choose 34 = .ok (.checkcast 61, 3) := dk_192 0 61 (dk_at dksX3_choose_1 10 rfl rfl)
theorem dX3_choose_37 : decode cX3_choose 37 = .ok (.astore 5, 2) := dk_58 5 (dk_at dksX3_choose_1 13 rfl rfl)
theorem dX3_choose_39 : decode cX3_choose 39 = .ok (.aload_n 0, 1) := dk_42 (dk_at dksX3_choose_1 15 rfl rfl)
theorem dX3_choose_40 : decode cX3_choose 40 = .ok (.aload 5, 2) := dk_25 5 (dk_at dksX3_choose_1 16 rfl rfl)
theorem dX3_choose_42 : decode cX3_choose 42 = .ok (.iload_n 3, 1) := dk_29 (dk_at dksX3_choose_1 18 rfl rfl)
theorem dX3_choose_43 : decode cX3_choose 43 = .ok (.iload_n 2, 1) := dk_28 (dk_at dksX3_choose_1 19 rfl rfl)
theorem dX3_choose_44 : decode cX3_choose 44 = .ok (.invokevirtual 68, 3) := dk_182 0 68 (dk_at dksX3_choose_1 20 rfl rfl)
theorem dX3_choose_47 : decode cX3_choose 47 = .ok (.ifCond .eq 19, 3) := dk_153 0 19 (dk_at dksX3_choose_2 0 rfl rfl)
theorem dX3_choose_50 : decode cX3_choose 50 = .ok (.aload 5, 2) := dk_25 5 (dk_at dksX3_choose_2 3 rfl rfl)
theorem dX3_choose_52 : decode cX3_choose 52 = .ok (.iload_n 1, 1) := dk_27 (dk_at dksX3_choose_2 5 rfl rfl)
theorem dX3_choose_53 : decode cX3_choose 53 = .ok (.sipush 1000, 3) := dk_17 3 232 (dk_at dksX3_choose_2 6 rfl rfl)
theorem dX3_choose_56 : decode cX3_choose 56 = .ok (.irem, 1) := dk_112 (dk_at dksX3_choose_2 9 rfl rfl)
theorem dX3_choose_57 : decode cX3_choose 57 = .ok (.invokevirtual 72, 3) := dk_182 0 72 (dk_at dksX3_choose_2 10 rfl rfl)
theorem dX3_choose_60 : decode cX3_choose 60 = .ok (.ifCond .eq 6, 3) := dk_153 0 6 (dk_at dksX3_choose_2 13 rfl rfl)
theorem dX3_choose_63 : decode cX3_choose 63 = .ok (.iload 4, 2) := dk_21 4 (dk_at dksX3_choose_2 16 rfl rfl)
theorem dX3_choose_65 : decode cX3_choose 65 = .ok (.ireturn, 1) := dk_172 (dk_at dksX3_choose_2 18 rfl rfl)
theorem dX3_choose_66 : decode cX3_choose 66 = .ok (.iinc 4 1, 3) := dk_132 4 1 (dk_at dksX3_choose_2 19 rfl rfl)
theorem dX3_choose_69 : decode cX3_choose 69 = .ok (.goto (-60), 3) := dk_167 255 196 (dk_at dksX3_choose_3 0 rfl rfl)
theorem dX3_choose_72 : decode cX3_choose 72 = .ok (.iconst (-1), 1) := dk_2 (dk_at dksX3_choose_3 3 rfl rfl)
theorem dX3_choose_73 : decode cX3_choose 73 = .ok (.ireturn, 1) := dk_172 (dk_at dksX3_choose_3 4 rfl rfl)
abbrev cX3_isFor : ByteArray := prog_11_method_5_code
def yX3_isFor : MethodName := ⟨RX3, "isFor", "(LContractMachine$Transition;II)Z"⟩
def dkwX3_isFor_0 : List UInt8 := [43, 180, 0, 60, 28, 160, 0, 15, 43, 180, 0, 65, 29, 160, 0, 7, 4, 167, 0, 4, 3, 172]
abbrev dktX3_isFor_0 : List UInt8 := dkwX3_isFor_0 ++ []
theorem dksX3_isFor_0 : cX3_isFor.data.toList.drop 0 = dktX3_isFor_0 := by decide +kernel
theorem dX3_isFor_0 : decode cX3_isFor 0 = .ok (.aload_n 1, 1) := dk_43 (dk_at dksX3_isFor_0 0 rfl rfl)
theorem dX3_isFor_1 : decode cX3_isFor 1 = .ok (.getfield 60, 3) := dk_180 0 60 (dk_at dksX3_isFor_0 1 rfl rfl)
theorem dX3_isFor_4 : decode cX3_isFor 4 = .ok (.iload_n 2, 1) := dk_28 (dk_at dksX3_isFor_0 4 rfl rfl)
theorem dX3_isFor_5 : decode cX3_isFor 5 = .ok (.if_icmp .ne 15, 3) := dk_160 0 15 (dk_at dksX3_isFor_0 5 rfl rfl)
theorem dX3_isFor_8 : decode cX3_isFor 8 = .ok (.aload_n 1, 1) := dk_43 (dk_at dksX3_isFor_0 8 rfl rfl)
theorem dX3_isFor_9 : decode cX3_isFor 9 = .ok (.getfield 65, 3) := dk_180 0 65 (dk_at dksX3_isFor_0 9 rfl rfl)
theorem dX3_isFor_12 : decode cX3_isFor 12 = .ok (.iload_n 3, 1) := dk_29 (dk_at dksX3_isFor_0 12 rfl rfl)
theorem dX3_isFor_13 : decode cX3_isFor 13 = .ok (.if_icmp .ne 7, 3) := dk_160 0 7 (dk_at dksX3_isFor_0 13 rfl rfl)
theorem dX3_isFor_16 : decode cX3_isFor 16 = .ok (.iconst 1, 1) := dk_4 (dk_at dksX3_isFor_0 16 rfl rfl)
theorem dX3_isFor_17 : decode cX3_isFor 17 = .ok (.goto 4, 3) := dk_167 0 4 (dk_at dksX3_isFor_0 17 rfl rfl)
theorem dX3_isFor_20 : decode cX3_isFor 20 = .ok (.iconst 0, 1) := dk_3 (dk_at dksX3_isFor_0 20 rfl rfl)
theorem dX3_isFor_21 : decode cX3_isFor 21 = .ok (.ireturn, 1) := dk_172 (dk_at dksX3_isFor_0 21 rfl rfl)
abbrev cX3_hasTransition : ByteArray := prog_11_method_6_code
def yX3_hasTransition : MethodName := ⟨RX3, "hasTransition", "(II)Z"⟩
def dkwX3_hasTransition_2 : List UInt8 := [3, 172]
abbrev dktX3_hasTransition_2 : List UInt8 := dkwX3_hasTransition_2 ++ []
def dkwX3_hasTransition_1 : List UInt8 := [185, 0, 35, 2, 0, 192, 0, 61, 27, 28, 182, 0, 68, 153, 0, 5, 4, 172, 132, 3, 1, 167, 255, 216]
abbrev dktX3_hasTransition_1 : List UInt8 := dkwX3_hasTransition_1 ++ dktX3_hasTransition_2
def dkwX3_hasTransition_0 : List UInt8 := [3, 62, 29, 42, 180, 0, 26, 185, 0, 29, 1, 0, 162, 0, 33, 42, 42, 180, 0, 26, 29]
abbrev dktX3_hasTransition_0 : List UInt8 := dkwX3_hasTransition_0 ++ dktX3_hasTransition_1
theorem dksX3_hasTransition_0 : cX3_hasTransition.data.toList.drop 0 = dktX3_hasTransition_0 := by decide +kernel
theorem dksX3_hasTransition_1 : cX3_hasTransition.data.toList.drop 21 = dktX3_hasTransition_1 := dk_seg dksX3_hasTransition_0 21 rfl rfl
theorem dksX3_hasTransition_2 : cX3_hasTransition.data.toList.drop 45 = dktX3_hasTransition_2 := dk_seg dksX3_hasTransition_1 24 rfl rfl
theorem dX3_hasTransition_0 : decode cX3_hasTransition 0 = .ok (.iconst 0, 1) := dk_3 (dk_at dksX3_hasTransition_0 0 rfl rfl)
theorem dX3_hasTransition_1 : decode cX3_hasTransition 1 = .ok (.istore_n 3, 1) := dk_62 (dk_at dksX3_hasTransition_0 1 rfl rfl)
theorem dX3_hasTransition_2 : decode cX3_hasTransition 2 = .ok (.iload_n 3, 1) := dk_29 (dk_at dksX3_hasTransition_0 2 rfl rfl)
theorem dX3_hasTransition_3 : decode cX3_hasTransition 3 = .ok (.aload_n 0, 1) := dk_42 (dk_at dksX3_hasTransition_0 3 rfl rfl)
theorem dX3_hasTransition_4 : decode cX3_hasTransition 4 = .ok (.getfield 26, 3) := dk_180 0 26 (dk_at dksX3_hasTransition_0 4 rfl rfl)
theorem dX3_hasTransition_7 : decode cX3_hasTransition 7 = .ok (.invokeinterface 29 1, 5) := by decide +kernel
theorem dX3_hasTransition_12 : decode cX3_hasTransition 12 = .ok (.if_icmp .ge 33, 3) := dk_162 0 33 (dk_at dksX3_hasTransition_0 12 rfl rfl)
theorem dX3_hasTransition_15 : decode cX3_hasTransition 15 = .ok (.aload_n 0, 1) := dk_42 (dk_at dksX3_hasTransition_0 15 rfl rfl)
theorem dX3_hasTransition_16 : decode cX3_hasTransition 16 = .ok (.aload_n 0, 1) := dk_42 (dk_at dksX3_hasTransition_0 16 rfl rfl)
theorem dX3_hasTransition_17 : decode cX3_hasTransition 17 = .ok (.getfield 26, 3) := dk_180 0 26 (dk_at dksX3_hasTransition_0 17 rfl rfl)
theorem dX3_hasTransition_20 : decode cX3_hasTransition 20 = .ok (.iload_n 3, 1) := dk_29 (dk_at dksX3_hasTransition_0 20 rfl rfl)
theorem dX3_hasTransition_21 : decode cX3_hasTransition 21 = .ok (.invokeinterface 35 2, 5) := by decide +kernel
theorem dX3_hasTransition_26 : decode cX3_hasTransition 26 = .ok (.checkcast 61, 3) := dk_192 0 61 (dk_at dksX3_hasTransition_1 5 rfl rfl)
theorem dX3_hasTransition_29 : decode cX3_hasTransition 29 = .ok (.iload_n 1, 1) := dk_27 (dk_at dksX3_hasTransition_1 8 rfl rfl)
theorem dX3_hasTransition_30 : decode cX3_hasTransition 30 = .ok (.iload_n 2, 1) := dk_28 (dk_at dksX3_hasTransition_1 9 rfl rfl)
theorem dX3_hasTransition_31 : decode cX3_hasTransition 31 = .ok (.invokevirtual 68, 3) := dk_182 0 68 (dk_at dksX3_hasTransition_1 10 rfl rfl)
theorem dX3_hasTransition_34 : decode cX3_hasTransition 34 = .ok (.ifCond .eq 5, 3) := dk_153 0 5 (dk_at dksX3_hasTransition_1 13 rfl rfl)
theorem dX3_hasTransition_37 : decode cX3_hasTransition 37 = .ok (.iconst 1, 1) := dk_4 (dk_at dksX3_hasTransition_1 16 rfl rfl)
theorem dX3_hasTransition_38 : decode cX3_hasTransition 38 = .ok (.ireturn, 1) := dk_172 (dk_at dksX3_hasTransition_1 17 rfl rfl)
theorem dX3_hasTransition_39 : decode cX3_hasTransition 39 = .ok (.iinc 3 1, 3) := dk_132 3 1 (dk_at dksX3_hasTransition_1 18 rfl rfl)
theorem dX3_hasTransition_42 : decode cX3_hasTransition 42 = .ok (.goto (-40), 3) := dk_167 255 216 (dk_at dksX3_hasTransition_1 21 rfl rfl)
theorem dX3_hasTransition_45 : decode cX3_hasTransition 45 = .ok (.iconst 0, 1) := dk_3 (dk_at dksX3_hasTransition_2 0 rfl rfl)
theorem dX3_hasTransition_46 : decode cX3_hasTransition 46 = .ok (.ireturn, 1) := dk_172 (dk_at dksX3_hasTransition_2 1 rfl rfl)
theorem q124 : (Jvm.Cond.initialized "ContractMachine$Definition") ∈ lw_all := lw_g (lw_at lw_m1 4 rfl) rfl
theorem q204 : (Jvm.Cond.instantiable "ContractMachine$Definition" (5 : Nat)) ∈ lw_all := lw_g (lw_at lw_m1 84 rfl) rfl
theorem q206 : (Jvm.Cond.instanceMethod ({ cls := "ContractMachine$Definition", name := "<init>", desc := "()V" } : Jvm.MethodName)) ∈ lw_all := lw_g (lw_at lw_m1 86 rfl) rfl
theorem q207 : (Jvm.Cond.code ({ cls := "ContractMachine$Definition", name := "<init>", desc := "()V" } : Jvm.MethodName) prog_11_method_1_code (1 : Nat) (Option.none : Option Jvm.ClassFile.FieldType)) ∈ lw_all := lw_g (lw_at lw_m1 87 rfl) rfl
theorem q208 : (Jvm.Cond.methodLink "ContractMachine$Definition" (3 : Nat) ({ cls := "java/lang/Object", name := "<init>", desc := "()V" } : Jvm.MethodName)) ∈ lw_all := lw_g (lw_at lw_m1 88 rfl) rfl
theorem q209 : (Jvm.Cond.classLink "ContractMachine$Definition" (9 : Nat) "java/util/ArrayList") ∈ lw_all := lw_g (lw_at lw_m1 89 rfl) rfl
theorem q211 : (Jvm.Cond.methodLink "ContractMachine$Definition" (11 : Nat) ({ cls := "java/util/ArrayList", name := "<init>", desc := "(I)V" } : Jvm.MethodName)) ∈ lw_all := lw_g (lw_at lw_m1 91 rfl) rfl
theorem q558 : (Jvm.Cond.fieldLink "ContractMachine$Definition" (14 : Nat) "ContractMachine$Definition" "states" "Ljava/util/List;") ∈ lw_all := lw_g (lw_at lw_m2 198 rfl) rfl
theorem q561 : (Jvm.Cond.fieldLink "ContractMachine$Definition" (20 : Nat) "ContractMachine$Definition" "events" "Ljava/util/List;") ∈ lw_all := lw_g (lw_at lw_m2 201 rfl) rfl
theorem q566 : (Jvm.Cond.fieldLink "ContractMachine$Definition" (23 : Nat) "ContractMachine$Definition" "variables" "Ljava/util/List;") ∈ lw_all := lw_g (lw_at lw_m2 206 rfl) rfl
theorem q570 : (Jvm.Cond.fieldLink "ContractMachine$Definition" (26 : Nat) "ContractMachine$Definition" "transitions" "Ljava/util/List;") ∈ lw_all := lw_g (lw_at lw_m2 210 rfl) rfl
theorem q573 : (Jvm.Cond.fieldLink "ContractMachine$Definition" (45 : Nat) "ContractMachine$Definition" "initial" "I") ∈ lw_all := lw_g (lw_at lw_m2 213 rfl) rfl
theorem q576 : (Jvm.Cond.laysFinal "ContractMachine$Definition" "ContractMachine$Definition" "states" "Ljava/util/List;") ∈ lw_all := lw_g (lw_at lw_m2 216 rfl) rfl
theorem q577 : (Jvm.Cond.soleField "ContractMachine$Definition" "states") ∈ lw_all := lw_g (lw_at lw_m2 217 rfl) rfl
theorem q578 : (Jvm.Cond.laysFinal "ContractMachine$Definition" "ContractMachine$Definition" "events" "Ljava/util/List;") ∈ lw_all := lw_g (lw_at lw_m2 218 rfl) rfl
theorem q579 : (Jvm.Cond.soleField "ContractMachine$Definition" "events") ∈ lw_all := lw_g (lw_at lw_m2 219 rfl) rfl
theorem q580 : (Jvm.Cond.laysFinal "ContractMachine$Definition" "ContractMachine$Definition" "variables" "Ljava/util/List;") ∈ lw_all := lw_g (lw_at lw_m2 220 rfl) rfl
theorem q581 : (Jvm.Cond.soleField "ContractMachine$Definition" "variables") ∈ lw_all := lw_g (lw_at lw_m2 221 rfl) rfl
theorem q582 : (Jvm.Cond.laysFinal "ContractMachine$Definition" "ContractMachine$Definition" "transitions" "Ljava/util/List;") ∈ lw_all := lw_g (lw_at lw_m2 222 rfl) rfl
theorem q583 : (Jvm.Cond.soleField "ContractMachine$Definition" "transitions") ∈ lw_all := lw_g (lw_at lw_m2 223 rfl) rfl
theorem q584 : (Jvm.Cond.lays "ContractMachine$Definition" "ContractMachine$Definition" "initial" "I") ∈ lw_all := lw_g (lw_at lw_m2 224 rfl) rfl
theorem q585 : (Jvm.Cond.soleField "ContractMachine$Definition" "initial") ∈ lw_all := lw_g (lw_at lw_m2 225 rfl) rfl
theorem q586 : (Jvm.Cond.superclass "ContractMachine$Definition" "java/lang/Object") ∈ lw_all := lw_g (lw_at lw_m2 226 rfl) rfl
theorem q709 : (Jvm.Cond.selects "ContractMachine$Definition" ({ cls := "java/lang/Object", name := "getClass", desc := "()Ljava/lang/Class;" } : Jvm.MethodName) ({ cls := "java/lang/Object", name := "getClass", desc := "()Ljava/lang/Class;" } : Jvm.MethodName)) ∈ lw_all := lw_g (lw_at lw_m3 109 rfl) rfl
theorem q763 : (Jvm.Cond.instanceMethod ({ cls := "ContractMachine$Definition", name := "addVariable", desc := "(Ljava/lang/String;I)V" } : Jvm.MethodName)) ∈ lw_all := lw_g (lw_at lw_m3 163 rfl) rfl
theorem q764 : (Jvm.Cond.selects "ContractMachine$Definition" ({ cls := "ContractMachine$Definition", name := "addVariable", desc := "(Ljava/lang/String;I)V" } : Jvm.MethodName) ({ cls := "ContractMachine$Definition", name := "addVariable", desc := "(Ljava/lang/String;I)V" } : Jvm.MethodName)) ∈ lw_all := lw_g (lw_at lw_m3 164 rfl) rfl
theorem q765 : (Jvm.Cond.code ({ cls := "ContractMachine$Definition", name := "addVariable", desc := "(Ljava/lang/String;I)V" } : Jvm.MethodName) prog_11_method_3_code (4 : Nat) (Option.none : Option Jvm.ClassFile.FieldType)) ∈ lw_all := lw_g (lw_at lw_m3 165 rfl) rfl
theorem q766 : (Jvm.Cond.interfaceEntry "ContractMachine$Definition" (29 : Nat)) ∈ lw_tbl := lw_at lw_m3 166 rfl
theorem q767 : (Jvm.Cond.methodLink "ContractMachine$Definition" (29 : Nat) ({ cls := "java/util/List", name := "size", desc := "()I" } : Jvm.MethodName)) ∈ lw_all := lw_g (lw_at lw_m3 167 rfl) rfl
theorem q775 : (Jvm.Cond.methodLinkNest "ContractMachine$Definition" (49 : Nat) ({ cls := "ContractMachine", name := "weight", desc := "(I)I" } : Jvm.MethodName) "ContractMachine") ∈ lw_tbl := lw_at lw_m3 175 rfl
theorem q778 : (Jvm.Cond.interfaceEntry "ContractMachine$Definition" (53 : Nat)) ∈ lw_tbl := lw_at lw_m3 178 rfl
theorem q779 : (Jvm.Cond.methodLink "ContractMachine$Definition" (53 : Nat) ({ cls := "java/util/List", name := "add", desc := "(Ljava/lang/Object;)Z" } : Jvm.MethodName)) ∈ lw_all := lw_g (lw_at lw_m3 179 rfl) rfl
theorem q810 : (Jvm.Cond.fieldLinkNest "ContractMachine$Definition" (60 : Nat) "ContractMachine$Transition" "source" "I" "ContractMachine") ∈ lw_tbl := lw_at lw_m3 210 rfl
theorem q814 : (Jvm.Cond.fieldLinkNest "ContractMachine$Definition" (65 : Nat) "ContractMachine$Transition" "event" "I" "ContractMachine") ∈ lw_tbl := lw_at lw_m3 214 rfl
theorem q1301 : (Jvm.Cond.static ({ cls := "ContractMachine$Definition", name := "indexOf", desc := "(Ljava/util/List;Ljava/lang/String;)I" } : Jvm.MethodName)) ∈ lw_all := lw_g (lw_at lw_m5 221 rfl) rfl
theorem q1302 : (Jvm.Cond.code ({ cls := "ContractMachine$Definition", name := "indexOf", desc := "(Ljava/util/List;Ljava/lang/String;)I" } : Jvm.MethodName) prog_11_method_2_code (3 : Nat) (Option.some Jvm.ClassFile.FieldType.int)) ∈ lw_all := lw_g (lw_at lw_m5 222 rfl) rfl
theorem q1303 : (Jvm.Cond.interfaceEntry "ContractMachine$Definition" (35 : Nat)) ∈ lw_tbl := lw_at lw_m5 223 rfl
theorem q1304 : (Jvm.Cond.methodLink "ContractMachine$Definition" (35 : Nat) ({ cls := "java/util/List", name := "get", desc := "(I)Ljava/lang/Object;" } : Jvm.MethodName)) ∈ lw_all := lw_g (lw_at lw_m5 224 rfl) rfl
theorem q1320 : (Jvm.Cond.classLink "ContractMachine$Definition" (39 : Nat) "java/lang/String") ∈ lw_all := lw_g (lw_at lw_m6 0 rfl) rfl
theorem q1321 : (Jvm.Cond.methodLink "ContractMachine$Definition" (41 : Nat) ({ cls := "java/lang/String", name := "equals", desc := "(Ljava/lang/Object;)Z" } : Jvm.MethodName)) ∈ lw_all := lw_g (lw_at lw_m6 1 rfl) rfl
theorem q1418 : (Jvm.Cond.instanceMethod ({ cls := "ContractMachine$Definition", name := "isComplete", desc := "()Z" } : Jvm.MethodName)) ∈ lw_all := lw_g (lw_at lw_m6 98 rfl) rfl
theorem q1419 : (Jvm.Cond.selects "ContractMachine$Definition" ({ cls := "ContractMachine$Definition", name := "isComplete", desc := "()Z" } : Jvm.MethodName) ({ cls := "ContractMachine$Definition", name := "isComplete", desc := "()Z" } : Jvm.MethodName)) ∈ lw_all := lw_g (lw_at lw_m6 99 rfl) rfl
theorem q1420 : (Jvm.Cond.code ({ cls := "ContractMachine$Definition", name := "isComplete", desc := "()Z" } : Jvm.MethodName) prog_11_method_4_code (1 : Nat) (Option.some Jvm.ClassFile.FieldType.boolean)) ∈ lw_all := lw_g (lw_at lw_m6 100 rfl) rfl
theorem q1421 : (Jvm.Cond.interfaceEntry "ContractMachine$Definition" (56 : Nat)) ∈ lw_tbl := lw_at lw_m6 101 rfl
theorem q1422 : (Jvm.Cond.methodLink "ContractMachine$Definition" (56 : Nat) ({ cls := "java/util/List", name := "isEmpty", desc := "()Z" } : Jvm.MethodName)) ∈ lw_all := lw_g (lw_at lw_m6 102 rfl) rfl
theorem q1786 : (Jvm.Cond.instanceMethod ({ cls := "ContractMachine$Definition", name := "choose", desc := "(II)I" } : Jvm.MethodName)) ∈ lw_all := lw_g (lw_at lw_m7 226 rfl) rfl
theorem q1787 : (Jvm.Cond.selects "ContractMachine$Definition" ({ cls := "ContractMachine$Definition", name := "choose", desc := "(II)I" } : Jvm.MethodName) ({ cls := "ContractMachine$Definition", name := "choose", desc := "(II)I" } : Jvm.MethodName)) ∈ lw_all := lw_g (lw_at lw_m7 227 rfl) rfl
theorem q1788 : (Jvm.Cond.code ({ cls := "ContractMachine$Definition", name := "choose", desc := "(II)I" } : Jvm.MethodName) prog_11_method_7_code (6 : Nat) (Option.some Jvm.ClassFile.FieldType.int)) ∈ lw_all := lw_g (lw_at lw_m7 228 rfl) rfl
theorem q1789 : (Jvm.Cond.classLink "ContractMachine$Definition" (61 : Nat) "ContractMachine$Transition") ∈ lw_all := lw_g (lw_at lw_m7 229 rfl) rfl
theorem q1790 : (Jvm.Cond.methodLink "ContractMachine$Definition" (68 : Nat) ({ cls := "ContractMachine$Definition", name := "isFor", desc := "(LContractMachine$Transition;II)Z" } : Jvm.MethodName)) ∈ lw_all := lw_g (lw_at lw_m7 230 rfl) rfl
theorem q1791 : (Jvm.Cond.privateMethod ({ cls := "ContractMachine$Definition", name := "isFor", desc := "(LContractMachine$Transition;II)Z" } : Jvm.MethodName)) ∈ lw_tbl := lw_at lw_m7 231 rfl
theorem q1792 : (Jvm.Cond.instanceMethod ({ cls := "ContractMachine$Definition", name := "isFor", desc := "(LContractMachine$Transition;II)Z" } : Jvm.MethodName)) ∈ lw_all := lw_g (lw_at lw_m7 232 rfl) rfl
theorem q1793 : (Jvm.Cond.code ({ cls := "ContractMachine$Definition", name := "isFor", desc := "(LContractMachine$Transition;II)Z" } : Jvm.MethodName) prog_11_method_5_code (4 : Nat) (Option.some Jvm.ClassFile.FieldType.boolean)) ∈ lw_all := lw_g (lw_at lw_m7 233 rfl) rfl
theorem q1794 : (Jvm.Cond.methodLink "ContractMachine$Definition" (72 : Nat) ({ cls := "ContractMachine$Transition", name := "isOpen", desc := "(I)Z" } : Jvm.MethodName)) ∈ lw_all := lw_g (lw_at lw_m7 234 rfl) rfl
theorem q1800 : (Jvm.Cond.instanceMethod ({ cls := "ContractMachine$Definition", name := "hasTransition", desc := "(II)Z" } : Jvm.MethodName)) ∈ lw_all := lw_g (lw_at lw_m8 0 rfl) rfl
theorem q1801 : (Jvm.Cond.selects "ContractMachine$Definition" ({ cls := "ContractMachine$Definition", name := "hasTransition", desc := "(II)Z" } : Jvm.MethodName) ({ cls := "ContractMachine$Definition", name := "hasTransition", desc := "(II)Z" } : Jvm.MethodName)) ∈ lw_all := lw_g (lw_at lw_m8 1 rfl) rfl
theorem q1802 : (Jvm.Cond.code ({ cls := "ContractMachine$Definition", name := "hasTransition", desc := "(II)Z" } : Jvm.MethodName) prog_11_method_6_code (4 : Nat) (Option.some Jvm.ClassFile.FieldType.boolean)) ∈ lw_all := lw_g (lw_at lw_m8 2 rfl) rfl
theorem q3295 : (Jvm.Cond.castable "ContractMachine$Definition" "java/lang/Object") ∈ lw_tbl := lw_at lw_m14 55 rfl
theorem in_X3 : ∀ w ∈ wsX30, w ∈ lw_all := lw_in wsX30 [576, 578, 580, 582, 584] (by decide +kernel) (by decide +kernel)
/-! ContractMachine$Effect$3 -/
set_option maxRecDepth 100000
def RX30 : String := "ContractMachine$Effect$3"
abbrev cX30_apply : ByteArray := prog_15_method_2_code
def yX30_apply : MethodName := ⟨RX30, "apply", "(II)I"⟩
theorem dX30_apply_0 : decode cX30_apply 0 = .ok (.iload_n 2, 1) := by decide +kernel
theorem dX30_apply_1 : decode cX30_apply 1 = .ok (.ireturn, 1) := by decide +kernel
theorem q712 : (Jvm.Cond.selects "ContractMachine$Effect$3" ({ cls := "java/lang/Object", name := "getClass", desc := "()Ljava/lang/Class;" } : Jvm.MethodName) ({ cls := "java/lang/Object", name := "getClass", desc := "()Ljava/lang/Class;" } : Jvm.MethodName)) ∈ lw_all := lw_g (lw_at lw_m3 112 rfl) rfl
theorem q1823 : (Jvm.Cond.selects "ContractMachine$Effect$3" ({ cls := "ContractMachine$Effect", name := "apply", desc := "(II)I" } : Jvm.MethodName) ({ cls := "ContractMachine$Effect$3", name := "apply", desc := "(II)I" } : Jvm.MethodName)) ∈ lw_all := lw_g (lw_at lw_m8 23 rfl) rfl
theorem q1824 : (Jvm.Cond.instanceMethod ({ cls := "ContractMachine$Effect$3", name := "apply", desc := "(II)I" } : Jvm.MethodName)) ∈ lw_all := lw_g (lw_at lw_m8 24 rfl) rfl
theorem q1825 : (Jvm.Cond.code ({ cls := "ContractMachine$Effect$3", name := "apply", desc := "(II)I" } : Jvm.MethodName) prog_15_method_2_code (3 : Nat) (Option.some Jvm.ClassFile.FieldType.int)) ∈ lw_all := lw_g (lw_at lw_m8 25 rfl) rfl
theorem q3306 : (Jvm.Cond.castable "ContractMachine$Effect$3" "java/lang/Object") ∈ lw_tbl := lw_at lw_m14 66 rfl
/-! ContractMachine$Operator$1 -/
set_option maxRecDepth 100000
def RX31 : String := "ContractMachine$Operator$1"
abbrev cX31_holds : ByteArray := prog_19_method_2_code
def yX31_holds : MethodName := ⟨RX31, "holds", "(II)Z"⟩
def dkwX31_holds_0 : List UInt8 := [27, 28, 162, 0, 7, 4, 167, 0, 4, 3, 172]
abbrev dktX31_holds_0 : List UInt8 := dkwX31_holds_0 ++ []
theorem dksX31_holds_0 : cX31_holds.data.toList.drop 0 = dktX31_holds_0 := by decide +kernel
theorem dX31_holds_0 : decode cX31_holds 0 = .ok (.iload_n 1, 1) := dk_27 (dk_at dksX31_holds_0 0 rfl rfl)
theorem dX31_holds_1 : decode cX31_holds 1 = .ok (.iload_n 2, 1) := dk_28 (dk_at dksX31_holds_0 1 rfl rfl)
theorem dX31_holds_2 : decode cX31_holds 2 = .ok (.if_icmp .ge 7, 3) := dk_162 0 7 (dk_at dksX31_holds_0 2 rfl rfl)
theorem dX31_holds_5 : decode cX31_holds 5 = .ok (.iconst 1, 1) := dk_4 (dk_at dksX31_holds_0 5 rfl rfl)
theorem dX31_holds_6 : decode cX31_holds 6 = .ok (.goto 4, 3) := dk_167 0 4 (dk_at dksX31_holds_0 6 rfl rfl)
theorem dX31_holds_9 : decode cX31_holds 9 = .ok (.iconst 0, 1) := dk_3 (dk_at dksX31_holds_0 9 rfl rfl)
theorem dX31_holds_10 : decode cX31_holds 10 = .ok (.ireturn, 1) := dk_172 (dk_at dksX31_holds_0 10 rfl rfl)
theorem q714 : (Jvm.Cond.selects "ContractMachine$Operator$1" ({ cls := "java/lang/Object", name := "getClass", desc := "()Ljava/lang/Class;" } : Jvm.MethodName) ({ cls := "java/lang/Object", name := "getClass", desc := "()Ljava/lang/Class;" } : Jvm.MethodName)) ∈ lw_all := lw_g (lw_at lw_m3 114 rfl) rfl
theorem q1454 : (Jvm.Cond.selects "ContractMachine$Operator$1" ({ cls := "ContractMachine$Operator", name := "holds", desc := "(II)Z" } : Jvm.MethodName) ({ cls := "ContractMachine$Operator$1", name := "holds", desc := "(II)Z" } : Jvm.MethodName)) ∈ lw_all := lw_g (lw_at lw_m6 134 rfl) rfl
theorem q1455 : (Jvm.Cond.instanceMethod ({ cls := "ContractMachine$Operator$1", name := "holds", desc := "(II)Z" } : Jvm.MethodName)) ∈ lw_all := lw_g (lw_at lw_m6 135 rfl) rfl
theorem q1456 : (Jvm.Cond.code ({ cls := "ContractMachine$Operator$1", name := "holds", desc := "(II)Z" } : Jvm.MethodName) prog_19_method_2_code (3 : Nat) (Option.some Jvm.ClassFile.FieldType.boolean)) ∈ lw_all := lw_g (lw_at lw_m6 136 rfl) rfl
theorem q3289 : (Jvm.Cond.castable "ContractMachine$Operator$1" "java/lang/Object") ∈ lw_tbl := lw_at lw_m14 49 rfl
theorem q3336 : (Jvm.Cond.castable "ContractMachine$Operator$1" "ContractMachine$Operator") ∈ lw_tbl := lw_at lw_m14 96 rfl
/-! ContractMachine$Operator$2 -/
set_option maxRecDepth 100000
def RX32 : String := "ContractMachine$Operator$2"
abbrev cX32_holds : ByteArray := prog_20_method_2_code
def yX32_holds : MethodName := ⟨RX32, "holds", "(II)Z"⟩
def dkwX32_holds_0 : List UInt8 := [27, 28, 163, 0, 7, 4, 167, 0, 4, 3, 172]
abbrev dktX32_holds_0 : List UInt8 := dkwX32_holds_0 ++ []
theorem dksX32_holds_0 : cX32_holds.data.toList.drop 0 = dktX32_holds_0 := by decide +kernel
theorem dX32_holds_0 : decode cX32_holds 0 = .ok (.iload_n 1, 1) := dk_27 (dk_at dksX32_holds_0 0 rfl rfl)
theorem dX32_holds_1 : decode cX32_holds 1 = .ok (.iload_n 2, 1) := dk_28 (dk_at dksX32_holds_0 1 rfl rfl)
theorem dX32_holds_2 : decode cX32_holds 2 = .ok (.if_icmp .gt 7, 3) := dk_163 0 7 (dk_at dksX32_holds_0 2 rfl rfl)
theorem dX32_holds_5 : decode cX32_holds 5 = .ok (.iconst 1, 1) := dk_4 (dk_at dksX32_holds_0 5 rfl rfl)
theorem dX32_holds_6 : decode cX32_holds 6 = .ok (.goto 4, 3) := dk_167 0 4 (dk_at dksX32_holds_0 6 rfl rfl)
theorem dX32_holds_9 : decode cX32_holds 9 = .ok (.iconst 0, 1) := dk_3 (dk_at dksX32_holds_0 9 rfl rfl)
theorem dX32_holds_10 : decode cX32_holds 10 = .ok (.ireturn, 1) := dk_172 (dk_at dksX32_holds_0 10 rfl rfl)
theorem q715 : (Jvm.Cond.selects "ContractMachine$Operator$2" ({ cls := "java/lang/Object", name := "getClass", desc := "()Ljava/lang/Class;" } : Jvm.MethodName) ({ cls := "java/lang/Object", name := "getClass", desc := "()Ljava/lang/Class;" } : Jvm.MethodName)) ∈ lw_all := lw_g (lw_at lw_m3 115 rfl) rfl
theorem q1457 : (Jvm.Cond.selects "ContractMachine$Operator$2" ({ cls := "ContractMachine$Operator", name := "holds", desc := "(II)Z" } : Jvm.MethodName) ({ cls := "ContractMachine$Operator$2", name := "holds", desc := "(II)Z" } : Jvm.MethodName)) ∈ lw_all := lw_g (lw_at lw_m6 137 rfl) rfl
theorem q1458 : (Jvm.Cond.instanceMethod ({ cls := "ContractMachine$Operator$2", name := "holds", desc := "(II)Z" } : Jvm.MethodName)) ∈ lw_all := lw_g (lw_at lw_m6 138 rfl) rfl
theorem q1459 : (Jvm.Cond.code ({ cls := "ContractMachine$Operator$2", name := "holds", desc := "(II)Z" } : Jvm.MethodName) prog_20_method_2_code (3 : Nat) (Option.some Jvm.ClassFile.FieldType.boolean)) ∈ lw_all := lw_g (lw_at lw_m6 139 rfl) rfl
theorem q3290 : (Jvm.Cond.castable "ContractMachine$Operator$2" "java/lang/Object") ∈ lw_tbl := lw_at lw_m14 50 rfl
theorem q3337 : (Jvm.Cond.castable "ContractMachine$Operator$2" "ContractMachine$Operator") ∈ lw_tbl := lw_at lw_m14 97 rfl
/-! ContractMachine$Operator$3 -/
set_option maxRecDepth 100000
def RX33 : String := "ContractMachine$Operator$3"
abbrev cX33_holds : ByteArray := prog_21_method_2_code
def yX33_holds : MethodName := ⟨RX33, "holds", "(II)Z"⟩
def dkwX33_holds_0 : List UInt8 := [27, 28, 160, 0, 7, 4, 167, 0, 4, 3, 172]
abbrev dktX33_holds_0 : List UInt8 := dkwX33_holds_0 ++ []
theorem dksX33_holds_0 : cX33_holds.data.toList.drop 0 = dktX33_holds_0 := by decide +kernel
theorem dX33_holds_0 : decode cX33_holds 0 = .ok (.iload_n 1, 1) := dk_27 (dk_at dksX33_holds_0 0 rfl rfl)
theorem dX33_holds_1 : decode cX33_holds 1 = .ok (.iload_n 2, 1) := dk_28 (dk_at dksX33_holds_0 1 rfl rfl)
theorem dX33_holds_2 : decode cX33_holds 2 = .ok (.if_icmp .ne 7, 3) := dk_160 0 7 (dk_at dksX33_holds_0 2 rfl rfl)
theorem dX33_holds_5 : decode cX33_holds 5 = .ok (.iconst 1, 1) := dk_4 (dk_at dksX33_holds_0 5 rfl rfl)
theorem dX33_holds_6 : decode cX33_holds 6 = .ok (.goto 4, 3) := dk_167 0 4 (dk_at dksX33_holds_0 6 rfl rfl)
theorem dX33_holds_9 : decode cX33_holds 9 = .ok (.iconst 0, 1) := dk_3 (dk_at dksX33_holds_0 9 rfl rfl)
theorem dX33_holds_10 : decode cX33_holds 10 = .ok (.ireturn, 1) := dk_172 (dk_at dksX33_holds_0 10 rfl rfl)
theorem q716 : (Jvm.Cond.selects "ContractMachine$Operator$3" ({ cls := "java/lang/Object", name := "getClass", desc := "()Ljava/lang/Class;" } : Jvm.MethodName) ({ cls := "java/lang/Object", name := "getClass", desc := "()Ljava/lang/Class;" } : Jvm.MethodName)) ∈ lw_all := lw_g (lw_at lw_m3 116 rfl) rfl
theorem q1460 : (Jvm.Cond.selects "ContractMachine$Operator$3" ({ cls := "ContractMachine$Operator", name := "holds", desc := "(II)Z" } : Jvm.MethodName) ({ cls := "ContractMachine$Operator$3", name := "holds", desc := "(II)Z" } : Jvm.MethodName)) ∈ lw_all := lw_g (lw_at lw_m6 140 rfl) rfl
theorem q1461 : (Jvm.Cond.instanceMethod ({ cls := "ContractMachine$Operator$3", name := "holds", desc := "(II)Z" } : Jvm.MethodName)) ∈ lw_all := lw_g (lw_at lw_m6 141 rfl) rfl
theorem q1462 : (Jvm.Cond.code ({ cls := "ContractMachine$Operator$3", name := "holds", desc := "(II)Z" } : Jvm.MethodName) prog_21_method_2_code (3 : Nat) (Option.some Jvm.ClassFile.FieldType.boolean)) ∈ lw_all := lw_g (lw_at lw_m6 142 rfl) rfl
theorem q3291 : (Jvm.Cond.castable "ContractMachine$Operator$3" "java/lang/Object") ∈ lw_tbl := lw_at lw_m14 51 rfl
theorem q3338 : (Jvm.Cond.castable "ContractMachine$Operator$3" "ContractMachine$Operator") ∈ lw_tbl := lw_at lw_m14 98 rfl
/-! ContractMachine$Operator$4 -/
set_option maxRecDepth 100000
def RX34 : String := "ContractMachine$Operator$4"
abbrev cX34_holds : ByteArray := prog_22_method_2_code
def yX34_holds : MethodName := ⟨RX34, "holds", "(II)Z"⟩
def dkwX34_holds_0 : List UInt8 := [27, 28, 159, 0, 7, 4, 167, 0, 4, 3, 172]
abbrev dktX34_holds_0 : List UInt8 := dkwX34_holds_0 ++ []
theorem dksX34_holds_0 : cX34_holds.data.toList.drop 0 = dktX34_holds_0 := by decide +kernel
theorem dX34_holds_0 : decode cX34_holds 0 = .ok (.iload_n 1, 1) := dk_27 (dk_at dksX34_holds_0 0 rfl rfl)
theorem dX34_holds_1 : decode cX34_holds 1 = .ok (.iload_n 2, 1) := dk_28 (dk_at dksX34_holds_0 1 rfl rfl)
theorem dX34_holds_2 : decode cX34_holds 2 = .ok (.if_icmp .eq 7, 3) := dk_159 0 7 (dk_at dksX34_holds_0 2 rfl rfl)
theorem dX34_holds_5 : decode cX34_holds 5 = .ok (.iconst 1, 1) := dk_4 (dk_at dksX34_holds_0 5 rfl rfl)
theorem dX34_holds_6 : decode cX34_holds 6 = .ok (.goto 4, 3) := dk_167 0 4 (dk_at dksX34_holds_0 6 rfl rfl)
theorem dX34_holds_9 : decode cX34_holds 9 = .ok (.iconst 0, 1) := dk_3 (dk_at dksX34_holds_0 9 rfl rfl)
theorem dX34_holds_10 : decode cX34_holds 10 = .ok (.ireturn, 1) := dk_172 (dk_at dksX34_holds_0 10 rfl rfl)
theorem q717 : (Jvm.Cond.selects "ContractMachine$Operator$4" ({ cls := "java/lang/Object", name := "getClass", desc := "()Ljava/lang/Class;" } : Jvm.MethodName) ({ cls := "java/lang/Object", name := "getClass", desc := "()Ljava/lang/Class;" } : Jvm.MethodName)) ∈ lw_all := lw_g (lw_at lw_m3 117 rfl) rfl
theorem q1463 : (Jvm.Cond.selects "ContractMachine$Operator$4" ({ cls := "ContractMachine$Operator", name := "holds", desc := "(II)Z" } : Jvm.MethodName) ({ cls := "ContractMachine$Operator$4", name := "holds", desc := "(II)Z" } : Jvm.MethodName)) ∈ lw_all := lw_g (lw_at lw_m6 143 rfl) rfl
theorem q1464 : (Jvm.Cond.instanceMethod ({ cls := "ContractMachine$Operator$4", name := "holds", desc := "(II)Z" } : Jvm.MethodName)) ∈ lw_all := lw_g (lw_at lw_m6 144 rfl) rfl
theorem q1465 : (Jvm.Cond.code ({ cls := "ContractMachine$Operator$4", name := "holds", desc := "(II)Z" } : Jvm.MethodName) prog_22_method_2_code (3 : Nat) (Option.some Jvm.ClassFile.FieldType.boolean)) ∈ lw_all := lw_g (lw_at lw_m6 145 rfl) rfl
theorem q3292 : (Jvm.Cond.castable "ContractMachine$Operator$4" "java/lang/Object") ∈ lw_tbl := lw_at lw_m14 52 rfl
theorem q3339 : (Jvm.Cond.castable "ContractMachine$Operator$4" "ContractMachine$Operator") ∈ lw_tbl := lw_at lw_m14 99 rfl
/-! ContractMachine$Operator$5 -/
set_option maxRecDepth 100000
def RX35 : String := "ContractMachine$Operator$5"
abbrev cX35_holds : ByteArray := prog_23_method_2_code
def yX35_holds : MethodName := ⟨RX35, "holds", "(II)Z"⟩
def dkwX35_holds_0 : List UInt8 := [27, 28, 161, 0, 7, 4, 167, 0, 4, 3, 172]
abbrev dktX35_holds_0 : List UInt8 := dkwX35_holds_0 ++ []
theorem dksX35_holds_0 : cX35_holds.data.toList.drop 0 = dktX35_holds_0 := by decide +kernel
theorem dX35_holds_0 : decode cX35_holds 0 = .ok (.iload_n 1, 1) := dk_27 (dk_at dksX35_holds_0 0 rfl rfl)
theorem dX35_holds_1 : decode cX35_holds 1 = .ok (.iload_n 2, 1) := dk_28 (dk_at dksX35_holds_0 1 rfl rfl)
theorem dX35_holds_2 : decode cX35_holds 2 = .ok (.if_icmp .lt 7, 3) := dk_161 0 7 (dk_at dksX35_holds_0 2 rfl rfl)
theorem dX35_holds_5 : decode cX35_holds 5 = .ok (.iconst 1, 1) := dk_4 (dk_at dksX35_holds_0 5 rfl rfl)
theorem dX35_holds_6 : decode cX35_holds 6 = .ok (.goto 4, 3) := dk_167 0 4 (dk_at dksX35_holds_0 6 rfl rfl)
theorem dX35_holds_9 : decode cX35_holds 9 = .ok (.iconst 0, 1) := dk_3 (dk_at dksX35_holds_0 9 rfl rfl)
theorem dX35_holds_10 : decode cX35_holds 10 = .ok (.ireturn, 1) := dk_172 (dk_at dksX35_holds_0 10 rfl rfl)
theorem q718 : (Jvm.Cond.selects "ContractMachine$Operator$5" ({ cls := "java/lang/Object", name := "getClass", desc := "()Ljava/lang/Class;" } : Jvm.MethodName) ({ cls := "java/lang/Object", name := "getClass", desc := "()Ljava/lang/Class;" } : Jvm.MethodName)) ∈ lw_all := lw_g (lw_at lw_m3 118 rfl) rfl
theorem q1466 : (Jvm.Cond.selects "ContractMachine$Operator$5" ({ cls := "ContractMachine$Operator", name := "holds", desc := "(II)Z" } : Jvm.MethodName) ({ cls := "ContractMachine$Operator$5", name := "holds", desc := "(II)Z" } : Jvm.MethodName)) ∈ lw_all := lw_g (lw_at lw_m6 146 rfl) rfl
theorem q1467 : (Jvm.Cond.instanceMethod ({ cls := "ContractMachine$Operator$5", name := "holds", desc := "(II)Z" } : Jvm.MethodName)) ∈ lw_all := lw_g (lw_at lw_m6 147 rfl) rfl
theorem q1468 : (Jvm.Cond.code ({ cls := "ContractMachine$Operator$5", name := "holds", desc := "(II)Z" } : Jvm.MethodName) prog_23_method_2_code (3 : Nat) (Option.some Jvm.ClassFile.FieldType.boolean)) ∈ lw_all := lw_g (lw_at lw_m6 148 rfl) rfl
theorem q3293 : (Jvm.Cond.castable "ContractMachine$Operator$5" "java/lang/Object") ∈ lw_tbl := lw_at lw_m14 53 rfl
theorem q3340 : (Jvm.Cond.castable "ContractMachine$Operator$5" "ContractMachine$Operator") ∈ lw_tbl := lw_at lw_m14 100 rfl
/-! ContractMachine$Operator$6 -/
set_option maxRecDepth 100000
def RX36 : String := "ContractMachine$Operator$6"
abbrev cX36_holds : ByteArray := prog_24_method_2_code
def yX36_holds : MethodName := ⟨RX36, "holds", "(II)Z"⟩
def dkwX36_holds_0 : List UInt8 := [27, 28, 164, 0, 7, 4, 167, 0, 4, 3, 172]
abbrev dktX36_holds_0 : List UInt8 := dkwX36_holds_0 ++ []
theorem dksX36_holds_0 : cX36_holds.data.toList.drop 0 = dktX36_holds_0 := by decide +kernel
theorem dX36_holds_0 : decode cX36_holds 0 = .ok (.iload_n 1, 1) := dk_27 (dk_at dksX36_holds_0 0 rfl rfl)
theorem dX36_holds_1 : decode cX36_holds 1 = .ok (.iload_n 2, 1) := dk_28 (dk_at dksX36_holds_0 1 rfl rfl)
theorem dX36_holds_2 : decode cX36_holds 2 = .ok (.if_icmp .le 7, 3) := dk_164 0 7 (dk_at dksX36_holds_0 2 rfl rfl)
theorem dX36_holds_5 : decode cX36_holds 5 = .ok (.iconst 1, 1) := dk_4 (dk_at dksX36_holds_0 5 rfl rfl)
theorem dX36_holds_6 : decode cX36_holds 6 = .ok (.goto 4, 3) := dk_167 0 4 (dk_at dksX36_holds_0 6 rfl rfl)
theorem dX36_holds_9 : decode cX36_holds 9 = .ok (.iconst 0, 1) := dk_3 (dk_at dksX36_holds_0 9 rfl rfl)
theorem dX36_holds_10 : decode cX36_holds 10 = .ok (.ireturn, 1) := dk_172 (dk_at dksX36_holds_0 10 rfl rfl)
theorem q719 : (Jvm.Cond.selects "ContractMachine$Operator$6" ({ cls := "java/lang/Object", name := "getClass", desc := "()Ljava/lang/Class;" } : Jvm.MethodName) ({ cls := "java/lang/Object", name := "getClass", desc := "()Ljava/lang/Class;" } : Jvm.MethodName)) ∈ lw_all := lw_g (lw_at lw_m3 119 rfl) rfl
theorem q1469 : (Jvm.Cond.selects "ContractMachine$Operator$6" ({ cls := "ContractMachine$Operator", name := "holds", desc := "(II)Z" } : Jvm.MethodName) ({ cls := "ContractMachine$Operator$6", name := "holds", desc := "(II)Z" } : Jvm.MethodName)) ∈ lw_all := lw_g (lw_at lw_m6 149 rfl) rfl
theorem q1470 : (Jvm.Cond.instanceMethod ({ cls := "ContractMachine$Operator$6", name := "holds", desc := "(II)Z" } : Jvm.MethodName)) ∈ lw_all := lw_g (lw_at lw_m6 150 rfl) rfl
theorem q1471 : (Jvm.Cond.code ({ cls := "ContractMachine$Operator$6", name := "holds", desc := "(II)Z" } : Jvm.MethodName) prog_24_method_2_code (3 : Nat) (Option.some Jvm.ClassFile.FieldType.boolean)) ∈ lw_all := lw_g (lw_at lw_m6 151 rfl) rfl
theorem q3294 : (Jvm.Cond.castable "ContractMachine$Operator$6" "java/lang/Object") ∈ lw_tbl := lw_at lw_m14 54 rfl
theorem q3341 : (Jvm.Cond.castable "ContractMachine$Operator$6" "ContractMachine$Operator") ∈ lw_tbl := lw_at lw_m14 101 rfl
/-! ContractMachine$Visitor -/
set_option maxRecDepth 100000
def RX37 : String := "ContractMachine$Visitor"
abbrev cX37_isDone : ByteArray := prog_39_method_2_code
def yX37_isDone : MethodName := ⟨RX37, "isDone", "()Z"⟩
theorem dX37_isDone_0 : decode cX37_isDone 0 = .ok (.iconst 0, 1) := by decide +kernel
theorem dX37_isDone_1 : decode cX37_isDone 1 = .ok (.ireturn, 1) := by decide +kernel
theorem q2034 : (Jvm.Cond.interfaceMethod "ContractMachine$Visitor" "ContractMachine$Visitor" "isDone" "()Z") ∈ lw_tbl := lw_at lw_m8 234 rfl
theorem q2035 : (Jvm.Cond.declares ({ cls := "ContractMachine$Visitor", name := "isDone", desc := "()Z" } : Jvm.MethodName)) ∈ lw_tbl := lw_at lw_m8 235 rfl
theorem q2044 : (Jvm.Cond.instanceMethod ({ cls := "ContractMachine$Visitor", name := "isDone", desc := "()Z" } : Jvm.MethodName)) ∈ lw_all := lw_g (lw_at lw_m9 4 rfl) rfl
theorem q2045 : (Jvm.Cond.publicMethod ({ cls := "ContractMachine$Visitor", name := "isDone", desc := "()Z" } : Jvm.MethodName)) ∈ lw_tbl := lw_at lw_m9 5 rfl
theorem q2046 : (Jvm.Cond.code ({ cls := "ContractMachine$Visitor", name := "isDone", desc := "()Z" } : Jvm.MethodName) prog_39_method_2_code (1 : Nat) (Option.some Jvm.ClassFile.FieldType.boolean)) ∈ lw_all := lw_g (lw_at lw_m9 6 rfl) rfl
theorem q2057 : (Jvm.Cond.interfaceMethod "ContractMachine$Visitor" "ContractMachine$Visitor" "visit" "(I)V") ∈ lw_tbl := lw_at lw_m9 17 rfl
theorem q2058 : (Jvm.Cond.declares ({ cls := "ContractMachine$Visitor", name := "visit", desc := "(I)V" } : Jvm.MethodName)) ∈ lw_tbl := lw_at lw_m9 18 rfl
theorem q3281 : (Jvm.Cond.initialized "ContractMachine$Visitor") ∈ lw_all := lw_g (lw_at lw_m14 41 rfl) rfl
/-! ContractMachine$Run -/
set_option maxRecDepth 100000
def RX4 : String := "ContractMachine$Run"
def TX4 : u_T := fun k => match k with
  | 0 => ("ContractMachine$Run", "invariants", "Ljava/util/List;", true)
  | 1 => ("ContractMachine$Run", "taken", "[I", true)
  | 2 => ("ContractMachine$Run", "visits", "[I", true)
  | 3 => ("ContractMachine$Run", "rejected", "[I", true)
  | 4 => ("ContractMachine$Run", "traceEvents", "[I", true)
  | 5 => ("ContractMachine$Run", "traceTransitions", "[I", true)
  | 6 => ("ContractMachine$Run", "configuration", "I", false)
  | 7 => ("ContractMachine$Run", "accepted", "I", false)
  | _ => ("ContractMachine$Run", "traceLength", "I", false)
def tyX4 : Nat → FieldType := fun k => match k with
  | 0 => .object "java/util/List"
  | 1 => .array .int
  | 2 => .array .int
  | 3 => .array .int
  | 4 => .array .int
  | 5 => .array .int
  | 6 => .int
  | 7 => .int
  | _ => .int
abbrev wsX40 : List Cond := u_ws RX4 TX4 9
theorem nmX4 : ∀ a, a < 9 → ∀ b, b < 9 → a ≠ b → (TX4 a).2.1 ≠ (TX4 b).2.1 := by decide +kernel
theorem tyX4_ok : ∀ k, k < 9 → parseFieldDescriptor (TX4 k).2.2.1 = some (tyX4 k) := by decide +kernel
abbrev cX4_init : ByteArray := prog_29_method_1_code
def yX4_init : MethodName := ⟨RX4, "<init>", "()V"⟩
def dkwX4_init_2 : List UInt8 := [181, 0, 30, 42, 16, 20, 188, 10, 181, 0, 33, 177]
abbrev dktX4_init_2 : List UInt8 := dkwX4_init_2 ++ []
def dkwX4_init_1 : List UInt8 := [181, 0, 20, 42, 16, 10, 188, 10, 181, 0, 24, 42, 8, 188, 10, 181, 0, 27, 42, 16, 20, 188, 10]
abbrev dktX4_init_1 : List UInt8 := dkwX4_init_1 ++ dktX4_init_2
def dkwX4_init_0 : List UInt8 := [42, 183, 0, 3, 42, 187, 0, 9, 89, 16, 12, 183, 0, 11, 181, 0, 14, 42, 16, 24, 188, 10]
abbrev dktX4_init_0 : List UInt8 := dkwX4_init_0 ++ dktX4_init_1
theorem dksX4_init_0 : cX4_init.data.toList.drop 0 = dktX4_init_0 := by decide +kernel
theorem dksX4_init_1 : cX4_init.data.toList.drop 22 = dktX4_init_1 := dk_seg dksX4_init_0 22 rfl rfl
theorem dksX4_init_2 : cX4_init.data.toList.drop 45 = dktX4_init_2 := dk_seg dksX4_init_1 23 rfl rfl
theorem dX4_init_0 : decode cX4_init 0 = .ok (.aload_n 0, 1) := dk_42 (dk_at dksX4_init_0 0 rfl rfl)
theorem dX4_init_1 : decode cX4_init 1 = .ok (.invokespecial 3, 3) := dk_183 0 3 (dk_at dksX4_init_0 1 rfl rfl)
theorem dX4_init_4 : decode cX4_init 4 = .ok (.aload_n 0, 1) := dk_42 (dk_at dksX4_init_0 4 rfl rfl)
theorem dX4_init_5 : decode cX4_init 5 = .ok (.new 9, 3) := dk_187 0 9 (dk_at dksX4_init_0 5 rfl rfl)
theorem dX4_init_8 : decode cX4_init 8 = .ok (.dup, 1) := dk_89 (dk_at dksX4_init_0 8 rfl rfl)
theorem dX4_init_9 : decode cX4_init 9 = .ok (.bipush 12, 2) := dk_16 12 (dk_at dksX4_init_0 9 rfl rfl)
theorem dX4_init_11 : decode cX4_init 11 = .ok (.invokespecial 11, 3) := dk_183 0 11 (dk_at dksX4_init_0 11 rfl rfl)
theorem dX4_init_14 : decode cX4_init 14 = .ok (.putfield 14, 3) := dk_181 0 14 (dk_at dksX4_init_0 14 rfl rfl)
theorem dX4_init_17 : decode cX4_init 17 = .ok (.aload_n 0, 1) := dk_42 (dk_at dksX4_init_0 17 rfl rfl)
theorem dX4_init_18 : decode cX4_init 18 = .ok (.bipush 24, 2) := dk_16 24 (dk_at dksX4_init_0 18 rfl rfl)
theorem dX4_init_20 : decode cX4_init 20 = .ok (.newarray .int, 2) := dk_188_10 (dk_at dksX4_init_0 20 rfl rfl)
theorem dX4_init_22 : decode cX4_init 22 = .ok (.putfield 20, 3) := dk_181 0 20 (dk_at dksX4_init_1 0 rfl rfl)
theorem dX4_init_25 : decode cX4_init 25 = .ok (.aload_n 0, 1) := dk_42 (dk_at dksX4_init_1 3 rfl rfl)
theorem dX4_init_26 : decode cX4_init 26 = .ok (.bipush 10, 2) := dk_16 10 (dk_at dksX4_init_1 4 rfl rfl)
theorem dX4_init_28 : decode cX4_init 28 = .ok (.newarray .int, 2) := dk_188_10 (dk_at dksX4_init_1 6 rfl rfl)
theorem dX4_init_30 : decode cX4_init 30 = .ok (.putfield 24, 3) := dk_181 0 24 (dk_at dksX4_init_1 8 rfl rfl)
theorem dX4_init_33 : decode cX4_init 33 = .ok (.aload_n 0, 1) := dk_42 (dk_at dksX4_init_1 11 rfl rfl)
theorem dX4_init_34 : decode cX4_init 34 = .ok (.iconst 5, 1) := dk_8 (dk_at dksX4_init_1 12 rfl rfl)
theorem dX4_init_35 : decode cX4_init 35 = .ok (.newarray .int, 2) := dk_188_10 (dk_at dksX4_init_1 13 rfl rfl)
theorem dX4_init_37 : decode cX4_init 37 = .ok (.putfield 27, 3) := dk_181 0 27 (dk_at dksX4_init_1 15 rfl rfl)
theorem dX4_init_40 : decode cX4_init 40 = .ok (.aload_n 0, 1) := dk_42 (dk_at dksX4_init_1 18 rfl rfl)
theorem dX4_init_41 : decode cX4_init 41 = .ok (.bipush 20, 2) := dk_16 20 (dk_at dksX4_init_1 19 rfl rfl)
theorem dX4_init_43 : decode cX4_init 43 = .ok (.newarray .int, 2) := dk_188_10 (dk_at dksX4_init_1 21 rfl rfl)
theorem dX4_init_45 : decode cX4_init 45 = .ok (.putfield 30, 3) := dk_181 0 30 (dk_at dksX4_init_2 0 rfl rfl)
theorem dX4_init_48 : decode cX4_init 48 = .ok (.aload_n 0, 1) := dk_42 (dk_at dksX4_init_2 3 rfl rfl)
theorem dX4_init_49 : decode cX4_init 49 = .ok (.bipush 20, 2) := dk_16 20 (dk_at dksX4_init_2 4 rfl rfl)
theorem dX4_init_51 : decode cX4_init 51 = .ok (.newarray .int, 2) := dk_188_10 (dk_at dksX4_init_2 6 rfl rfl)
theorem dX4_init_53 : decode cX4_init 53 = .ok (.putfield 33, 3) := dk_181 0 33 (dk_at dksX4_init_2 8 rfl rfl)
theorem dX4_init_56 : decode cX4_init 56 = .ok (.return_, 1) := dk_177 (dk_at dksX4_init_2 11 rfl rfl)
abbrev cX4_clear : ByteArray := prog_29_method_7_code
def yX4_clear : MethodName := ⟨RX4, "clear", "()V"⟩
def dkwX4_clear_3 : List UInt8 := [181, 0, 72, 42, 180, 0, 24, 42, 182, 0, 93, 4, 79, 177]
abbrev dktX4_clear_3 : List UInt8 := dkwX4_clear_3 ++ []
def dkwX4_clear_2 : List UInt8 := [162, 0, 16, 42, 180, 0, 27, 27, 3, 79, 132, 1, 1, 167, 255, 241, 42, 3, 181, 0, 69, 42, 3]
abbrev dktX4_clear_2 : List UInt8 := dkwX4_clear_2 ++ dktX4_clear_3
def dkwX4_clear_1 : List UInt8 := [16, 10, 162, 0, 16, 42, 180, 0, 24, 27, 3, 79, 132, 1, 1, 167, 255, 240, 3, 60, 27, 8]
abbrev dktX4_clear_1 : List UInt8 := dkwX4_clear_1 ++ dktX4_clear_2
def dkwX4_clear_0 : List UInt8 := [3, 60, 27, 16, 24, 162, 0, 16, 42, 180, 0, 20, 27, 3, 79, 132, 1, 1, 167, 255, 240, 3, 60, 27]
abbrev dktX4_clear_0 : List UInt8 := dkwX4_clear_0 ++ dktX4_clear_1
theorem dksX4_clear_0 : cX4_clear.data.toList.drop 0 = dktX4_clear_0 := by decide +kernel
theorem dksX4_clear_1 : cX4_clear.data.toList.drop 24 = dktX4_clear_1 := dk_seg dksX4_clear_0 24 rfl rfl
theorem dksX4_clear_2 : cX4_clear.data.toList.drop 46 = dktX4_clear_2 := dk_seg dksX4_clear_1 22 rfl rfl
theorem dksX4_clear_3 : cX4_clear.data.toList.drop 69 = dktX4_clear_3 := dk_seg dksX4_clear_2 23 rfl rfl
theorem dX4_clear_0 : decode cX4_clear 0 = .ok (.iconst 0, 1) := dk_3 (dk_at dksX4_clear_0 0 rfl rfl)
theorem dX4_clear_1 : decode cX4_clear 1 = .ok (.istore_n 1, 1) := dk_60 (dk_at dksX4_clear_0 1 rfl rfl)
theorem dX4_clear_2 : decode cX4_clear 2 = .ok (.iload_n 1, 1) := dk_27 (dk_at dksX4_clear_0 2 rfl rfl)
theorem dX4_clear_3 : decode cX4_clear 3 = .ok (.bipush 24, 2) := dk_16 24 (dk_at dksX4_clear_0 3 rfl rfl)
theorem dX4_clear_5 : decode cX4_clear 5 = .ok (.if_icmp .ge 16, 3) := dk_162 0 16 (dk_at dksX4_clear_0 5 rfl rfl)
theorem dX4_clear_8 : decode cX4_clear 8 = .ok (.aload_n 0, 1) := dk_42 (dk_at dksX4_clear_0 8 rfl rfl)
theorem dX4_clear_9 : decode cX4_clear 9 = .ok (.getfield 20, 3) := dk_180 0 20 (dk_at dksX4_clear_0 9 rfl rfl)
theorem dX4_clear_12 : decode cX4_clear 12 = .ok (.iload_n 1, 1) := dk_27 (dk_at dksX4_clear_0 12 rfl rfl)
theorem dX4_clear_13 : decode cX4_clear 13 = .ok (.iconst 0, 1) := dk_3 (dk_at dksX4_clear_0 13 rfl rfl)
theorem dX4_clear_14 : decode cX4_clear 14 = .ok (.iastore, 1) := dk_79 (dk_at dksX4_clear_0 14 rfl rfl)
theorem dX4_clear_15 : decode cX4_clear 15 = .ok (.iinc 1 1, 3) := dk_132 1 1 (dk_at dksX4_clear_0 15 rfl rfl)
theorem dX4_clear_18 : decode cX4_clear 18 = .ok (.goto (-16), 3) := dk_167 255 240 (dk_at dksX4_clear_0 18 rfl rfl)
theorem dX4_clear_21 : decode cX4_clear 21 = .ok (.iconst 0, 1) := dk_3 (dk_at dksX4_clear_0 21 rfl rfl)
theorem dX4_clear_22 : decode cX4_clear 22 = .ok (.istore_n 1, 1) := dk_60 (dk_at dksX4_clear_0 22 rfl rfl)
theorem dX4_clear_23 : decode cX4_clear 23 = .ok (.iload_n 1, 1) := dk_27 (dk_at dksX4_clear_0 23 rfl rfl)
theorem dX4_clear_24 : decode cX4_clear 24 = .ok (.bipush 10, 2) := dk_16 10 (dk_at dksX4_clear_1 0 rfl rfl)
theorem dX4_clear_26 : decode cX4_clear 26 = .ok (.if_icmp .ge 16, 3) := dk_162 0 16 (dk_at dksX4_clear_1 2 rfl rfl)
theorem dX4_clear_29 : decode cX4_clear 29 = .ok (.aload_n 0, 1) := dk_42 (dk_at dksX4_clear_1 5 rfl rfl)
theorem dX4_clear_30 : decode cX4_clear 30 = .ok (.getfield 24, 3) := dk_180 0 24 (dk_at dksX4_clear_1 6 rfl rfl)
theorem dX4_clear_33 : decode cX4_clear 33 = .ok (.iload_n 1, 1) := dk_27 (dk_at dksX4_clear_1 9 rfl rfl)
theorem dX4_clear_34 : decode cX4_clear 34 = .ok (.iconst 0, 1) := dk_3 (dk_at dksX4_clear_1 10 rfl rfl)
theorem dX4_clear_35 : decode cX4_clear 35 = .ok (.iastore, 1) := dk_79 (dk_at dksX4_clear_1 11 rfl rfl)
theorem dX4_clear_36 : decode cX4_clear 36 = .ok (.iinc 1 1, 3) := dk_132 1 1 (dk_at dksX4_clear_1 12 rfl rfl)
theorem dX4_clear_39 : decode cX4_clear 39 = .ok (.goto (-16), 3) := dk_167 255 240 (dk_at dksX4_clear_1 15 rfl rfl)
theorem dX4_clear_42 : decode cX4_clear 42 = .ok (.iconst 0, 1) := dk_3 (dk_at dksX4_clear_1 18 rfl rfl)
theorem dX4_clear_43 : decode cX4_clear 43 = .ok (.istore_n 1, 1) := dk_60 (dk_at dksX4_clear_1 19 rfl rfl)
theorem dX4_clear_44 : decode cX4_clear 44 = .ok (.iload_n 1, 1) := dk_27 (dk_at dksX4_clear_1 20 rfl rfl)
theorem dX4_clear_45 : decode cX4_clear 45 = .ok (.iconst 5, 1) := dk_8 (dk_at dksX4_clear_1 21 rfl rfl)
theorem dX4_clear_46 : decode cX4_clear 46 = .ok (.if_icmp .ge 16, 3) := dk_162 0 16 (dk_at dksX4_clear_2 0 rfl rfl)
theorem dX4_clear_49 : decode cX4_clear 49 = .ok (.aload_n 0, 1) := dk_42 (dk_at dksX4_clear_2 3 rfl rfl)
theorem dX4_clear_50 : decode cX4_clear 50 = .ok (.getfield 27, 3) := dk_180 0 27 (dk_at dksX4_clear_2 4 rfl rfl)
theorem dX4_clear_53 : decode cX4_clear 53 = .ok (.iload_n 1, 1) := dk_27 (dk_at dksX4_clear_2 7 rfl rfl)
theorem dX4_clear_54 : decode cX4_clear 54 = .ok (.iconst 0, 1) := dk_3 (dk_at dksX4_clear_2 8 rfl rfl)
theorem dX4_clear_55 : decode cX4_clear 55 = .ok (.iastore, 1) := dk_79 (dk_at dksX4_clear_2 9 rfl rfl)
theorem dX4_clear_56 : decode cX4_clear 56 = .ok (.iinc 1 1, 3) := dk_132 1 1 (dk_at dksX4_clear_2 10 rfl rfl)
theorem dX4_clear_59 : decode cX4_clear 59 = .ok (.goto (-15), 3) := dk_167 255 241 (dk_at dksX4_clear_2 13 rfl rfl)
theorem dX4_clear_62 : decode cX4_clear 62 = .ok (.aload_n 0, 1) := dk_42 (dk_at dksX4_clear_2 16 rfl rfl)
theorem dX4_clear_63 : decode cX4_clear 63 = .ok (.iconst 0, 1) := dk_3 (dk_at dksX4_clear_2 17 rfl rfl)
theorem dX4_clear_64 : decode cX4_clear 64 = .ok (.putfield 69, 3) := dk_181 0 69 (dk_at dksX4_clear_2 18 rfl rfl)
theorem dX4_clear_67 : decode cX4_clear 67 = .ok (.aload_n 0, 1) := dk_42 (dk_at dksX4_clear_2 21 rfl rfl)
theorem dX4_clear_68 : decode cX4_clear 68 = .ok (.iconst 0, 1) := dk_3 (dk_at dksX4_clear_2 22 rfl rfl)
theorem dX4_clear_69 : decode cX4_clear 69 = .ok (.putfield 72, 3) := dk_181 0 72 (dk_at dksX4_clear_3 0 rfl rfl)
theorem dX4_clear_72 : decode cX4_clear 72 = .ok (.aload_n 0, 1) := dk_42 (dk_at dksX4_clear_3 3 rfl rfl)
theorem dX4_clear_73 : decode cX4_clear 73 = .ok (.getfield 24, 3) := dk_180 0 24 (dk_at dksX4_clear_3 4 rfl rfl)
theorem dX4_clear_76 : decode cX4_clear 76 = .ok (.aload_n 0, 1) := dk_42 (dk_at dksX4_clear_3 7 rfl rfl)
theorem dX4_clear_77 : decode cX4_clear 77 = .ok (.invokevirtual 93, 3) := dk_182 0 93 (dk_at dksX4_clear_3 8 rfl rfl)
theorem dX4_clear_80 : decode cX4_clear 80 = .ok (.iconst 1, 1) := dk_4 (dk_at dksX4_clear_3 11 rfl rfl)
theorem dX4_clear_81 : decode cX4_clear 81 = .ok (.iastore, 1) := dk_79 (dk_at dksX4_clear_3 12 rfl rfl)
theorem dX4_clear_82 : decode cX4_clear 82 = .ok (.return_, 1) := dk_177 (dk_at dksX4_clear_3 13 rfl rfl)
abbrev cX4_state : ByteArray := prog_29_method_3_code
def yX4_state : MethodName := ⟨RX4, "state", "()I"⟩
def dkwX4_state_0 : List UInt8 := [42, 180, 0, 65, 17, 3, 232, 108, 172]
abbrev dktX4_state_0 : List UInt8 := dkwX4_state_0 ++ []
theorem dksX4_state_0 : cX4_state.data.toList.drop 0 = dktX4_state_0 := by decide +kernel
theorem dX4_state_0 : decode cX4_state 0 = .ok (.aload_n 0, 1) := dk_42 (dk_at dksX4_state_0 0 rfl rfl)
theorem dX4_state_1 : decode cX4_state 1 = .ok (.getfield 65, 3) := dk_180 0 65 (dk_at dksX4_state_0 1 rfl rfl)
theorem dX4_state_4 : decode cX4_state 4 = .ok (.sipush 1000, 3) := dk_17 3 232 (dk_at dksX4_state_0 4 rfl rfl)
theorem dX4_state_7 : decode cX4_state 7 = .ok (.idiv, 1) := dk_108 (dk_at dksX4_state_0 7 rfl rfl)
theorem dX4_state_8 : decode cX4_state 8 = .ok (.ireturn, 1) := dk_172 (dk_at dksX4_state_0 8 rfl rfl)
abbrev cX4_broken : ByteArray := prog_29_method_5_code
def yX4_broken : MethodName := ⟨RX4, "broken", "(I)I"⟩
def dkwX4_broken_2 : List UInt8 := [172]
abbrev dktX4_broken_2 : List UInt8 := dkwX4_broken_2 ++ []
def dkwX4_broken_1 : List UInt8 := [185, 0, 79, 2, 0, 192, 0, 53, 27, 182, 0, 83, 153, 0, 5, 28, 172, 132, 2, 1, 167, 255, 218, 2]
abbrev dktX4_broken_1 : List UInt8 := dkwX4_broken_1 ++ dktX4_broken_2
def dkwX4_broken_0 : List UInt8 := [3, 61, 28, 42, 180, 0, 14, 185, 0, 75, 1, 0, 162, 0, 31, 42, 180, 0, 14, 28]
abbrev dktX4_broken_0 : List UInt8 := dkwX4_broken_0 ++ dktX4_broken_1
theorem dksX4_broken_0 : cX4_broken.data.toList.drop 0 = dktX4_broken_0 := by decide +kernel
theorem dksX4_broken_1 : cX4_broken.data.toList.drop 20 = dktX4_broken_1 := dk_seg dksX4_broken_0 20 rfl rfl
theorem dksX4_broken_2 : cX4_broken.data.toList.drop 44 = dktX4_broken_2 := dk_seg dksX4_broken_1 24 rfl rfl
theorem dX4_broken_0 : decode cX4_broken 0 = .ok (.iconst 0, 1) := dk_3 (dk_at dksX4_broken_0 0 rfl rfl)
theorem dX4_broken_1 : decode cX4_broken 1 = .ok (.istore_n 2, 1) := dk_61 (dk_at dksX4_broken_0 1 rfl rfl)
theorem dX4_broken_2 : decode cX4_broken 2 = .ok (.iload_n 2, 1) := dk_28 (dk_at dksX4_broken_0 2 rfl rfl)
theorem dX4_broken_3 : decode cX4_broken 3 = .ok (.aload_n 0, 1) := dk_42 (dk_at dksX4_broken_0 3 rfl rfl)
theorem dX4_broken_4 : decode cX4_broken 4 = .ok (.getfield 14, 3) := dk_180 0 14 (dk_at dksX4_broken_0 4 rfl rfl)
theorem dX4_broken_7 : decode cX4_broken 7 = .ok (.invokeinterface 75 1, 5) := by decide +kernel
theorem dX4_broken_12 : decode cX4_broken 12 = .ok (.if_icmp .ge 31, 3) := dk_162 0 31 (dk_at dksX4_broken_0 12 rfl rfl)
theorem dX4_broken_15 : decode cX4_broken 15 = .ok (.aload_n 0, 1) := dk_42 (dk_at dksX4_broken_0 15 rfl rfl)
theorem dX4_broken_16 : decode cX4_broken 16 = .ok (.getfield 14, 3) := dk_180 0 14 (dk_at dksX4_broken_0 16 rfl rfl)
theorem dX4_broken_19 : decode cX4_broken 19 = .ok (.iload_n 2, 1) := dk_28 (dk_at dksX4_broken_0 19 rfl rfl)
theorem dX4_broken_20 : decode cX4_broken 20 = .ok (.invokeinterface 79 2, 5) := by decide +kernel
theorem dX4_broken_25 : decode cX4_broken 25 = .ok (.checkcast 53, 3) := dk_192 0 53 (dk_at dksX4_broken_1 5 rfl rfl)
theorem dX4_broken_28 : decode cX4_broken 28 = .ok (.iload_n 1, 1) := dk_27 (dk_at dksX4_broken_1 8 rfl rfl)
theorem dX4_broken_29 : decode cX4_broken 29 = .ok (.invokevirtual 83, 3) := dk_182 0 83 (dk_at dksX4_broken_1 9 rfl rfl)
theorem dX4_broken_32 : decode cX4_broken 32 = .ok (.ifCond .eq 5, 3) := dk_153 0 5 (dk_at dksX4_broken_1 12 rfl rfl)
theorem dX4_broken_35 : decode cX4_broken 35 = .ok (.iload_n 2, 1) := dk_28 (dk_at dksX4_broken_1 15 rfl rfl)
theorem dX4_broken_36 : decode cX4_broken 36 = .ok (.ireturn, 1) := dk_172 (dk_at dksX4_broken_1 16 rfl rfl)
theorem dX4_broken_37 : decode cX4_broken 37 = .ok (.iinc 2 1, 3) := dk_132 2 1 (dk_at dksX4_broken_1 17 rfl rfl)
theorem dX4_broken_40 : decode cX4_broken 40 = .ok (.goto (-38), 3) := dk_167 255 218 (dk_at dksX4_broken_1 20 rfl rfl)
theorem dX4_broken_43 : decode cX4_broken 43 = .ok (.iconst (-1), 1) := dk_2 (dk_at dksX4_broken_1 23 rfl rfl)
theorem dX4_broken_44 : decode cX4_broken 44 = .ok (.ireturn, 1) := dk_172 (dk_at dksX4_broken_2 0 rfl rfl)
abbrev cX4_twin : ByteArray := prog_29_method_2_code
def yX4_twin : MethodName := ⟨RX4, "twin", "()LContractMachine$Run;"⟩
def dkwX4_twin_6 : List UInt8 := [181, 0, 69, 43, 42, 180, 0, 72, 181, 0, 72, 43, 176]
abbrev dktX4_twin_6 : List UInt8 := dkwX4_twin_6 ++ []
def dkwX4_twin_5 : List UInt8 := [180, 0, 33, 3, 16, 20, 184, 0, 59, 43, 42, 180, 0, 65, 181, 0, 65, 43, 42, 180, 0, 69]
abbrev dktX4_twin_5 : List UInt8 := dkwX4_twin_5 ++ dktX4_twin_6
def dkwX4_twin_4 : List UInt8 := [184, 0, 59, 42, 180, 0, 30, 3, 43, 180, 0, 30, 3, 16, 20, 184, 0, 59, 42, 180, 0, 33, 3, 43]
abbrev dktX4_twin_4 : List UInt8 := dkwX4_twin_4 ++ dktX4_twin_5
def dkwX4_twin_3 : List UInt8 := [3, 43, 180, 0, 24, 3, 16, 10, 184, 0, 59, 42, 180, 0, 27, 3, 43, 180, 0, 27, 3, 8]
abbrev dktX4_twin_3 : List UInt8 := dkwX4_twin_3 ++ dktX4_twin_4
def dkwX4_twin_2 : List UInt8 := [54, 4, 167, 255, 225, 42, 180, 0, 20, 3, 43, 180, 0, 20, 3, 16, 24, 184, 0, 59, 42, 180, 0, 24]
abbrev dktX4_twin_2 : List UInt8 := dkwX4_twin_2 ++ dktX4_twin_3
def dkwX4_twin_1 : List UInt8 := [153, 0, 28, 44, 185, 0, 49, 1, 0, 192, 0, 53, 78, 43, 180, 0, 14, 45, 185, 0, 55, 2, 0]
abbrev dktX4_twin_1 : List UInt8 := dkwX4_twin_1 ++ dktX4_twin_2
def dkwX4_twin_0 : List UInt8 := [187, 0, 15, 89, 183, 0, 36, 76, 42, 180, 0, 14, 185, 0, 37, 1, 0, 77, 44, 185, 0, 43, 1, 0]
abbrev dktX4_twin_0 : List UInt8 := dkwX4_twin_0 ++ dktX4_twin_1
theorem dksX4_twin_0 : cX4_twin.data.toList.drop 0 = dktX4_twin_0 := by decide +kernel
theorem dksX4_twin_1 : cX4_twin.data.toList.drop 24 = dktX4_twin_1 := dk_seg dksX4_twin_0 24 rfl rfl
theorem dksX4_twin_2 : cX4_twin.data.toList.drop 47 = dktX4_twin_2 := dk_seg dksX4_twin_1 23 rfl rfl
theorem dksX4_twin_3 : cX4_twin.data.toList.drop 71 = dktX4_twin_3 := dk_seg dksX4_twin_2 24 rfl rfl
theorem dksX4_twin_4 : cX4_twin.data.toList.drop 93 = dktX4_twin_4 := dk_seg dksX4_twin_3 22 rfl rfl
theorem dksX4_twin_5 : cX4_twin.data.toList.drop 117 = dktX4_twin_5 := dk_seg dksX4_twin_4 24 rfl rfl
theorem dksX4_twin_6 : cX4_twin.data.toList.drop 139 = dktX4_twin_6 := dk_seg dksX4_twin_5 22 rfl rfl
theorem dX4_twin_0 : decode cX4_twin 0 = .ok (.new 15, 3) := dk_187 0 15 (dk_at dksX4_twin_0 0 rfl rfl)
theorem dX4_twin_3 : decode cX4_twin 3 = .ok (.dup, 1) := dk_89 (dk_at dksX4_twin_0 3 rfl rfl)
theorem dX4_twin_4 : decode cX4_twin 4 = .ok (.invokespecial 36, 3) := dk_183 0 36 (dk_at dksX4_twin_0 4 rfl rfl)
theorem dX4_twin_7 : decode cX4_twin 7 = .ok (.astore_n 1, 1) := dk_76 (dk_at dksX4_twin_0 7 rfl rfl)
theorem dX4_twin_8 : decode cX4_twin 8 = .ok (.aload_n 0, 1) := dk_42 (dk_at dksX4_twin_0 8 rfl rfl)
theorem dX4_twin_9 : decode cX4_twin 9 = .ok (.getfield 14, 3) := dk_180 0 14 (dk_at dksX4_twin_0 9 rfl rfl)
theorem dX4_twin_12 : decode cX4_twin 12 = .ok (.invokeinterface 37 1, 5) := by decide +kernel
theorem dX4_twin_17 : decode cX4_twin 17 = .ok (.astore_n 2, 1) := dk_77 (dk_at dksX4_twin_0 17 rfl rfl)
theorem dX4_twin_18 : decode cX4_twin 18 = .ok (.aload_n 2, 1) := dk_44 (dk_at dksX4_twin_0 18 rfl rfl)
theorem dX4_twin_19 : decode cX4_twin 19 = .ok (.invokeinterface 43 1, 5) := by decide +kernel
theorem dX4_twin_24 : decode cX4_twin 24 = .ok (.ifCond .eq 28, 3) := dk_153 0 28 (dk_at dksX4_twin_1 0 rfl rfl)
theorem dX4_twin_27 : decode cX4_twin 27 = .ok (.aload_n 2, 1) := dk_44 (dk_at dksX4_twin_1 3 rfl rfl)
theorem dX4_twin_28 : decode cX4_twin 28 = .ok (.invokeinterface 49 1, 5) := by decide +kernel
theorem dX4_twin_33 : decode cX4_twin 33 = .ok (.checkcast 53, 3) := dk_192 0 53 (dk_at dksX4_twin_1 9 rfl rfl)
theorem dX4_twin_36 : decode cX4_twin 36 = .ok (.astore_n 3, 1) := dk_78 (dk_at dksX4_twin_1 12 rfl rfl)
theorem dX4_twin_37 : decode cX4_twin 37 = .ok (.aload_n 1, 1) := dk_43 (dk_at dksX4_twin_1 13 rfl rfl)
theorem dX4_twin_38 : decode cX4_twin 38 = .ok (.getfield 14, 3) := dk_180 0 14 (dk_at dksX4_twin_1 14 rfl rfl)
theorem dX4_twin_41 : decode cX4_twin 41 = .ok (.aload_n 3, 1) := dk_45 (dk_at dksX4_twin_1 17 rfl rfl)
theorem dX4_twin_42 : decode cX4_twin 42 = .ok (.invokeinterface 55 2, 5) := by decide +kernel
theorem dX4_twin_47 : decode cX4_twin 47 = .ok (.istore 4, 2) := dk_54 4 (dk_at dksX4_twin_2 0 rfl rfl)
theorem dX4_twin_49 : decode cX4_twin 49 = .ok (.goto (-31), 3) := dk_167 255 225 (dk_at dksX4_twin_2 2 rfl rfl)
theorem dX4_twin_52 : decode cX4_twin 52 = .ok (.aload_n 0, 1) := dk_42 (dk_at dksX4_twin_2 5 rfl rfl)
theorem dX4_twin_53 : decode cX4_twin 53 = .ok (.getfield 20, 3) := dk_180 0 20 (dk_at dksX4_twin_2 6 rfl rfl)
theorem dX4_twin_56 : decode cX4_twin 56 = .ok (.iconst 0, 1) := dk_3 (dk_at dksX4_twin_2 9 rfl rfl)
theorem dX4_twin_57 : decode cX4_twin 57 = .ok (.aload_n 1, 1) := dk_43 (dk_at dksX4_twin_2 10 rfl rfl)
theorem dX4_twin_58 : decode cX4_twin 58 = .ok (.getfield 20, 3) := dk_180 0 20 (dk_at dksX4_twin_2 11 rfl rfl)
theorem dX4_twin_61 : decode cX4_twin 61 = .ok (.iconst 0, 1) := dk_3 (dk_at dksX4_twin_2 14 rfl rfl)
theorem dX4_twin_62 : decode cX4_twin 62 = .ok (.bipush 24, 2) := dk_16 24 (dk_at dksX4_twin_2 15 rfl rfl)
theorem dX4_twin_64 : decode cX4_twin 64 = .ok (.invokestatic 59, 3) := dk_184 0 59 (dk_at dksX4_twin_2 17 rfl rfl)
theorem dX4_twin_67 : decode cX4_twin 67 = .ok (.aload_n 0, 1) := dk_42 (dk_at dksX4_twin_2 20 rfl rfl)
theorem dX4_twin_68 : decode cX4_twin 68 = .ok (.getfield 24, 3) := dk_180 0 24 (dk_at dksX4_twin_2 21 rfl rfl)
theorem dX4_twin_71 : decode cX4_twin 71 = .ok (.iconst 0, 1) := dk_3 (dk_at dksX4_twin_3 0 rfl rfl)
theorem dX4_twin_72 : decode cX4_twin 72 = .ok (.aload_n 1, 1) := dk_43 (dk_at dksX4_twin_3 1 rfl rfl)
theorem dX4_twin_73 : decode cX4_twin 73 = .ok (.getfield 24, 3) := dk_180 0 24 (dk_at dksX4_twin_3 2 rfl rfl)
theorem dX4_twin_76 : decode cX4_twin 76 = .ok (.iconst 0, 1) := dk_3 (dk_at dksX4_twin_3 5 rfl rfl)
theorem dX4_twin_77 : decode cX4_twin 77 = .ok (.bipush 10, 2) := dk_16 10 (dk_at dksX4_twin_3 6 rfl rfl)
theorem dX4_twin_79 : decode cX4_twin 79 = .ok (.invokestatic 59, 3) := dk_184 0 59 (dk_at dksX4_twin_3 8 rfl rfl)
theorem dX4_twin_82 : decode cX4_twin 82 = .ok (.aload_n 0, 1) := dk_42 (dk_at dksX4_twin_3 11 rfl rfl)
theorem dX4_twin_83 : decode cX4_twin 83 = .ok (.getfield 27, 3) := dk_180 0 27 (dk_at dksX4_twin_3 12 rfl rfl)
theorem dX4_twin_86 : decode cX4_twin 86 = .ok (.iconst 0, 1) := dk_3 (dk_at dksX4_twin_3 15 rfl rfl)
theorem dX4_twin_87 : decode cX4_twin 87 = .ok (.aload_n 1, 1) := dk_43 (dk_at dksX4_twin_3 16 rfl rfl)
theorem dX4_twin_88 : decode cX4_twin 88 = .ok (.getfield 27, 3) := dk_180 0 27 (dk_at dksX4_twin_3 17 rfl rfl)
theorem dX4_twin_91 : decode cX4_twin 91 = .ok (.iconst 0, 1) := dk_3 (dk_at dksX4_twin_3 20 rfl rfl)
theorem dX4_twin_92 : decode cX4_twin 92 = .ok (.iconst 5, 1) := dk_8 (dk_at dksX4_twin_3 21 rfl rfl)
theorem dX4_twin_93 : decode cX4_twin 93 = .ok (.invokestatic 59, 3) := dk_184 0 59 (dk_at dksX4_twin_4 0 rfl rfl)
theorem dX4_twin_96 : decode cX4_twin 96 = .ok (.aload_n 0, 1) := dk_42 (dk_at dksX4_twin_4 3 rfl rfl)
theorem dX4_twin_97 : decode cX4_twin 97 = .ok (.getfield 30, 3) := dk_180 0 30 (dk_at dksX4_twin_4 4 rfl rfl)
theorem dX4_twin_100 : decode cX4_twin 100 = .ok (.iconst 0, 1) := dk_3 (dk_at dksX4_twin_4 7 rfl rfl)
theorem dX4_twin_101 : decode cX4_twin 101 = .ok (.aload_n 1, 1) := dk_43 (dk_at dksX4_twin_4 8 rfl rfl)
theorem dX4_twin_102 : decode cX4_twin 102 = .ok (.getfield 30, 3) := dk_180 0 30 (dk_at dksX4_twin_4 9 rfl rfl)
theorem dX4_twin_105 : decode cX4_twin 105 = .ok (.iconst 0, 1) := dk_3 (dk_at dksX4_twin_4 12 rfl rfl)
theorem dX4_twin_106 : decode cX4_twin 106 = .ok (.bipush 20, 2) := dk_16 20 (dk_at dksX4_twin_4 13 rfl rfl)
theorem dX4_twin_108 : decode cX4_twin 108 = .ok (.invokestatic 59, 3) := dk_184 0 59 (dk_at dksX4_twin_4 15 rfl rfl)
theorem dX4_twin_111 : decode cX4_twin 111 = .ok (.aload_n 0, 1) := dk_42 (dk_at dksX4_twin_4 18 rfl rfl)
theorem dX4_twin_112 : decode cX4_twin 112 = .ok (.getfield 33, 3) := dk_180 0 33 (dk_at dksX4_twin_4 19 rfl rfl)
theorem dX4_twin_115 : decode cX4_twin 115 = .ok (.iconst 0, 1) := dk_3 (dk_at dksX4_twin_4 22 rfl rfl)
theorem dX4_twin_116 : decode cX4_twin 116 = .ok (.aload_n 1, 1) := dk_43 (dk_at dksX4_twin_4 23 rfl rfl)
theorem dX4_twin_117 : decode cX4_twin 117 = .ok (.getfield 33, 3) := dk_180 0 33 (dk_at dksX4_twin_5 0 rfl rfl)
theorem dX4_twin_120 : decode cX4_twin 120 = .ok (.iconst 0, 1) := dk_3 (dk_at dksX4_twin_5 3 rfl rfl)
theorem dX4_twin_121 : decode cX4_twin 121 = .ok (.bipush 20, 2) := dk_16 20 (dk_at dksX4_twin_5 4 rfl rfl)
theorem dX4_twin_123 : decode cX4_twin 123 = .ok (.invokestatic 59, 3) := dk_184 0 59 (dk_at dksX4_twin_5 6 rfl rfl)
theorem dX4_twin_126 : decode cX4_twin 126 = .ok (.aload_n 1, 1) := dk_43 (dk_at dksX4_twin_5 9 rfl rfl)
theorem dX4_twin_127 : decode cX4_twin 127 = .ok (.aload_n 0, 1) := dk_42 (dk_at dksX4_twin_5 10 rfl rfl)
theorem dX4_twin_128 : decode cX4_twin 128 = .ok (.getfield 65, 3) := dk_180 0 65 (dk_at dksX4_twin_5 11 rfl rfl)
theorem dX4_twin_131 : decode cX4_twin 131 = .ok (.putfield 65, 3) := dk_181 0 65 (dk_at dksX4_twin_5 14 rfl rfl)
theorem dX4_twin_134 : decode cX4_twin 134 = .ok (.aload_n 1, 1) := dk_43 (dk_at dksX4_twin_5 17 rfl rfl)
theorem dX4_twin_135 : decode cX4_twin 135 = .ok (.aload_n 0, 1) := dk_42 (dk_at dksX4_twin_5 18 rfl rfl)
theorem dX4_twin_136 : decode cX4_twin 136 = .ok (.getfield 69, 3) := dk_180 0 69 (dk_at dksX4_twin_5 19 rfl rfl)
theorem dX4_twin_139 : decode cX4_twin 139 = .ok (.putfield 69, 3) := dk_181 0 69 (dk_at dksX4_twin_6 0 rfl rfl)
theorem dX4_twin_142 : decode cX4_twin 142 = .ok (.aload_n 1, 1) := dk_43 (dk_at dksX4_twin_6 3 rfl rfl)
theorem dX4_twin_143 : decode cX4_twin 143 = .ok (.aload_n 0, 1) := dk_42 (dk_at dksX4_twin_6 4 rfl rfl)
theorem dX4_twin_144 : decode cX4_twin 144 = .ok (.getfield 72, 3) := dk_180 0 72 (dk_at dksX4_twin_6 5 rfl rfl)
theorem dX4_twin_147 : decode cX4_twin 147 = .ok (.putfield 72, 3) := dk_181 0 72 (dk_at dksX4_twin_6 8 rfl rfl)
theorem dX4_twin_150 : decode cX4_twin 150 = .ok (.aload_n 1, 1) := dk_43 (dk_at dksX4_twin_6 11 rfl rfl)
theorem dX4_twin_151 : decode cX4_twin 151 = .ok (.areturn, 1) := dk_176 (dk_at dksX4_twin_6 12 rfl rfl)
abbrev cX4_trace : ByteArray := prog_29_method_6_code
def yX4_trace : MethodName := ⟨RX4, "trace", "(II)V"⟩
def dkwX4_trace_3 : List UInt8 := [177]
abbrev dktX4_trace_3 : List UInt8 := dkwX4_trace_3 ++ []
def dkwX4_trace_2 : List UInt8 := [27, 79, 42, 180, 0, 33, 3, 28, 79, 42, 16, 20, 42, 180, 0, 72, 4, 96, 184, 0, 87, 181, 0, 72]
abbrev dktX4_trace_2 : List UInt8 := dkwX4_trace_2 ++ dktX4_trace_3
def dkwX4_trace_1 : List UInt8 := [180, 0, 33, 29, 42, 180, 0, 33, 29, 4, 100, 46, 79, 132, 3, 255, 167, 255, 221, 42, 180, 0, 30, 3]
abbrev dktX4_trace_1 : List UInt8 := dkwX4_trace_1 ++ dktX4_trace_2
def dkwX4_trace_0 : List UInt8 := [16, 19, 62, 29, 158, 0, 37, 42, 180, 0, 30, 29, 42, 180, 0, 30, 29, 4, 100, 46, 79, 42]
abbrev dktX4_trace_0 : List UInt8 := dkwX4_trace_0 ++ dktX4_trace_1
theorem dksX4_trace_0 : cX4_trace.data.toList.drop 0 = dktX4_trace_0 := by decide +kernel
theorem dksX4_trace_1 : cX4_trace.data.toList.drop 22 = dktX4_trace_1 := dk_seg dksX4_trace_0 22 rfl rfl
theorem dksX4_trace_2 : cX4_trace.data.toList.drop 46 = dktX4_trace_2 := dk_seg dksX4_trace_1 24 rfl rfl
theorem dksX4_trace_3 : cX4_trace.data.toList.drop 70 = dktX4_trace_3 := dk_seg dksX4_trace_2 24 rfl rfl
theorem dX4_trace_0 : decode cX4_trace 0 = .ok (.bipush 19, 2) := dk_16 19 (dk_at dksX4_trace_0 0 rfl rfl)
theorem dX4_trace_2 : decode cX4_trace 2 = .ok (.istore_n 3, 1) := dk_62 (dk_at dksX4_trace_0 2 rfl rfl)
theorem dX4_trace_3 : decode cX4_trace 3 = .ok (.iload_n 3, 1) := dk_29 (dk_at dksX4_trace_0 3 rfl rfl)
theorem dX4_trace_4 : decode cX4_trace 4 = .ok (.ifCond .le 37, 3) := dk_158 0 37 (dk_at dksX4_trace_0 4 rfl rfl)
theorem dX4_trace_7 : decode cX4_trace 7 = .ok (.aload_n 0, 1) := dk_42 (dk_at dksX4_trace_0 7 rfl rfl)
theorem dX4_trace_8 : decode cX4_trace 8 = .ok (.getfield 30, 3) := dk_180 0 30 (dk_at dksX4_trace_0 8 rfl rfl)
theorem dX4_trace_11 : decode cX4_trace 11 = .ok (.iload_n 3, 1) := dk_29 (dk_at dksX4_trace_0 11 rfl rfl)
theorem dX4_trace_12 : decode cX4_trace 12 = .ok (.aload_n 0, 1) := dk_42 (dk_at dksX4_trace_0 12 rfl rfl)
theorem dX4_trace_13 : decode cX4_trace 13 = .ok (.getfield 30, 3) := dk_180 0 30 (dk_at dksX4_trace_0 13 rfl rfl)
theorem dX4_trace_16 : decode cX4_trace 16 = .ok (.iload_n 3, 1) := dk_29 (dk_at dksX4_trace_0 16 rfl rfl)
theorem dX4_trace_17 : decode cX4_trace 17 = .ok (.iconst 1, 1) := dk_4 (dk_at dksX4_trace_0 17 rfl rfl)
theorem dX4_trace_18 : decode cX4_trace 18 = .ok (.isub, 1) := dk_100 (dk_at dksX4_trace_0 18 rfl rfl)
theorem dX4_trace_19 : decode cX4_trace 19 = .ok (.iaload, 1) := dk_46 (dk_at dksX4_trace_0 19 rfl rfl)
theorem dX4_trace_20 : decode cX4_trace 20 = .ok (.iastore, 1) := dk_79 (dk_at dksX4_trace_0 20 rfl rfl)
theorem dX4_trace_21 : decode cX4_trace 21 = .ok (.aload_n 0, 1) := dk_42 (dk_at dksX4_trace_0 21 rfl rfl)
theorem dX4_trace_22 : decode cX4_trace 22 = .ok (.getfield 33, 3) := dk_180 0 33 (dk_at dksX4_trace_1 0 rfl rfl)
theorem dX4_trace_25 : decode cX4_trace 25 = .ok (.iload_n 3, 1) := dk_29 (dk_at dksX4_trace_1 3 rfl rfl)
theorem dX4_trace_26 : decode cX4_trace 26 = .ok (.aload_n 0, 1) := dk_42 (dk_at dksX4_trace_1 4 rfl rfl)
theorem dX4_trace_27 : decode cX4_trace 27 = .ok (.getfield 33, 3) := dk_180 0 33 (dk_at dksX4_trace_1 5 rfl rfl)
theorem dX4_trace_30 : decode cX4_trace 30 = .ok (.iload_n 3, 1) := dk_29 (dk_at dksX4_trace_1 8 rfl rfl)
theorem dX4_trace_31 : decode cX4_trace 31 = .ok (.iconst 1, 1) := dk_4 (dk_at dksX4_trace_1 9 rfl rfl)
theorem dX4_trace_32 : decode cX4_trace 32 = .ok (.isub, 1) := dk_100 (dk_at dksX4_trace_1 10 rfl rfl)
theorem dX4_trace_33 : decode cX4_trace 33 = .ok (.iaload, 1) := dk_46 (dk_at dksX4_trace_1 11 rfl rfl)
theorem dX4_trace_34 : decode cX4_trace 34 = .ok (.iastore, 1) := dk_79 (dk_at dksX4_trace_1 12 rfl rfl)
theorem dX4_trace_35 : decode cX4_trace 35 = .ok (.iinc 3 (-1), 3) := dk_132 3 255 (dk_at dksX4_trace_1 13 rfl rfl)
theorem dX4_trace_38 : decode cX4_trace 38 = .ok (.goto (-35), 3) := dk_167 255 221 (dk_at dksX4_trace_1 16 rfl rfl)
theorem dX4_trace_41 : decode cX4_trace 41 = .ok (.aload_n 0, 1) := dk_42 (dk_at dksX4_trace_1 19 rfl rfl)
theorem dX4_trace_42 : decode cX4_trace 42 = .ok (.getfield 30, 3) := dk_180 0 30 (dk_at dksX4_trace_1 20 rfl rfl)
theorem dX4_trace_45 : decode cX4_trace 45 = .ok (.iconst 0, 1) := dk_3 (dk_at dksX4_trace_1 23 rfl rfl)
theorem dX4_trace_46 : decode cX4_trace 46 = .ok (.iload_n 1, 1) := dk_27 (dk_at dksX4_trace_2 0 rfl rfl)
theorem dX4_trace_47 : decode cX4_trace 47 = .ok (.iastore, 1) := dk_79 (dk_at dksX4_trace_2 1 rfl rfl)
theorem dX4_trace_48 : decode cX4_trace 48 = .ok (.aload_n 0, 1) := dk_42 (dk_at dksX4_trace_2 2 rfl rfl)
theorem dX4_trace_49 : decode cX4_trace 49 = .ok (.getfield 33, 3) := dk_180 0 33 (dk_at dksX4_trace_2 3 rfl rfl)
theorem dX4_trace_52 : decode cX4_trace 52 = .ok (.iconst 0, 1) := dk_3 (dk_at dksX4_trace_2 6 rfl rfl)
theorem dX4_trace_53 : decode cX4_trace 53 = .ok (.iload_n 2, 1) := dk_28 (dk_at dksX4_trace_2 7 rfl rfl)
theorem dX4_trace_54 : decode cX4_trace 54 = .ok (.iastore, 1) := dk_79 (dk_at dksX4_trace_2 8 rfl rfl)
theorem dX4_trace_55 : decode cX4_trace 55 = .ok (.aload_n 0, 1) := dk_42 (dk_at dksX4_trace_2 9 rfl rfl)
theorem dX4_trace_56 : decode cX4_trace 56 = .ok (.bipush 20, 2) := dk_16 20 (dk_at dksX4_trace_2 10 rfl rfl)
theorem dX4_trace_58 : decode cX4_trace 58 = .ok (.aload_n 0, 1) := dk_42 (dk_at dksX4_trace_2 12 rfl rfl)
theorem dX4_trace_59 : decode cX4_trace 59 = .ok (.getfield 72, 3) := dk_180 0 72 (dk_at dksX4_trace_2 13 rfl rfl)
theorem dX4_trace_62 : decode cX4_trace 62 = .ok (.iconst 1, 1) := dk_4 (dk_at dksX4_trace_2 16 rfl rfl)
theorem dX4_trace_63 : decode cX4_trace 63 = .ok (.iadd, 1) := dk_96 (dk_at dksX4_trace_2 17 rfl rfl)
theorem dX4_trace_64 : decode cX4_trace 64 = .ok (.invokestatic 87, 3) := dk_184 0 87 (dk_at dksX4_trace_2 18 rfl rfl)
theorem dX4_trace_67 : decode cX4_trace 67 = .ok (.putfield 72, 3) := dk_181 0 72 (dk_at dksX4_trace_2 21 rfl rfl)
theorem dX4_trace_70 : decode cX4_trace 70 = .ok (.return_, 1) := dk_177 (dk_at dksX4_trace_3 0 rfl rfl)
abbrev cX4_valuation : ByteArray := prog_29_method_4_code
def yX4_valuation : MethodName := ⟨RX4, "valuation", "()I"⟩
def dkwX4_valuation_0 : List UInt8 := [42, 180, 0, 65, 17, 3, 232, 112, 172]
abbrev dktX4_valuation_0 : List UInt8 := dkwX4_valuation_0 ++ []
theorem dksX4_valuation_0 : cX4_valuation.data.toList.drop 0 = dktX4_valuation_0 := by decide +kernel
theorem dX4_valuation_0 : decode cX4_valuation 0 = .ok (.aload_n 0, 1) := dk_42 (dk_at dksX4_valuation_0 0 rfl rfl)
theorem dX4_valuation_1 : decode cX4_valuation 1 = .ok (.getfield 65, 3) := dk_180 0 65 (dk_at dksX4_valuation_0 1 rfl rfl)
theorem dX4_valuation_4 : decode cX4_valuation 4 = .ok (.sipush 1000, 3) := dk_17 3 232 (dk_at dksX4_valuation_0 4 rfl rfl)
theorem dX4_valuation_7 : decode cX4_valuation 7 = .ok (.irem, 1) := dk_112 (dk_at dksX4_valuation_0 7 rfl rfl)
theorem dX4_valuation_8 : decode cX4_valuation 8 = .ok (.ireturn, 1) := dk_172 (dk_at dksX4_valuation_0 8 rfl rfl)
abbrev cX4_allRejected : ByteArray := prog_29_method_8_code
def yX4_allRejected : MethodName := ⟨RX4, "allRejected", "()I"⟩
def dkwX4_allRejected_1 : List UInt8 := [54, 5, 27, 21, 5, 96, 60, 132, 4, 1, 167, 255, 236, 27, 172]
abbrev dktX4_allRejected_1 : List UInt8 := dkwX4_allRejected_1 ++ []
def dkwX4_allRejected_0 : List UInt8 := [3, 60, 42, 180, 0, 27, 77, 44, 190, 62, 3, 54, 4, 21, 4, 29, 162, 0, 20, 44, 21, 4, 46]
abbrev dktX4_allRejected_0 : List UInt8 := dkwX4_allRejected_0 ++ dktX4_allRejected_1
theorem dksX4_allRejected_0 : cX4_allRejected.data.toList.drop 0 = dktX4_allRejected_0 := by decide +kernel
theorem dksX4_allRejected_1 : cX4_allRejected.data.toList.drop 23 = dktX4_allRejected_1 := dk_seg dksX4_allRejected_0 23 rfl rfl
theorem dX4_allRejected_0 : decode cX4_allRejected 0 = .ok (.iconst 0, 1) := dk_3 (dk_at dksX4_allRejected_0 0 rfl rfl)
theorem dX4_allRejected_1 : decode cX4_allRejected 1 = .ok (.istore_n 1, 1) := dk_60 (dk_at dksX4_allRejected_0 1 rfl rfl)
theorem dX4_allRejected_2 : decode cX4_allRejected 2 = .ok (.aload_n 0, 1) := dk_42 (dk_at dksX4_allRejected_0 2 rfl rfl)
theorem dX4_allRejected_3 : decode cX4_allRejected 3 = .ok (.getfield 27, 3) := dk_180 0 27 (dk_at dksX4_allRejected_0 3 rfl rfl)
theorem dX4_allRejected_6 : decode cX4_allRejected 6 = .ok (.astore_n 2, 1) := dk_77 (dk_at dksX4_allRejected_0 6 rfl rfl)
theorem dX4_allRejected_7 : decode cX4_allRejected 7 = .ok (.aload_n 2, 1) := dk_44 (dk_at dksX4_allRejected_0 7 rfl rfl)
theorem dX4_allRejected_8 : decode cX4_allRejected 8 = .ok (.arraylength, 1) := dk_190 (dk_at dksX4_allRejected_0 8 rfl rfl)
theorem dX4_allRejected_9 : decode cX4_allRejected 9 = .ok (.istore_n 3, 1) := dk_62 (dk_at dksX4_allRejected_0 9 rfl rfl)
theorem dX4_allRejected_10 : decode cX4_allRejected 10 = .ok (.iconst 0, 1) := dk_3 (dk_at dksX4_allRejected_0 10 rfl rfl)
theorem dX4_allRejected_11 : decode cX4_allRejected 11 = .ok (.istore 4, 2) := dk_54 4 (dk_at dksX4_allRejected_0 11 rfl rfl)
theorem dX4_allRejected_13 : decode cX4_allRejected 13 = .ok (.iload 4, 2) := dk_21 4 (dk_at dksX4_allRejected_0 13 rfl rfl)
theorem dX4_allRejected_15 : decode cX4_allRejected 15 = .ok (.iload_n 3, 1) := dk_29 (dk_at dksX4_allRejected_0 15 rfl rfl)
theorem dX4_allRejected_16 : decode cX4_allRejected 16 = .ok (.if_icmp .ge 20, 3) := dk_162 0 20 (dk_at dksX4_allRejected_0 16 rfl rfl)
theorem dX4_allRejected_19 : decode cX4_allRejected 19 = .ok (.aload_n 2, 1) := dk_44 (dk_at dksX4_allRejected_0 19 rfl rfl)
theorem dX4_allRejected_20 : decode cX4_allRejected 20 = .ok (.iload 4, 2) := dk_21 4 (dk_at dksX4_allRejected_0 20 rfl rfl)
theorem dX4_allRejected_22 : decode cX4_allRejected 22 = .ok (.iaload, 1) := dk_46 (dk_at dksX4_allRejected_0 22 rfl rfl)
theorem dX4_allRejected_23 : decode cX4_allRejected 23 = .ok (.istore 5, 2) := dk_54 5 (dk_at dksX4_allRejected_1 0 rfl rfl)
theorem dX4_allRejected_25 : decode cX4_allRejected 25 = .ok (.iload_n 1, 1) := dk_27 (dk_at dksX4_allRejected_1 2 rfl rfl)
theorem dX4_allRejected_26 : decode cX4_allRejected 26 = .ok (.iload 5, 2) := dk_21 5 (dk_at dksX4_allRejected_1 3 rfl rfl)
theorem dX4_allRejected_28 : decode cX4_allRejected 28 = .ok (.iadd, 1) := dk_96 (dk_at dksX4_allRejected_1 5 rfl rfl)
theorem dX4_allRejected_29 : decode cX4_allRejected 29 = .ok (.istore_n 1, 1) := dk_60 (dk_at dksX4_allRejected_1 6 rfl rfl)
theorem dX4_allRejected_30 : decode cX4_allRejected 30 = .ok (.iinc 4 1, 3) := dk_132 4 1 (dk_at dksX4_allRejected_1 7 rfl rfl)
theorem dX4_allRejected_33 : decode cX4_allRejected 33 = .ok (.goto (-20), 3) := dk_167 255 236 (dk_at dksX4_allRejected_1 10 rfl rfl)
theorem dX4_allRejected_36 : decode cX4_allRejected 36 = .ok (.iload_n 1, 1) := dk_27 (dk_at dksX4_allRejected_1 13 rfl rfl)
theorem dX4_allRejected_37 : decode cX4_allRejected 37 = .ok (.ireturn, 1) := dk_172 (dk_at dksX4_allRejected_1 14 rfl rfl)
theorem q144 : (Jvm.Cond.initialized "ContractMachine$Run") ∈ lw_all := lw_g (lw_at lw_m1 24 rfl) rfl
theorem q588 : (Jvm.Cond.instantiable "ContractMachine$Run" (9 : Nat)) ∈ lw_all := lw_g (lw_at lw_m2 228 rfl) rfl
theorem q590 : (Jvm.Cond.instanceMethod ({ cls := "ContractMachine$Run", name := "<init>", desc := "()V" } : Jvm.MethodName)) ∈ lw_all := lw_g (lw_at lw_m2 230 rfl) rfl
theorem q591 : (Jvm.Cond.code ({ cls := "ContractMachine$Run", name := "<init>", desc := "()V" } : Jvm.MethodName) prog_29_method_1_code (1 : Nat) (Option.none : Option Jvm.ClassFile.FieldType)) ∈ lw_all := lw_g (lw_at lw_m2 231 rfl) rfl
theorem q592 : (Jvm.Cond.methodLink "ContractMachine$Run" (3 : Nat) ({ cls := "java/lang/Object", name := "<init>", desc := "()V" } : Jvm.MethodName)) ∈ lw_all := lw_g (lw_at lw_m2 232 rfl) rfl
theorem q593 : (Jvm.Cond.classLink "ContractMachine$Run" (9 : Nat) "java/util/ArrayList") ∈ lw_all := lw_g (lw_at lw_m2 233 rfl) rfl
theorem q594 : (Jvm.Cond.methodLink "ContractMachine$Run" (11 : Nat) ({ cls := "java/util/ArrayList", name := "<init>", desc := "(I)V" } : Jvm.MethodName)) ∈ lw_all := lw_g (lw_at lw_m2 234 rfl) rfl
theorem q595 : (Jvm.Cond.fieldLink "ContractMachine$Run" (14 : Nat) "ContractMachine$Run" "invariants" "Ljava/util/List;") ∈ lw_all := lw_g (lw_at lw_m2 235 rfl) rfl
theorem q598 : (Jvm.Cond.fieldLink "ContractMachine$Run" (20 : Nat) "ContractMachine$Run" "taken" "[I") ∈ lw_all := lw_g (lw_at lw_m2 238 rfl) rfl
theorem q601 : (Jvm.Cond.fieldLink "ContractMachine$Run" (24 : Nat) "ContractMachine$Run" "visits" "[I") ∈ lw_all := lw_g (lw_at lw_m3 1 rfl) rfl
theorem q604 : (Jvm.Cond.fieldLink "ContractMachine$Run" (27 : Nat) "ContractMachine$Run" "rejected" "[I") ∈ lw_all := lw_g (lw_at lw_m3 4 rfl) rfl
theorem q607 : (Jvm.Cond.fieldLink "ContractMachine$Run" (30 : Nat) "ContractMachine$Run" "traceEvents" "[I") ∈ lw_all := lw_g (lw_at lw_m3 7 rfl) rfl
theorem q609 : (Jvm.Cond.fieldLink "ContractMachine$Run" (33 : Nat) "ContractMachine$Run" "traceTransitions" "[I") ∈ lw_all := lw_g (lw_at lw_m3 9 rfl) rfl
theorem q611 : (Jvm.Cond.fieldLink "ContractMachine$Run" (65 : Nat) "ContractMachine$Run" "configuration" "I") ∈ lw_all := lw_g (lw_at lw_m3 11 rfl) rfl
theorem q616 : (Jvm.Cond.fieldLink "ContractMachine$Run" (69 : Nat) "ContractMachine$Run" "accepted" "I") ∈ lw_all := lw_g (lw_at lw_m3 16 rfl) rfl
theorem q619 : (Jvm.Cond.fieldLink "ContractMachine$Run" (72 : Nat) "ContractMachine$Run" "traceLength" "I") ∈ lw_all := lw_g (lw_at lw_m3 19 rfl) rfl
theorem q621 : (Jvm.Cond.laysFinal "ContractMachine$Run" "ContractMachine$Run" "invariants" "Ljava/util/List;") ∈ lw_all := lw_g (lw_at lw_m3 21 rfl) rfl
theorem q622 : (Jvm.Cond.soleField "ContractMachine$Run" "invariants") ∈ lw_all := lw_g (lw_at lw_m3 22 rfl) rfl
theorem q623 : (Jvm.Cond.laysFinal "ContractMachine$Run" "ContractMachine$Run" "taken" "[I") ∈ lw_all := lw_g (lw_at lw_m3 23 rfl) rfl
theorem q624 : (Jvm.Cond.soleField "ContractMachine$Run" "taken") ∈ lw_all := lw_g (lw_at lw_m3 24 rfl) rfl
theorem q625 : (Jvm.Cond.laysFinal "ContractMachine$Run" "ContractMachine$Run" "visits" "[I") ∈ lw_all := lw_g (lw_at lw_m3 25 rfl) rfl
theorem q626 : (Jvm.Cond.soleField "ContractMachine$Run" "visits") ∈ lw_all := lw_g (lw_at lw_m3 26 rfl) rfl
theorem q627 : (Jvm.Cond.laysFinal "ContractMachine$Run" "ContractMachine$Run" "rejected" "[I") ∈ lw_all := lw_g (lw_at lw_m3 27 rfl) rfl
theorem q628 : (Jvm.Cond.soleField "ContractMachine$Run" "rejected") ∈ lw_all := lw_g (lw_at lw_m3 28 rfl) rfl
theorem q629 : (Jvm.Cond.laysFinal "ContractMachine$Run" "ContractMachine$Run" "traceEvents" "[I") ∈ lw_all := lw_g (lw_at lw_m3 29 rfl) rfl
theorem q630 : (Jvm.Cond.soleField "ContractMachine$Run" "traceEvents") ∈ lw_all := lw_g (lw_at lw_m3 30 rfl) rfl
theorem q631 : (Jvm.Cond.laysFinal "ContractMachine$Run" "ContractMachine$Run" "traceTransitions" "[I") ∈ lw_all := lw_g (lw_at lw_m3 31 rfl) rfl
theorem q632 : (Jvm.Cond.soleField "ContractMachine$Run" "traceTransitions") ∈ lw_all := lw_g (lw_at lw_m3 32 rfl) rfl
theorem q633 : (Jvm.Cond.lays "ContractMachine$Run" "ContractMachine$Run" "configuration" "I") ∈ lw_all := lw_g (lw_at lw_m3 33 rfl) rfl
theorem q634 : (Jvm.Cond.soleField "ContractMachine$Run" "configuration") ∈ lw_all := lw_g (lw_at lw_m3 34 rfl) rfl
theorem q635 : (Jvm.Cond.lays "ContractMachine$Run" "ContractMachine$Run" "accepted" "I") ∈ lw_all := lw_g (lw_at lw_m3 35 rfl) rfl
theorem q636 : (Jvm.Cond.soleField "ContractMachine$Run" "accepted") ∈ lw_all := lw_g (lw_at lw_m3 36 rfl) rfl
theorem q637 : (Jvm.Cond.lays "ContractMachine$Run" "ContractMachine$Run" "traceLength" "I") ∈ lw_all := lw_g (lw_at lw_m3 37 rfl) rfl
theorem q638 : (Jvm.Cond.soleField "ContractMachine$Run" "traceLength") ∈ lw_all := lw_g (lw_at lw_m3 38 rfl) rfl
theorem q639 : (Jvm.Cond.superclass "ContractMachine$Run" "java/lang/Object") ∈ lw_all := lw_g (lw_at lw_m3 39 rfl) rfl
theorem q722 : (Jvm.Cond.selects "ContractMachine$Run" ({ cls := "java/lang/Object", name := "getClass", desc := "()Ljava/lang/Class;" } : Jvm.MethodName) ({ cls := "java/lang/Object", name := "getClass", desc := "()Ljava/lang/Class;" } : Jvm.MethodName)) ∈ lw_all := lw_g (lw_at lw_m3 122 rfl) rfl
theorem q874 : (Jvm.Cond.instanceMethod ({ cls := "ContractMachine$Run", name := "clear", desc := "()V" } : Jvm.MethodName)) ∈ lw_all := lw_g (lw_at lw_m4 34 rfl) rfl
theorem q875 : (Jvm.Cond.selects "ContractMachine$Run" ({ cls := "ContractMachine$Run", name := "clear", desc := "()V" } : Jvm.MethodName) ({ cls := "ContractMachine$Run", name := "clear", desc := "()V" } : Jvm.MethodName)) ∈ lw_all := lw_g (lw_at lw_m4 35 rfl) rfl
theorem q876 : (Jvm.Cond.code ({ cls := "ContractMachine$Run", name := "clear", desc := "()V" } : Jvm.MethodName) prog_29_method_7_code (2 : Nat) (Option.none : Option Jvm.ClassFile.FieldType)) ∈ lw_all := lw_g (lw_at lw_m4 36 rfl) rfl
theorem q877 : (Jvm.Cond.methodLink "ContractMachine$Run" (93 : Nat) ({ cls := "ContractMachine$Run", name := "state", desc := "()I" } : Jvm.MethodName)) ∈ lw_all := lw_g (lw_at lw_m4 37 rfl) rfl
theorem q878 : (Jvm.Cond.instanceMethod ({ cls := "ContractMachine$Run", name := "state", desc := "()I" } : Jvm.MethodName)) ∈ lw_all := lw_g (lw_at lw_m4 38 rfl) rfl
theorem q879 : (Jvm.Cond.selects "ContractMachine$Run" ({ cls := "ContractMachine$Run", name := "state", desc := "()I" } : Jvm.MethodName) ({ cls := "ContractMachine$Run", name := "state", desc := "()I" } : Jvm.MethodName)) ∈ lw_all := lw_g (lw_at lw_m4 39 rfl) rfl
theorem q880 : (Jvm.Cond.code ({ cls := "ContractMachine$Run", name := "state", desc := "()I" } : Jvm.MethodName) prog_29_method_3_code (1 : Nat) (Option.some Jvm.ClassFile.FieldType.int)) ∈ lw_all := lw_g (lw_at lw_m4 40 rfl) rfl
theorem q1431 : (Jvm.Cond.instanceMethod ({ cls := "ContractMachine$Run", name := "broken", desc := "(I)I" } : Jvm.MethodName)) ∈ lw_all := lw_g (lw_at lw_m6 111 rfl) rfl
theorem q1432 : (Jvm.Cond.selects "ContractMachine$Run" ({ cls := "ContractMachine$Run", name := "broken", desc := "(I)I" } : Jvm.MethodName) ({ cls := "ContractMachine$Run", name := "broken", desc := "(I)I" } : Jvm.MethodName)) ∈ lw_all := lw_g (lw_at lw_m6 112 rfl) rfl
theorem q1433 : (Jvm.Cond.code ({ cls := "ContractMachine$Run", name := "broken", desc := "(I)I" } : Jvm.MethodName) prog_29_method_5_code (3 : Nat) (Option.some Jvm.ClassFile.FieldType.int)) ∈ lw_all := lw_g (lw_at lw_m6 113 rfl) rfl
theorem q1434 : (Jvm.Cond.interfaceEntry "ContractMachine$Run" (75 : Nat)) ∈ lw_tbl := lw_at lw_m6 114 rfl
theorem q1435 : (Jvm.Cond.methodLink "ContractMachine$Run" (75 : Nat) ({ cls := "java/util/List", name := "size", desc := "()I" } : Jvm.MethodName)) ∈ lw_all := lw_g (lw_at lw_m6 115 rfl) rfl
theorem q1436 : (Jvm.Cond.interfaceEntry "ContractMachine$Run" (79 : Nat)) ∈ lw_tbl := lw_at lw_m6 116 rfl
theorem q1437 : (Jvm.Cond.methodLink "ContractMachine$Run" (79 : Nat) ({ cls := "java/util/List", name := "get", desc := "(I)Ljava/lang/Object;" } : Jvm.MethodName)) ∈ lw_all := lw_g (lw_at lw_m6 117 rfl) rfl
theorem q1438 : (Jvm.Cond.classLink "ContractMachine$Run" (53 : Nat) "ContractMachine$Invariant") ∈ lw_all := lw_g (lw_at lw_m6 118 rfl) rfl
theorem q1439 : (Jvm.Cond.methodLink "ContractMachine$Run" (83 : Nat) ({ cls := "ContractMachine$Invariant", name := "isBrokenBy", desc := "(I)Z" } : Jvm.MethodName)) ∈ lw_all := lw_g (lw_at lw_m6 119 rfl) rfl
theorem q1710 : (Jvm.Cond.instanceMethod ({ cls := "ContractMachine$Run", name := "twin", desc := "()LContractMachine$Run;" } : Jvm.MethodName)) ∈ lw_all := lw_g (lw_at lw_m7 150 rfl) rfl
theorem q1711 : (Jvm.Cond.selects "ContractMachine$Run" ({ cls := "ContractMachine$Run", name := "twin", desc := "()LContractMachine$Run;" } : Jvm.MethodName) ({ cls := "ContractMachine$Run", name := "twin", desc := "()LContractMachine$Run;" } : Jvm.MethodName)) ∈ lw_all := lw_g (lw_at lw_m7 151 rfl) rfl
theorem q1712 : (Jvm.Cond.code ({ cls := "ContractMachine$Run", name := "twin", desc := "()LContractMachine$Run;" } : Jvm.MethodName) prog_29_method_2_code (5 : Nat) (Option.some (Jvm.ClassFile.FieldType.object "ContractMachine$Run"))) ∈ lw_all := lw_g (lw_at lw_m7 152 rfl) rfl
theorem q1713 : (Jvm.Cond.classLink "ContractMachine$Run" (15 : Nat) "ContractMachine$Run") ∈ lw_all := lw_g (lw_at lw_m7 153 rfl) rfl
theorem q1714 : (Jvm.Cond.methodLink "ContractMachine$Run" (36 : Nat) ({ cls := "ContractMachine$Run", name := "<init>", desc := "()V" } : Jvm.MethodName)) ∈ lw_all := lw_g (lw_at lw_m7 154 rfl) rfl
theorem q1715 : (Jvm.Cond.interfaceEntry "ContractMachine$Run" (37 : Nat)) ∈ lw_tbl := lw_at lw_m7 155 rfl
theorem q1716 : (Jvm.Cond.methodLink "ContractMachine$Run" (37 : Nat) ({ cls := "java/util/List", name := "iterator", desc := "()Ljava/util/Iterator;" } : Jvm.MethodName)) ∈ lw_all := lw_g (lw_at lw_m7 156 rfl) rfl
theorem q1743 : (Jvm.Cond.interfaceEntry "ContractMachine$Run" (43 : Nat)) ∈ lw_tbl := lw_at lw_m7 183 rfl
theorem q1744 : (Jvm.Cond.methodLink "ContractMachine$Run" (43 : Nat) ({ cls := "java/util/Iterator", name := "hasNext", desc := "()Z" } : Jvm.MethodName)) ∈ lw_all := lw_g (lw_at lw_m7 184 rfl) rfl
theorem q1753 : (Jvm.Cond.interfaceEntry "ContractMachine$Run" (49 : Nat)) ∈ lw_tbl := lw_at lw_m7 193 rfl
theorem q1754 : (Jvm.Cond.methodLink "ContractMachine$Run" (49 : Nat) ({ cls := "java/util/Iterator", name := "next", desc := "()Ljava/lang/Object;" } : Jvm.MethodName)) ∈ lw_all := lw_g (lw_at lw_m7 194 rfl) rfl
theorem q1768 : (Jvm.Cond.interfaceEntry "ContractMachine$Run" (55 : Nat)) ∈ lw_tbl := lw_at lw_m7 208 rfl
theorem q1769 : (Jvm.Cond.methodLink "ContractMachine$Run" (55 : Nat) ({ cls := "java/util/List", name := "add", desc := "(Ljava/lang/Object;)Z" } : Jvm.MethodName)) ∈ lw_all := lw_g (lw_at lw_m7 209 rfl) rfl
theorem q1770 : (Jvm.Cond.methodLink "ContractMachine$Run" (59 : Nat) ({ cls := "java/lang/System", name := "arraycopy", desc := "(Ljava/lang/Object;ILjava/lang/Object;II)V" } : Jvm.MethodName)) ∈ lw_all := lw_g (lw_at lw_m7 210 rfl) rfl
theorem q1872 : (Jvm.Cond.instanceMethod ({ cls := "ContractMachine$Run", name := "trace", desc := "(II)V" } : Jvm.MethodName)) ∈ lw_all := lw_g (lw_at lw_m8 72 rfl) rfl
theorem q1873 : (Jvm.Cond.selects "ContractMachine$Run" ({ cls := "ContractMachine$Run", name := "trace", desc := "(II)V" } : Jvm.MethodName) ({ cls := "ContractMachine$Run", name := "trace", desc := "(II)V" } : Jvm.MethodName)) ∈ lw_all := lw_g (lw_at lw_m8 73 rfl) rfl
theorem q1874 : (Jvm.Cond.code ({ cls := "ContractMachine$Run", name := "trace", desc := "(II)V" } : Jvm.MethodName) prog_29_method_6_code (4 : Nat) (Option.none : Option Jvm.ClassFile.FieldType)) ∈ lw_all := lw_g (lw_at lw_m8 74 rfl) rfl
theorem q1875 : (Jvm.Cond.methodLink "ContractMachine$Run" (87 : Nat) ({ cls := "java/lang/Math", name := "min", desc := "(II)I" } : Jvm.MethodName)) ∈ lw_all := lw_g (lw_at lw_m8 75 rfl) rfl
theorem q1894 : (Jvm.Cond.instanceMethod ({ cls := "ContractMachine$Run", name := "valuation", desc := "()I" } : Jvm.MethodName)) ∈ lw_all := lw_g (lw_at lw_m8 94 rfl) rfl
theorem q1895 : (Jvm.Cond.selects "ContractMachine$Run" ({ cls := "ContractMachine$Run", name := "valuation", desc := "()I" } : Jvm.MethodName) ({ cls := "ContractMachine$Run", name := "valuation", desc := "()I" } : Jvm.MethodName)) ∈ lw_all := lw_g (lw_at lw_m8 95 rfl) rfl
theorem q1896 : (Jvm.Cond.code ({ cls := "ContractMachine$Run", name := "valuation", desc := "()I" } : Jvm.MethodName) prog_29_method_4_code (1 : Nat) (Option.some Jvm.ClassFile.FieldType.int)) ∈ lw_all := lw_g (lw_at lw_m8 96 rfl) rfl
theorem q1963 : (Jvm.Cond.instanceMethod ({ cls := "ContractMachine$Run", name := "allRejected", desc := "()I" } : Jvm.MethodName)) ∈ lw_all := lw_g (lw_at lw_m8 163 rfl) rfl
theorem q1964 : (Jvm.Cond.selects "ContractMachine$Run" ({ cls := "ContractMachine$Run", name := "allRejected", desc := "()I" } : Jvm.MethodName) ({ cls := "ContractMachine$Run", name := "allRejected", desc := "()I" } : Jvm.MethodName)) ∈ lw_all := lw_g (lw_at lw_m8 164 rfl) rfl
theorem q1965 : (Jvm.Cond.code ({ cls := "ContractMachine$Run", name := "allRejected", desc := "()I" } : Jvm.MethodName) prog_29_method_8_code (6 : Nat) (Option.some Jvm.ClassFile.FieldType.int)) ∈ lw_all := lw_g (lw_at lw_m8 165 rfl) rfl
theorem q3299 : (Jvm.Cond.castable "ContractMachine$Run" "java/lang/Object") ∈ lw_tbl := lw_at lw_m14 59 rfl
theorem in_X4 : ∀ w ∈ wsX40, w ∈ lw_all := lw_in wsX40 [621, 623, 625, 627, 629, 631, 633, 635, 637] (by decide +kernel) (by decide +kernel)
/-! ContractMachine$Action -/
set_option maxRecDepth 100000
def RX5 : String := "ContractMachine$Action"
def TX5 : u_T := fun k => match k with
  | 0 => ("ContractMachine$Action", "variable", "I", true)
  | 1 => ("ContractMachine$Action", "constant", "I", true)
  | _ => ("ContractMachine$Action", "effect", "LContractMachine$Effect;", true)
def tyX5 : Nat → FieldType := fun k => match k with
  | 0 => .int
  | 1 => .int
  | _ => .object "ContractMachine$Effect"
abbrev wsX50 : List Cond := u_ws RX5 TX5 3
theorem nmX5 : ∀ a, a < 3 → ∀ b, b < 3 → a ≠ b → (TX5 a).2.1 ≠ (TX5 b).2.1 := by decide +kernel
theorem tyX5_ok : ∀ k, k < 3 → parseFieldDescriptor (TX5 k).2.2.1 = some (tyX5 k) := by decide +kernel
abbrev cX5_init : ByteArray := prog_8_method_1_code
def yX5_init : MethodName := ⟨RX5, "<init>", "(ILContractMachine$Effect;I)V"⟩
def dkwX5_init_0 : List UInt8 := [42, 183, 0, 3, 42, 27, 181, 0, 9, 42, 44, 181, 0, 15, 42, 29, 181, 0, 19, 177]
abbrev dktX5_init_0 : List UInt8 := dkwX5_init_0 ++ []
theorem dksX5_init_0 : cX5_init.data.toList.drop 0 = dktX5_init_0 := by decide +kernel
theorem dX5_init_0 : decode cX5_init 0 = .ok (.aload_n 0, 1) := dk_42 (dk_at dksX5_init_0 0 rfl rfl)
theorem dX5_init_1 : decode cX5_init 1 = .ok (.invokespecial 3, 3) := dk_183 0 3 (dk_at dksX5_init_0 1 rfl rfl)
theorem dX5_init_4 : decode cX5_init 4 = .ok (.aload_n 0, 1) := dk_42 (dk_at dksX5_init_0 4 rfl rfl)
theorem dX5_init_5 : decode cX5_init 5 = .ok (.iload_n 1, 1) := dk_27 (dk_at dksX5_init_0 5 rfl rfl)
theorem dX5_init_6 : decode cX5_init 6 = .ok (.putfield 9, 3) := dk_181 0 9 (dk_at dksX5_init_0 6 rfl rfl)
theorem dX5_init_9 : decode cX5_init 9 = .ok (.aload_n 0, 1) := dk_42 (dk_at dksX5_init_0 9 rfl rfl)
theorem dX5_init_10 : decode cX5_init 10 = .ok (.aload_n 2, 1) := dk_44 (dk_at dksX5_init_0 10 rfl rfl)
theorem dX5_init_11 : decode cX5_init 11 = .ok (.putfield 15, 3) := dk_181 0 15 (dk_at dksX5_init_0 11 rfl rfl)
theorem dX5_init_14 : decode cX5_init 14 = .ok (.aload_n 0, 1) := dk_42 (dk_at dksX5_init_0 14 rfl rfl)
theorem dX5_init_15 : decode cX5_init 15 = .ok (.iload_n 3, 1) := dk_29 (dk_at dksX5_init_0 15 rfl rfl)
theorem dX5_init_16 : decode cX5_init 16 = .ok (.putfield 19, 3) := dk_181 0 19 (dk_at dksX5_init_0 16 rfl rfl)
theorem dX5_init_19 : decode cX5_init 19 = .ok (.return_, 1) := dk_177 (dk_at dksX5_init_0 19 rfl rfl)
abbrev cX5_apply : ByteArray := prog_8_method_2_code
def yX5_apply : MethodName := ⟨RX5, "apply", "(I)I"⟩
def dkwX5_apply_2 : List UInt8 := [167, 0, 4, 2, 172]
abbrev dktX5_apply_2 : List UInt8 := dkwX5_apply_2 ++ []
def dkwX5_apply_1 : List UInt8 := [9, 20, 0, 31, 184, 0, 33, 153, 0, 19, 27, 29, 28, 100, 42, 180, 0, 9, 184, 0, 37, 104, 96]
abbrev dktX5_apply_1 : List UInt8 := dkwX5_apply_1 ++ dktX5_apply_2
def dkwX5_apply_0 : List UInt8 := [27, 42, 180, 0, 9, 184, 0, 22, 61, 42, 180, 0, 15, 28, 42, 180, 0, 19, 182, 0, 26, 62, 29, 133]
abbrev dktX5_apply_0 : List UInt8 := dkwX5_apply_0 ++ dktX5_apply_1
theorem dksX5_apply_0 : cX5_apply.data.toList.drop 0 = dktX5_apply_0 := by decide +kernel
theorem dksX5_apply_1 : cX5_apply.data.toList.drop 24 = dktX5_apply_1 := dk_seg dksX5_apply_0 24 rfl rfl
theorem dksX5_apply_2 : cX5_apply.data.toList.drop 47 = dktX5_apply_2 := dk_seg dksX5_apply_1 23 rfl rfl
theorem dX5_apply_0 : decode cX5_apply 0 = .ok (.iload_n 1, 1) := dk_27 (dk_at dksX5_apply_0 0 rfl rfl)
theorem dX5_apply_1 : decode cX5_apply 1 = .ok (.aload_n 0, 1) := dk_42 (dk_at dksX5_apply_0 1 rfl rfl)
theorem dX5_apply_2 : decode cX5_apply 2 = .ok (.getfield 9, 3) := dk_180 0 9 (dk_at dksX5_apply_0 2 rfl rfl)
theorem dX5_apply_5 : decode cX5_apply 5 = .ok (.invokestatic 22, 3) := dk_184 0 22 (dk_at dksX5_apply_0 5 rfl rfl)
theorem dX5_apply_8 : decode cX5_apply 8 = .ok (.istore_n 2, 1) := dk_61 (dk_at dksX5_apply_0 8 rfl rfl)
theorem dX5_apply_9 : decode cX5_apply 9 = .ok (.aload_n 0, 1) := dk_42 (dk_at dksX5_apply_0 9 rfl rfl)
theorem dX5_apply_10 : decode cX5_apply 10 = .ok (.getfield 15, 3) := dk_180 0 15 (dk_at dksX5_apply_0 10 rfl rfl)
theorem dX5_apply_13 : decode cX5_apply 13 = .ok (.iload_n 2, 1) := dk_28 (dk_at dksX5_apply_0 13 rfl rfl)
theorem dX5_apply_14 : decode cX5_apply 14 = .ok (.aload_n 0, 1) := dk_42 (dk_at dksX5_apply_0 14 rfl rfl)
theorem dX5_apply_15 : decode cX5_apply 15 = .ok (.getfield 19, 3) := dk_180 0 19 (dk_at dksX5_apply_0 15 rfl rfl)
theorem dX5_apply_18 : decode cX5_apply 18 = .ok (.invokevirtual 26, 3) := dk_182 0 26 (dk_at dksX5_apply_0 18 rfl rfl)
theorem dX5_apply_21 : decode cX5_apply 21 = .ok (.istore_n 3, 1) := dk_62 (dk_at dksX5_apply_0 21 rfl rfl)
theorem dX5_apply_22 : decode cX5_apply 22 = .ok (.iload_n 3, 1) := dk_29 (dk_at dksX5_apply_0 22 rfl rfl)
theorem dX5_apply_23 : decode cX5_apply 23 = .ok (.i2l, 1) := dk_133 (dk_at dksX5_apply_0 23 rfl rfl)
theorem dX5_apply_24 : decode cX5_apply 24 = .ok (.lconst 0, 1) := dk_9 (dk_at dksX5_apply_1 0 rfl rfl)
theorem dX5_apply_25 : decode cX5_apply 25 = .ok (.ldc2_w 31, 3) := dk_20 0 31 (dk_at dksX5_apply_1 1 rfl rfl)
theorem dX5_apply_28 : decode cX5_apply 28 = .ok (.invokestatic 33, 3) := dk_184 0 33 (dk_at dksX5_apply_1 4 rfl rfl)
theorem dX5_apply_31 : decode cX5_apply 31 = .ok (.ifCond .eq 19, 3) := dk_153 0 19 (dk_at dksX5_apply_1 7 rfl rfl)
theorem dX5_apply_34 : decode cX5_apply 34 = .ok (.iload_n 1, 1) := dk_27 (dk_at dksX5_apply_1 10 rfl rfl)
theorem dX5_apply_35 : decode cX5_apply 35 = .ok (.iload_n 3, 1) := dk_29 (dk_at dksX5_apply_1 11 rfl rfl)
theorem dX5_apply_36 : decode cX5_apply 36 = .ok (.iload_n 2, 1) := dk_28 (dk_at dksX5_apply_1 12 rfl rfl)
theorem dX5_apply_37 : decode cX5_apply 37 = .ok (.isub, 1) := dk_100 (dk_at dksX5_apply_1 13 rfl rfl)
theorem dX5_apply_38 : decode cX5_apply 38 = .ok (.aload_n 0, 1) := dk_42 (dk_at dksX5_apply_1 14 rfl rfl)
theorem dX5_apply_39 : decode cX5_apply 39 = .ok (.getfield 9, 3) := dk_180 0 9 (dk_at dksX5_apply_1 15 rfl rfl)
theorem dX5_apply_42 : decode cX5_apply 42 = .ok (.invokestatic 37, 3) := dk_184 0 37 (dk_at dksX5_apply_1 18 rfl rfl)
theorem dX5_apply_45 : decode cX5_apply 45 = .ok (.imul, 1) := dk_104 (dk_at dksX5_apply_1 21 rfl rfl)
theorem dX5_apply_46 : decode cX5_apply 46 = .ok (.iadd, 1) := dk_96 (dk_at dksX5_apply_1 22 rfl rfl)
theorem dX5_apply_47 : decode cX5_apply 47 = .ok (.goto 4, 3) := dk_167 0 4 (dk_at dksX5_apply_2 0 rfl rfl)
theorem dX5_apply_50 : decode cX5_apply 50 = .ok (.iconst (-1), 1) := dk_2 (dk_at dksX5_apply_2 3 rfl rfl)
theorem dX5_apply_51 : decode cX5_apply 51 = .ok (.ireturn, 1) := dk_172 (dk_at dksX5_apply_2 4 rfl rfl)
theorem q146 : (Jvm.Cond.initialized "ContractMachine$Action") ∈ lw_all := lw_g (lw_at lw_m1 26 rfl) rfl
theorem q707 : (Jvm.Cond.selects "ContractMachine$Action" ({ cls := "java/lang/Object", name := "getClass", desc := "()Ljava/lang/Class;" } : Jvm.MethodName) ({ cls := "java/lang/Object", name := "getClass", desc := "()Ljava/lang/Class;" } : Jvm.MethodName)) ∈ lw_all := lw_g (lw_at lw_m3 107 rfl) rfl
theorem q782 : (Jvm.Cond.instantiable "ContractMachine$Action" (3 : Nat)) ∈ lw_all := lw_g (lw_at lw_m3 182 rfl) rfl
theorem q786 : (Jvm.Cond.instanceMethod ({ cls := "ContractMachine$Action", name := "<init>", desc := "(ILContractMachine$Effect;I)V" } : Jvm.MethodName)) ∈ lw_all := lw_g (lw_at lw_m3 186 rfl) rfl
theorem q787 : (Jvm.Cond.code ({ cls := "ContractMachine$Action", name := "<init>", desc := "(ILContractMachine$Effect;I)V" } : Jvm.MethodName) prog_8_method_1_code (4 : Nat) (Option.none : Option Jvm.ClassFile.FieldType)) ∈ lw_all := lw_g (lw_at lw_m3 187 rfl) rfl
theorem q788 : (Jvm.Cond.methodLink "ContractMachine$Action" (3 : Nat) ({ cls := "java/lang/Object", name := "<init>", desc := "()V" } : Jvm.MethodName)) ∈ lw_all := lw_g (lw_at lw_m3 188 rfl) rfl
theorem q789 : (Jvm.Cond.fieldLink "ContractMachine$Action" (9 : Nat) "ContractMachine$Action" "variable" "I") ∈ lw_all := lw_g (lw_at lw_m3 189 rfl) rfl
theorem q790 : (Jvm.Cond.fieldLink "ContractMachine$Action" (19 : Nat) "ContractMachine$Action" "constant" "I") ∈ lw_all := lw_g (lw_at lw_m3 190 rfl) rfl
theorem q791 : (Jvm.Cond.fieldLink "ContractMachine$Action" (15 : Nat) "ContractMachine$Action" "effect" "LContractMachine$Effect;") ∈ lw_all := lw_g (lw_at lw_m3 191 rfl) rfl
theorem q792 : (Jvm.Cond.laysFinal "ContractMachine$Action" "ContractMachine$Action" "variable" "I") ∈ lw_all := lw_g (lw_at lw_m3 192 rfl) rfl
theorem q793 : (Jvm.Cond.soleField "ContractMachine$Action" "variable") ∈ lw_all := lw_g (lw_at lw_m3 193 rfl) rfl
theorem q794 : (Jvm.Cond.laysFinal "ContractMachine$Action" "ContractMachine$Action" "constant" "I") ∈ lw_all := lw_g (lw_at lw_m3 194 rfl) rfl
theorem q795 : (Jvm.Cond.soleField "ContractMachine$Action" "constant") ∈ lw_all := lw_g (lw_at lw_m3 195 rfl) rfl
theorem q796 : (Jvm.Cond.laysFinal "ContractMachine$Action" "ContractMachine$Action" "effect" "LContractMachine$Effect;") ∈ lw_all := lw_g (lw_at lw_m3 196 rfl) rfl
theorem q797 : (Jvm.Cond.soleField "ContractMachine$Action" "effect") ∈ lw_all := lw_g (lw_at lw_m3 197 rfl) rfl
theorem q798 : (Jvm.Cond.superclass "ContractMachine$Action" "java/lang/Object") ∈ lw_all := lw_g (lw_at lw_m3 198 rfl) rfl
theorem q1810 : (Jvm.Cond.instanceMethod ({ cls := "ContractMachine$Action", name := "apply", desc := "(I)I" } : Jvm.MethodName)) ∈ lw_all := lw_g (lw_at lw_m8 10 rfl) rfl
theorem q1811 : (Jvm.Cond.selects "ContractMachine$Action" ({ cls := "ContractMachine$Action", name := "apply", desc := "(I)I" } : Jvm.MethodName) ({ cls := "ContractMachine$Action", name := "apply", desc := "(I)I" } : Jvm.MethodName)) ∈ lw_all := lw_g (lw_at lw_m8 11 rfl) rfl
theorem q1812 : (Jvm.Cond.code ({ cls := "ContractMachine$Action", name := "apply", desc := "(I)I" } : Jvm.MethodName) prog_8_method_2_code (4 : Nat) (Option.some Jvm.ClassFile.FieldType.int)) ∈ lw_all := lw_g (lw_at lw_m8 12 rfl) rfl
theorem q1813 : (Jvm.Cond.methodLinkNest "ContractMachine$Action" (22 : Nat) ({ cls := "ContractMachine", name := "valueIn", desc := "(II)I" } : Jvm.MethodName) "ContractMachine") ∈ lw_tbl := lw_at lw_m8 13 rfl
theorem q1814 : (Jvm.Cond.methodLink "ContractMachine$Action" (26 : Nat) ({ cls := "ContractMachine$Effect", name := "apply", desc := "(II)I" } : Jvm.MethodName)) ∈ lw_all := lw_g (lw_at lw_m8 14 rfl) rfl
theorem q1826 : (Jvm.Cond.constantLong "ContractMachine$Action" (31 : Nat) (9 : Int64)) ∈ lw_all := lw_g (lw_at lw_m8 26 rfl) rfl
theorem q1827 : (Jvm.Cond.methodLinkNest "ContractMachine$Action" (33 : Nat) ({ cls := "ContractMachine", name := "isWithin", desc := "(JJJ)Z" } : Jvm.MethodName) "ContractMachine") ∈ lw_tbl := lw_at lw_m8 27 rfl
theorem q1828 : (Jvm.Cond.methodLinkNest "ContractMachine$Action" (37 : Nat) ({ cls := "ContractMachine", name := "weight", desc := "(I)I" } : Jvm.MethodName) "ContractMachine") ∈ lw_tbl := lw_at lw_m8 28 rfl
theorem q3301 : (Jvm.Cond.castable "ContractMachine$Action" "java/lang/Object") ∈ lw_tbl := lw_at lw_m14 61 rfl
theorem in_X5 : ∀ w ∈ wsX50, w ∈ lw_all := lw_in wsX50 [792, 794, 796] (by decide +kernel) (by decide +kernel)
/-! ContractMachine$Transition -/
set_option maxRecDepth 100000
def RX6 : String := "ContractMachine$Transition"
def TX6 : u_T := fun k => match k with
  | 0 => ("ContractMachine$Transition", "source", "I", true)
  | 1 => ("ContractMachine$Transition", "event", "I", true)
  | 2 => ("ContractMachine$Transition", "target", "I", true)
  | 3 => ("ContractMachine$Transition", "guard", "LContractMachine$Comparison;", true)
  | _ => ("ContractMachine$Transition", "action", "LContractMachine$Action;", true)
def tyX6 : Nat → FieldType := fun k => match k with
  | 0 => .int
  | 1 => .int
  | 2 => .int
  | 3 => .object "ContractMachine$Comparison"
  | _ => .object "ContractMachine$Action"
abbrev wsX60 : List Cond := u_ws RX6 TX6 5
theorem nmX6 : ∀ a, a < 5 → ∀ b, b < 5 → a ≠ b → (TX6 a).2.1 ≠ (TX6 b).2.1 := by decide +kernel
theorem tyX6_ok : ∀ k, k < 5 → parseFieldDescriptor (TX6 k).2.2.1 = some (tyX6 k) := by decide +kernel
abbrev cX6_init : ByteArray := prog_38_method_1_code
def yX6_init : MethodName := ⟨RX6, "<init>", "(IIILContractMachine$Comparison;LContractMachine$Action;)V"⟩
def dkwX6_init_1 : List UInt8 := [181, 0, 21, 42, 25, 5, 181, 0, 25, 177]
abbrev dktX6_init_1 : List UInt8 := dkwX6_init_1 ++ []
def dkwX6_init_0 : List UInt8 := [42, 183, 0, 3, 42, 27, 181, 0, 9, 42, 28, 181, 0, 15, 42, 29, 181, 0, 18, 42, 25, 4]
abbrev dktX6_init_0 : List UInt8 := dkwX6_init_0 ++ dktX6_init_1
theorem dksX6_init_0 : cX6_init.data.toList.drop 0 = dktX6_init_0 := by decide +kernel
theorem dksX6_init_1 : cX6_init.data.toList.drop 22 = dktX6_init_1 := dk_seg dksX6_init_0 22 rfl rfl
theorem dX6_init_0 : decode cX6_init 0 = .ok (.aload_n 0, 1) := dk_42 (dk_at dksX6_init_0 0 rfl rfl)
theorem dX6_init_1 : decode cX6_init 1 = .ok (.invokespecial 3, 3) := dk_183 0 3 (dk_at dksX6_init_0 1 rfl rfl)
theorem dX6_init_4 : decode cX6_init 4 = .ok (.aload_n 0, 1) := dk_42 (dk_at dksX6_init_0 4 rfl rfl)
theorem dX6_init_5 : decode cX6_init 5 = .ok (.iload_n 1, 1) := dk_27 (dk_at dksX6_init_0 5 rfl rfl)
theorem dX6_init_6 : decode cX6_init 6 = .ok (.putfield 9, 3) := dk_181 0 9 (dk_at dksX6_init_0 6 rfl rfl)
theorem dX6_init_9 : decode cX6_init 9 = .ok (.aload_n 0, 1) := dk_42 (dk_at dksX6_init_0 9 rfl rfl)
theorem dX6_init_10 : decode cX6_init 10 = .ok (.iload_n 2, 1) := dk_28 (dk_at dksX6_init_0 10 rfl rfl)
theorem dX6_init_11 : decode cX6_init 11 = .ok (.putfield 15, 3) := dk_181 0 15 (dk_at dksX6_init_0 11 rfl rfl)
theorem dX6_init_14 : decode cX6_init 14 = .ok (.aload_n 0, 1) := dk_42 (dk_at dksX6_init_0 14 rfl rfl)
theorem dX6_init_15 : decode cX6_init 15 = .ok (.iload_n 3, 1) := dk_29 (dk_at dksX6_init_0 15 rfl rfl)
theorem dX6_init_16 : decode cX6_init 16 = .ok (.putfield 18, 3) := dk_181 0 18 (dk_at dksX6_init_0 16 rfl rfl)
theorem dX6_init_19 : decode cX6_init 19 = .ok (.aload_n 0, 1) := dk_42 (dk_at dksX6_init_0 19 rfl rfl)
theorem dX6_init_20 : decode cX6_init 20 = .ok (.aload 4, 2) := dk_25 4 (dk_at dksX6_init_0 20 rfl rfl)
theorem dX6_init_22 : decode cX6_init 22 = .ok (.putfield 21, 3) := dk_181 0 21 (dk_at dksX6_init_1 0 rfl rfl)
theorem dX6_init_25 : decode cX6_init 25 = .ok (.aload_n 0, 1) := dk_42 (dk_at dksX6_init_1 3 rfl rfl)
theorem dX6_init_26 : decode cX6_init 26 = .ok (.aload 5, 2) := dk_25 5 (dk_at dksX6_init_1 4 rfl rfl)
theorem dX6_init_28 : decode cX6_init 28 = .ok (.putfield 25, 3) := dk_181 0 25 (dk_at dksX6_init_1 6 rfl rfl)
theorem dX6_init_31 : decode cX6_init 31 = .ok (.return_, 1) := dk_177 (dk_at dksX6_init_1 9 rfl rfl)
abbrev cX6_isOpen : ByteArray := prog_38_method_2_code
def yX6_isOpen : MethodName := ⟨RX6, "isOpen", "(I)Z"⟩
def dkwX6_isOpen_0 : List UInt8 := [42, 180, 0, 21, 198, 0, 14, 42, 180, 0, 21, 27, 182, 0, 29, 153, 0, 7, 4, 167, 0, 4, 3, 172]
abbrev dktX6_isOpen_0 : List UInt8 := dkwX6_isOpen_0 ++ []
theorem dksX6_isOpen_0 : cX6_isOpen.data.toList.drop 0 = dktX6_isOpen_0 := by decide +kernel
theorem dX6_isOpen_0 : decode cX6_isOpen 0 = .ok (.aload_n 0, 1) := dk_42 (dk_at dksX6_isOpen_0 0 rfl rfl)
theorem dX6_isOpen_1 : decode cX6_isOpen 1 = .ok (.getfield 21, 3) := dk_180 0 21 (dk_at dksX6_isOpen_0 1 rfl rfl)
theorem dX6_isOpen_4 : decode cX6_isOpen 4 = .ok (.ifnull 14, 3) := dk_198 0 14 (dk_at dksX6_isOpen_0 4 rfl rfl)
theorem dX6_isOpen_7 : decode cX6_isOpen 7 = .ok (.aload_n 0, 1) := dk_42 (dk_at dksX6_isOpen_0 7 rfl rfl)
theorem dX6_isOpen_8 : decode cX6_isOpen 8 = .ok (.getfield 21, 3) := dk_180 0 21 (dk_at dksX6_isOpen_0 8 rfl rfl)
theorem dX6_isOpen_11 : decode cX6_isOpen 11 = .ok (.iload_n 1, 1) := dk_27 (dk_at dksX6_isOpen_0 11 rfl rfl)
theorem dX6_isOpen_12 : decode cX6_isOpen 12 = .ok (.invokevirtual 29, 3) := dk_182 0 29 (dk_at dksX6_isOpen_0 12 rfl rfl)
theorem dX6_isOpen_15 : decode cX6_isOpen 15 = .ok (.ifCond .eq 7, 3) := dk_153 0 7 (dk_at dksX6_isOpen_0 15 rfl rfl)
theorem dX6_isOpen_18 : decode cX6_isOpen 18 = .ok (.iconst 1, 1) := dk_4 (dk_at dksX6_isOpen_0 18 rfl rfl)
theorem dX6_isOpen_19 : decode cX6_isOpen 19 = .ok (.goto 4, 3) := dk_167 0 4 (dk_at dksX6_isOpen_0 19 rfl rfl)
theorem dX6_isOpen_22 : decode cX6_isOpen 22 = .ok (.iconst 0, 1) := dk_3 (dk_at dksX6_isOpen_0 22 rfl rfl)
theorem dX6_isOpen_23 : decode cX6_isOpen 23 = .ok (.ireturn, 1) := dk_172 (dk_at dksX6_isOpen_0 23 rfl rfl)
abbrev cX6_next : ByteArray := prog_38_method_3_code
def yX6_next : MethodName := ⟨RX6, "next", "(I)I"⟩
def dkwX6_next_1 : List UInt8 := [160, 0, 7, 2, 167, 0, 13, 42, 180, 0, 18, 17, 3, 232, 104, 28, 96, 172]
abbrev dktX6_next_1 : List UInt8 := dkwX6_next_1 ++ []
def dkwX6_next_0 : List UInt8 := [42, 180, 0, 25, 199, 0, 7, 27, 167, 0, 11, 42, 180, 0, 25, 27, 182, 0, 35, 61, 28, 2]
abbrev dktX6_next_0 : List UInt8 := dkwX6_next_0 ++ dktX6_next_1
theorem dksX6_next_0 : cX6_next.data.toList.drop 0 = dktX6_next_0 := by decide +kernel
theorem dksX6_next_1 : cX6_next.data.toList.drop 22 = dktX6_next_1 := dk_seg dksX6_next_0 22 rfl rfl
theorem dX6_next_0 : decode cX6_next 0 = .ok (.aload_n 0, 1) := dk_42 (dk_at dksX6_next_0 0 rfl rfl)
theorem dX6_next_1 : decode cX6_next 1 = .ok (.getfield 25, 3) := dk_180 0 25 (dk_at dksX6_next_0 1 rfl rfl)
theorem dX6_next_4 : decode cX6_next 4 = .ok (.ifnonnull 7, 3) := dk_199 0 7 (dk_at dksX6_next_0 4 rfl rfl)
theorem dX6_next_7 : decode cX6_next 7 = .ok (.iload_n 1, 1) := dk_27 (dk_at dksX6_next_0 7 rfl rfl)
theorem dX6_next_8 : decode cX6_next 8 = .ok (.goto 11, 3) := dk_167 0 11 (dk_at dksX6_next_0 8 rfl rfl)
theorem dX6_next_11 : decode cX6_next 11 = .ok (.aload_n 0, 1) := dk_42 (dk_at dksX6_next_0 11 rfl rfl)
theorem dX6_next_12 : decode cX6_next 12 = .ok (.getfield 25, 3) := dk_180 0 25 (dk_at dksX6_next_0 12 rfl rfl)
theorem dX6_next_15 : decode cX6_next 15 = .ok (.iload_n 1, 1) := dk_27 (dk_at dksX6_next_0 15 rfl rfl)
theorem dX6_next_16 : decode cX6_next 16 = .ok (.invokevirtual 35, 3) := dk_182 0 35 (dk_at dksX6_next_0 16 rfl rfl)
theorem dX6_next_19 : decode cX6_next 19 = .ok (.istore_n 2, 1) := dk_61 (dk_at dksX6_next_0 19 rfl rfl)
theorem dX6_next_20 : decode cX6_next 20 = .ok (.iload_n 2, 1) := dk_28 (dk_at dksX6_next_0 20 rfl rfl)
theorem dX6_next_21 : decode cX6_next 21 = .ok (.iconst (-1), 1) := dk_2 (dk_at dksX6_next_0 21 rfl rfl)
theorem dX6_next_22 : decode cX6_next 22 = .ok (.if_icmp .ne 7, 3) := dk_160 0 7 (dk_at dksX6_next_1 0 rfl rfl)
theorem dX6_next_25 : decode cX6_next 25 = .ok (.iconst (-1), 1) := dk_2 (dk_at dksX6_next_1 3 rfl rfl)
theorem dX6_next_26 : decode cX6_next 26 = .ok (.goto 13, 3) := dk_167 0 13 (dk_at dksX6_next_1 4 rfl rfl)
theorem dX6_next_29 : decode cX6_next 29 = .ok (.aload_n 0, 1) := dk_42 (dk_at dksX6_next_1 7 rfl rfl)
theorem dX6_next_30 : decode cX6_next 30 = .ok (.getfield 18, 3) := dk_180 0 18 (dk_at dksX6_next_1 8 rfl rfl)
theorem dX6_next_33 : decode cX6_next 33 = .ok (.sipush 1000, 3) := dk_17 3 232 (dk_at dksX6_next_1 11 rfl rfl)
theorem dX6_next_36 : decode cX6_next 36 = .ok (.imul, 1) := dk_104 (dk_at dksX6_next_1 14 rfl rfl)
theorem dX6_next_37 : decode cX6_next 37 = .ok (.iload_n 2, 1) := dk_28 (dk_at dksX6_next_1 15 rfl rfl)
theorem dX6_next_38 : decode cX6_next 38 = .ok (.iadd, 1) := dk_96 (dk_at dksX6_next_1 16 rfl rfl)
theorem dX6_next_39 : decode cX6_next 39 = .ok (.ireturn, 1) := dk_172 (dk_at dksX6_next_1 17 rfl rfl)
theorem q148 : (Jvm.Cond.initialized "ContractMachine$Transition") ∈ lw_all := lw_g (lw_at lw_m1 28 rfl) rfl
theorem q731 : (Jvm.Cond.selects "ContractMachine$Transition" ({ cls := "java/lang/Object", name := "getClass", desc := "()Ljava/lang/Class;" } : Jvm.MethodName) ({ cls := "java/lang/Object", name := "getClass", desc := "()Ljava/lang/Class;" } : Jvm.MethodName)) ∈ lw_all := lw_g (lw_at lw_m3 131 rfl) rfl
theorem q804 : (Jvm.Cond.instantiable "ContractMachine$Transition" (5 : Nat)) ∈ lw_all := lw_g (lw_at lw_m3 204 rfl) rfl
theorem q806 : (Jvm.Cond.instanceMethod ({ cls := "ContractMachine$Transition", name := "<init>", desc := "(IIILContractMachine$Comparison;LContractMachine$Action;)V" } : Jvm.MethodName)) ∈ lw_all := lw_g (lw_at lw_m3 206 rfl) rfl
theorem q807 : (Jvm.Cond.code ({ cls := "ContractMachine$Transition", name := "<init>", desc := "(IIILContractMachine$Comparison;LContractMachine$Action;)V" } : Jvm.MethodName) prog_38_method_1_code (6 : Nat) (Option.none : Option Jvm.ClassFile.FieldType)) ∈ lw_all := lw_g (lw_at lw_m3 207 rfl) rfl
theorem q808 : (Jvm.Cond.methodLink "ContractMachine$Transition" (3 : Nat) ({ cls := "java/lang/Object", name := "<init>", desc := "()V" } : Jvm.MethodName)) ∈ lw_all := lw_g (lw_at lw_m3 208 rfl) rfl
theorem q809 : (Jvm.Cond.fieldLink "ContractMachine$Transition" (9 : Nat) "ContractMachine$Transition" "source" "I") ∈ lw_all := lw_g (lw_at lw_m3 209 rfl) rfl
theorem q812 : (Jvm.Cond.fieldLink "ContractMachine$Transition" (15 : Nat) "ContractMachine$Transition" "event" "I") ∈ lw_all := lw_g (lw_at lw_m3 212 rfl) rfl
theorem q816 : (Jvm.Cond.fieldLink "ContractMachine$Transition" (18 : Nat) "ContractMachine$Transition" "target" "I") ∈ lw_all := lw_g (lw_at lw_m3 216 rfl) rfl
theorem q818 : (Jvm.Cond.fieldLink "ContractMachine$Transition" (21 : Nat) "ContractMachine$Transition" "guard" "LContractMachine$Comparison;") ∈ lw_all := lw_g (lw_at lw_m3 218 rfl) rfl
theorem q820 : (Jvm.Cond.fieldLink "ContractMachine$Transition" (25 : Nat) "ContractMachine$Transition" "action" "LContractMachine$Action;") ∈ lw_all := lw_g (lw_at lw_m3 220 rfl) rfl
theorem q821 : (Jvm.Cond.laysFinal "ContractMachine$Transition" "ContractMachine$Transition" "source" "I") ∈ lw_all := lw_g (lw_at lw_m3 221 rfl) rfl
theorem q822 : (Jvm.Cond.soleField "ContractMachine$Transition" "source") ∈ lw_all := lw_g (lw_at lw_m3 222 rfl) rfl
theorem q823 : (Jvm.Cond.laysFinal "ContractMachine$Transition" "ContractMachine$Transition" "event" "I") ∈ lw_all := lw_g (lw_at lw_m3 223 rfl) rfl
theorem q824 : (Jvm.Cond.soleField "ContractMachine$Transition" "event") ∈ lw_all := lw_g (lw_at lw_m3 224 rfl) rfl
theorem q825 : (Jvm.Cond.laysFinal "ContractMachine$Transition" "ContractMachine$Transition" "target" "I") ∈ lw_all := lw_g (lw_at lw_m3 225 rfl) rfl
theorem q826 : (Jvm.Cond.soleField "ContractMachine$Transition" "target") ∈ lw_all := lw_g (lw_at lw_m3 226 rfl) rfl
theorem q827 : (Jvm.Cond.laysFinal "ContractMachine$Transition" "ContractMachine$Transition" "guard" "LContractMachine$Comparison;") ∈ lw_all := lw_g (lw_at lw_m3 227 rfl) rfl
theorem q828 : (Jvm.Cond.soleField "ContractMachine$Transition" "guard") ∈ lw_all := lw_g (lw_at lw_m3 228 rfl) rfl
theorem q829 : (Jvm.Cond.laysFinal "ContractMachine$Transition" "ContractMachine$Transition" "action" "LContractMachine$Action;") ∈ lw_all := lw_g (lw_at lw_m3 229 rfl) rfl
theorem q830 : (Jvm.Cond.soleField "ContractMachine$Transition" "action") ∈ lw_all := lw_g (lw_at lw_m3 230 rfl) rfl
theorem q831 : (Jvm.Cond.superclass "ContractMachine$Transition" "java/lang/Object") ∈ lw_all := lw_g (lw_at lw_m3 231 rfl) rfl
theorem q1795 : (Jvm.Cond.instanceMethod ({ cls := "ContractMachine$Transition", name := "isOpen", desc := "(I)Z" } : Jvm.MethodName)) ∈ lw_all := lw_g (lw_at lw_m7 235 rfl) rfl
theorem q1796 : (Jvm.Cond.selects "ContractMachine$Transition" ({ cls := "ContractMachine$Transition", name := "isOpen", desc := "(I)Z" } : Jvm.MethodName) ({ cls := "ContractMachine$Transition", name := "isOpen", desc := "(I)Z" } : Jvm.MethodName)) ∈ lw_all := lw_g (lw_at lw_m7 236 rfl) rfl
theorem q1797 : (Jvm.Cond.code ({ cls := "ContractMachine$Transition", name := "isOpen", desc := "(I)Z" } : Jvm.MethodName) prog_38_method_2_code (2 : Nat) (Option.some Jvm.ClassFile.FieldType.boolean)) ∈ lw_all := lw_g (lw_at lw_m7 237 rfl) rfl
theorem q1798 : (Jvm.Cond.methodLink "ContractMachine$Transition" (29 : Nat) ({ cls := "ContractMachine$Comparison", name := "holds", desc := "(I)Z" } : Jvm.MethodName)) ∈ lw_all := lw_g (lw_at lw_m7 238 rfl) rfl
theorem q1806 : (Jvm.Cond.instanceMethod ({ cls := "ContractMachine$Transition", name := "next", desc := "(I)I" } : Jvm.MethodName)) ∈ lw_all := lw_g (lw_at lw_m8 6 rfl) rfl
theorem q1807 : (Jvm.Cond.selects "ContractMachine$Transition" ({ cls := "ContractMachine$Transition", name := "next", desc := "(I)I" } : Jvm.MethodName) ({ cls := "ContractMachine$Transition", name := "next", desc := "(I)I" } : Jvm.MethodName)) ∈ lw_all := lw_g (lw_at lw_m8 7 rfl) rfl
theorem q1808 : (Jvm.Cond.code ({ cls := "ContractMachine$Transition", name := "next", desc := "(I)I" } : Jvm.MethodName) prog_38_method_3_code (3 : Nat) (Option.some Jvm.ClassFile.FieldType.int)) ∈ lw_all := lw_g (lw_at lw_m8 8 rfl) rfl
theorem q1809 : (Jvm.Cond.methodLink "ContractMachine$Transition" (35 : Nat) ({ cls := "ContractMachine$Action", name := "apply", desc := "(I)I" } : Jvm.MethodName)) ∈ lw_all := lw_g (lw_at lw_m8 9 rfl) rfl
theorem q3303 : (Jvm.Cond.castable "ContractMachine$Transition" "java/lang/Object") ∈ lw_tbl := lw_at lw_m14 63 rfl
theorem in_X6 : ∀ w ∈ wsX60, w ∈ lw_all := lw_in wsX60 [821, 823, 825, 827, 829] (by decide +kernel) (by decide +kernel)
/-! ContractMachine$Comparison -/
set_option maxRecDepth 100000
def RX7 : String := "ContractMachine$Comparison"
def TX7 : u_T := fun k => match k with
  | 0 => ("ContractMachine$Comparison", "variable", "I", true)
  | 1 => ("ContractMachine$Comparison", "constant", "I", true)
  | _ => ("ContractMachine$Comparison", "operator", "LContractMachine$Operator;", true)
def tyX7 : Nat → FieldType := fun k => match k with
  | 0 => .int
  | 1 => .int
  | _ => .object "ContractMachine$Operator"
abbrev wsX70 : List Cond := u_ws RX7 TX7 3
theorem nmX7 : ∀ a, a < 3 → ∀ b, b < 3 → a ≠ b → (TX7 a).2.1 ≠ (TX7 b).2.1 := by decide +kernel
theorem tyX7_ok : ∀ k, k < 3 → parseFieldDescriptor (TX7 k).2.2.1 = some (tyX7 k) := by decide +kernel
abbrev cX7_init : ByteArray := prog_10_method_1_code
def yX7_init : MethodName := ⟨RX7, "<init>", "(ILContractMachine$Operator;I)V"⟩
def dkwX7_init_0 : List UInt8 := [42, 183, 0, 1, 42, 27, 181, 0, 7, 42, 44, 181, 0, 13, 42, 29, 181, 0, 17, 177]
abbrev dktX7_init_0 : List UInt8 := dkwX7_init_0 ++ []
theorem dksX7_init_0 : cX7_init.data.toList.drop 0 = dktX7_init_0 := by decide +kernel
theorem dX7_init_0 : decode cX7_init 0 = .ok (.aload_n 0, 1) := dk_42 (dk_at dksX7_init_0 0 rfl rfl)
theorem dX7_init_1 : decode cX7_init 1 = .ok (.invokespecial 1, 3) := dk_183 0 1 (dk_at dksX7_init_0 1 rfl rfl)
theorem dX7_init_4 : decode cX7_init 4 = .ok (.aload_n 0, 1) := dk_42 (dk_at dksX7_init_0 4 rfl rfl)
theorem dX7_init_5 : decode cX7_init 5 = .ok (.iload_n 1, 1) := dk_27 (dk_at dksX7_init_0 5 rfl rfl)
theorem dX7_init_6 : decode cX7_init 6 = .ok (.putfield 7, 3) := dk_181 0 7 (dk_at dksX7_init_0 6 rfl rfl)
theorem dX7_init_9 : decode cX7_init 9 = .ok (.aload_n 0, 1) := dk_42 (dk_at dksX7_init_0 9 rfl rfl)
theorem dX7_init_10 : decode cX7_init 10 = .ok (.aload_n 2, 1) := dk_44 (dk_at dksX7_init_0 10 rfl rfl)
theorem dX7_init_11 : decode cX7_init 11 = .ok (.putfield 13, 3) := dk_181 0 13 (dk_at dksX7_init_0 11 rfl rfl)
theorem dX7_init_14 : decode cX7_init 14 = .ok (.aload_n 0, 1) := dk_42 (dk_at dksX7_init_0 14 rfl rfl)
theorem dX7_init_15 : decode cX7_init 15 = .ok (.iload_n 3, 1) := dk_29 (dk_at dksX7_init_0 15 rfl rfl)
theorem dX7_init_16 : decode cX7_init 16 = .ok (.putfield 17, 3) := dk_181 0 17 (dk_at dksX7_init_0 16 rfl rfl)
theorem dX7_init_19 : decode cX7_init 19 = .ok (.return_, 1) := dk_177 (dk_at dksX7_init_0 19 rfl rfl)
abbrev cX7_holds : ByteArray := prog_10_method_2_code
def yX7_holds : MethodName := ⟨RX7, "holds", "(I)Z"⟩
def dkwX7_holds_0 : List UInt8 := [42, 180, 0, 13, 27, 42, 180, 0, 7, 184, 0, 20, 42, 180, 0, 17, 182, 0, 26, 172]
abbrev dktX7_holds_0 : List UInt8 := dkwX7_holds_0 ++ []
theorem dksX7_holds_0 : cX7_holds.data.toList.drop 0 = dktX7_holds_0 := by decide +kernel
theorem dX7_holds_0 : decode cX7_holds 0 = .ok (.aload_n 0, 1) := dk_42 (dk_at dksX7_holds_0 0 rfl rfl)
theorem dX7_holds_1 : decode cX7_holds 1 = .ok (.getfield 13, 3) := dk_180 0 13 (dk_at dksX7_holds_0 1 rfl rfl)
theorem dX7_holds_4 : decode cX7_holds 4 = .ok (.iload_n 1, 1) := dk_27 (dk_at dksX7_holds_0 4 rfl rfl)
theorem dX7_holds_5 : decode cX7_holds 5 = .ok (.aload_n 0, 1) := dk_42 (dk_at dksX7_holds_0 5 rfl rfl)
theorem dX7_holds_6 : decode cX7_holds 6 = .ok (.getfield 7, 3) := dk_180 0 7 (dk_at dksX7_holds_0 6 rfl rfl)
theorem dX7_holds_9 : decode cX7_holds 9 = .ok (.invokestatic 20, 3) := dk_184 0 20 (dk_at dksX7_holds_0 9 rfl rfl)
theorem dX7_holds_12 : decode cX7_holds 12 = .ok (.aload_n 0, 1) := dk_42 (dk_at dksX7_holds_0 12 rfl rfl)
theorem dX7_holds_13 : decode cX7_holds 13 = .ok (.getfield 17, 3) := dk_180 0 17 (dk_at dksX7_holds_0 13 rfl rfl)
theorem dX7_holds_16 : decode cX7_holds 16 = .ok (.invokevirtual 26, 3) := dk_182 0 26 (dk_at dksX7_holds_0 16 rfl rfl)
theorem dX7_holds_19 : decode cX7_holds 19 = .ok (.ireturn, 1) := dk_172 (dk_at dksX7_holds_0 19 rfl rfl)
theorem q149 : (Jvm.Cond.initialized "ContractMachine$Comparison") ∈ lw_all := lw_g (lw_at lw_m1 29 rfl) rfl
theorem q708 : (Jvm.Cond.selects "ContractMachine$Comparison" ({ cls := "java/lang/Object", name := "getClass", desc := "()Ljava/lang/Class;" } : Jvm.MethodName) ({ cls := "java/lang/Object", name := "getClass", desc := "()Ljava/lang/Class;" } : Jvm.MethodName)) ∈ lw_all := lw_g (lw_at lw_m3 108 rfl) rfl
theorem q833 : (Jvm.Cond.instantiable "ContractMachine$Comparison" (3 : Nat)) ∈ lw_all := lw_g (lw_at lw_m3 233 rfl) rfl
theorem q837 : (Jvm.Cond.instanceMethod ({ cls := "ContractMachine$Comparison", name := "<init>", desc := "(ILContractMachine$Operator;I)V" } : Jvm.MethodName)) ∈ lw_all := lw_g (lw_at lw_m3 237 rfl) rfl
theorem q838 : (Jvm.Cond.code ({ cls := "ContractMachine$Comparison", name := "<init>", desc := "(ILContractMachine$Operator;I)V" } : Jvm.MethodName) prog_10_method_1_code (4 : Nat) (Option.none : Option Jvm.ClassFile.FieldType)) ∈ lw_all := lw_g (lw_at lw_m3 238 rfl) rfl
theorem q839 : (Jvm.Cond.methodLink "ContractMachine$Comparison" (1 : Nat) ({ cls := "java/lang/Object", name := "<init>", desc := "()V" } : Jvm.MethodName)) ∈ lw_all := lw_g (lw_at lw_m3 239 rfl) rfl
theorem q840 : (Jvm.Cond.fieldLink "ContractMachine$Comparison" (7 : Nat) "ContractMachine$Comparison" "variable" "I") ∈ lw_all := lw_g (lw_at lw_m4 0 rfl) rfl
theorem q841 : (Jvm.Cond.fieldLink "ContractMachine$Comparison" (17 : Nat) "ContractMachine$Comparison" "constant" "I") ∈ lw_all := lw_g (lw_at lw_m4 1 rfl) rfl
theorem q842 : (Jvm.Cond.fieldLink "ContractMachine$Comparison" (13 : Nat) "ContractMachine$Comparison" "operator" "LContractMachine$Operator;") ∈ lw_all := lw_g (lw_at lw_m4 2 rfl) rfl
theorem q843 : (Jvm.Cond.laysFinal "ContractMachine$Comparison" "ContractMachine$Comparison" "variable" "I") ∈ lw_all := lw_g (lw_at lw_m4 3 rfl) rfl
theorem q844 : (Jvm.Cond.soleField "ContractMachine$Comparison" "variable") ∈ lw_all := lw_g (lw_at lw_m4 4 rfl) rfl
theorem q845 : (Jvm.Cond.laysFinal "ContractMachine$Comparison" "ContractMachine$Comparison" "constant" "I") ∈ lw_all := lw_g (lw_at lw_m4 5 rfl) rfl
theorem q846 : (Jvm.Cond.soleField "ContractMachine$Comparison" "constant") ∈ lw_all := lw_g (lw_at lw_m4 6 rfl) rfl
theorem q847 : (Jvm.Cond.laysFinal "ContractMachine$Comparison" "ContractMachine$Comparison" "operator" "LContractMachine$Operator;") ∈ lw_all := lw_g (lw_at lw_m4 7 rfl) rfl
theorem q848 : (Jvm.Cond.soleField "ContractMachine$Comparison" "operator") ∈ lw_all := lw_g (lw_at lw_m4 8 rfl) rfl
theorem q849 : (Jvm.Cond.superclass "ContractMachine$Comparison" "java/lang/Object") ∈ lw_all := lw_g (lw_at lw_m4 9 rfl) rfl
theorem q1444 : (Jvm.Cond.instanceMethod ({ cls := "ContractMachine$Comparison", name := "holds", desc := "(I)Z" } : Jvm.MethodName)) ∈ lw_all := lw_g (lw_at lw_m6 124 rfl) rfl
theorem q1445 : (Jvm.Cond.selects "ContractMachine$Comparison" ({ cls := "ContractMachine$Comparison", name := "holds", desc := "(I)Z" } : Jvm.MethodName) ({ cls := "ContractMachine$Comparison", name := "holds", desc := "(I)Z" } : Jvm.MethodName)) ∈ lw_all := lw_g (lw_at lw_m6 125 rfl) rfl
theorem q1446 : (Jvm.Cond.code ({ cls := "ContractMachine$Comparison", name := "holds", desc := "(I)Z" } : Jvm.MethodName) prog_10_method_2_code (2 : Nat) (Option.some Jvm.ClassFile.FieldType.boolean)) ∈ lw_all := lw_g (lw_at lw_m6 126 rfl) rfl
theorem q1447 : (Jvm.Cond.methodLinkNest "ContractMachine$Comparison" (20 : Nat) ({ cls := "ContractMachine", name := "valueIn", desc := "(II)I" } : Jvm.MethodName) "ContractMachine") ∈ lw_tbl := lw_at lw_m6 127 rfl
theorem q1451 : (Jvm.Cond.methodLink "ContractMachine$Comparison" (26 : Nat) ({ cls := "ContractMachine$Operator", name := "holds", desc := "(II)Z" } : Jvm.MethodName)) ∈ lw_all := lw_g (lw_at lw_m6 131 rfl) rfl
theorem q3304 : (Jvm.Cond.castable "ContractMachine$Comparison" "java/lang/Object") ∈ lw_tbl := lw_at lw_m14 64 rfl
theorem in_X7 : ∀ w ∈ wsX70, w ∈ lw_all := lw_in wsX70 [843, 845, 847] (by decide +kernel) (by decide +kernel)
/-! ContractMachine$Invariant -/
set_option maxRecDepth 100000
def RX8 : String := "ContractMachine$Invariant"
def TX8 : u_T := fun k => match k with
  | 0 => ("ContractMachine$Invariant", "state", "I", true)
  | _ => ("ContractMachine$Invariant", "comparison", "LContractMachine$Comparison;", true)
def tyX8 : Nat → FieldType := fun k => match k with
  | 0 => .int
  | _ => .object "ContractMachine$Comparison"
abbrev wsX80 : List Cond := u_ws RX8 TX8 2
theorem nmX8 : ∀ a, a < 2 → ∀ b, b < 2 → a ≠ b → (TX8 a).2.1 ≠ (TX8 b).2.1 := by decide +kernel
theorem tyX8_ok : ∀ k, k < 2 → parseFieldDescriptor (TX8 k).2.2.1 = some (tyX8 k) := by decide +kernel
abbrev cX8_init : ByteArray := prog_17_method_1_code
def yX8_init : MethodName := ⟨RX8, "<init>", "(ILContractMachine$Comparison;)V"⟩
def dkwX8_init_0 : List UInt8 := [42, 183, 0, 3, 42, 27, 181, 0, 9, 42, 44, 181, 0, 15, 177]
abbrev dktX8_init_0 : List UInt8 := dkwX8_init_0 ++ []
theorem dksX8_init_0 : cX8_init.data.toList.drop 0 = dktX8_init_0 := by decide +kernel
theorem dX8_init_0 : decode cX8_init 0 = .ok (.aload_n 0, 1) := dk_42 (dk_at dksX8_init_0 0 rfl rfl)
theorem dX8_init_1 : decode cX8_init 1 = .ok (.invokespecial 3, 3) := dk_183 0 3 (dk_at dksX8_init_0 1 rfl rfl)
theorem dX8_init_4 : decode cX8_init 4 = .ok (.aload_n 0, 1) := dk_42 (dk_at dksX8_init_0 4 rfl rfl)
theorem dX8_init_5 : decode cX8_init 5 = .ok (.iload_n 1, 1) := dk_27 (dk_at dksX8_init_0 5 rfl rfl)
theorem dX8_init_6 : decode cX8_init 6 = .ok (.putfield 9, 3) := dk_181 0 9 (dk_at dksX8_init_0 6 rfl rfl)
theorem dX8_init_9 : decode cX8_init 9 = .ok (.aload_n 0, 1) := dk_42 (dk_at dksX8_init_0 9 rfl rfl)
theorem dX8_init_10 : decode cX8_init 10 = .ok (.aload_n 2, 1) := dk_44 (dk_at dksX8_init_0 10 rfl rfl)
theorem dX8_init_11 : decode cX8_init 11 = .ok (.putfield 15, 3) := dk_181 0 15 (dk_at dksX8_init_0 11 rfl rfl)
theorem dX8_init_14 : decode cX8_init 14 = .ok (.return_, 1) := dk_177 (dk_at dksX8_init_0 14 rfl rfl)
abbrev cX8_isBrokenBy : ByteArray := prog_17_method_2_code
def yX8_isBrokenBy : MethodName := ⟨RX8, "isBrokenBy", "(I)Z"⟩
def dkwX8_isBrokenBy_2 : List UInt8 := [167, 0, 4, 3, 172]
abbrev dktX8_isBrokenBy_2 : List UInt8 := dkwX8_isBrokenBy_2 ++ []
def dkwX8_isBrokenBy_1 : List UInt8 := [3, 61, 28, 153, 0, 22, 42, 180, 0, 15, 27, 17, 3, 232, 112, 182, 0, 19, 154, 0, 7, 4]
abbrev dktX8_isBrokenBy_1 : List UInt8 := dkwX8_isBrokenBy_1 ++ dktX8_isBrokenBy_2
def dkwX8_isBrokenBy_0 : List UInt8 := [42, 180, 0, 9, 2, 159, 0, 15, 27, 17, 3, 232, 108, 42, 180, 0, 9, 160, 0, 7, 4, 167, 0, 4]
abbrev dktX8_isBrokenBy_0 : List UInt8 := dkwX8_isBrokenBy_0 ++ dktX8_isBrokenBy_1
theorem dksX8_isBrokenBy_0 : cX8_isBrokenBy.data.toList.drop 0 = dktX8_isBrokenBy_0 := by decide +kernel
theorem dksX8_isBrokenBy_1 : cX8_isBrokenBy.data.toList.drop 24 = dktX8_isBrokenBy_1 := dk_seg dksX8_isBrokenBy_0 24 rfl rfl
theorem dksX8_isBrokenBy_2 : cX8_isBrokenBy.data.toList.drop 46 = dktX8_isBrokenBy_2 := dk_seg dksX8_isBrokenBy_1 22 rfl rfl
theorem dX8_isBrokenBy_0 : decode cX8_isBrokenBy 0 = .ok (.aload_n 0, 1) := dk_42 (dk_at dksX8_isBrokenBy_0 0 rfl rfl)
theorem dX8_isBrokenBy_1 : decode cX8_isBrokenBy 1 = .ok (.getfield 9, 3) := dk_180 0 9 (dk_at dksX8_isBrokenBy_0 1 rfl rfl)
theorem dX8_isBrokenBy_4 : decode cX8_isBrokenBy 4 = .ok (.iconst (-1), 1) := dk_2 (dk_at dksX8_isBrokenBy_0 4 rfl rfl)
theorem dX8_isBrokenBy_5 : decode cX8_isBrokenBy 5 = .ok (.if_icmp .eq 15, 3) := dk_159 0 15 (dk_at dksX8_isBrokenBy_0 5 rfl rfl)
theorem dX8_isBrokenBy_8 : decode cX8_isBrokenBy 8 = .ok (.iload_n 1, 1) := dk_27 (dk_at dksX8_isBrokenBy_0 8 rfl rfl)
theorem dX8_isBrokenBy_9 : decode cX8_isBrokenBy 9 = .ok (.sipush 1000, 3) := dk_17 3 232 (dk_at dksX8_isBrokenBy_0 9 rfl rfl)
theorem dX8_isBrokenBy_12 : decode cX8_isBrokenBy 12 = .ok (.idiv, 1) := dk_108 (dk_at dksX8_isBrokenBy_0 12 rfl rfl)
theorem dX8_isBrokenBy_13 : decode cX8_isBrokenBy 13 = .ok (.aload_n 0, 1) := dk_42 (dk_at dksX8_isBrokenBy_0 13 rfl rfl)
theorem dX8_isBrokenBy_14 : decode cX8_isBrokenBy 14 = .ok (.getfield 9, 3) := dk_180 0 9 (dk_at dksX8_isBrokenBy_0 14 rfl rfl)
theorem dX8_isBrokenBy_17 : decode cX8_isBrokenBy 17 = .ok (.if_icmp .ne 7, 3) := dk_160 0 7 (dk_at dksX8_isBrokenBy_0 17 rfl rfl)
theorem dX8_isBrokenBy_20 : decode cX8_isBrokenBy 20 = .ok (.iconst 1, 1) := dk_4 (dk_at dksX8_isBrokenBy_0 20 rfl rfl)
theorem dX8_isBrokenBy_21 : decode cX8_isBrokenBy 21 = .ok (.goto 4, 3) := dk_167 0 4 (dk_at dksX8_isBrokenBy_0 21 rfl rfl)
theorem dX8_isBrokenBy_24 : decode cX8_isBrokenBy 24 = .ok (.iconst 0, 1) := dk_3 (dk_at dksX8_isBrokenBy_1 0 rfl rfl)
theorem dX8_isBrokenBy_25 : decode cX8_isBrokenBy 25 = .ok (.istore_n 2, 1) := dk_61 (dk_at dksX8_isBrokenBy_1 1 rfl rfl)
theorem dX8_isBrokenBy_26 : decode cX8_isBrokenBy 26 = .ok (.iload_n 2, 1) := dk_28 (dk_at dksX8_isBrokenBy_1 2 rfl rfl)
theorem dX8_isBrokenBy_27 : decode cX8_isBrokenBy 27 = .ok (.ifCond .eq 22, 3) := dk_153 0 22 (dk_at dksX8_isBrokenBy_1 3 rfl rfl)
theorem dX8_isBrokenBy_30 : decode cX8_isBrokenBy 30 = .ok (.aload_n 0, 1) := dk_42 (dk_at dksX8_isBrokenBy_1 6 rfl rfl)
theorem dX8_isBrokenBy_31 : decode cX8_isBrokenBy 31 = .ok (.getfield 15, 3) := dk_180 0 15 (dk_at dksX8_isBrokenBy_1 7 rfl rfl)
theorem dX8_isBrokenBy_34 : decode cX8_isBrokenBy 34 = .ok (.iload_n 1, 1) := dk_27 (dk_at dksX8_isBrokenBy_1 10 rfl rfl)
theorem dX8_isBrokenBy_35 : decode cX8_isBrokenBy 35 = .ok (.sipush 1000, 3) := dk_17 3 232 (dk_at dksX8_isBrokenBy_1 11 rfl rfl)
theorem dX8_isBrokenBy_38 : decode cX8_isBrokenBy 38 = .ok (.irem, 1) := dk_112 (dk_at dksX8_isBrokenBy_1 14 rfl rfl)
theorem dX8_isBrokenBy_39 : decode cX8_isBrokenBy 39 = .ok (.invokevirtual 19, 3) := dk_182 0 19 (dk_at dksX8_isBrokenBy_1 15 rfl rfl)
theorem dX8_isBrokenBy_42 : decode cX8_isBrokenBy 42 = .ok (.ifCond .ne 7, 3) := dk_154 0 7 (dk_at dksX8_isBrokenBy_1 18 rfl rfl)
theorem dX8_isBrokenBy_45 : decode cX8_isBrokenBy 45 = .ok (.iconst 1, 1) := dk_4 (dk_at dksX8_isBrokenBy_1 21 rfl rfl)
theorem dX8_isBrokenBy_46 : decode cX8_isBrokenBy 46 = .ok (.goto 4, 3) := dk_167 0 4 (dk_at dksX8_isBrokenBy_2 0 rfl rfl)
theorem dX8_isBrokenBy_49 : decode cX8_isBrokenBy 49 = .ok (.iconst 0, 1) := dk_3 (dk_at dksX8_isBrokenBy_2 3 rfl rfl)
theorem dX8_isBrokenBy_50 : decode cX8_isBrokenBy 50 = .ok (.ireturn, 1) := dk_172 (dk_at dksX8_isBrokenBy_2 4 rfl rfl)
theorem q150 : (Jvm.Cond.initialized "ContractMachine$Invariant") ∈ lw_all := lw_g (lw_at lw_m1 30 rfl) rfl
theorem q713 : (Jvm.Cond.selects "ContractMachine$Invariant" ({ cls := "java/lang/Object", name := "getClass", desc := "()Ljava/lang/Class;" } : Jvm.MethodName) ({ cls := "java/lang/Object", name := "getClass", desc := "()Ljava/lang/Class;" } : Jvm.MethodName)) ∈ lw_all := lw_g (lw_at lw_m3 113 rfl) rfl
theorem q857 : (Jvm.Cond.instantiable "ContractMachine$Invariant" (2 : Nat)) ∈ lw_all := lw_g (lw_at lw_m4 17 rfl) rfl
theorem q861 : (Jvm.Cond.instanceMethod ({ cls := "ContractMachine$Invariant", name := "<init>", desc := "(ILContractMachine$Comparison;)V" } : Jvm.MethodName)) ∈ lw_all := lw_g (lw_at lw_m4 21 rfl) rfl
theorem q862 : (Jvm.Cond.code ({ cls := "ContractMachine$Invariant", name := "<init>", desc := "(ILContractMachine$Comparison;)V" } : Jvm.MethodName) prog_17_method_1_code (3 : Nat) (Option.none : Option Jvm.ClassFile.FieldType)) ∈ lw_all := lw_g (lw_at lw_m4 22 rfl) rfl
theorem q863 : (Jvm.Cond.methodLink "ContractMachine$Invariant" (3 : Nat) ({ cls := "java/lang/Object", name := "<init>", desc := "()V" } : Jvm.MethodName)) ∈ lw_all := lw_g (lw_at lw_m4 23 rfl) rfl
theorem q864 : (Jvm.Cond.fieldLink "ContractMachine$Invariant" (9 : Nat) "ContractMachine$Invariant" "state" "I") ∈ lw_all := lw_g (lw_at lw_m4 24 rfl) rfl
theorem q866 : (Jvm.Cond.fieldLink "ContractMachine$Invariant" (15 : Nat) "ContractMachine$Invariant" "comparison" "LContractMachine$Comparison;") ∈ lw_all := lw_g (lw_at lw_m4 26 rfl) rfl
theorem q868 : (Jvm.Cond.laysFinal "ContractMachine$Invariant" "ContractMachine$Invariant" "state" "I") ∈ lw_all := lw_g (lw_at lw_m4 28 rfl) rfl
theorem q869 : (Jvm.Cond.soleField "ContractMachine$Invariant" "state") ∈ lw_all := lw_g (lw_at lw_m4 29 rfl) rfl
theorem q870 : (Jvm.Cond.laysFinal "ContractMachine$Invariant" "ContractMachine$Invariant" "comparison" "LContractMachine$Comparison;") ∈ lw_all := lw_g (lw_at lw_m4 30 rfl) rfl
theorem q871 : (Jvm.Cond.soleField "ContractMachine$Invariant" "comparison") ∈ lw_all := lw_g (lw_at lw_m4 31 rfl) rfl
theorem q872 : (Jvm.Cond.superclass "ContractMachine$Invariant" "java/lang/Object") ∈ lw_all := lw_g (lw_at lw_m4 32 rfl) rfl
theorem q1440 : (Jvm.Cond.instanceMethod ({ cls := "ContractMachine$Invariant", name := "isBrokenBy", desc := "(I)Z" } : Jvm.MethodName)) ∈ lw_all := lw_g (lw_at lw_m6 120 rfl) rfl
theorem q1441 : (Jvm.Cond.selects "ContractMachine$Invariant" ({ cls := "ContractMachine$Invariant", name := "isBrokenBy", desc := "(I)Z" } : Jvm.MethodName) ({ cls := "ContractMachine$Invariant", name := "isBrokenBy", desc := "(I)Z" } : Jvm.MethodName)) ∈ lw_all := lw_g (lw_at lw_m6 121 rfl) rfl
theorem q1442 : (Jvm.Cond.code ({ cls := "ContractMachine$Invariant", name := "isBrokenBy", desc := "(I)Z" } : Jvm.MethodName) prog_17_method_2_code (3 : Nat) (Option.some Jvm.ClassFile.FieldType.boolean)) ∈ lw_all := lw_g (lw_at lw_m6 122 rfl) rfl
theorem q1443 : (Jvm.Cond.methodLink "ContractMachine$Invariant" (19 : Nat) ({ cls := "ContractMachine$Comparison", name := "holds", desc := "(I)Z" } : Jvm.MethodName)) ∈ lw_all := lw_g (lw_at lw_m6 123 rfl) rfl
theorem q3307 : (Jvm.Cond.castable "ContractMachine$Invariant" "java/lang/Object") ∈ lw_tbl := lw_at lw_m14 67 rfl
theorem in_X8 : ∀ w ∈ wsX80, w ∈ lw_all := lw_in wsX80 [868, 870] (by decide +kernel) (by decide +kernel)
theorem q147 : (Jvm.Cond.initialized "ContractMachine$Effect") ∈ lw_all := lw_g (lw_at lw_m1 27 rfl) rfl
set_option maxRecDepth 100000
theorem q784 : (Jvm.Cond.laysStatic "ContractMachine$Effect" "ADD" "LContractMachine$Effect;") ∈ lw_tbl := lw_at lw_m3 184 rfl
theorem q853 : (Jvm.Cond.laysStatic "ContractMachine$Effect" "SUB" "LContractMachine$Effect;") ∈ lw_tbl := lw_at lw_m4 13 rfl
theorem q855 : (Jvm.Cond.laysStatic "ContractMachine$Effect" "SET" "LContractMachine$Effect;") ∈ lw_tbl := lw_at lw_m4 15 rfl
theorem q1815 : (Jvm.Cond.declares ({ cls := "ContractMachine$Effect", name := "apply", desc := "(II)I" } : Jvm.MethodName)) ∈ lw_tbl := lw_at lw_m8 15 rfl
theorem q1816 : (Jvm.Cond.sameMethod "ContractMachine$Effect" "ContractMachine$Effect" "apply" "(II)I") ∈ lw_all := lw_g (lw_at lw_m8 16 rfl) rfl
theorem q3349 : (Jvm.Cond.castable "ContractMachine$Effect" "java/lang/Object") ∈ lw_tbl := lw_at lw_m14 109 rfl
theorem q1862 : (Jvm.Cond.interfaceMethod "ContractMachine$Outcome" "ContractMachine$Outcome" "applyTo" "(LContractMachine$Run;)V") ∈ lw_tbl := lw_at lw_m8 62 rfl
set_option maxRecDepth 100000
theorem q1863 : (Jvm.Cond.declares ({ cls := "ContractMachine$Outcome", name := "applyTo", desc := "(LContractMachine$Run;)V" } : Jvm.MethodName)) ∈ lw_tbl := lw_at lw_m8 63 rfl
theorem q2517 : (Jvm.Cond.interfaceMethod "ContractMachine$Outcome" "ContractMachine$Outcome" "verdict" "()I") ∈ lw_tbl := lw_at lw_m10 237 rfl
theorem q2518 : (Jvm.Cond.declares ({ cls := "ContractMachine$Outcome", name := "verdict", desc := "()I" } : Jvm.MethodName)) ∈ lw_tbl := lw_at lw_m10 238 rfl
theorem q154 : (Jvm.Cond.initialized "ContractMachine$Token") ∈ lw_all := lw_g (lw_at lw_m1 34 rfl) rfl
set_option maxRecDepth 100000
theorem q730 : (Jvm.Cond.selects "ContractMachine$Token" ({ cls := "java/lang/Object", name := "getClass", desc := "()Ljava/lang/Class;" } : Jvm.MethodName) ({ cls := "java/lang/Object", name := "getClass", desc := "()Ljava/lang/Class;" } : Jvm.MethodName)) ∈ lw_all := lw_g (lw_at lw_m3 130 rfl) rfl
theorem q987 : (Jvm.Cond.laysStatic "ContractMachine$Token" "END" "LContractMachine$Token;") ∈ lw_tbl := lw_at lw_m4 147 rfl
theorem q996 : (Jvm.Cond.laysStatic "ContractMachine$Token" "WORD" "LContractMachine$Token;") ∈ lw_tbl := lw_at lw_m4 156 rfl
theorem q998 : (Jvm.Cond.laysStatic "ContractMachine$Token" "INVALID" "LContractMachine$Token;") ∈ lw_tbl := lw_at lw_m4 158 rfl
theorem q1031 : (Jvm.Cond.laysStatic "ContractMachine$Token" "NUMBER" "LContractMachine$Token;") ∈ lw_tbl := lw_at lw_m4 191 rfl
theorem q1116 : (Jvm.Cond.laysStatic "ContractMachine$Token" "SEMICOLON" "LContractMachine$Token;") ∈ lw_tbl := lw_at lw_m5 36 rfl
theorem q3310 : (Jvm.Cond.castable "ContractMachine$Token" "java/lang/Object") ∈ lw_tbl := lw_at lw_m14 70 rfl
theorem q339 : (Jvm.Cond.sameMethod "[B" "java/lang/Object" "clone" "()Ljava/lang/Object;") ∈ lw_all := lw_g (lw_at lw_m1 219 rfl) rfl
set_option maxRecDepth 100000
theorem q340 : (Jvm.Cond.selects "[B" ({ cls := "[B", name := "clone", desc := "()Ljava/lang/Object;" } : Jvm.MethodName) ({ cls := "java/lang/Object", name := "clone", desc := "()Ljava/lang/Object;" } : Jvm.MethodName)) ∈ lw_all := lw_g (lw_at lw_m1 220 rfl) rfl
theorem q341 : (Jvm.Cond.castable "[B" "java/lang/Cloneable") ∈ lw_tbl := lw_at lw_m1 221 rfl
theorem q3352 : (Jvm.Cond.castable "[B" "java/lang/Object") ∈ lw_tbl := lw_at lw_m14 112 rfl
theorem q3353 : (Jvm.Cond.castable "[I" "java/lang/Object") ∈ lw_tbl := lw_at lw_m14 113 rfl
set_option maxRecDepth 100000
theorem q3357 : (Jvm.Cond.castable "[J" "java/lang/Object") ∈ lw_tbl := lw_at lw_m14 117 rfl
set_option maxRecDepth 100000
theorem q3355 : (Jvm.Cond.castable "[LContractMachine$Command;" "java/lang/Object") ∈ lw_tbl := lw_at lw_m14 115 rfl
set_option maxRecDepth 100000
theorem q196 : (Jvm.Cond.sameMethod "[LContractMachine$Operator;" "java/lang/Object" "clone" "()Ljava/lang/Object;") ∈ lw_all := lw_g (lw_at lw_m1 76 rfl) rfl
set_option maxRecDepth 100000
theorem q199 : (Jvm.Cond.selects "[LContractMachine$Operator;" ({ cls := "[LContractMachine$Operator;", name := "clone", desc := "()Ljava/lang/Object;" } : Jvm.MethodName) ({ cls := "java/lang/Object", name := "clone", desc := "()Ljava/lang/Object;" } : Jvm.MethodName)) ∈ lw_all := lw_g (lw_at lw_m1 79 rfl) rfl
theorem q200 : (Jvm.Cond.castable "[LContractMachine$Operator;" "java/lang/Cloneable") ∈ lw_tbl := lw_at lw_m1 80 rfl
theorem q3350 : (Jvm.Cond.castable "[LContractMachine$Operator;" "java/lang/Object") ∈ lw_tbl := lw_at lw_m14 110 rfl
theorem q3346 : (Jvm.Cond.sameMethod "[Ljava/lang/Object;" "java/lang/Object" "getClass" "()Ljava/lang/Class;") ∈ lw_all := lw_g (lw_at lw_m14 106 rfl) rfl
set_option maxRecDepth 100000
theorem q3347 : (Jvm.Cond.selects "[Ljava/lang/Object;" ({ cls := "java/lang/Object", name := "getClass", desc := "()Ljava/lang/Class;" } : Jvm.MethodName) ({ cls := "java/lang/Object", name := "getClass", desc := "()Ljava/lang/Class;" } : Jvm.MethodName)) ∈ lw_all := lw_g (lw_at lw_m14 107 rfl) rfl
theorem q3351 : (Jvm.Cond.castable "[Ljava/lang/Object;" "java/lang/Object") ∈ lw_tbl := lw_at lw_m14 111 rfl
theorem q3354 : (Jvm.Cond.castable "[Ljava/lang/String;" "java/lang/Object") ∈ lw_tbl := lw_at lw_m14 114 rfl
set_option maxRecDepth 100000
theorem q3356 : (Jvm.Cond.castable "[Z" "java/lang/Object") ∈ lw_tbl := lw_at lw_m14 116 rfl
set_option maxRecDepth 100000
theorem q122 : (Jvm.Cond.initialized "java/lang/Enum") ∈ lw_all := lw_g (lw_at lw_m1 2 rfl) rfl
set_option maxRecDepth 100000
theorem q142 : (Jvm.Cond.initialized "java/lang/Number") ∈ lw_all := lw_g (lw_at lw_m1 22 rfl) rfl
set_option maxRecDepth 100000
theorem q139 : (Jvm.Cond.initialized "java/lang/System") ∈ lw_all := lw_g (lw_at lw_m1 19 rfl) rfl
set_option maxRecDepth 100000
theorem q347 : (Jvm.Cond.static ({ cls := "java/lang/System", name := "arraycopy", desc := "(Ljava/lang/Object;ILjava/lang/Object;II)V" } : Jvm.MethodName)) ∈ lw_all := lw_g (lw_at lw_m1 227 rfl) rfl
theorem q348 : (Jvm.Cond.native ({ cls := "java/lang/System", name := "arraycopy", desc := "(Ljava/lang/Object;ILjava/lang/Object;II)V" } : Jvm.MethodName)) ∈ lw_all := lw_g (lw_at lw_m1 228 rfl) rfl
theorem q1745 : (Jvm.Cond.interfaceMethod "java/util/Iterator" "java/util/Iterator" "hasNext" "()Z") ∈ lw_tbl := lw_at lw_m7 185 rfl
set_option maxRecDepth 100000
theorem q1746 : (Jvm.Cond.declares ({ cls := "java/util/Iterator", name := "hasNext", desc := "()Z" } : Jvm.MethodName)) ∈ lw_tbl := lw_at lw_m7 186 rfl
theorem q1755 : (Jvm.Cond.interfaceMethod "java/util/Iterator" "java/util/Iterator" "next" "()Ljava/lang/Object;") ∈ lw_tbl := lw_at lw_m7 195 rfl
theorem q1756 : (Jvm.Cond.declares ({ cls := "java/util/Iterator", name := "next", desc := "()Ljava/lang/Object;" } : Jvm.MethodName)) ∈ lw_tbl := lw_at lw_m7 196 rfl
theorem q671 : (Jvm.Cond.interfaceMethod "java/util/List" "java/util/List" "add" "(Ljava/lang/Object;)Z") ∈ lw_tbl := lw_at lw_m3 71 rfl
set_option maxRecDepth 100000
theorem q672 : (Jvm.Cond.declares ({ cls := "java/util/List", name := "add", desc := "(Ljava/lang/Object;)Z" } : Jvm.MethodName)) ∈ lw_tbl := lw_at lw_m3 72 rfl
theorem q768 : (Jvm.Cond.interfaceMethod "java/util/List" "java/util/List" "size" "()I") ∈ lw_tbl := lw_at lw_m3 168 rfl
theorem q769 : (Jvm.Cond.declares ({ cls := "java/util/List", name := "size", desc := "()I" } : Jvm.MethodName)) ∈ lw_tbl := lw_at lw_m3 169 rfl
theorem q1305 : (Jvm.Cond.interfaceMethod "java/util/List" "java/util/List" "get" "(I)Ljava/lang/Object;") ∈ lw_tbl := lw_at lw_m5 225 rfl
theorem q1306 : (Jvm.Cond.declares ({ cls := "java/util/List", name := "get", desc := "(I)Ljava/lang/Object;" } : Jvm.MethodName)) ∈ lw_tbl := lw_at lw_m5 226 rfl
theorem q1423 : (Jvm.Cond.interfaceMethod "java/util/List" "java/util/List" "isEmpty" "()Z") ∈ lw_tbl := lw_at lw_m6 103 rfl
theorem q1424 : (Jvm.Cond.declares ({ cls := "java/util/List", name := "isEmpty", desc := "()Z" } : Jvm.MethodName)) ∈ lw_tbl := lw_at lw_m6 104 rfl
theorem q1717 : (Jvm.Cond.interfaceMethod "java/util/List" "java/util/List" "iterator" "()Ljava/util/Iterator;") ∈ lw_tbl := lw_at lw_m7 157 rfl
theorem q1718 : (Jvm.Cond.declares ({ cls := "java/util/List", name := "iterator", desc := "()Ljava/util/Iterator;" } : Jvm.MethodName)) ∈ lw_tbl := lw_at lw_m7 158 rfl
theorem q1191 : (Jvm.Cond.interfaceMethod "jdk/internal/access/JavaLangAccess" "jdk/internal/access/JavaLangAccess" "getUTF16Char" "([BI)C") ∈ lw_tbl := lw_at lw_m5 111 rfl
set_option maxRecDepth 100000
theorem q1192 : (Jvm.Cond.declares ({ cls := "jdk/internal/access/JavaLangAccess", name := "getUTF16Char", desc := "([BI)C" } : Jvm.MethodName)) ∈ lw_tbl := lw_at lw_m5 112 rfl
theorem q201 : (Jvm.Cond.arrayOver (Jvm.ClassFile.FieldType.object "ContractMachine$Operator")) ∈ lw_tbl := lw_at lw_m1 81 rfl
set_option maxRecDepth 100000
theorem q222 : (Jvm.Cond.arrayOver (Jvm.ClassFile.FieldType.object "java/lang/Object")) ∈ lw_tbl := lw_at lw_m1 102 rfl
theorem q303 : (Jvm.Cond.arrayClass Jvm.ClassFile.FieldType.byte) ∈ lw_all := lw_g (lw_at lw_m1 183 rfl) rfl
theorem q640 : (Jvm.Cond.arrayClass Jvm.ClassFile.FieldType.int) ∈ lw_all := lw_g (lw_at lw_m3 40 rfl) rfl
theorem q661 : (Jvm.Cond.arrayOver (Jvm.ClassFile.FieldType.object "java/lang/String")) ∈ lw_tbl := lw_at lw_m3 61 rfl
theorem q1497 : (Jvm.Cond.arrayOver (Jvm.ClassFile.FieldType.object "ContractMachine$Command")) ∈ lw_tbl := lw_at lw_m6 177 rfl
theorem q2728 : (Jvm.Cond.arrayClass Jvm.ClassFile.FieldType.boolean) ∈ lw_all := lw_g (lw_at lw_m11 208 rfl) rfl
theorem q3260 : (Jvm.Cond.arrayClass Jvm.ClassFile.FieldType.long) ∈ lw_all := lw_g (lw_at lw_m14 20 rfl) rfl
theorem q3358 : (Jvm.Cond.arrayClass Jvm.ClassFile.FieldType.char) ∈ lw_all := lw_g (lw_at lw_m14 118 rfl) rfl
theorem q3359 : (Jvm.Cond.arrayClass Jvm.ClassFile.FieldType.short) ∈ lw_all := lw_g (lw_at lw_m14 119 rfl) rfl
