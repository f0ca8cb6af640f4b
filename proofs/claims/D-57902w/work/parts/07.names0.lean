/-! ContractMachineLaw -/
set_option maxRecDepth 100000
def RX0 : String := "ContractMachineLaw"
abbrev cX0_stateNameByte : ByteArray := method_3_code
def yX0_stateNameByte : MethodName := ⟨RX0, "stateNameByte", "(LContractMachine;II[J)I"⟩
def dkwX0_stateNameByte_0 : List UInt8 := [45, 3, 42, 27, 28, 182, 0, 7, 133, 80, 167, 0, 7, 58, 4, 4, 172, 3, 172]
abbrev dktX0_stateNameByte_0 : List UInt8 := dkwX0_stateNameByte_0 ++ []
theorem dksX0_stateNameByte_0 : cX0_stateNameByte.data.toList.drop 0 = dktX0_stateNameByte_0 := by decide +kernel
theorem dX0_stateNameByte_0 : decode cX0_stateNameByte 0 = .ok (.aload_n 3, 1) := dk_45 (dk_at dksX0_stateNameByte_0 0 rfl rfl)
theorem dX0_stateNameByte_1 : decode cX0_stateNameByte 1 = .ok (.iconst 0, 1) := dk_3 (dk_at dksX0_stateNameByte_0 1 rfl rfl)
theorem dX0_stateNameByte_2 : decode cX0_stateNameByte 2 = .ok (.aload_n 0, 1) := dk_42 (dk_at dksX0_stateNameByte_0 2 rfl rfl)
theorem dX0_stateNameByte_3 : decode cX0_stateNameByte 3 = .ok (.iload_n 1, 1) := dk_27 (dk_at dksX0_stateNameByte_0 3 rfl rfl)
theorem dX0_stateNameByte_4 : decode cX0_stateNameByte 4 = .ok (.iload_n 2, 1) := dk_28 (dk_at dksX0_stateNameByte_0 4 rfl rfl)
theorem dX0_stateNameByte_5 : decode cX0_stateNameByte 5 = .ok (.invokevirtual 7, 3) := dk_182 0 7 (dk_at dksX0_stateNameByte_0 5 rfl rfl)
theorem dX0_stateNameByte_8 : decode cX0_stateNameByte 8 = .ok (.i2l, 1) := dk_133 (dk_at dksX0_stateNameByte_0 8 rfl rfl)
theorem dX0_stateNameByte_9 : decode cX0_stateNameByte 9 = .ok (.lastore, 1) := dk_80 (dk_at dksX0_stateNameByte_0 9 rfl rfl)
theorem dX0_stateNameByte_10 : decode cX0_stateNameByte 10 = .ok (.goto 7, 3) := dk_167 0 7 (dk_at dksX0_stateNameByte_0 10 rfl rfl)
theorem dX0_stateNameByte_13 : decode cX0_stateNameByte 13 = .ok (.astore 4, 2) := dk_58 4 (dk_at dksX0_stateNameByte_0 13 rfl rfl)
theorem dX0_stateNameByte_15 : decode cX0_stateNameByte 15 = .ok (.iconst 1, 1) := dk_4 (dk_at dksX0_stateNameByte_0 15 rfl rfl)
theorem dX0_stateNameByte_16 : decode cX0_stateNameByte 16 = .ok (.ireturn, 1) := dk_172 (dk_at dksX0_stateNameByte_0 16 rfl rfl)
theorem dX0_stateNameByte_17 : decode cX0_stateNameByte 17 = .ok (.iconst 0, 1) := dk_3 (dk_at dksX0_stateNameByte_0 17 rfl rfl)
theorem dX0_stateNameByte_18 : decode cX0_stateNameByte 18 = .ok (.ireturn, 1) := dk_172 (dk_at dksX0_stateNameByte_0 18 rfl rfl)
abbrev cX0_eventNameByte : ByteArray := method_4_code
def yX0_eventNameByte : MethodName := ⟨RX0, "eventNameByte", "(LContractMachine;II[J)I"⟩
def dkwX0_eventNameByte_0 : List UInt8 := [45, 3, 42, 27, 28, 182, 0, 15, 133, 80, 167, 0, 7, 58, 4, 4, 172, 3, 172]
abbrev dktX0_eventNameByte_0 : List UInt8 := dkwX0_eventNameByte_0 ++ []
theorem dksX0_eventNameByte_0 : cX0_eventNameByte.data.toList.drop 0 = dktX0_eventNameByte_0 := by decide +kernel
theorem dX0_eventNameByte_0 : decode cX0_eventNameByte 0 = .ok (.aload_n 3, 1) := dk_45 (dk_at dksX0_eventNameByte_0 0 rfl rfl)
theorem dX0_eventNameByte_1 : decode cX0_eventNameByte 1 = .ok (.iconst 0, 1) := dk_3 (dk_at dksX0_eventNameByte_0 1 rfl rfl)
theorem dX0_eventNameByte_2 : decode cX0_eventNameByte 2 = .ok (.aload_n 0, 1) := dk_42 (dk_at dksX0_eventNameByte_0 2 rfl rfl)
theorem dX0_eventNameByte_3 : decode cX0_eventNameByte 3 = .ok (.iload_n 1, 1) := dk_27 (dk_at dksX0_eventNameByte_0 3 rfl rfl)
theorem dX0_eventNameByte_4 : decode cX0_eventNameByte 4 = .ok (.iload_n 2, 1) := dk_28 (dk_at dksX0_eventNameByte_0 4 rfl rfl)
theorem dX0_eventNameByte_5 : decode cX0_eventNameByte 5 = .ok (.invokevirtual 15, 3) := dk_182 0 15 (dk_at dksX0_eventNameByte_0 5 rfl rfl)
theorem dX0_eventNameByte_8 : decode cX0_eventNameByte 8 = .ok (.i2l, 1) := dk_133 (dk_at dksX0_eventNameByte_0 8 rfl rfl)
theorem dX0_eventNameByte_9 : decode cX0_eventNameByte 9 = .ok (.lastore, 1) := dk_80 (dk_at dksX0_eventNameByte_0 9 rfl rfl)
theorem dX0_eventNameByte_10 : decode cX0_eventNameByte 10 = .ok (.goto 7, 3) := dk_167 0 7 (dk_at dksX0_eventNameByte_0 10 rfl rfl)
theorem dX0_eventNameByte_13 : decode cX0_eventNameByte 13 = .ok (.astore 4, 2) := dk_58 4 (dk_at dksX0_eventNameByte_0 13 rfl rfl)
theorem dX0_eventNameByte_15 : decode cX0_eventNameByte 15 = .ok (.iconst 1, 1) := dk_4 (dk_at dksX0_eventNameByte_0 15 rfl rfl)
theorem dX0_eventNameByte_16 : decode cX0_eventNameByte 16 = .ok (.ireturn, 1) := dk_172 (dk_at dksX0_eventNameByte_0 16 rfl rfl)
theorem dX0_eventNameByte_17 : decode cX0_eventNameByte 17 = .ok (.iconst 0, 1) := dk_3 (dk_at dksX0_eventNameByte_0 17 rfl rfl)
theorem dX0_eventNameByte_18 : decode cX0_eventNameByte 18 = .ok (.ireturn, 1) := dk_172 (dk_at dksX0_eventNameByte_0 18 rfl rfl)
abbrev cX0_variableNameByte : ByteArray := method_5_code
def yX0_variableNameByte : MethodName := ⟨RX0, "variableNameByte", "(LContractMachine;II[J)I"⟩
def dkwX0_variableNameByte_0 : List UInt8 := [45, 3, 42, 27, 28, 182, 0, 18, 133, 80, 167, 0, 7, 58, 4, 4, 172, 3, 172]
abbrev dktX0_variableNameByte_0 : List UInt8 := dkwX0_variableNameByte_0 ++ []
theorem dksX0_variableNameByte_0 : cX0_variableNameByte.data.toList.drop 0 = dktX0_variableNameByte_0 := by decide +kernel
theorem dX0_variableNameByte_0 : decode cX0_variableNameByte 0 = .ok (.aload_n 3, 1) := dk_45 (dk_at dksX0_variableNameByte_0 0 rfl rfl)
theorem dX0_variableNameByte_1 : decode cX0_variableNameByte 1 = .ok (.iconst 0, 1) := dk_3 (dk_at dksX0_variableNameByte_0 1 rfl rfl)
theorem dX0_variableNameByte_2 : decode cX0_variableNameByte 2 = .ok (.aload_n 0, 1) := dk_42 (dk_at dksX0_variableNameByte_0 2 rfl rfl)
theorem dX0_variableNameByte_3 : decode cX0_variableNameByte 3 = .ok (.iload_n 1, 1) := dk_27 (dk_at dksX0_variableNameByte_0 3 rfl rfl)
theorem dX0_variableNameByte_4 : decode cX0_variableNameByte 4 = .ok (.iload_n 2, 1) := dk_28 (dk_at dksX0_variableNameByte_0 4 rfl rfl)
theorem dX0_variableNameByte_5 : decode cX0_variableNameByte 5 = .ok (.invokevirtual 18, 3) := dk_182 0 18 (dk_at dksX0_variableNameByte_0 5 rfl rfl)
theorem dX0_variableNameByte_8 : decode cX0_variableNameByte 8 = .ok (.i2l, 1) := dk_133 (dk_at dksX0_variableNameByte_0 8 rfl rfl)
theorem dX0_variableNameByte_9 : decode cX0_variableNameByte 9 = .ok (.lastore, 1) := dk_80 (dk_at dksX0_variableNameByte_0 9 rfl rfl)
theorem dX0_variableNameByte_10 : decode cX0_variableNameByte 10 = .ok (.goto 7, 3) := dk_167 0 7 (dk_at dksX0_variableNameByte_0 10 rfl rfl)
theorem dX0_variableNameByte_13 : decode cX0_variableNameByte 13 = .ok (.astore 4, 2) := dk_58 4 (dk_at dksX0_variableNameByte_0 13 rfl rfl)
theorem dX0_variableNameByte_15 : decode cX0_variableNameByte 15 = .ok (.iconst 1, 1) := dk_4 (dk_at dksX0_variableNameByte_0 15 rfl rfl)
theorem dX0_variableNameByte_16 : decode cX0_variableNameByte 16 = .ok (.ireturn, 1) := dk_172 (dk_at dksX0_variableNameByte_0 16 rfl rfl)
theorem dX0_variableNameByte_17 : decode cX0_variableNameByte 17 = .ok (.iconst 0, 1) := dk_3 (dk_at dksX0_variableNameByte_0 17 rfl rfl)
theorem dX0_variableNameByte_18 : decode cX0_variableNameByte 18 = .ok (.ireturn, 1) := dk_172 (dk_at dksX0_variableNameByte_0 18 rfl rfl)
abbrev cX0_valueOf : ByteArray := method_6_code
def yX0_valueOf : MethodName := ⟨RX0, "valueOf", "(LContractMachine;I[J)I"⟩
def dkwX0_valueOf_0 : List UInt8 := [44, 3, 42, 27, 182, 0, 21, 133, 80, 167, 0, 6, 78, 4, 172, 3, 172]
abbrev dktX0_valueOf_0 : List UInt8 := dkwX0_valueOf_0 ++ []
theorem dksX0_valueOf_0 : cX0_valueOf.data.toList.drop 0 = dktX0_valueOf_0 := by decide +kernel
theorem dX0_valueOf_0 : decode cX0_valueOf 0 = .ok (.aload_n 2, 1) := dk_44 (dk_at dksX0_valueOf_0 0 rfl rfl)
theorem dX0_valueOf_1 : decode cX0_valueOf 1 = .ok (.iconst 0, 1) := dk_3 (dk_at dksX0_valueOf_0 1 rfl rfl)
theorem dX0_valueOf_2 : decode cX0_valueOf 2 = .ok (.aload_n 0, 1) := dk_42 (dk_at dksX0_valueOf_0 2 rfl rfl)
theorem dX0_valueOf_3 : decode cX0_valueOf 3 = .ok (.iload_n 1, 1) := dk_27 (dk_at dksX0_valueOf_0 3 rfl rfl)
theorem dX0_valueOf_4 : decode cX0_valueOf 4 = .ok (.invokevirtual 21, 3) := dk_182 0 21 (dk_at dksX0_valueOf_0 4 rfl rfl)
theorem dX0_valueOf_7 : decode cX0_valueOf 7 = .ok (.i2l, 1) := dk_133 (dk_at dksX0_valueOf_0 7 rfl rfl)
theorem dX0_valueOf_8 : decode cX0_valueOf 8 = .ok (.lastore, 1) := dk_80 (dk_at dksX0_valueOf_0 8 rfl rfl)
theorem dX0_valueOf_9 : decode cX0_valueOf 9 = .ok (.goto 6, 3) := dk_167 0 6 (dk_at dksX0_valueOf_0 9 rfl rfl)
theorem dX0_valueOf_12 : decode cX0_valueOf 12 = .ok (.astore_n 3, 1) := dk_78 (dk_at dksX0_valueOf_0 12 rfl rfl)
theorem dX0_valueOf_13 : decode cX0_valueOf 13 = .ok (.iconst 1, 1) := dk_4 (dk_at dksX0_valueOf_0 13 rfl rfl)
theorem dX0_valueOf_14 : decode cX0_valueOf 14 = .ok (.ireturn, 1) := dk_172 (dk_at dksX0_valueOf_0 14 rfl rfl)
theorem dX0_valueOf_15 : decode cX0_valueOf 15 = .ok (.iconst 0, 1) := dk_3 (dk_at dksX0_valueOf_0 15 rfl rfl)
theorem dX0_valueOf_16 : decode cX0_valueOf 16 = .ok (.ireturn, 1) := dk_172 (dk_at dksX0_valueOf_0 16 rfl rfl)
abbrev cX0_initialValueOf : ByteArray := method_7_code
def yX0_initialValueOf : MethodName := ⟨RX0, "initialValueOf", "(LContractMachine;I[J)I"⟩
def dkwX0_initialValueOf_0 : List UInt8 := [44, 3, 42, 27, 182, 0, 25, 133, 80, 167, 0, 6, 78, 4, 172, 3, 172]
abbrev dktX0_initialValueOf_0 : List UInt8 := dkwX0_initialValueOf_0 ++ []
theorem dksX0_initialValueOf_0 : cX0_initialValueOf.data.toList.drop 0 = dktX0_initialValueOf_0 := by decide +kernel
theorem dX0_initialValueOf_0 : decode cX0_initialValueOf 0 = .ok (.aload_n 2, 1) := dk_44 (dk_at dksX0_initialValueOf_0 0 rfl rfl)
theorem dX0_initialValueOf_1 : decode cX0_initialValueOf 1 = .ok (.iconst 0, 1) := dk_3 (dk_at dksX0_initialValueOf_0 1 rfl rfl)
theorem dX0_initialValueOf_2 : decode cX0_initialValueOf 2 = .ok (.aload_n 0, 1) := dk_42 (dk_at dksX0_initialValueOf_0 2 rfl rfl)
theorem dX0_initialValueOf_3 : decode cX0_initialValueOf 3 = .ok (.iload_n 1, 1) := dk_27 (dk_at dksX0_initialValueOf_0 3 rfl rfl)
theorem dX0_initialValueOf_4 : decode cX0_initialValueOf 4 = .ok (.invokevirtual 25, 3) := dk_182 0 25 (dk_at dksX0_initialValueOf_0 4 rfl rfl)
theorem dX0_initialValueOf_7 : decode cX0_initialValueOf 7 = .ok (.i2l, 1) := dk_133 (dk_at dksX0_initialValueOf_0 7 rfl rfl)
theorem dX0_initialValueOf_8 : decode cX0_initialValueOf 8 = .ok (.lastore, 1) := dk_80 (dk_at dksX0_initialValueOf_0 8 rfl rfl)
theorem dX0_initialValueOf_9 : decode cX0_initialValueOf 9 = .ok (.goto 6, 3) := dk_167 0 6 (dk_at dksX0_initialValueOf_0 9 rfl rfl)
theorem dX0_initialValueOf_12 : decode cX0_initialValueOf 12 = .ok (.astore_n 3, 1) := dk_78 (dk_at dksX0_initialValueOf_0 12 rfl rfl)
theorem dX0_initialValueOf_13 : decode cX0_initialValueOf 13 = .ok (.iconst 1, 1) := dk_4 (dk_at dksX0_initialValueOf_0 13 rfl rfl)
theorem dX0_initialValueOf_14 : decode cX0_initialValueOf 14 = .ok (.ireturn, 1) := dk_172 (dk_at dksX0_initialValueOf_0 14 rfl rfl)
theorem dX0_initialValueOf_15 : decode cX0_initialValueOf 15 = .ok (.iconst 0, 1) := dk_3 (dk_at dksX0_initialValueOf_0 15 rfl rfl)
theorem dX0_initialValueOf_16 : decode cX0_initialValueOf 16 = .ok (.ireturn, 1) := dk_172 (dk_at dksX0_initialValueOf_0 16 rfl rfl)
abbrev cX0_sourceOf : ByteArray := method_8_code
def yX0_sourceOf : MethodName := ⟨RX0, "sourceOf", "(LContractMachine;I[J)I"⟩
def dkwX0_sourceOf_0 : List UInt8 := [44, 3, 42, 27, 182, 0, 28, 133, 80, 167, 0, 6, 78, 4, 172, 3, 172]
abbrev dktX0_sourceOf_0 : List UInt8 := dkwX0_sourceOf_0 ++ []
theorem dksX0_sourceOf_0 : cX0_sourceOf.data.toList.drop 0 = dktX0_sourceOf_0 := by decide +kernel
theorem dX0_sourceOf_0 : decode cX0_sourceOf 0 = .ok (.aload_n 2, 1) := dk_44 (dk_at dksX0_sourceOf_0 0 rfl rfl)
theorem dX0_sourceOf_1 : decode cX0_sourceOf 1 = .ok (.iconst 0, 1) := dk_3 (dk_at dksX0_sourceOf_0 1 rfl rfl)
theorem dX0_sourceOf_2 : decode cX0_sourceOf 2 = .ok (.aload_n 0, 1) := dk_42 (dk_at dksX0_sourceOf_0 2 rfl rfl)
theorem dX0_sourceOf_3 : decode cX0_sourceOf 3 = .ok (.iload_n 1, 1) := dk_27 (dk_at dksX0_sourceOf_0 3 rfl rfl)
theorem dX0_sourceOf_4 : decode cX0_sourceOf 4 = .ok (.invokevirtual 28, 3) := dk_182 0 28 (dk_at dksX0_sourceOf_0 4 rfl rfl)
theorem dX0_sourceOf_7 : decode cX0_sourceOf 7 = .ok (.i2l, 1) := dk_133 (dk_at dksX0_sourceOf_0 7 rfl rfl)
theorem dX0_sourceOf_8 : decode cX0_sourceOf 8 = .ok (.lastore, 1) := dk_80 (dk_at dksX0_sourceOf_0 8 rfl rfl)
theorem dX0_sourceOf_9 : decode cX0_sourceOf 9 = .ok (.goto 6, 3) := dk_167 0 6 (dk_at dksX0_sourceOf_0 9 rfl rfl)
theorem dX0_sourceOf_12 : decode cX0_sourceOf 12 = .ok (.astore_n 3, 1) := dk_78 (dk_at dksX0_sourceOf_0 12 rfl rfl)
theorem dX0_sourceOf_13 : decode cX0_sourceOf 13 = .ok (.iconst 1, 1) := dk_4 (dk_at dksX0_sourceOf_0 13 rfl rfl)
theorem dX0_sourceOf_14 : decode cX0_sourceOf 14 = .ok (.ireturn, 1) := dk_172 (dk_at dksX0_sourceOf_0 14 rfl rfl)
theorem dX0_sourceOf_15 : decode cX0_sourceOf 15 = .ok (.iconst 0, 1) := dk_3 (dk_at dksX0_sourceOf_0 15 rfl rfl)
theorem dX0_sourceOf_16 : decode cX0_sourceOf 16 = .ok (.ireturn, 1) := dk_172 (dk_at dksX0_sourceOf_0 16 rfl rfl)
abbrev cX0_eventOf : ByteArray := method_9_code
def yX0_eventOf : MethodName := ⟨RX0, "eventOf", "(LContractMachine;I[J)I"⟩
def dkwX0_eventOf_0 : List UInt8 := [44, 3, 42, 27, 182, 0, 31, 133, 80, 167, 0, 6, 78, 4, 172, 3, 172]
abbrev dktX0_eventOf_0 : List UInt8 := dkwX0_eventOf_0 ++ []
theorem dksX0_eventOf_0 : cX0_eventOf.data.toList.drop 0 = dktX0_eventOf_0 := by decide +kernel
theorem dX0_eventOf_0 : decode cX0_eventOf 0 = .ok (.aload_n 2, 1) := dk_44 (dk_at dksX0_eventOf_0 0 rfl rfl)
theorem dX0_eventOf_1 : decode cX0_eventOf 1 = .ok (.iconst 0, 1) := dk_3 (dk_at dksX0_eventOf_0 1 rfl rfl)
theorem dX0_eventOf_2 : decode cX0_eventOf 2 = .ok (.aload_n 0, 1) := dk_42 (dk_at dksX0_eventOf_0 2 rfl rfl)
theorem dX0_eventOf_3 : decode cX0_eventOf 3 = .ok (.iload_n 1, 1) := dk_27 (dk_at dksX0_eventOf_0 3 rfl rfl)
theorem dX0_eventOf_4 : decode cX0_eventOf 4 = .ok (.invokevirtual 31, 3) := dk_182 0 31 (dk_at dksX0_eventOf_0 4 rfl rfl)
theorem dX0_eventOf_7 : decode cX0_eventOf 7 = .ok (.i2l, 1) := dk_133 (dk_at dksX0_eventOf_0 7 rfl rfl)
theorem dX0_eventOf_8 : decode cX0_eventOf 8 = .ok (.lastore, 1) := dk_80 (dk_at dksX0_eventOf_0 8 rfl rfl)
theorem dX0_eventOf_9 : decode cX0_eventOf 9 = .ok (.goto 6, 3) := dk_167 0 6 (dk_at dksX0_eventOf_0 9 rfl rfl)
theorem dX0_eventOf_12 : decode cX0_eventOf 12 = .ok (.astore_n 3, 1) := dk_78 (dk_at dksX0_eventOf_0 12 rfl rfl)
theorem dX0_eventOf_13 : decode cX0_eventOf 13 = .ok (.iconst 1, 1) := dk_4 (dk_at dksX0_eventOf_0 13 rfl rfl)
theorem dX0_eventOf_14 : decode cX0_eventOf 14 = .ok (.ireturn, 1) := dk_172 (dk_at dksX0_eventOf_0 14 rfl rfl)
theorem dX0_eventOf_15 : decode cX0_eventOf 15 = .ok (.iconst 0, 1) := dk_3 (dk_at dksX0_eventOf_0 15 rfl rfl)
theorem dX0_eventOf_16 : decode cX0_eventOf 16 = .ok (.ireturn, 1) := dk_172 (dk_at dksX0_eventOf_0 16 rfl rfl)
abbrev cX0_targetOf : ByteArray := method_10_code
def yX0_targetOf : MethodName := ⟨RX0, "targetOf", "(LContractMachine;I[J)I"⟩
def dkwX0_targetOf_0 : List UInt8 := [44, 3, 42, 27, 182, 0, 34, 133, 80, 167, 0, 6, 78, 4, 172, 3, 172]
abbrev dktX0_targetOf_0 : List UInt8 := dkwX0_targetOf_0 ++ []
theorem dksX0_targetOf_0 : cX0_targetOf.data.toList.drop 0 = dktX0_targetOf_0 := by decide +kernel
theorem dX0_targetOf_0 : decode cX0_targetOf 0 = .ok (.aload_n 2, 1) := dk_44 (dk_at dksX0_targetOf_0 0 rfl rfl)
theorem dX0_targetOf_1 : decode cX0_targetOf 1 = .ok (.iconst 0, 1) := dk_3 (dk_at dksX0_targetOf_0 1 rfl rfl)
theorem dX0_targetOf_2 : decode cX0_targetOf 2 = .ok (.aload_n 0, 1) := dk_42 (dk_at dksX0_targetOf_0 2 rfl rfl)
theorem dX0_targetOf_3 : decode cX0_targetOf 3 = .ok (.iload_n 1, 1) := dk_27 (dk_at dksX0_targetOf_0 3 rfl rfl)
theorem dX0_targetOf_4 : decode cX0_targetOf 4 = .ok (.invokevirtual 34, 3) := dk_182 0 34 (dk_at dksX0_targetOf_0 4 rfl rfl)
theorem dX0_targetOf_7 : decode cX0_targetOf 7 = .ok (.i2l, 1) := dk_133 (dk_at dksX0_targetOf_0 7 rfl rfl)
theorem dX0_targetOf_8 : decode cX0_targetOf 8 = .ok (.lastore, 1) := dk_80 (dk_at dksX0_targetOf_0 8 rfl rfl)
theorem dX0_targetOf_9 : decode cX0_targetOf 9 = .ok (.goto 6, 3) := dk_167 0 6 (dk_at dksX0_targetOf_0 9 rfl rfl)
theorem dX0_targetOf_12 : decode cX0_targetOf 12 = .ok (.astore_n 3, 1) := dk_78 (dk_at dksX0_targetOf_0 12 rfl rfl)
theorem dX0_targetOf_13 : decode cX0_targetOf 13 = .ok (.iconst 1, 1) := dk_4 (dk_at dksX0_targetOf_0 13 rfl rfl)
theorem dX0_targetOf_14 : decode cX0_targetOf 14 = .ok (.ireturn, 1) := dk_172 (dk_at dksX0_targetOf_0 14 rfl rfl)
theorem dX0_targetOf_15 : decode cX0_targetOf 15 = .ok (.iconst 0, 1) := dk_3 (dk_at dksX0_targetOf_0 15 rfl rfl)
theorem dX0_targetOf_16 : decode cX0_targetOf 16 = .ok (.ireturn, 1) := dk_172 (dk_at dksX0_targetOf_0 16 rfl rfl)
abbrev cX0_hasGuard : ByteArray := method_11_code
def yX0_hasGuard : MethodName := ⟨RX0, "hasGuard", "(LContractMachine;I[J)I"⟩
def dkwX0_hasGuard_0 : List UInt8 := [44, 3, 42, 27, 182, 0, 37, 153, 0, 7, 10, 167, 0, 4, 9, 80, 167, 0, 6, 78, 4, 172, 3, 172]
abbrev dktX0_hasGuard_0 : List UInt8 := dkwX0_hasGuard_0 ++ []
theorem dksX0_hasGuard_0 : cX0_hasGuard.data.toList.drop 0 = dktX0_hasGuard_0 := by decide +kernel
theorem dX0_hasGuard_0 : decode cX0_hasGuard 0 = .ok (.aload_n 2, 1) := dk_44 (dk_at dksX0_hasGuard_0 0 rfl rfl)
theorem dX0_hasGuard_1 : decode cX0_hasGuard 1 = .ok (.iconst 0, 1) := dk_3 (dk_at dksX0_hasGuard_0 1 rfl rfl)
theorem dX0_hasGuard_2 : decode cX0_hasGuard 2 = .ok (.aload_n 0, 1) := dk_42 (dk_at dksX0_hasGuard_0 2 rfl rfl)
theorem dX0_hasGuard_3 : decode cX0_hasGuard 3 = .ok (.iload_n 1, 1) := dk_27 (dk_at dksX0_hasGuard_0 3 rfl rfl)
theorem dX0_hasGuard_4 : decode cX0_hasGuard 4 = .ok (.invokevirtual 37, 3) := dk_182 0 37 (dk_at dksX0_hasGuard_0 4 rfl rfl)
theorem dX0_hasGuard_7 : decode cX0_hasGuard 7 = .ok (.ifCond .eq 7, 3) := dk_153 0 7 (dk_at dksX0_hasGuard_0 7 rfl rfl)
theorem dX0_hasGuard_10 : decode cX0_hasGuard 10 = .ok (.lconst 1, 1) := dk_10 (dk_at dksX0_hasGuard_0 10 rfl rfl)
theorem dX0_hasGuard_11 : decode cX0_hasGuard 11 = .ok (.goto 4, 3) := dk_167 0 4 (dk_at dksX0_hasGuard_0 11 rfl rfl)
theorem dX0_hasGuard_14 : decode cX0_hasGuard 14 = .ok (.lconst 0, 1) := dk_9 (dk_at dksX0_hasGuard_0 14 rfl rfl)
theorem dX0_hasGuard_15 : decode cX0_hasGuard 15 = .ok (.lastore, 1) := dk_80 (dk_at dksX0_hasGuard_0 15 rfl rfl)
theorem dX0_hasGuard_16 : decode cX0_hasGuard 16 = .ok (.goto 6, 3) := dk_167 0 6 (dk_at dksX0_hasGuard_0 16 rfl rfl)
theorem dX0_hasGuard_19 : decode cX0_hasGuard 19 = .ok (.astore_n 3, 1) := dk_78 (dk_at dksX0_hasGuard_0 19 rfl rfl)
theorem dX0_hasGuard_20 : decode cX0_hasGuard 20 = .ok (.iconst 1, 1) := dk_4 (dk_at dksX0_hasGuard_0 20 rfl rfl)
theorem dX0_hasGuard_21 : decode cX0_hasGuard 21 = .ok (.ireturn, 1) := dk_172 (dk_at dksX0_hasGuard_0 21 rfl rfl)
theorem dX0_hasGuard_22 : decode cX0_hasGuard 22 = .ok (.iconst 0, 1) := dk_3 (dk_at dksX0_hasGuard_0 22 rfl rfl)
theorem dX0_hasGuard_23 : decode cX0_hasGuard 23 = .ok (.ireturn, 1) := dk_172 (dk_at dksX0_hasGuard_0 23 rfl rfl)
abbrev cX0_guardHolds : ByteArray := method_12_code
def yX0_guardHolds : MethodName := ⟨RX0, "guardHolds", "(LContractMachine;I[J)I"⟩
def dkwX0_guardHolds_0 : List UInt8 := [44, 3, 42, 27, 182, 0, 41, 153, 0, 7, 10, 167, 0, 4, 9, 80, 167, 0, 6, 78, 4, 172, 3, 172]
abbrev dktX0_guardHolds_0 : List UInt8 := dkwX0_guardHolds_0 ++ []
theorem dksX0_guardHolds_0 : cX0_guardHolds.data.toList.drop 0 = dktX0_guardHolds_0 := by decide +kernel
theorem dX0_guardHolds_0 : decode cX0_guardHolds 0 = .ok (.aload_n 2, 1) := dk_44 (dk_at dksX0_guardHolds_0 0 rfl rfl)
theorem dX0_guardHolds_1 : decode cX0_guardHolds 1 = .ok (.iconst 0, 1) := dk_3 (dk_at dksX0_guardHolds_0 1 rfl rfl)
theorem dX0_guardHolds_2 : decode cX0_guardHolds 2 = .ok (.aload_n 0, 1) := dk_42 (dk_at dksX0_guardHolds_0 2 rfl rfl)
theorem dX0_guardHolds_3 : decode cX0_guardHolds 3 = .ok (.iload_n 1, 1) := dk_27 (dk_at dksX0_guardHolds_0 3 rfl rfl)
theorem dX0_guardHolds_4 : decode cX0_guardHolds 4 = .ok (.invokevirtual 41, 3) := dk_182 0 41 (dk_at dksX0_guardHolds_0 4 rfl rfl)
theorem dX0_guardHolds_7 : decode cX0_guardHolds 7 = .ok (.ifCond .eq 7, 3) := dk_153 0 7 (dk_at dksX0_guardHolds_0 7 rfl rfl)
theorem dX0_guardHolds_10 : decode cX0_guardHolds 10 = .ok (.lconst 1, 1) := dk_10 (dk_at dksX0_guardHolds_0 10 rfl rfl)
theorem dX0_guardHolds_11 : decode cX0_guardHolds 11 = .ok (.goto 4, 3) := dk_167 0 4 (dk_at dksX0_guardHolds_0 11 rfl rfl)
theorem dX0_guardHolds_14 : decode cX0_guardHolds 14 = .ok (.lconst 0, 1) := dk_9 (dk_at dksX0_guardHolds_0 14 rfl rfl)
theorem dX0_guardHolds_15 : decode cX0_guardHolds 15 = .ok (.lastore, 1) := dk_80 (dk_at dksX0_guardHolds_0 15 rfl rfl)
theorem dX0_guardHolds_16 : decode cX0_guardHolds 16 = .ok (.goto 6, 3) := dk_167 0 6 (dk_at dksX0_guardHolds_0 16 rfl rfl)
theorem dX0_guardHolds_19 : decode cX0_guardHolds 19 = .ok (.astore_n 3, 1) := dk_78 (dk_at dksX0_guardHolds_0 19 rfl rfl)
theorem dX0_guardHolds_20 : decode cX0_guardHolds 20 = .ok (.iconst 1, 1) := dk_4 (dk_at dksX0_guardHolds_0 20 rfl rfl)
theorem dX0_guardHolds_21 : decode cX0_guardHolds 21 = .ok (.ireturn, 1) := dk_172 (dk_at dksX0_guardHolds_0 21 rfl rfl)
theorem dX0_guardHolds_22 : decode cX0_guardHolds 22 = .ok (.iconst 0, 1) := dk_3 (dk_at dksX0_guardHolds_0 22 rfl rfl)
theorem dX0_guardHolds_23 : decode cX0_guardHolds 23 = .ok (.ireturn, 1) := dk_172 (dk_at dksX0_guardHolds_0 23 rfl rfl)
abbrev cX0_stateOfInvariant : ByteArray := method_13_code
def yX0_stateOfInvariant : MethodName := ⟨RX0, "stateOfInvariant", "(LContractMachine;I[J)I"⟩
def dkwX0_stateOfInvariant_0 : List UInt8 := [44, 3, 42, 27, 182, 0, 44, 133, 80, 167, 0, 6, 78, 4, 172, 3, 172]
abbrev dktX0_stateOfInvariant_0 : List UInt8 := dkwX0_stateOfInvariant_0 ++ []
theorem dksX0_stateOfInvariant_0 : cX0_stateOfInvariant.data.toList.drop 0 = dktX0_stateOfInvariant_0 := by decide +kernel
theorem dX0_stateOfInvariant_0 : decode cX0_stateOfInvariant 0 = .ok (.aload_n 2, 1) := dk_44 (dk_at dksX0_stateOfInvariant_0 0 rfl rfl)
theorem dX0_stateOfInvariant_1 : decode cX0_stateOfInvariant 1 = .ok (.iconst 0, 1) := dk_3 (dk_at dksX0_stateOfInvariant_0 1 rfl rfl)
theorem dX0_stateOfInvariant_2 : decode cX0_stateOfInvariant 2 = .ok (.aload_n 0, 1) := dk_42 (dk_at dksX0_stateOfInvariant_0 2 rfl rfl)
theorem dX0_stateOfInvariant_3 : decode cX0_stateOfInvariant 3 = .ok (.iload_n 1, 1) := dk_27 (dk_at dksX0_stateOfInvariant_0 3 rfl rfl)
theorem dX0_stateOfInvariant_4 : decode cX0_stateOfInvariant 4 = .ok (.invokevirtual 44, 3) := dk_182 0 44 (dk_at dksX0_stateOfInvariant_0 4 rfl rfl)
theorem dX0_stateOfInvariant_7 : decode cX0_stateOfInvariant 7 = .ok (.i2l, 1) := dk_133 (dk_at dksX0_stateOfInvariant_0 7 rfl rfl)
theorem dX0_stateOfInvariant_8 : decode cX0_stateOfInvariant 8 = .ok (.lastore, 1) := dk_80 (dk_at dksX0_stateOfInvariant_0 8 rfl rfl)
theorem dX0_stateOfInvariant_9 : decode cX0_stateOfInvariant 9 = .ok (.goto 6, 3) := dk_167 0 6 (dk_at dksX0_stateOfInvariant_0 9 rfl rfl)
theorem dX0_stateOfInvariant_12 : decode cX0_stateOfInvariant 12 = .ok (.astore_n 3, 1) := dk_78 (dk_at dksX0_stateOfInvariant_0 12 rfl rfl)
theorem dX0_stateOfInvariant_13 : decode cX0_stateOfInvariant 13 = .ok (.iconst 1, 1) := dk_4 (dk_at dksX0_stateOfInvariant_0 13 rfl rfl)
theorem dX0_stateOfInvariant_14 : decode cX0_stateOfInvariant 14 = .ok (.ireturn, 1) := dk_172 (dk_at dksX0_stateOfInvariant_0 14 rfl rfl)
theorem dX0_stateOfInvariant_15 : decode cX0_stateOfInvariant 15 = .ok (.iconst 0, 1) := dk_3 (dk_at dksX0_stateOfInvariant_0 15 rfl rfl)
theorem dX0_stateOfInvariant_16 : decode cX0_stateOfInvariant 16 = .ok (.ireturn, 1) := dk_172 (dk_at dksX0_stateOfInvariant_0 16 rfl rfl)
abbrev cX0_comparisonHolds : ByteArray := method_14_code
def yX0_comparisonHolds : MethodName := ⟨RX0, "comparisonHolds", "(LContractMachine;I[J)I"⟩
def dkwX0_comparisonHolds_0 : List UInt8 := [44, 3, 42, 27, 182, 0, 47, 153, 0, 7, 10, 167, 0, 4, 9, 80, 167, 0, 6, 78, 4, 172, 3, 172]
abbrev dktX0_comparisonHolds_0 : List UInt8 := dkwX0_comparisonHolds_0 ++ []
theorem dksX0_comparisonHolds_0 : cX0_comparisonHolds.data.toList.drop 0 = dktX0_comparisonHolds_0 := by decide +kernel
theorem dX0_comparisonHolds_0 : decode cX0_comparisonHolds 0 = .ok (.aload_n 2, 1) := dk_44 (dk_at dksX0_comparisonHolds_0 0 rfl rfl)
theorem dX0_comparisonHolds_1 : decode cX0_comparisonHolds 1 = .ok (.iconst 0, 1) := dk_3 (dk_at dksX0_comparisonHolds_0 1 rfl rfl)
theorem dX0_comparisonHolds_2 : decode cX0_comparisonHolds 2 = .ok (.aload_n 0, 1) := dk_42 (dk_at dksX0_comparisonHolds_0 2 rfl rfl)
theorem dX0_comparisonHolds_3 : decode cX0_comparisonHolds 3 = .ok (.iload_n 1, 1) := dk_27 (dk_at dksX0_comparisonHolds_0 3 rfl rfl)
theorem dX0_comparisonHolds_4 : decode cX0_comparisonHolds 4 = .ok (.invokevirtual 47, 3) := dk_182 0 47 (dk_at dksX0_comparisonHolds_0 4 rfl rfl)
theorem dX0_comparisonHolds_7 : decode cX0_comparisonHolds 7 = .ok (.ifCond .eq 7, 3) := dk_153 0 7 (dk_at dksX0_comparisonHolds_0 7 rfl rfl)
theorem dX0_comparisonHolds_10 : decode cX0_comparisonHolds 10 = .ok (.lconst 1, 1) := dk_10 (dk_at dksX0_comparisonHolds_0 10 rfl rfl)
theorem dX0_comparisonHolds_11 : decode cX0_comparisonHolds 11 = .ok (.goto 4, 3) := dk_167 0 4 (dk_at dksX0_comparisonHolds_0 11 rfl rfl)
theorem dX0_comparisonHolds_14 : decode cX0_comparisonHolds 14 = .ok (.lconst 0, 1) := dk_9 (dk_at dksX0_comparisonHolds_0 14 rfl rfl)
theorem dX0_comparisonHolds_15 : decode cX0_comparisonHolds 15 = .ok (.lastore, 1) := dk_80 (dk_at dksX0_comparisonHolds_0 15 rfl rfl)
theorem dX0_comparisonHolds_16 : decode cX0_comparisonHolds 16 = .ok (.goto 6, 3) := dk_167 0 6 (dk_at dksX0_comparisonHolds_0 16 rfl rfl)
theorem dX0_comparisonHolds_19 : decode cX0_comparisonHolds 19 = .ok (.astore_n 3, 1) := dk_78 (dk_at dksX0_comparisonHolds_0 19 rfl rfl)
theorem dX0_comparisonHolds_20 : decode cX0_comparisonHolds 20 = .ok (.iconst 1, 1) := dk_4 (dk_at dksX0_comparisonHolds_0 20 rfl rfl)
theorem dX0_comparisonHolds_21 : decode cX0_comparisonHolds 21 = .ok (.ireturn, 1) := dk_172 (dk_at dksX0_comparisonHolds_0 21 rfl rfl)
theorem dX0_comparisonHolds_22 : decode cX0_comparisonHolds 22 = .ok (.iconst 0, 1) := dk_3 (dk_at dksX0_comparisonHolds_0 22 rfl rfl)
theorem dX0_comparisonHolds_23 : decode cX0_comparisonHolds 23 = .ok (.ireturn, 1) := dk_172 (dk_at dksX0_comparisonHolds_0 23 rfl rfl)
abbrev cX0_verdictOf : ByteArray := method_15_code
def yX0_verdictOf : MethodName := ⟨RX0, "verdictOf", "(LContractMachine;I[J)I"⟩
def dkwX0_verdictOf_0 : List UInt8 := [44, 3, 42, 27, 182, 0, 50, 133, 80, 167, 0, 6, 78, 4, 172, 3, 172]
abbrev dktX0_verdictOf_0 : List UInt8 := dkwX0_verdictOf_0 ++ []
theorem dksX0_verdictOf_0 : cX0_verdictOf.data.toList.drop 0 = dktX0_verdictOf_0 := by decide +kernel
theorem dX0_verdictOf_0 : decode cX0_verdictOf 0 = .ok (.aload_n 2, 1) := dk_44 (dk_at dksX0_verdictOf_0 0 rfl rfl)
theorem dX0_verdictOf_1 : decode cX0_verdictOf 1 = .ok (.iconst 0, 1) := dk_3 (dk_at dksX0_verdictOf_0 1 rfl rfl)
theorem dX0_verdictOf_2 : decode cX0_verdictOf 2 = .ok (.aload_n 0, 1) := dk_42 (dk_at dksX0_verdictOf_0 2 rfl rfl)
theorem dX0_verdictOf_3 : decode cX0_verdictOf 3 = .ok (.iload_n 1, 1) := dk_27 (dk_at dksX0_verdictOf_0 3 rfl rfl)
theorem dX0_verdictOf_4 : decode cX0_verdictOf 4 = .ok (.invokevirtual 50, 3) := dk_182 0 50 (dk_at dksX0_verdictOf_0 4 rfl rfl)
theorem dX0_verdictOf_7 : decode cX0_verdictOf 7 = .ok (.i2l, 1) := dk_133 (dk_at dksX0_verdictOf_0 7 rfl rfl)
theorem dX0_verdictOf_8 : decode cX0_verdictOf 8 = .ok (.lastore, 1) := dk_80 (dk_at dksX0_verdictOf_0 8 rfl rfl)
theorem dX0_verdictOf_9 : decode cX0_verdictOf 9 = .ok (.goto 6, 3) := dk_167 0 6 (dk_at dksX0_verdictOf_0 9 rfl rfl)
theorem dX0_verdictOf_12 : decode cX0_verdictOf 12 = .ok (.astore_n 3, 1) := dk_78 (dk_at dksX0_verdictOf_0 12 rfl rfl)
theorem dX0_verdictOf_13 : decode cX0_verdictOf 13 = .ok (.iconst 1, 1) := dk_4 (dk_at dksX0_verdictOf_0 13 rfl rfl)
theorem dX0_verdictOf_14 : decode cX0_verdictOf 14 = .ok (.ireturn, 1) := dk_172 (dk_at dksX0_verdictOf_0 14 rfl rfl)
theorem dX0_verdictOf_15 : decode cX0_verdictOf 15 = .ok (.iconst 0, 1) := dk_3 (dk_at dksX0_verdictOf_0 15 rfl rfl)
theorem dX0_verdictOf_16 : decode cX0_verdictOf 16 = .ok (.ireturn, 1) := dk_172 (dk_at dksX0_verdictOf_0 16 rfl rfl)
abbrev cX0_chosenTransition : ByteArray := method_16_code
def yX0_chosenTransition : MethodName := ⟨RX0, "chosenTransition", "(LContractMachine;I[J)I"⟩
def dkwX0_chosenTransition_0 : List UInt8 := [44, 3, 42, 27, 182, 0, 53, 133, 80, 167, 0, 6, 78, 4, 172, 3, 172]
abbrev dktX0_chosenTransition_0 : List UInt8 := dkwX0_chosenTransition_0 ++ []
theorem dksX0_chosenTransition_0 : cX0_chosenTransition.data.toList.drop 0 = dktX0_chosenTransition_0 := by decide +kernel
theorem dX0_chosenTransition_0 : decode cX0_chosenTransition 0 = .ok (.aload_n 2, 1) := dk_44 (dk_at dksX0_chosenTransition_0 0 rfl rfl)
theorem dX0_chosenTransition_1 : decode cX0_chosenTransition 1 = .ok (.iconst 0, 1) := dk_3 (dk_at dksX0_chosenTransition_0 1 rfl rfl)
theorem dX0_chosenTransition_2 : decode cX0_chosenTransition 2 = .ok (.aload_n 0, 1) := dk_42 (dk_at dksX0_chosenTransition_0 2 rfl rfl)
theorem dX0_chosenTransition_3 : decode cX0_chosenTransition 3 = .ok (.iload_n 1, 1) := dk_27 (dk_at dksX0_chosenTransition_0 3 rfl rfl)
theorem dX0_chosenTransition_4 : decode cX0_chosenTransition 4 = .ok (.invokevirtual 53, 3) := dk_182 0 53 (dk_at dksX0_chosenTransition_0 4 rfl rfl)
theorem dX0_chosenTransition_7 : decode cX0_chosenTransition 7 = .ok (.i2l, 1) := dk_133 (dk_at dksX0_chosenTransition_0 7 rfl rfl)
theorem dX0_chosenTransition_8 : decode cX0_chosenTransition 8 = .ok (.lastore, 1) := dk_80 (dk_at dksX0_chosenTransition_0 8 rfl rfl)
theorem dX0_chosenTransition_9 : decode cX0_chosenTransition 9 = .ok (.goto 6, 3) := dk_167 0 6 (dk_at dksX0_chosenTransition_0 9 rfl rfl)
theorem dX0_chosenTransition_12 : decode cX0_chosenTransition 12 = .ok (.astore_n 3, 1) := dk_78 (dk_at dksX0_chosenTransition_0 12 rfl rfl)
theorem dX0_chosenTransition_13 : decode cX0_chosenTransition 13 = .ok (.iconst 1, 1) := dk_4 (dk_at dksX0_chosenTransition_0 13 rfl rfl)
theorem dX0_chosenTransition_14 : decode cX0_chosenTransition 14 = .ok (.ireturn, 1) := dk_172 (dk_at dksX0_chosenTransition_0 14 rfl rfl)
theorem dX0_chosenTransition_15 : decode cX0_chosenTransition 15 = .ok (.iconst 0, 1) := dk_3 (dk_at dksX0_chosenTransition_0 15 rfl rfl)
theorem dX0_chosenTransition_16 : decode cX0_chosenTransition 16 = .ok (.ireturn, 1) := dk_172 (dk_at dksX0_chosenTransition_0 16 rfl rfl)
abbrev cX0_brokenInvariant : ByteArray := method_17_code
def yX0_brokenInvariant : MethodName := ⟨RX0, "brokenInvariant", "(LContractMachine;I[J)I"⟩
def dkwX0_brokenInvariant_0 : List UInt8 := [44, 3, 42, 27, 182, 0, 56, 133, 80, 167, 0, 6, 78, 4, 172, 3, 172]
abbrev dktX0_brokenInvariant_0 : List UInt8 := dkwX0_brokenInvariant_0 ++ []
theorem dksX0_brokenInvariant_0 : cX0_brokenInvariant.data.toList.drop 0 = dktX0_brokenInvariant_0 := by decide +kernel
theorem dX0_brokenInvariant_0 : decode cX0_brokenInvariant 0 = .ok (.aload_n 2, 1) := dk_44 (dk_at dksX0_brokenInvariant_0 0 rfl rfl)
theorem dX0_brokenInvariant_1 : decode cX0_brokenInvariant 1 = .ok (.iconst 0, 1) := dk_3 (dk_at dksX0_brokenInvariant_0 1 rfl rfl)
theorem dX0_brokenInvariant_2 : decode cX0_brokenInvariant 2 = .ok (.aload_n 0, 1) := dk_42 (dk_at dksX0_brokenInvariant_0 2 rfl rfl)
theorem dX0_brokenInvariant_3 : decode cX0_brokenInvariant 3 = .ok (.iload_n 1, 1) := dk_27 (dk_at dksX0_brokenInvariant_0 3 rfl rfl)
theorem dX0_brokenInvariant_4 : decode cX0_brokenInvariant 4 = .ok (.invokevirtual 56, 3) := dk_182 0 56 (dk_at dksX0_brokenInvariant_0 4 rfl rfl)
theorem dX0_brokenInvariant_7 : decode cX0_brokenInvariant 7 = .ok (.i2l, 1) := dk_133 (dk_at dksX0_brokenInvariant_0 7 rfl rfl)
theorem dX0_brokenInvariant_8 : decode cX0_brokenInvariant 8 = .ok (.lastore, 1) := dk_80 (dk_at dksX0_brokenInvariant_0 8 rfl rfl)
theorem dX0_brokenInvariant_9 : decode cX0_brokenInvariant 9 = .ok (.goto 6, 3) := dk_167 0 6 (dk_at dksX0_brokenInvariant_0 9 rfl rfl)
theorem dX0_brokenInvariant_12 : decode cX0_brokenInvariant 12 = .ok (.astore_n 3, 1) := dk_78 (dk_at dksX0_brokenInvariant_0 12 rfl rfl)
theorem dX0_brokenInvariant_13 : decode cX0_brokenInvariant 13 = .ok (.iconst 1, 1) := dk_4 (dk_at dksX0_brokenInvariant_0 13 rfl rfl)
theorem dX0_brokenInvariant_14 : decode cX0_brokenInvariant 14 = .ok (.ireturn, 1) := dk_172 (dk_at dksX0_brokenInvariant_0 14 rfl rfl)
theorem dX0_brokenInvariant_15 : decode cX0_brokenInvariant 15 = .ok (.iconst 0, 1) := dk_3 (dk_at dksX0_brokenInvariant_0 15 rfl rfl)
theorem dX0_brokenInvariant_16 : decode cX0_brokenInvariant 16 = .ok (.ireturn, 1) := dk_172 (dk_at dksX0_brokenInvariant_0 16 rfl rfl)
abbrev cX0_timesTaken : ByteArray := method_18_code
def yX0_timesTaken : MethodName := ⟨RX0, "timesTaken", "(LContractMachine;I[J)I"⟩
def dkwX0_timesTaken_0 : List UInt8 := [44, 3, 42, 27, 182, 0, 59, 133, 80, 167, 0, 6, 78, 4, 172, 3, 172]
abbrev dktX0_timesTaken_0 : List UInt8 := dkwX0_timesTaken_0 ++ []
theorem dksX0_timesTaken_0 : cX0_timesTaken.data.toList.drop 0 = dktX0_timesTaken_0 := by decide +kernel
theorem dX0_timesTaken_0 : decode cX0_timesTaken 0 = .ok (.aload_n 2, 1) := dk_44 (dk_at dksX0_timesTaken_0 0 rfl rfl)
theorem dX0_timesTaken_1 : decode cX0_timesTaken 1 = .ok (.iconst 0, 1) := dk_3 (dk_at dksX0_timesTaken_0 1 rfl rfl)
theorem dX0_timesTaken_2 : decode cX0_timesTaken 2 = .ok (.aload_n 0, 1) := dk_42 (dk_at dksX0_timesTaken_0 2 rfl rfl)
theorem dX0_timesTaken_3 : decode cX0_timesTaken 3 = .ok (.iload_n 1, 1) := dk_27 (dk_at dksX0_timesTaken_0 3 rfl rfl)
theorem dX0_timesTaken_4 : decode cX0_timesTaken 4 = .ok (.invokevirtual 59, 3) := dk_182 0 59 (dk_at dksX0_timesTaken_0 4 rfl rfl)
theorem dX0_timesTaken_7 : decode cX0_timesTaken 7 = .ok (.i2l, 1) := dk_133 (dk_at dksX0_timesTaken_0 7 rfl rfl)
theorem dX0_timesTaken_8 : decode cX0_timesTaken 8 = .ok (.lastore, 1) := dk_80 (dk_at dksX0_timesTaken_0 8 rfl rfl)
theorem dX0_timesTaken_9 : decode cX0_timesTaken 9 = .ok (.goto 6, 3) := dk_167 0 6 (dk_at dksX0_timesTaken_0 9 rfl rfl)
theorem dX0_timesTaken_12 : decode cX0_timesTaken 12 = .ok (.astore_n 3, 1) := dk_78 (dk_at dksX0_timesTaken_0 12 rfl rfl)
theorem dX0_timesTaken_13 : decode cX0_timesTaken 13 = .ok (.iconst 1, 1) := dk_4 (dk_at dksX0_timesTaken_0 13 rfl rfl)
theorem dX0_timesTaken_14 : decode cX0_timesTaken 14 = .ok (.ireturn, 1) := dk_172 (dk_at dksX0_timesTaken_0 14 rfl rfl)
theorem dX0_timesTaken_15 : decode cX0_timesTaken 15 = .ok (.iconst 0, 1) := dk_3 (dk_at dksX0_timesTaken_0 15 rfl rfl)
theorem dX0_timesTaken_16 : decode cX0_timesTaken 16 = .ok (.ireturn, 1) := dk_172 (dk_at dksX0_timesTaken_0 16 rfl rfl)
abbrev cX0_visitsOf : ByteArray := method_19_code
def yX0_visitsOf : MethodName := ⟨RX0, "visitsOf", "(LContractMachine;I[J)I"⟩
def dkwX0_visitsOf_0 : List UInt8 := [44, 3, 42, 27, 182, 0, 62, 133, 80, 167, 0, 6, 78, 4, 172, 3, 172]
abbrev dktX0_visitsOf_0 : List UInt8 := dkwX0_visitsOf_0 ++ []
theorem dksX0_visitsOf_0 : cX0_visitsOf.data.toList.drop 0 = dktX0_visitsOf_0 := by decide +kernel
theorem dX0_visitsOf_0 : decode cX0_visitsOf 0 = .ok (.aload_n 2, 1) := dk_44 (dk_at dksX0_visitsOf_0 0 rfl rfl)
theorem dX0_visitsOf_1 : decode cX0_visitsOf 1 = .ok (.iconst 0, 1) := dk_3 (dk_at dksX0_visitsOf_0 1 rfl rfl)
theorem dX0_visitsOf_2 : decode cX0_visitsOf 2 = .ok (.aload_n 0, 1) := dk_42 (dk_at dksX0_visitsOf_0 2 rfl rfl)
theorem dX0_visitsOf_3 : decode cX0_visitsOf 3 = .ok (.iload_n 1, 1) := dk_27 (dk_at dksX0_visitsOf_0 3 rfl rfl)
theorem dX0_visitsOf_4 : decode cX0_visitsOf 4 = .ok (.invokevirtual 62, 3) := dk_182 0 62 (dk_at dksX0_visitsOf_0 4 rfl rfl)
theorem dX0_visitsOf_7 : decode cX0_visitsOf 7 = .ok (.i2l, 1) := dk_133 (dk_at dksX0_visitsOf_0 7 rfl rfl)
theorem dX0_visitsOf_8 : decode cX0_visitsOf 8 = .ok (.lastore, 1) := dk_80 (dk_at dksX0_visitsOf_0 8 rfl rfl)
theorem dX0_visitsOf_9 : decode cX0_visitsOf 9 = .ok (.goto 6, 3) := dk_167 0 6 (dk_at dksX0_visitsOf_0 9 rfl rfl)
theorem dX0_visitsOf_12 : decode cX0_visitsOf 12 = .ok (.astore_n 3, 1) := dk_78 (dk_at dksX0_visitsOf_0 12 rfl rfl)
theorem dX0_visitsOf_13 : decode cX0_visitsOf 13 = .ok (.iconst 1, 1) := dk_4 (dk_at dksX0_visitsOf_0 13 rfl rfl)
theorem dX0_visitsOf_14 : decode cX0_visitsOf 14 = .ok (.ireturn, 1) := dk_172 (dk_at dksX0_visitsOf_0 14 rfl rfl)
theorem dX0_visitsOf_15 : decode cX0_visitsOf 15 = .ok (.iconst 0, 1) := dk_3 (dk_at dksX0_visitsOf_0 15 rfl rfl)
theorem dX0_visitsOf_16 : decode cX0_visitsOf 16 = .ok (.ireturn, 1) := dk_172 (dk_at dksX0_visitsOf_0 16 rfl rfl)
abbrev cX0_rejectedWith : ByteArray := method_20_code
def yX0_rejectedWith : MethodName := ⟨RX0, "rejectedWith", "(LContractMachine;I[J)I"⟩
def dkwX0_rejectedWith_0 : List UInt8 := [44, 3, 42, 27, 182, 0, 65, 133, 80, 167, 0, 6, 78, 4, 172, 3, 172]
abbrev dktX0_rejectedWith_0 : List UInt8 := dkwX0_rejectedWith_0 ++ []
theorem dksX0_rejectedWith_0 : cX0_rejectedWith.data.toList.drop 0 = dktX0_rejectedWith_0 := by decide +kernel
theorem dX0_rejectedWith_0 : decode cX0_rejectedWith 0 = .ok (.aload_n 2, 1) := dk_44 (dk_at dksX0_rejectedWith_0 0 rfl rfl)
theorem dX0_rejectedWith_1 : decode cX0_rejectedWith 1 = .ok (.iconst 0, 1) := dk_3 (dk_at dksX0_rejectedWith_0 1 rfl rfl)
theorem dX0_rejectedWith_2 : decode cX0_rejectedWith 2 = .ok (.aload_n 0, 1) := dk_42 (dk_at dksX0_rejectedWith_0 2 rfl rfl)
theorem dX0_rejectedWith_3 : decode cX0_rejectedWith 3 = .ok (.iload_n 1, 1) := dk_27 (dk_at dksX0_rejectedWith_0 3 rfl rfl)
theorem dX0_rejectedWith_4 : decode cX0_rejectedWith 4 = .ok (.invokevirtual 65, 3) := dk_182 0 65 (dk_at dksX0_rejectedWith_0 4 rfl rfl)
theorem dX0_rejectedWith_7 : decode cX0_rejectedWith 7 = .ok (.i2l, 1) := dk_133 (dk_at dksX0_rejectedWith_0 7 rfl rfl)
theorem dX0_rejectedWith_8 : decode cX0_rejectedWith 8 = .ok (.lastore, 1) := dk_80 (dk_at dksX0_rejectedWith_0 8 rfl rfl)
theorem dX0_rejectedWith_9 : decode cX0_rejectedWith 9 = .ok (.goto 6, 3) := dk_167 0 6 (dk_at dksX0_rejectedWith_0 9 rfl rfl)
theorem dX0_rejectedWith_12 : decode cX0_rejectedWith 12 = .ok (.astore_n 3, 1) := dk_78 (dk_at dksX0_rejectedWith_0 12 rfl rfl)
theorem dX0_rejectedWith_13 : decode cX0_rejectedWith 13 = .ok (.iconst 1, 1) := dk_4 (dk_at dksX0_rejectedWith_0 13 rfl rfl)
theorem dX0_rejectedWith_14 : decode cX0_rejectedWith 14 = .ok (.ireturn, 1) := dk_172 (dk_at dksX0_rejectedWith_0 14 rfl rfl)
theorem dX0_rejectedWith_15 : decode cX0_rejectedWith 15 = .ok (.iconst 0, 1) := dk_3 (dk_at dksX0_rejectedWith_0 15 rfl rfl)
theorem dX0_rejectedWith_16 : decode cX0_rejectedWith 16 = .ok (.ireturn, 1) := dk_172 (dk_at dksX0_rejectedWith_0 16 rfl rfl)
abbrev cX0_isReachable : ByteArray := method_21_code
def yX0_isReachable : MethodName := ⟨RX0, "isReachable", "(LContractMachine;I[J)I"⟩
def dkwX0_isReachable_0 : List UInt8 := [44, 3, 42, 27, 182, 0, 70, 153, 0, 7, 10, 167, 0, 4, 9, 80, 167, 0, 6, 78, 4, 172, 3, 172]
abbrev dktX0_isReachable_0 : List UInt8 := dkwX0_isReachable_0 ++ []
theorem dksX0_isReachable_0 : cX0_isReachable.data.toList.drop 0 = dktX0_isReachable_0 := by decide +kernel
theorem dX0_isReachable_0 : decode cX0_isReachable 0 = .ok (.aload_n 2, 1) := dk_44 (dk_at dksX0_isReachable_0 0 rfl rfl)
theorem dX0_isReachable_1 : decode cX0_isReachable 1 = .ok (.iconst 0, 1) := dk_3 (dk_at dksX0_isReachable_0 1 rfl rfl)
theorem dX0_isReachable_2 : decode cX0_isReachable 2 = .ok (.aload_n 0, 1) := dk_42 (dk_at dksX0_isReachable_0 2 rfl rfl)
theorem dX0_isReachable_3 : decode cX0_isReachable 3 = .ok (.iload_n 1, 1) := dk_27 (dk_at dksX0_isReachable_0 3 rfl rfl)
theorem dX0_isReachable_4 : decode cX0_isReachable 4 = .ok (.invokevirtual 70, 3) := dk_182 0 70 (dk_at dksX0_isReachable_0 4 rfl rfl)
theorem dX0_isReachable_7 : decode cX0_isReachable 7 = .ok (.ifCond .eq 7, 3) := dk_153 0 7 (dk_at dksX0_isReachable_0 7 rfl rfl)
theorem dX0_isReachable_10 : decode cX0_isReachable 10 = .ok (.lconst 1, 1) := dk_10 (dk_at dksX0_isReachable_0 10 rfl rfl)
theorem dX0_isReachable_11 : decode cX0_isReachable 11 = .ok (.goto 4, 3) := dk_167 0 4 (dk_at dksX0_isReachable_0 11 rfl rfl)
theorem dX0_isReachable_14 : decode cX0_isReachable 14 = .ok (.lconst 0, 1) := dk_9 (dk_at dksX0_isReachable_0 14 rfl rfl)
theorem dX0_isReachable_15 : decode cX0_isReachable 15 = .ok (.lastore, 1) := dk_80 (dk_at dksX0_isReachable_0 15 rfl rfl)
theorem dX0_isReachable_16 : decode cX0_isReachable 16 = .ok (.goto 6, 3) := dk_167 0 6 (dk_at dksX0_isReachable_0 16 rfl rfl)
theorem dX0_isReachable_19 : decode cX0_isReachable 19 = .ok (.astore_n 3, 1) := dk_78 (dk_at dksX0_isReachable_0 19 rfl rfl)
theorem dX0_isReachable_20 : decode cX0_isReachable 20 = .ok (.iconst 1, 1) := dk_4 (dk_at dksX0_isReachable_0 20 rfl rfl)
theorem dX0_isReachable_21 : decode cX0_isReachable 21 = .ok (.ireturn, 1) := dk_172 (dk_at dksX0_isReachable_0 21 rfl rfl)
theorem dX0_isReachable_22 : decode cX0_isReachable 22 = .ok (.iconst 0, 1) := dk_3 (dk_at dksX0_isReachable_0 22 rfl rfl)
theorem dX0_isReachable_23 : decode cX0_isReachable 23 = .ok (.ireturn, 1) := dk_172 (dk_at dksX0_isReachable_0 23 rfl rfl)
abbrev cX0_canBeTaken : ByteArray := method_22_code
def yX0_canBeTaken : MethodName := ⟨RX0, "canBeTaken", "(LContractMachine;I[J)I"⟩
def dkwX0_canBeTaken_0 : List UInt8 := [44, 3, 42, 27, 182, 0, 73, 153, 0, 7, 10, 167, 0, 4, 9, 80, 167, 0, 6, 78, 4, 172, 3, 172]
abbrev dktX0_canBeTaken_0 : List UInt8 := dkwX0_canBeTaken_0 ++ []
theorem dksX0_canBeTaken_0 : cX0_canBeTaken.data.toList.drop 0 = dktX0_canBeTaken_0 := by decide +kernel
theorem dX0_canBeTaken_0 : decode cX0_canBeTaken 0 = .ok (.aload_n 2, 1) := dk_44 (dk_at dksX0_canBeTaken_0 0 rfl rfl)
theorem dX0_canBeTaken_1 : decode cX0_canBeTaken 1 = .ok (.iconst 0, 1) := dk_3 (dk_at dksX0_canBeTaken_0 1 rfl rfl)
theorem dX0_canBeTaken_2 : decode cX0_canBeTaken 2 = .ok (.aload_n 0, 1) := dk_42 (dk_at dksX0_canBeTaken_0 2 rfl rfl)
theorem dX0_canBeTaken_3 : decode cX0_canBeTaken 3 = .ok (.iload_n 1, 1) := dk_27 (dk_at dksX0_canBeTaken_0 3 rfl rfl)
theorem dX0_canBeTaken_4 : decode cX0_canBeTaken 4 = .ok (.invokevirtual 73, 3) := dk_182 0 73 (dk_at dksX0_canBeTaken_0 4 rfl rfl)
theorem dX0_canBeTaken_7 : decode cX0_canBeTaken 7 = .ok (.ifCond .eq 7, 3) := dk_153 0 7 (dk_at dksX0_canBeTaken_0 7 rfl rfl)
theorem dX0_canBeTaken_10 : decode cX0_canBeTaken 10 = .ok (.lconst 1, 1) := dk_10 (dk_at dksX0_canBeTaken_0 10 rfl rfl)
theorem dX0_canBeTaken_11 : decode cX0_canBeTaken 11 = .ok (.goto 4, 3) := dk_167 0 4 (dk_at dksX0_canBeTaken_0 11 rfl rfl)
theorem dX0_canBeTaken_14 : decode cX0_canBeTaken 14 = .ok (.lconst 0, 1) := dk_9 (dk_at dksX0_canBeTaken_0 14 rfl rfl)
theorem dX0_canBeTaken_15 : decode cX0_canBeTaken 15 = .ok (.lastore, 1) := dk_80 (dk_at dksX0_canBeTaken_0 15 rfl rfl)
theorem dX0_canBeTaken_16 : decode cX0_canBeTaken 16 = .ok (.goto 6, 3) := dk_167 0 6 (dk_at dksX0_canBeTaken_0 16 rfl rfl)
theorem dX0_canBeTaken_19 : decode cX0_canBeTaken 19 = .ok (.astore_n 3, 1) := dk_78 (dk_at dksX0_canBeTaken_0 19 rfl rfl)
theorem dX0_canBeTaken_20 : decode cX0_canBeTaken 20 = .ok (.iconst 1, 1) := dk_4 (dk_at dksX0_canBeTaken_0 20 rfl rfl)
theorem dX0_canBeTaken_21 : decode cX0_canBeTaken 21 = .ok (.ireturn, 1) := dk_172 (dk_at dksX0_canBeTaken_0 21 rfl rfl)
theorem dX0_canBeTaken_22 : decode cX0_canBeTaken 22 = .ok (.iconst 0, 1) := dk_3 (dk_at dksX0_canBeTaken_0 22 rfl rfl)
theorem dX0_canBeTaken_23 : decode cX0_canBeTaken 23 = .ok (.ireturn, 1) := dk_172 (dk_at dksX0_canBeTaken_0 23 rfl rfl)
abbrev cX0_stepsTo : ByteArray := method_23_code
def yX0_stepsTo : MethodName := ⟨RX0, "stepsTo", "(LContractMachine;I[J)I"⟩
def dkwX0_stepsTo_0 : List UInt8 := [44, 3, 42, 27, 182, 0, 76, 133, 80, 167, 0, 6, 78, 4, 172, 3, 172]
abbrev dktX0_stepsTo_0 : List UInt8 := dkwX0_stepsTo_0 ++ []
theorem dksX0_stepsTo_0 : cX0_stepsTo.data.toList.drop 0 = dktX0_stepsTo_0 := by decide +kernel
theorem dX0_stepsTo_0 : decode cX0_stepsTo 0 = .ok (.aload_n 2, 1) := dk_44 (dk_at dksX0_stepsTo_0 0 rfl rfl)
theorem dX0_stepsTo_1 : decode cX0_stepsTo 1 = .ok (.iconst 0, 1) := dk_3 (dk_at dksX0_stepsTo_0 1 rfl rfl)
theorem dX0_stepsTo_2 : decode cX0_stepsTo 2 = .ok (.aload_n 0, 1) := dk_42 (dk_at dksX0_stepsTo_0 2 rfl rfl)
theorem dX0_stepsTo_3 : decode cX0_stepsTo 3 = .ok (.iload_n 1, 1) := dk_27 (dk_at dksX0_stepsTo_0 3 rfl rfl)
theorem dX0_stepsTo_4 : decode cX0_stepsTo 4 = .ok (.invokevirtual 76, 3) := dk_182 0 76 (dk_at dksX0_stepsTo_0 4 rfl rfl)
theorem dX0_stepsTo_7 : decode cX0_stepsTo 7 = .ok (.i2l, 1) := dk_133 (dk_at dksX0_stepsTo_0 7 rfl rfl)
theorem dX0_stepsTo_8 : decode cX0_stepsTo 8 = .ok (.lastore, 1) := dk_80 (dk_at dksX0_stepsTo_0 8 rfl rfl)
theorem dX0_stepsTo_9 : decode cX0_stepsTo 9 = .ok (.goto 6, 3) := dk_167 0 6 (dk_at dksX0_stepsTo_0 9 rfl rfl)
theorem dX0_stepsTo_12 : decode cX0_stepsTo 12 = .ok (.astore_n 3, 1) := dk_78 (dk_at dksX0_stepsTo_0 12 rfl rfl)
theorem dX0_stepsTo_13 : decode cX0_stepsTo 13 = .ok (.iconst 1, 1) := dk_4 (dk_at dksX0_stepsTo_0 13 rfl rfl)
theorem dX0_stepsTo_14 : decode cX0_stepsTo 14 = .ok (.ireturn, 1) := dk_172 (dk_at dksX0_stepsTo_0 14 rfl rfl)
theorem dX0_stepsTo_15 : decode cX0_stepsTo 15 = .ok (.iconst 0, 1) := dk_3 (dk_at dksX0_stepsTo_0 15 rfl rfl)
theorem dX0_stepsTo_16 : decode cX0_stepsTo 16 = .ok (.ireturn, 1) := dk_172 (dk_at dksX0_stepsTo_0 16 rfl rfl)
abbrev cX0_firstEventTo : ByteArray := method_24_code
def yX0_firstEventTo : MethodName := ⟨RX0, "firstEventTo", "(LContractMachine;I[J)I"⟩
def dkwX0_firstEventTo_0 : List UInt8 := [44, 3, 42, 27, 182, 0, 79, 133, 80, 167, 0, 6, 78, 4, 172, 3, 172]
abbrev dktX0_firstEventTo_0 : List UInt8 := dkwX0_firstEventTo_0 ++ []
theorem dksX0_firstEventTo_0 : cX0_firstEventTo.data.toList.drop 0 = dktX0_firstEventTo_0 := by decide +kernel
theorem dX0_firstEventTo_0 : decode cX0_firstEventTo 0 = .ok (.aload_n 2, 1) := dk_44 (dk_at dksX0_firstEventTo_0 0 rfl rfl)
theorem dX0_firstEventTo_1 : decode cX0_firstEventTo 1 = .ok (.iconst 0, 1) := dk_3 (dk_at dksX0_firstEventTo_0 1 rfl rfl)
theorem dX0_firstEventTo_2 : decode cX0_firstEventTo 2 = .ok (.aload_n 0, 1) := dk_42 (dk_at dksX0_firstEventTo_0 2 rfl rfl)
theorem dX0_firstEventTo_3 : decode cX0_firstEventTo 3 = .ok (.iload_n 1, 1) := dk_27 (dk_at dksX0_firstEventTo_0 3 rfl rfl)
theorem dX0_firstEventTo_4 : decode cX0_firstEventTo 4 = .ok (.invokevirtual 79, 3) := dk_182 0 79 (dk_at dksX0_firstEventTo_0 4 rfl rfl)
theorem dX0_firstEventTo_7 : decode cX0_firstEventTo 7 = .ok (.i2l, 1) := dk_133 (dk_at dksX0_firstEventTo_0 7 rfl rfl)
theorem dX0_firstEventTo_8 : decode cX0_firstEventTo 8 = .ok (.lastore, 1) := dk_80 (dk_at dksX0_firstEventTo_0 8 rfl rfl)
theorem dX0_firstEventTo_9 : decode cX0_firstEventTo 9 = .ok (.goto 6, 3) := dk_167 0 6 (dk_at dksX0_firstEventTo_0 9 rfl rfl)
theorem dX0_firstEventTo_12 : decode cX0_firstEventTo 12 = .ok (.astore_n 3, 1) := dk_78 (dk_at dksX0_firstEventTo_0 12 rfl rfl)
theorem dX0_firstEventTo_13 : decode cX0_firstEventTo 13 = .ok (.iconst 1, 1) := dk_4 (dk_at dksX0_firstEventTo_0 13 rfl rfl)
theorem dX0_firstEventTo_14 : decode cX0_firstEventTo 14 = .ok (.ireturn, 1) := dk_172 (dk_at dksX0_firstEventTo_0 14 rfl rfl)
theorem dX0_firstEventTo_15 : decode cX0_firstEventTo 15 = .ok (.iconst 0, 1) := dk_3 (dk_at dksX0_firstEventTo_0 15 rfl rfl)
theorem dX0_firstEventTo_16 : decode cX0_firstEventTo 16 = .ok (.ireturn, 1) := dk_172 (dk_at dksX0_firstEventTo_0 16 rfl rfl)
abbrev cX0_fire : ByteArray := method_25_code
def yX0_fire : MethodName := ⟨RX0, "fire", "(LContractMachine;I[J)I"⟩
def dkwX0_fire_0 : List UInt8 := [44, 3, 42, 27, 182, 0, 82, 133, 80, 167, 0, 6, 78, 4, 172, 3, 172]
abbrev dktX0_fire_0 : List UInt8 := dkwX0_fire_0 ++ []
theorem dksX0_fire_0 : cX0_fire.data.toList.drop 0 = dktX0_fire_0 := by decide +kernel
theorem dX0_fire_0 : decode cX0_fire 0 = .ok (.aload_n 2, 1) := dk_44 (dk_at dksX0_fire_0 0 rfl rfl)
theorem dX0_fire_1 : decode cX0_fire 1 = .ok (.iconst 0, 1) := dk_3 (dk_at dksX0_fire_0 1 rfl rfl)
theorem dX0_fire_2 : decode cX0_fire 2 = .ok (.aload_n 0, 1) := dk_42 (dk_at dksX0_fire_0 2 rfl rfl)
theorem dX0_fire_3 : decode cX0_fire 3 = .ok (.iload_n 1, 1) := dk_27 (dk_at dksX0_fire_0 3 rfl rfl)
theorem dX0_fire_4 : decode cX0_fire 4 = .ok (.invokevirtual 82, 3) := dk_182 0 82 (dk_at dksX0_fire_0 4 rfl rfl)
theorem dX0_fire_7 : decode cX0_fire 7 = .ok (.i2l, 1) := dk_133 (dk_at dksX0_fire_0 7 rfl rfl)
theorem dX0_fire_8 : decode cX0_fire 8 = .ok (.lastore, 1) := dk_80 (dk_at dksX0_fire_0 8 rfl rfl)
theorem dX0_fire_9 : decode cX0_fire 9 = .ok (.goto 6, 3) := dk_167 0 6 (dk_at dksX0_fire_0 9 rfl rfl)
theorem dX0_fire_12 : decode cX0_fire 12 = .ok (.astore_n 3, 1) := dk_78 (dk_at dksX0_fire_0 12 rfl rfl)
theorem dX0_fire_13 : decode cX0_fire 13 = .ok (.iconst 1, 1) := dk_4 (dk_at dksX0_fire_0 13 rfl rfl)
theorem dX0_fire_14 : decode cX0_fire 14 = .ok (.ireturn, 1) := dk_172 (dk_at dksX0_fire_0 14 rfl rfl)
theorem dX0_fire_15 : decode cX0_fire 15 = .ok (.iconst 0, 1) := dk_3 (dk_at dksX0_fire_0 15 rfl rfl)
theorem dX0_fire_16 : decode cX0_fire 16 = .ok (.ireturn, 1) := dk_172 (dk_at dksX0_fire_0 16 rfl rfl)
abbrev cX0_setValue : ByteArray := method_26_code
def yX0_setValue : MethodName := ⟨RX0, "setValue", "(LContractMachine;II[J)I"⟩
def dkwX0_setValue_1 : List UInt8 := [172, 3, 172]
abbrev dktX0_setValue_1 : List UInt8 := dkwX0_setValue_1 ++ []
def dkwX0_setValue_0 : List UInt8 := [45, 3, 42, 27, 28, 182, 0, 85, 133, 80, 167, 0, 15, 58, 4, 4, 172, 58, 4, 5, 172, 58, 4, 6]
abbrev dktX0_setValue_0 : List UInt8 := dkwX0_setValue_0 ++ dktX0_setValue_1
theorem dksX0_setValue_0 : cX0_setValue.data.toList.drop 0 = dktX0_setValue_0 := by decide +kernel
theorem dksX0_setValue_1 : cX0_setValue.data.toList.drop 24 = dktX0_setValue_1 := dk_seg dksX0_setValue_0 24 rfl rfl
theorem dX0_setValue_0 : decode cX0_setValue 0 = .ok (.aload_n 3, 1) := dk_45 (dk_at dksX0_setValue_0 0 rfl rfl)
theorem dX0_setValue_1 : decode cX0_setValue 1 = .ok (.iconst 0, 1) := dk_3 (dk_at dksX0_setValue_0 1 rfl rfl)
theorem dX0_setValue_2 : decode cX0_setValue 2 = .ok (.aload_n 0, 1) := dk_42 (dk_at dksX0_setValue_0 2 rfl rfl)
theorem dX0_setValue_3 : decode cX0_setValue 3 = .ok (.iload_n 1, 1) := dk_27 (dk_at dksX0_setValue_0 3 rfl rfl)
theorem dX0_setValue_4 : decode cX0_setValue 4 = .ok (.iload_n 2, 1) := dk_28 (dk_at dksX0_setValue_0 4 rfl rfl)
theorem dX0_setValue_5 : decode cX0_setValue 5 = .ok (.invokevirtual 85, 3) := dk_182 0 85 (dk_at dksX0_setValue_0 5 rfl rfl)
theorem dX0_setValue_8 : decode cX0_setValue 8 = .ok (.i2l, 1) := dk_133 (dk_at dksX0_setValue_0 8 rfl rfl)
theorem dX0_setValue_9 : decode cX0_setValue 9 = .ok (.lastore, 1) := dk_80 (dk_at dksX0_setValue_0 9 rfl rfl)
theorem dX0_setValue_10 : decode cX0_setValue 10 = .ok (.goto 15, 3) := dk_167 0 15 (dk_at dksX0_setValue_0 10 rfl rfl)
theorem dX0_setValue_13 : decode cX0_setValue 13 = .ok (.astore 4, 2) := dk_58 4 (dk_at dksX0_setValue_0 13 rfl rfl)
theorem dX0_setValue_15 : decode cX0_setValue 15 = .ok (.iconst 1, 1) := dk_4 (dk_at dksX0_setValue_0 15 rfl rfl)
theorem dX0_setValue_16 : decode cX0_setValue 16 = .ok (.ireturn, 1) := dk_172 (dk_at dksX0_setValue_0 16 rfl rfl)
theorem dX0_setValue_17 : decode cX0_setValue 17 = .ok (.astore 4, 2) := dk_58 4 (dk_at dksX0_setValue_0 17 rfl rfl)
theorem dX0_setValue_19 : decode cX0_setValue 19 = .ok (.iconst 2, 1) := dk_5 (dk_at dksX0_setValue_0 19 rfl rfl)
theorem dX0_setValue_20 : decode cX0_setValue 20 = .ok (.ireturn, 1) := dk_172 (dk_at dksX0_setValue_0 20 rfl rfl)
theorem dX0_setValue_21 : decode cX0_setValue 21 = .ok (.astore 4, 2) := dk_58 4 (dk_at dksX0_setValue_0 21 rfl rfl)
theorem dX0_setValue_23 : decode cX0_setValue 23 = .ok (.iconst 3, 1) := dk_6 (dk_at dksX0_setValue_0 23 rfl rfl)
theorem dX0_setValue_24 : decode cX0_setValue 24 = .ok (.ireturn, 1) := dk_172 (dk_at dksX0_setValue_1 0 rfl rfl)
theorem dX0_setValue_25 : decode cX0_setValue 25 = .ok (.iconst 0, 1) := dk_3 (dk_at dksX0_setValue_1 1 rfl rfl)
theorem dX0_setValue_26 : decode cX0_setValue 26 = .ok (.ireturn, 1) := dk_172 (dk_at dksX0_setValue_1 2 rfl rfl)
abbrev cX0_addAlways : ByteArray := method_27_code
def yX0_addAlways : MethodName := ⟨RX0, "addAlways", "(LContractMachine;III[J)I"⟩
def dkwX0_addAlways_1 : List UInt8 := [58, 5, 6, 172, 3, 172]
abbrev dktX0_addAlways_1 : List UInt8 := dkwX0_addAlways_1 ++ []
def dkwX0_addAlways_0 : List UInt8 := [25, 4, 3, 42, 27, 28, 29, 182, 0, 90, 133, 80, 167, 0, 15, 58, 5, 4, 172, 58, 5, 5, 172]
abbrev dktX0_addAlways_0 : List UInt8 := dkwX0_addAlways_0 ++ dktX0_addAlways_1
theorem dksX0_addAlways_0 : cX0_addAlways.data.toList.drop 0 = dktX0_addAlways_0 := by decide +kernel
theorem dksX0_addAlways_1 : cX0_addAlways.data.toList.drop 23 = dktX0_addAlways_1 := dk_seg dksX0_addAlways_0 23 rfl rfl
theorem dX0_addAlways_0 : decode cX0_addAlways 0 = .ok (.aload 4, 2) := dk_25 4 (dk_at dksX0_addAlways_0 0 rfl rfl)
theorem dX0_addAlways_2 : decode cX0_addAlways 2 = .ok (.iconst 0, 1) := dk_3 (dk_at dksX0_addAlways_0 2 rfl rfl)
theorem dX0_addAlways_3 : decode cX0_addAlways 3 = .ok (.aload_n 0, 1) := dk_42 (dk_at dksX0_addAlways_0 3 rfl rfl)
theorem dX0_addAlways_4 : decode cX0_addAlways 4 = .ok (.iload_n 1, 1) := dk_27 (dk_at dksX0_addAlways_0 4 rfl rfl)
theorem dX0_addAlways_5 : decode cX0_addAlways 5 = .ok (.iload_n 2, 1) := dk_28 (dk_at dksX0_addAlways_0 5 rfl rfl)
theorem dX0_addAlways_6 : decode cX0_addAlways 6 = .ok (.iload_n 3, 1) := dk_29 (dk_at dksX0_addAlways_0 6 rfl rfl)
theorem dX0_addAlways_7 : decode cX0_addAlways 7 = .ok (.invokevirtual 90, 3) := dk_182 0 90 (dk_at dksX0_addAlways_0 7 rfl rfl)
theorem dX0_addAlways_10 : decode cX0_addAlways 10 = .ok (.i2l, 1) := dk_133 (dk_at dksX0_addAlways_0 10 rfl rfl)
theorem dX0_addAlways_11 : decode cX0_addAlways 11 = .ok (.lastore, 1) := dk_80 (dk_at dksX0_addAlways_0 11 rfl rfl)
theorem dX0_addAlways_12 : decode cX0_addAlways 12 = .ok (.goto 15, 3) := dk_167 0 15 (dk_at dksX0_addAlways_0 12 rfl rfl)
theorem dX0_addAlways_15 : decode cX0_addAlways 15 = .ok (.astore 5, 2) := dk_58 5 (dk_at dksX0_addAlways_0 15 rfl rfl)
theorem dX0_addAlways_17 : decode cX0_addAlways 17 = .ok (.iconst 1, 1) := dk_4 (dk_at dksX0_addAlways_0 17 rfl rfl)
theorem dX0_addAlways_18 : decode cX0_addAlways 18 = .ok (.ireturn, 1) := dk_172 (dk_at dksX0_addAlways_0 18 rfl rfl)
theorem dX0_addAlways_19 : decode cX0_addAlways 19 = .ok (.astore 5, 2) := dk_58 5 (dk_at dksX0_addAlways_0 19 rfl rfl)
theorem dX0_addAlways_21 : decode cX0_addAlways 21 = .ok (.iconst 2, 1) := dk_5 (dk_at dksX0_addAlways_0 21 rfl rfl)
theorem dX0_addAlways_22 : decode cX0_addAlways 22 = .ok (.ireturn, 1) := dk_172 (dk_at dksX0_addAlways_0 22 rfl rfl)
theorem dX0_addAlways_23 : decode cX0_addAlways 23 = .ok (.astore 5, 2) := dk_58 5 (dk_at dksX0_addAlways_1 0 rfl rfl)
theorem dX0_addAlways_25 : decode cX0_addAlways 25 = .ok (.iconst 3, 1) := dk_6 (dk_at dksX0_addAlways_1 2 rfl rfl)
theorem dX0_addAlways_26 : decode cX0_addAlways 26 = .ok (.ireturn, 1) := dk_172 (dk_at dksX0_addAlways_1 3 rfl rfl)
theorem dX0_addAlways_27 : decode cX0_addAlways 27 = .ok (.iconst 0, 1) := dk_3 (dk_at dksX0_addAlways_1 4 rfl rfl)
theorem dX0_addAlways_28 : decode cX0_addAlways 28 = .ok (.ireturn, 1) := dk_172 (dk_at dksX0_addAlways_1 5 rfl rfl)
abbrev cX0_undo : ByteArray := method_28_code
def yX0_undo : MethodName := ⟨RX0, "undo", "(LContractMachine;[J)I"⟩
def dkwX0_undo_0 : List UInt8 := [43, 3, 42, 182, 0, 94, 133, 80, 167, 0, 6, 77, 4, 172, 3, 172]
abbrev dktX0_undo_0 : List UInt8 := dkwX0_undo_0 ++ []
theorem dksX0_undo_0 : cX0_undo.data.toList.drop 0 = dktX0_undo_0 := by decide +kernel
theorem dX0_undo_0 : decode cX0_undo 0 = .ok (.aload_n 1, 1) := dk_43 (dk_at dksX0_undo_0 0 rfl rfl)
theorem dX0_undo_1 : decode cX0_undo 1 = .ok (.iconst 0, 1) := dk_3 (dk_at dksX0_undo_0 1 rfl rfl)
theorem dX0_undo_2 : decode cX0_undo 2 = .ok (.aload_n 0, 1) := dk_42 (dk_at dksX0_undo_0 2 rfl rfl)
theorem dX0_undo_3 : decode cX0_undo 3 = .ok (.invokevirtual 94, 3) := dk_182 0 94 (dk_at dksX0_undo_0 3 rfl rfl)
theorem dX0_undo_6 : decode cX0_undo 6 = .ok (.i2l, 1) := dk_133 (dk_at dksX0_undo_0 6 rfl rfl)
theorem dX0_undo_7 : decode cX0_undo 7 = .ok (.lastore, 1) := dk_80 (dk_at dksX0_undo_0 7 rfl rfl)
theorem dX0_undo_8 : decode cX0_undo 8 = .ok (.goto 6, 3) := dk_167 0 6 (dk_at dksX0_undo_0 8 rfl rfl)
theorem dX0_undo_11 : decode cX0_undo 11 = .ok (.astore_n 2, 1) := dk_77 (dk_at dksX0_undo_0 11 rfl rfl)
theorem dX0_undo_12 : decode cX0_undo 12 = .ok (.iconst 1, 1) := dk_4 (dk_at dksX0_undo_0 12 rfl rfl)
theorem dX0_undo_13 : decode cX0_undo 13 = .ok (.ireturn, 1) := dk_172 (dk_at dksX0_undo_0 13 rfl rfl)
theorem dX0_undo_14 : decode cX0_undo 14 = .ok (.iconst 0, 1) := dk_3 (dk_at dksX0_undo_0 14 rfl rfl)
theorem dX0_undo_15 : decode cX0_undo 15 = .ok (.ireturn, 1) := dk_172 (dk_at dksX0_undo_0 15 rfl rfl)
abbrev cX0_restoreState : ByteArray := method_29_code
def yX0_restoreState : MethodName := ⟨RX0, "restoreState", "(LContractMachine;[J)I"⟩
def dkwX0_restoreState_0 : List UInt8 := [43, 3, 42, 182, 0, 100, 133, 80, 167, 0, 6, 77, 4, 172, 3, 172]
abbrev dktX0_restoreState_0 : List UInt8 := dkwX0_restoreState_0 ++ []
theorem dksX0_restoreState_0 : cX0_restoreState.data.toList.drop 0 = dktX0_restoreState_0 := by decide +kernel
theorem dX0_restoreState_0 : decode cX0_restoreState 0 = .ok (.aload_n 1, 1) := dk_43 (dk_at dksX0_restoreState_0 0 rfl rfl)
theorem dX0_restoreState_1 : decode cX0_restoreState 1 = .ok (.iconst 0, 1) := dk_3 (dk_at dksX0_restoreState_0 1 rfl rfl)
theorem dX0_restoreState_2 : decode cX0_restoreState 2 = .ok (.aload_n 0, 1) := dk_42 (dk_at dksX0_restoreState_0 2 rfl rfl)
theorem dX0_restoreState_3 : decode cX0_restoreState 3 = .ok (.invokevirtual 100, 3) := dk_182 0 100 (dk_at dksX0_restoreState_0 3 rfl rfl)
theorem dX0_restoreState_6 : decode cX0_restoreState 6 = .ok (.i2l, 1) := dk_133 (dk_at dksX0_restoreState_0 6 rfl rfl)
theorem dX0_restoreState_7 : decode cX0_restoreState 7 = .ok (.lastore, 1) := dk_80 (dk_at dksX0_restoreState_0 7 rfl rfl)
theorem dX0_restoreState_8 : decode cX0_restoreState 8 = .ok (.goto 6, 3) := dk_167 0 6 (dk_at dksX0_restoreState_0 8 rfl rfl)
theorem dX0_restoreState_11 : decode cX0_restoreState 11 = .ok (.astore_n 2, 1) := dk_77 (dk_at dksX0_restoreState_0 11 rfl rfl)
theorem dX0_restoreState_12 : decode cX0_restoreState 12 = .ok (.iconst 1, 1) := dk_4 (dk_at dksX0_restoreState_0 12 rfl rfl)
theorem dX0_restoreState_13 : decode cX0_restoreState 13 = .ok (.ireturn, 1) := dk_172 (dk_at dksX0_restoreState_0 13 rfl rfl)
theorem dX0_restoreState_14 : decode cX0_restoreState 14 = .ok (.iconst 0, 1) := dk_3 (dk_at dksX0_restoreState_0 14 rfl rfl)
theorem dX0_restoreState_15 : decode cX0_restoreState 15 = .ok (.ireturn, 1) := dk_172 (dk_at dksX0_restoreState_0 15 rfl rfl)
theorem q120 : (Jvm.Cond.initialized "ContractMachineLaw") ∈ lw_all := lw_g (lw_at lw_m1 0 rfl) rfl
theorem q182 : (Jvm.Cond.classLink "ContractMachineLaw" (8 : Nat) "ContractMachine") ∈ lw_all := lw_g (lw_at lw_m1 62 rfl) rfl
theorem q184 : (Jvm.Cond.methodLink "ContractMachineLaw" (103 : Nat) ({ cls := "ContractMachine", name := "<init>", desc := "()V" } : Jvm.MethodName)) ∈ lw_all := lw_g (lw_at lw_m1 64 rfl) rfl
theorem q941 : (Jvm.Cond.methodLink "ContractMachineLaw" (107 : Nat) ({ cls := "ContractMachine", name := "appendInput", desc := "(IIIII)I" } : Jvm.MethodName)) ∈ lw_all := lw_g (lw_at lw_m4 101 rfl) rfl
theorem q949 : (Jvm.Cond.methodLink "ContractMachineLaw" (112 : Nat) ({ cls := "ContractMachine", name := "truncateInput", desc := "(I)Z" } : Jvm.MethodName)) ∈ lw_all := lw_g (lw_at lw_m4 109 rfl) rfl
theorem q956 : (Jvm.Cond.methodLink "ContractMachineLaw" (116 : Nat) ({ cls := "ContractMachine", name := "loadMachine", desc := "()I" } : Jvm.MethodName)) ∈ lw_all := lw_g (lw_at lw_m4 116 rfl) rfl
theorem q1486 : (Jvm.Cond.methodLink "ContractMachineLaw" (120 : Nat) ({ cls := "ContractMachine", name := "runScript", desc := "()I" } : Jvm.MethodName)) ∈ lw_all := lw_g (lw_at lw_m6 166 rfl) rfl
theorem q1914 : (Jvm.Cond.methodLink "ContractMachineLaw" (124 : Nat) ({ cls := "ContractMachine", name := "errorCode", desc := "()I" } : Jvm.MethodName)) ∈ lw_all := lw_g (lw_at lw_m8 114 rfl) rfl
theorem q1918 : (Jvm.Cond.methodLink "ContractMachineLaw" (128 : Nat) ({ cls := "ContractMachine", name := "errorOffset", desc := "()I" } : Jvm.MethodName)) ∈ lw_all := lw_g (lw_at lw_m8 118 rfl) rfl
theorem q1922 : (Jvm.Cond.methodLink "ContractMachineLaw" (132 : Nat) ({ cls := "ContractMachine", name := "stateCount", desc := "()I" } : Jvm.MethodName)) ∈ lw_all := lw_g (lw_at lw_m8 122 rfl) rfl
theorem q1926 : (Jvm.Cond.methodLink "ContractMachineLaw" (136 : Nat) ({ cls := "ContractMachine", name := "eventCount", desc := "()I" } : Jvm.MethodName)) ∈ lw_all := lw_g (lw_at lw_m8 126 rfl) rfl
theorem q1930 : (Jvm.Cond.methodLink "ContractMachineLaw" (140 : Nat) ({ cls := "ContractMachine", name := "variableCount", desc := "()I" } : Jvm.MethodName)) ∈ lw_all := lw_g (lw_at lw_m8 130 rfl) rfl
theorem q1934 : (Jvm.Cond.methodLink "ContractMachineLaw" (144 : Nat) ({ cls := "ContractMachine", name := "transitionCount", desc := "()I" } : Jvm.MethodName)) ∈ lw_all := lw_g (lw_at lw_m8 134 rfl) rfl
theorem q1938 : (Jvm.Cond.methodLink "ContractMachineLaw" (148 : Nat) ({ cls := "ContractMachine", name := "invariantCount", desc := "()I" } : Jvm.MethodName)) ∈ lw_all := lw_g (lw_at lw_m8 138 rfl) rfl
theorem q1942 : (Jvm.Cond.methodLink "ContractMachineLaw" (167 : Nat) ({ cls := "ContractMachine", name := "currentState", desc := "()I" } : Jvm.MethodName)) ∈ lw_all := lw_g (lw_at lw_m8 142 rfl) rfl
theorem q1946 : (Jvm.Cond.methodLink "ContractMachineLaw" (208 : Nat) ({ cls := "ContractMachine", name := "isDeadlocked", desc := "()Z" } : Jvm.MethodName)) ∈ lw_all := lw_g (lw_at lw_m8 146 rfl) rfl
theorem q1954 : (Jvm.Cond.methodLink "ContractMachineLaw" (219 : Nat) ({ cls := "ContractMachine", name := "acceptedCount", desc := "()I" } : Jvm.MethodName)) ∈ lw_all := lw_g (lw_at lw_m8 154 rfl) rfl
theorem q1958 : (Jvm.Cond.methodLink "ContractMachineLaw" (223 : Nat) ({ cls := "ContractMachine", name := "rejectedCount", desc := "()I" } : Jvm.MethodName)) ∈ lw_all := lw_g (lw_at lw_m8 158 rfl) rfl
theorem q1966 : (Jvm.Cond.methodLink "ContractMachineLaw" (230 : Nat) ({ cls := "ContractMachine", name := "stateCoverage", desc := "()F" } : Jvm.MethodName)) ∈ lw_all := lw_g (lw_at lw_m8 166 rfl) rfl
theorem q1970 : (Jvm.Cond.methodLink "ContractMachineLaw" (235 : Nat) ({ cls := "ContractMachine", name := "transitionCoverage", desc := "()F" } : Jvm.MethodName)) ∈ lw_all := lw_g (lw_at lw_m8 170 rfl) rfl
theorem q1974 : (Jvm.Cond.methodLink "ContractMachineLaw" (239 : Nat) ({ cls := "ContractMachine", name := "firstUncovered", desc := "()I" } : Jvm.MethodName)) ∈ lw_all := lw_g (lw_at lw_m8 174 rfl) rfl
theorem q1978 : (Jvm.Cond.methodLink "ContractMachineLaw" (243 : Nat) ({ cls := "ContractMachine", name := "mostVisitedState", desc := "()I" } : Jvm.MethodName)) ∈ lw_all := lw_g (lw_at lw_m8 178 rfl) rfl
theorem q1982 : (Jvm.Cond.methodLink "ContractMachineLaw" (247 : Nat) ({ cls := "ContractMachine", name := "traceLength", desc := "()I" } : Jvm.MethodName)) ∈ lw_all := lw_g (lw_at lw_m8 182 rfl) rfl
theorem q1986 : (Jvm.Cond.methodLink "ContractMachineLaw" (251 : Nat) ({ cls := "ContractMachine", name := "traceEvent", desc := "(I)I" } : Jvm.MethodName)) ∈ lw_all := lw_g (lw_at lw_m8 186 rfl) rfl
theorem q1990 : (Jvm.Cond.methodLink "ContractMachineLaw" (255 : Nat) ({ cls := "ContractMachine", name := "traceTransition", desc := "(I)I" } : Jvm.MethodName)) ∈ lw_all := lw_g (lw_at lw_m8 190 rfl) rfl
theorem q1994 : (Jvm.Cond.methodLink "ContractMachineLaw" (259 : Nat) ({ cls := "ContractMachine", name := "reachableCount", desc := "()I" } : Jvm.MethodName)) ∈ lw_all := lw_g (lw_at lw_m8 194 rfl) rfl
theorem q2101 : (Jvm.Cond.methodLink "ContractMachineLaw" (275 : Nat) ({ cls := "ContractMachine", name := "deadlockCount", desc := "()I" } : Jvm.MethodName)) ∈ lw_all := lw_g (lw_at lw_m9 61 rfl) rfl
theorem q2115 : (Jvm.Cond.methodLink "ContractMachineLaw" (279 : Nat) ({ cls := "ContractMachine", name := "stepsToDeadlock", desc := "()I" } : Jvm.MethodName)) ∈ lw_all := lw_g (lw_at lw_m9 75 rfl) rfl
theorem q2135 : (Jvm.Cond.methodLink "ContractMachineLaw" (283 : Nat) ({ cls := "ContractMachine", name := "isConsistent", desc := "()Z" } : Jvm.MethodName)) ∈ lw_all := lw_g (lw_at lw_m9 95 rfl) rfl
theorem q2148 : (Jvm.Cond.methodLink "ContractMachineLaw" (287 : Nat) ({ cls := "ContractMachine", name := "meanValue", desc := "()D" } : Jvm.MethodName)) ∈ lw_all := lw_g (lw_at lw_m9 108 rfl) rfl
theorem q2152 : (Jvm.Cond.methodLink "ContractMachineLaw" (298 : Nat) ({ cls := "ContractMachine", name := "reset", desc := "()I" } : Jvm.MethodName)) ∈ lw_all := lw_g (lw_at lw_m9 112 rfl) rfl
theorem q2157 : (Jvm.Cond.methodLink "ContractMachineLaw" (302 : Nat) ({ cls := "ContractMachine", name := "clearCoverage", desc := "()I" } : Jvm.MethodName)) ∈ lw_all := lw_g (lw_at lw_m9 117 rfl) rfl
theorem q2161 : (Jvm.Cond.methodLink "ContractMachineLaw" (314 : Nat) ({ cls := "ContractMachine", name := "writeConfiguration", desc := "()I" } : Jvm.MethodName)) ∈ lw_all := lw_g (lw_at lw_m9 121 rfl) rfl
theorem q2237 : (Jvm.Cond.methodLink "ContractMachineLaw" (318 : Nat) ({ cls := "ContractMachine", name := "outputByte", desc := "(I)I" } : Jvm.MethodName)) ∈ lw_all := lw_g (lw_at lw_m9 197 rfl) rfl
theorem q2251 : (Jvm.Cond.methodLink "ContractMachineLaw" (322 : Nat) ({ cls := "ContractMachine", name := "saveState", desc := "()I" } : Jvm.MethodName)) ∈ lw_all := lw_g (lw_at lw_m9 211 rfl) rfl
theorem q2255 : (Jvm.Cond.methodLink "ContractMachineLaw" (152 : Nat) ({ cls := "ContractMachineLaw", name := "stateNameByte", desc := "(LContractMachine;II[J)I" } : Jvm.MethodName)) ∈ lw_all := lw_g (lw_at lw_m9 215 rfl) rfl
theorem q2256 : (Jvm.Cond.static ({ cls := "ContractMachineLaw", name := "stateNameByte", desc := "(LContractMachine;II[J)I" } : Jvm.MethodName)) ∈ lw_all := lw_g (lw_at lw_m9 216 rfl) rfl
theorem q2257 : (Jvm.Cond.codeWith ({ cls := "ContractMachineLaw", name := "stateNameByte", desc := "(LContractMachine;II[J)I" } : Jvm.MethodName) method_3_code (5 : Nat) (Option.some Jvm.ClassFile.FieldType.int) [((0 : Nat), (10 : Nat), (13 : Nat), (13 : Nat))]) ∈ lw_all := lw_g (lw_at lw_m9 217 rfl) rfl
theorem q2258 : (Jvm.Cond.classLink "ContractMachineLaw" (13 : Nat) "java/lang/IndexOutOfBoundsException") ∈ lw_all := lw_g (lw_at lw_m9 218 rfl) rfl
theorem q2261 : (Jvm.Cond.methodLink "ContractMachineLaw" (7 : Nat) ({ cls := "ContractMachine", name := "stateNameByte", desc := "(II)I" } : Jvm.MethodName)) ∈ lw_all := lw_g (lw_at lw_m9 221 rfl) rfl
theorem q2291 : (Jvm.Cond.methodLink "ContractMachineLaw" (161 : Nat) ({ cls := "ContractMachineLaw", name := "eventNameByte", desc := "(LContractMachine;II[J)I" } : Jvm.MethodName)) ∈ lw_all := lw_g (lw_at lw_m10 11 rfl) rfl
theorem q2292 : (Jvm.Cond.static ({ cls := "ContractMachineLaw", name := "eventNameByte", desc := "(LContractMachine;II[J)I" } : Jvm.MethodName)) ∈ lw_all := lw_g (lw_at lw_m10 12 rfl) rfl
theorem q2293 : (Jvm.Cond.codeWith ({ cls := "ContractMachineLaw", name := "eventNameByte", desc := "(LContractMachine;II[J)I" } : Jvm.MethodName) method_4_code (5 : Nat) (Option.some Jvm.ClassFile.FieldType.int) [((0 : Nat), (10 : Nat), (13 : Nat), (13 : Nat))]) ∈ lw_all := lw_g (lw_at lw_m10 13 rfl) rfl
theorem q2294 : (Jvm.Cond.methodLink "ContractMachineLaw" (15 : Nat) ({ cls := "ContractMachine", name := "eventNameByte", desc := "(II)I" } : Jvm.MethodName)) ∈ lw_all := lw_g (lw_at lw_m10 14 rfl) rfl
theorem q2298 : (Jvm.Cond.methodLink "ContractMachineLaw" (164 : Nat) ({ cls := "ContractMachineLaw", name := "variableNameByte", desc := "(LContractMachine;II[J)I" } : Jvm.MethodName)) ∈ lw_all := lw_g (lw_at lw_m10 18 rfl) rfl
theorem q2299 : (Jvm.Cond.static ({ cls := "ContractMachineLaw", name := "variableNameByte", desc := "(LContractMachine;II[J)I" } : Jvm.MethodName)) ∈ lw_all := lw_g (lw_at lw_m10 19 rfl) rfl
theorem q2300 : (Jvm.Cond.codeWith ({ cls := "ContractMachineLaw", name := "variableNameByte", desc := "(LContractMachine;II[J)I" } : Jvm.MethodName) method_5_code (5 : Nat) (Option.some Jvm.ClassFile.FieldType.int) [((0 : Nat), (10 : Nat), (13 : Nat), (13 : Nat))]) ∈ lw_all := lw_g (lw_at lw_m10 20 rfl) rfl
theorem q2301 : (Jvm.Cond.methodLink "ContractMachineLaw" (18 : Nat) ({ cls := "ContractMachine", name := "variableNameByte", desc := "(II)I" } : Jvm.MethodName)) ∈ lw_all := lw_g (lw_at lw_m10 21 rfl) rfl
theorem q2305 : (Jvm.Cond.methodLink "ContractMachineLaw" (171 : Nat) ({ cls := "ContractMachineLaw", name := "valueOf", desc := "(LContractMachine;I[J)I" } : Jvm.MethodName)) ∈ lw_all := lw_g (lw_at lw_m10 25 rfl) rfl
theorem q2306 : (Jvm.Cond.static ({ cls := "ContractMachineLaw", name := "valueOf", desc := "(LContractMachine;I[J)I" } : Jvm.MethodName)) ∈ lw_all := lw_g (lw_at lw_m10 26 rfl) rfl
theorem q2307 : (Jvm.Cond.codeWith ({ cls := "ContractMachineLaw", name := "valueOf", desc := "(LContractMachine;I[J)I" } : Jvm.MethodName) method_6_code (4 : Nat) (Option.some Jvm.ClassFile.FieldType.int) [((0 : Nat), (9 : Nat), (12 : Nat), (13 : Nat))]) ∈ lw_all := lw_g (lw_at lw_m10 27 rfl) rfl
theorem q2308 : (Jvm.Cond.methodLink "ContractMachineLaw" (21 : Nat) ({ cls := "ContractMachine", name := "valueOf", desc := "(I)I" } : Jvm.MethodName)) ∈ lw_all := lw_g (lw_at lw_m10 28 rfl) rfl
theorem q2316 : (Jvm.Cond.methodLink "ContractMachineLaw" (175 : Nat) ({ cls := "ContractMachineLaw", name := "initialValueOf", desc := "(LContractMachine;I[J)I" } : Jvm.MethodName)) ∈ lw_all := lw_g (lw_at lw_m10 36 rfl) rfl
theorem q2317 : (Jvm.Cond.static ({ cls := "ContractMachineLaw", name := "initialValueOf", desc := "(LContractMachine;I[J)I" } : Jvm.MethodName)) ∈ lw_all := lw_g (lw_at lw_m10 37 rfl) rfl
theorem q2318 : (Jvm.Cond.codeWith ({ cls := "ContractMachineLaw", name := "initialValueOf", desc := "(LContractMachine;I[J)I" } : Jvm.MethodName) method_7_code (4 : Nat) (Option.some Jvm.ClassFile.FieldType.int) [((0 : Nat), (9 : Nat), (12 : Nat), (13 : Nat))]) ∈ lw_all := lw_g (lw_at lw_m10 38 rfl) rfl
theorem q2319 : (Jvm.Cond.methodLink "ContractMachineLaw" (25 : Nat) ({ cls := "ContractMachine", name := "initialValueOf", desc := "(I)I" } : Jvm.MethodName)) ∈ lw_all := lw_g (lw_at lw_m10 39 rfl) rfl
theorem q2323 : (Jvm.Cond.methodLink "ContractMachineLaw" (178 : Nat) ({ cls := "ContractMachineLaw", name := "sourceOf", desc := "(LContractMachine;I[J)I" } : Jvm.MethodName)) ∈ lw_all := lw_g (lw_at lw_m10 43 rfl) rfl
theorem q2324 : (Jvm.Cond.static ({ cls := "ContractMachineLaw", name := "sourceOf", desc := "(LContractMachine;I[J)I" } : Jvm.MethodName)) ∈ lw_all := lw_g (lw_at lw_m10 44 rfl) rfl
theorem q2325 : (Jvm.Cond.codeWith ({ cls := "ContractMachineLaw", name := "sourceOf", desc := "(LContractMachine;I[J)I" } : Jvm.MethodName) method_8_code (4 : Nat) (Option.some Jvm.ClassFile.FieldType.int) [((0 : Nat), (9 : Nat), (12 : Nat), (13 : Nat))]) ∈ lw_all := lw_g (lw_at lw_m10 45 rfl) rfl
theorem q2326 : (Jvm.Cond.methodLink "ContractMachineLaw" (28 : Nat) ({ cls := "ContractMachine", name := "sourceOf", desc := "(I)I" } : Jvm.MethodName)) ∈ lw_all := lw_g (lw_at lw_m10 46 rfl) rfl
theorem q2334 : (Jvm.Cond.methodLink "ContractMachineLaw" (181 : Nat) ({ cls := "ContractMachineLaw", name := "eventOf", desc := "(LContractMachine;I[J)I" } : Jvm.MethodName)) ∈ lw_all := lw_g (lw_at lw_m10 54 rfl) rfl
theorem q2335 : (Jvm.Cond.static ({ cls := "ContractMachineLaw", name := "eventOf", desc := "(LContractMachine;I[J)I" } : Jvm.MethodName)) ∈ lw_all := lw_g (lw_at lw_m10 55 rfl) rfl
theorem q2336 : (Jvm.Cond.codeWith ({ cls := "ContractMachineLaw", name := "eventOf", desc := "(LContractMachine;I[J)I" } : Jvm.MethodName) method_9_code (4 : Nat) (Option.some Jvm.ClassFile.FieldType.int) [((0 : Nat), (9 : Nat), (12 : Nat), (13 : Nat))]) ∈ lw_all := lw_g (lw_at lw_m10 56 rfl) rfl
theorem q2337 : (Jvm.Cond.methodLink "ContractMachineLaw" (31 : Nat) ({ cls := "ContractMachine", name := "eventOf", desc := "(I)I" } : Jvm.MethodName)) ∈ lw_all := lw_g (lw_at lw_m10 57 rfl) rfl
theorem q2341 : (Jvm.Cond.methodLink "ContractMachineLaw" (184 : Nat) ({ cls := "ContractMachineLaw", name := "targetOf", desc := "(LContractMachine;I[J)I" } : Jvm.MethodName)) ∈ lw_all := lw_g (lw_at lw_m10 61 rfl) rfl
theorem q2342 : (Jvm.Cond.static ({ cls := "ContractMachineLaw", name := "targetOf", desc := "(LContractMachine;I[J)I" } : Jvm.MethodName)) ∈ lw_all := lw_g (lw_at lw_m10 62 rfl) rfl
theorem q2343 : (Jvm.Cond.codeWith ({ cls := "ContractMachineLaw", name := "targetOf", desc := "(LContractMachine;I[J)I" } : Jvm.MethodName) method_10_code (4 : Nat) (Option.some Jvm.ClassFile.FieldType.int) [((0 : Nat), (9 : Nat), (12 : Nat), (13 : Nat))]) ∈ lw_all := lw_g (lw_at lw_m10 63 rfl) rfl
theorem q2344 : (Jvm.Cond.methodLink "ContractMachineLaw" (34 : Nat) ({ cls := "ContractMachine", name := "targetOf", desc := "(I)I" } : Jvm.MethodName)) ∈ lw_all := lw_g (lw_at lw_m10 64 rfl) rfl
theorem q2348 : (Jvm.Cond.methodLink "ContractMachineLaw" (187 : Nat) ({ cls := "ContractMachineLaw", name := "hasGuard", desc := "(LContractMachine;I[J)I" } : Jvm.MethodName)) ∈ lw_all := lw_g (lw_at lw_m10 68 rfl) rfl
theorem q2349 : (Jvm.Cond.static ({ cls := "ContractMachineLaw", name := "hasGuard", desc := "(LContractMachine;I[J)I" } : Jvm.MethodName)) ∈ lw_all := lw_g (lw_at lw_m10 69 rfl) rfl
theorem q2350 : (Jvm.Cond.codeWith ({ cls := "ContractMachineLaw", name := "hasGuard", desc := "(LContractMachine;I[J)I" } : Jvm.MethodName) method_11_code (4 : Nat) (Option.some Jvm.ClassFile.FieldType.int) [((0 : Nat), (16 : Nat), (19 : Nat), (13 : Nat))]) ∈ lw_all := lw_g (lw_at lw_m10 70 rfl) rfl
theorem q2351 : (Jvm.Cond.methodLink "ContractMachineLaw" (37 : Nat) ({ cls := "ContractMachine", name := "hasGuard", desc := "(I)Z" } : Jvm.MethodName)) ∈ lw_all := lw_g (lw_at lw_m10 71 rfl) rfl
theorem q2355 : (Jvm.Cond.methodLink "ContractMachineLaw" (190 : Nat) ({ cls := "ContractMachineLaw", name := "guardHolds", desc := "(LContractMachine;I[J)I" } : Jvm.MethodName)) ∈ lw_all := lw_g (lw_at lw_m10 75 rfl) rfl
theorem q2356 : (Jvm.Cond.static ({ cls := "ContractMachineLaw", name := "guardHolds", desc := "(LContractMachine;I[J)I" } : Jvm.MethodName)) ∈ lw_all := lw_g (lw_at lw_m10 76 rfl) rfl
theorem q2357 : (Jvm.Cond.codeWith ({ cls := "ContractMachineLaw", name := "guardHolds", desc := "(LContractMachine;I[J)I" } : Jvm.MethodName) method_12_code (4 : Nat) (Option.some Jvm.ClassFile.FieldType.int) [((0 : Nat), (16 : Nat), (19 : Nat), (13 : Nat))]) ∈ lw_all := lw_g (lw_at lw_m10 77 rfl) rfl
theorem q2358 : (Jvm.Cond.methodLink "ContractMachineLaw" (41 : Nat) ({ cls := "ContractMachine", name := "guardHolds", desc := "(I)Z" } : Jvm.MethodName)) ∈ lw_all := lw_g (lw_at lw_m10 78 rfl) rfl
theorem q2363 : (Jvm.Cond.methodLink "ContractMachineLaw" (193 : Nat) ({ cls := "ContractMachineLaw", name := "stateOfInvariant", desc := "(LContractMachine;I[J)I" } : Jvm.MethodName)) ∈ lw_all := lw_g (lw_at lw_m10 83 rfl) rfl
theorem q2364 : (Jvm.Cond.static ({ cls := "ContractMachineLaw", name := "stateOfInvariant", desc := "(LContractMachine;I[J)I" } : Jvm.MethodName)) ∈ lw_all := lw_g (lw_at lw_m10 84 rfl) rfl
theorem q2365 : (Jvm.Cond.codeWith ({ cls := "ContractMachineLaw", name := "stateOfInvariant", desc := "(LContractMachine;I[J)I" } : Jvm.MethodName) method_13_code (4 : Nat) (Option.some Jvm.ClassFile.FieldType.int) [((0 : Nat), (9 : Nat), (12 : Nat), (13 : Nat))]) ∈ lw_all := lw_g (lw_at lw_m10 85 rfl) rfl
theorem q2366 : (Jvm.Cond.methodLink "ContractMachineLaw" (44 : Nat) ({ cls := "ContractMachine", name := "stateOfInvariant", desc := "(I)I" } : Jvm.MethodName)) ∈ lw_all := lw_g (lw_at lw_m10 86 rfl) rfl
theorem q2374 : (Jvm.Cond.methodLink "ContractMachineLaw" (196 : Nat) ({ cls := "ContractMachineLaw", name := "comparisonHolds", desc := "(LContractMachine;I[J)I" } : Jvm.MethodName)) ∈ lw_all := lw_g (lw_at lw_m10 94 rfl) rfl
theorem q2375 : (Jvm.Cond.static ({ cls := "ContractMachineLaw", name := "comparisonHolds", desc := "(LContractMachine;I[J)I" } : Jvm.MethodName)) ∈ lw_all := lw_g (lw_at lw_m10 95 rfl) rfl
theorem q2376 : (Jvm.Cond.codeWith ({ cls := "ContractMachineLaw", name := "comparisonHolds", desc := "(LContractMachine;I[J)I" } : Jvm.MethodName) method_14_code (4 : Nat) (Option.some Jvm.ClassFile.FieldType.int) [((0 : Nat), (16 : Nat), (19 : Nat), (13 : Nat))]) ∈ lw_all := lw_g (lw_at lw_m10 96 rfl) rfl
theorem q2377 : (Jvm.Cond.methodLink "ContractMachineLaw" (47 : Nat) ({ cls := "ContractMachine", name := "comparisonHolds", desc := "(I)Z" } : Jvm.MethodName)) ∈ lw_all := lw_g (lw_at lw_m10 97 rfl) rfl
theorem q2382 : (Jvm.Cond.methodLink "ContractMachineLaw" (199 : Nat) ({ cls := "ContractMachineLaw", name := "verdictOf", desc := "(LContractMachine;I[J)I" } : Jvm.MethodName)) ∈ lw_all := lw_g (lw_at lw_m10 102 rfl) rfl
theorem q2383 : (Jvm.Cond.static ({ cls := "ContractMachineLaw", name := "verdictOf", desc := "(LContractMachine;I[J)I" } : Jvm.MethodName)) ∈ lw_all := lw_g (lw_at lw_m10 103 rfl) rfl
theorem q2384 : (Jvm.Cond.codeWith ({ cls := "ContractMachineLaw", name := "verdictOf", desc := "(LContractMachine;I[J)I" } : Jvm.MethodName) method_15_code (4 : Nat) (Option.some Jvm.ClassFile.FieldType.int) [((0 : Nat), (9 : Nat), (12 : Nat), (13 : Nat))]) ∈ lw_all := lw_g (lw_at lw_m10 104 rfl) rfl
theorem q2385 : (Jvm.Cond.methodLink "ContractMachineLaw" (50 : Nat) ({ cls := "ContractMachine", name := "verdictOf", desc := "(I)I" } : Jvm.MethodName)) ∈ lw_all := lw_g (lw_at lw_m10 105 rfl) rfl
theorem q2393 : (Jvm.Cond.methodLink "ContractMachineLaw" (202 : Nat) ({ cls := "ContractMachineLaw", name := "chosenTransition", desc := "(LContractMachine;I[J)I" } : Jvm.MethodName)) ∈ lw_all := lw_g (lw_at lw_m10 113 rfl) rfl
theorem q2394 : (Jvm.Cond.static ({ cls := "ContractMachineLaw", name := "chosenTransition", desc := "(LContractMachine;I[J)I" } : Jvm.MethodName)) ∈ lw_all := lw_g (lw_at lw_m10 114 rfl) rfl
theorem q2395 : (Jvm.Cond.codeWith ({ cls := "ContractMachineLaw", name := "chosenTransition", desc := "(LContractMachine;I[J)I" } : Jvm.MethodName) method_16_code (4 : Nat) (Option.some Jvm.ClassFile.FieldType.int) [((0 : Nat), (9 : Nat), (12 : Nat), (13 : Nat))]) ∈ lw_all := lw_g (lw_at lw_m10 115 rfl) rfl
theorem q2396 : (Jvm.Cond.methodLink "ContractMachineLaw" (53 : Nat) ({ cls := "ContractMachine", name := "chosenTransition", desc := "(I)I" } : Jvm.MethodName)) ∈ lw_all := lw_g (lw_at lw_m10 116 rfl) rfl
theorem q2400 : (Jvm.Cond.methodLink "ContractMachineLaw" (205 : Nat) ({ cls := "ContractMachineLaw", name := "brokenInvariant", desc := "(LContractMachine;I[J)I" } : Jvm.MethodName)) ∈ lw_all := lw_g (lw_at lw_m10 120 rfl) rfl
theorem q2401 : (Jvm.Cond.static ({ cls := "ContractMachineLaw", name := "brokenInvariant", desc := "(LContractMachine;I[J)I" } : Jvm.MethodName)) ∈ lw_all := lw_g (lw_at lw_m10 121 rfl) rfl
theorem q2402 : (Jvm.Cond.codeWith ({ cls := "ContractMachineLaw", name := "brokenInvariant", desc := "(LContractMachine;I[J)I" } : Jvm.MethodName) method_17_code (4 : Nat) (Option.some Jvm.ClassFile.FieldType.int) [((0 : Nat), (9 : Nat), (12 : Nat), (13 : Nat))]) ∈ lw_all := lw_g (lw_at lw_m10 122 rfl) rfl
theorem q2403 : (Jvm.Cond.methodLink "ContractMachineLaw" (56 : Nat) ({ cls := "ContractMachine", name := "brokenInvariant", desc := "(I)I" } : Jvm.MethodName)) ∈ lw_all := lw_g (lw_at lw_m10 123 rfl) rfl
theorem q2407 : (Jvm.Cond.methodLink "ContractMachineLaw" (213 : Nat) ({ cls := "ContractMachineLaw", name := "timesTaken", desc := "(LContractMachine;I[J)I" } : Jvm.MethodName)) ∈ lw_all := lw_g (lw_at lw_m10 127 rfl) rfl
theorem q2408 : (Jvm.Cond.static ({ cls := "ContractMachineLaw", name := "timesTaken", desc := "(LContractMachine;I[J)I" } : Jvm.MethodName)) ∈ lw_all := lw_g (lw_at lw_m10 128 rfl) rfl
theorem q2409 : (Jvm.Cond.codeWith ({ cls := "ContractMachineLaw", name := "timesTaken", desc := "(LContractMachine;I[J)I" } : Jvm.MethodName) method_18_code (4 : Nat) (Option.some Jvm.ClassFile.FieldType.int) [((0 : Nat), (9 : Nat), (12 : Nat), (13 : Nat))]) ∈ lw_all := lw_g (lw_at lw_m10 129 rfl) rfl
theorem q2410 : (Jvm.Cond.methodLink "ContractMachineLaw" (59 : Nat) ({ cls := "ContractMachine", name := "timesTaken", desc := "(I)I" } : Jvm.MethodName)) ∈ lw_all := lw_g (lw_at lw_m10 130 rfl) rfl
theorem q2414 : (Jvm.Cond.methodLink "ContractMachineLaw" (216 : Nat) ({ cls := "ContractMachineLaw", name := "visitsOf", desc := "(LContractMachine;I[J)I" } : Jvm.MethodName)) ∈ lw_all := lw_g (lw_at lw_m10 134 rfl) rfl
theorem q2415 : (Jvm.Cond.static ({ cls := "ContractMachineLaw", name := "visitsOf", desc := "(LContractMachine;I[J)I" } : Jvm.MethodName)) ∈ lw_all := lw_g (lw_at lw_m10 135 rfl) rfl
theorem q2416 : (Jvm.Cond.codeWith ({ cls := "ContractMachineLaw", name := "visitsOf", desc := "(LContractMachine;I[J)I" } : Jvm.MethodName) method_19_code (4 : Nat) (Option.some Jvm.ClassFile.FieldType.int) [((0 : Nat), (9 : Nat), (12 : Nat), (13 : Nat))]) ∈ lw_all := lw_g (lw_at lw_m10 136 rfl) rfl
theorem q2417 : (Jvm.Cond.methodLink "ContractMachineLaw" (62 : Nat) ({ cls := "ContractMachine", name := "visitsOf", desc := "(I)I" } : Jvm.MethodName)) ∈ lw_all := lw_g (lw_at lw_m10 137 rfl) rfl
theorem q2425 : (Jvm.Cond.methodLink "ContractMachineLaw" (227 : Nat) ({ cls := "ContractMachineLaw", name := "rejectedWith", desc := "(LContractMachine;I[J)I" } : Jvm.MethodName)) ∈ lw_all := lw_g (lw_at lw_m10 145 rfl) rfl
theorem q2426 : (Jvm.Cond.static ({ cls := "ContractMachineLaw", name := "rejectedWith", desc := "(LContractMachine;I[J)I" } : Jvm.MethodName)) ∈ lw_all := lw_g (lw_at lw_m10 146 rfl) rfl
theorem q2427 : (Jvm.Cond.codeWith ({ cls := "ContractMachineLaw", name := "rejectedWith", desc := "(LContractMachine;I[J)I" } : Jvm.MethodName) method_20_code (4 : Nat) (Option.some Jvm.ClassFile.FieldType.int) [((0 : Nat), (9 : Nat), (12 : Nat), (68 : Nat))]) ∈ lw_all := lw_g (lw_at lw_m10 147 rfl) rfl
theorem q2428 : (Jvm.Cond.classLink "ContractMachineLaw" (68 : Nat) "java/lang/IllegalArgumentException") ∈ lw_all := lw_g (lw_at lw_m10 148 rfl) rfl
theorem q2429 : (Jvm.Cond.methodLink "ContractMachineLaw" (65 : Nat) ({ cls := "ContractMachine", name := "rejectedWith", desc := "(I)I" } : Jvm.MethodName)) ∈ lw_all := lw_g (lw_at lw_m10 149 rfl) rfl
theorem q2442 : (Jvm.Cond.methodLink "ContractMachineLaw" (263 : Nat) ({ cls := "ContractMachineLaw", name := "isReachable", desc := "(LContractMachine;I[J)I" } : Jvm.MethodName)) ∈ lw_all := lw_g (lw_at lw_m10 162 rfl) rfl
theorem q2443 : (Jvm.Cond.static ({ cls := "ContractMachineLaw", name := "isReachable", desc := "(LContractMachine;I[J)I" } : Jvm.MethodName)) ∈ lw_all := lw_g (lw_at lw_m10 163 rfl) rfl
theorem q2444 : (Jvm.Cond.codeWith ({ cls := "ContractMachineLaw", name := "isReachable", desc := "(LContractMachine;I[J)I" } : Jvm.MethodName) method_21_code (4 : Nat) (Option.some Jvm.ClassFile.FieldType.int) [((0 : Nat), (16 : Nat), (19 : Nat), (13 : Nat))]) ∈ lw_all := lw_g (lw_at lw_m10 164 rfl) rfl
theorem q2445 : (Jvm.Cond.methodLink "ContractMachineLaw" (70 : Nat) ({ cls := "ContractMachine", name := "isReachable", desc := "(I)Z" } : Jvm.MethodName)) ∈ lw_all := lw_g (lw_at lw_m10 165 rfl) rfl
theorem q2467 : (Jvm.Cond.methodLink "ContractMachineLaw" (266 : Nat) ({ cls := "ContractMachineLaw", name := "canBeTaken", desc := "(LContractMachine;I[J)I" } : Jvm.MethodName)) ∈ lw_all := lw_g (lw_at lw_m10 187 rfl) rfl
theorem q2468 : (Jvm.Cond.static ({ cls := "ContractMachineLaw", name := "canBeTaken", desc := "(LContractMachine;I[J)I" } : Jvm.MethodName)) ∈ lw_all := lw_g (lw_at lw_m10 188 rfl) rfl
theorem q2469 : (Jvm.Cond.codeWith ({ cls := "ContractMachineLaw", name := "canBeTaken", desc := "(LContractMachine;I[J)I" } : Jvm.MethodName) method_22_code (4 : Nat) (Option.some Jvm.ClassFile.FieldType.int) [((0 : Nat), (16 : Nat), (19 : Nat), (13 : Nat))]) ∈ lw_all := lw_g (lw_at lw_m10 189 rfl) rfl
theorem q2470 : (Jvm.Cond.methodLink "ContractMachineLaw" (73 : Nat) ({ cls := "ContractMachine", name := "canBeTaken", desc := "(I)Z" } : Jvm.MethodName)) ∈ lw_all := lw_g (lw_at lw_m10 190 rfl) rfl
theorem q2491 : (Jvm.Cond.methodLink "ContractMachineLaw" (269 : Nat) ({ cls := "ContractMachineLaw", name := "stepsTo", desc := "(LContractMachine;I[J)I" } : Jvm.MethodName)) ∈ lw_all := lw_g (lw_at lw_m10 211 rfl) rfl
theorem q2492 : (Jvm.Cond.static ({ cls := "ContractMachineLaw", name := "stepsTo", desc := "(LContractMachine;I[J)I" } : Jvm.MethodName)) ∈ lw_all := lw_g (lw_at lw_m10 212 rfl) rfl
theorem q2493 : (Jvm.Cond.codeWith ({ cls := "ContractMachineLaw", name := "stepsTo", desc := "(LContractMachine;I[J)I" } : Jvm.MethodName) method_23_code (4 : Nat) (Option.some Jvm.ClassFile.FieldType.int) [((0 : Nat), (9 : Nat), (12 : Nat), (13 : Nat))]) ∈ lw_all := lw_g (lw_at lw_m10 213 rfl) rfl
theorem q2494 : (Jvm.Cond.methodLink "ContractMachineLaw" (76 : Nat) ({ cls := "ContractMachine", name := "stepsTo", desc := "(I)I" } : Jvm.MethodName)) ∈ lw_all := lw_g (lw_at lw_m10 214 rfl) rfl
theorem q2498 : (Jvm.Cond.methodLink "ContractMachineLaw" (272 : Nat) ({ cls := "ContractMachineLaw", name := "firstEventTo", desc := "(LContractMachine;I[J)I" } : Jvm.MethodName)) ∈ lw_all := lw_g (lw_at lw_m10 218 rfl) rfl
theorem q2499 : (Jvm.Cond.static ({ cls := "ContractMachineLaw", name := "firstEventTo", desc := "(LContractMachine;I[J)I" } : Jvm.MethodName)) ∈ lw_all := lw_g (lw_at lw_m10 219 rfl) rfl
theorem q2500 : (Jvm.Cond.codeWith ({ cls := "ContractMachineLaw", name := "firstEventTo", desc := "(LContractMachine;I[J)I" } : Jvm.MethodName) method_24_code (4 : Nat) (Option.some Jvm.ClassFile.FieldType.int) [((0 : Nat), (9 : Nat), (12 : Nat), (13 : Nat))]) ∈ lw_all := lw_g (lw_at lw_m10 220 rfl) rfl
theorem q2501 : (Jvm.Cond.methodLink "ContractMachineLaw" (79 : Nat) ({ cls := "ContractMachine", name := "firstEventTo", desc := "(I)I" } : Jvm.MethodName)) ∈ lw_all := lw_g (lw_at lw_m10 221 rfl) rfl
theorem q2505 : (Jvm.Cond.methodLink "ContractMachineLaw" (292 : Nat) ({ cls := "ContractMachineLaw", name := "fire", desc := "(LContractMachine;I[J)I" } : Jvm.MethodName)) ∈ lw_all := lw_g (lw_at lw_m10 225 rfl) rfl
theorem q2506 : (Jvm.Cond.static ({ cls := "ContractMachineLaw", name := "fire", desc := "(LContractMachine;I[J)I" } : Jvm.MethodName)) ∈ lw_all := lw_g (lw_at lw_m10 226 rfl) rfl
theorem q2507 : (Jvm.Cond.codeWith ({ cls := "ContractMachineLaw", name := "fire", desc := "(LContractMachine;I[J)I" } : Jvm.MethodName) method_25_code (4 : Nat) (Option.some Jvm.ClassFile.FieldType.int) [((0 : Nat), (9 : Nat), (12 : Nat), (13 : Nat))]) ∈ lw_all := lw_g (lw_at lw_m10 227 rfl) rfl
theorem q2508 : (Jvm.Cond.methodLink "ContractMachineLaw" (82 : Nat) ({ cls := "ContractMachine", name := "fire", desc := "(I)I" } : Jvm.MethodName)) ∈ lw_all := lw_g (lw_at lw_m10 228 rfl) rfl
theorem q2529 : (Jvm.Cond.methodLink "ContractMachineLaw" (295 : Nat) ({ cls := "ContractMachineLaw", name := "setValue", desc := "(LContractMachine;II[J)I" } : Jvm.MethodName)) ∈ lw_all := lw_g (lw_at lw_m11 9 rfl) rfl
theorem q2530 : (Jvm.Cond.static ({ cls := "ContractMachineLaw", name := "setValue", desc := "(LContractMachine;II[J)I" } : Jvm.MethodName)) ∈ lw_all := lw_g (lw_at lw_m11 10 rfl) rfl
theorem q2531 : (Jvm.Cond.codeWith ({ cls := "ContractMachineLaw", name := "setValue", desc := "(LContractMachine;II[J)I" } : Jvm.MethodName) method_26_code (5 : Nat) (Option.some Jvm.ClassFile.FieldType.int) [((0 : Nat), (10 : Nat), (13 : Nat), (13 : Nat)), ((0 : Nat), (10 : Nat), (17 : Nat), (68 : Nat)), ((0 : Nat), (10 : Nat), (21 : Nat), (88 : Nat))]) ∈ lw_all := lw_g (lw_at lw_m11 11 rfl) rfl
theorem q2532 : (Jvm.Cond.classLink "ContractMachineLaw" (88 : Nat) "java/lang/IllegalStateException") ∈ lw_all := lw_g (lw_at lw_m11 12 rfl) rfl
theorem q2533 : (Jvm.Cond.methodLink "ContractMachineLaw" (85 : Nat) ({ cls := "ContractMachine", name := "setValue", desc := "(II)I" } : Jvm.MethodName)) ∈ lw_all := lw_g (lw_at lw_m11 13 rfl) rfl
theorem q2548 : (Jvm.Cond.methodLink "ContractMachineLaw" (306 : Nat) ({ cls := "ContractMachineLaw", name := "addAlways", desc := "(LContractMachine;III[J)I" } : Jvm.MethodName)) ∈ lw_all := lw_g (lw_at lw_m11 28 rfl) rfl
theorem q2549 : (Jvm.Cond.static ({ cls := "ContractMachineLaw", name := "addAlways", desc := "(LContractMachine;III[J)I" } : Jvm.MethodName)) ∈ lw_all := lw_g (lw_at lw_m11 29 rfl) rfl
theorem q2550 : (Jvm.Cond.codeWith ({ cls := "ContractMachineLaw", name := "addAlways", desc := "(LContractMachine;III[J)I" } : Jvm.MethodName) method_27_code (6 : Nat) (Option.some Jvm.ClassFile.FieldType.int) [((0 : Nat), (12 : Nat), (15 : Nat), (13 : Nat)), ((0 : Nat), (12 : Nat), (19 : Nat), (68 : Nat)), ((0 : Nat), (12 : Nat), (23 : Nat), (88 : Nat))]) ∈ lw_all := lw_g (lw_at lw_m11 30 rfl) rfl
theorem q2551 : (Jvm.Cond.methodLink "ContractMachineLaw" (90 : Nat) ({ cls := "ContractMachine", name := "addAlways", desc := "(III)I" } : Jvm.MethodName)) ∈ lw_all := lw_g (lw_at lw_m11 31 rfl) rfl
theorem q2561 : (Jvm.Cond.methodLink "ContractMachineLaw" (310 : Nat) ({ cls := "ContractMachineLaw", name := "undo", desc := "(LContractMachine;[J)I" } : Jvm.MethodName)) ∈ lw_all := lw_g (lw_at lw_m11 41 rfl) rfl
theorem q2562 : (Jvm.Cond.static ({ cls := "ContractMachineLaw", name := "undo", desc := "(LContractMachine;[J)I" } : Jvm.MethodName)) ∈ lw_all := lw_g (lw_at lw_m11 42 rfl) rfl
theorem q2563 : (Jvm.Cond.codeWith ({ cls := "ContractMachineLaw", name := "undo", desc := "(LContractMachine;[J)I" } : Jvm.MethodName) method_28_code (3 : Nat) (Option.some Jvm.ClassFile.FieldType.int) [((0 : Nat), (8 : Nat), (11 : Nat), (98 : Nat))]) ∈ lw_all := lw_g (lw_at lw_m11 43 rfl) rfl
theorem q2564 : (Jvm.Cond.classLink "ContractMachineLaw" (98 : Nat) "java/util/NoSuchElementException") ∈ lw_all := lw_g (lw_at lw_m11 44 rfl) rfl
theorem q2565 : (Jvm.Cond.methodLink "ContractMachineLaw" (94 : Nat) ({ cls := "ContractMachine", name := "undo", desc := "()I" } : Jvm.MethodName)) ∈ lw_all := lw_g (lw_at lw_m11 45 rfl) rfl
theorem q2589 : (Jvm.Cond.methodLink "ContractMachineLaw" (326 : Nat) ({ cls := "ContractMachineLaw", name := "restoreState", desc := "(LContractMachine;[J)I" } : Jvm.MethodName)) ∈ lw_all := lw_g (lw_at lw_m11 69 rfl) rfl
theorem q2590 : (Jvm.Cond.static ({ cls := "ContractMachineLaw", name := "restoreState", desc := "(LContractMachine;[J)I" } : Jvm.MethodName)) ∈ lw_all := lw_g (lw_at lw_m11 70 rfl) rfl
theorem q2591 : (Jvm.Cond.codeWith ({ cls := "ContractMachineLaw", name := "restoreState", desc := "(LContractMachine;[J)I" } : Jvm.MethodName) method_29_code (3 : Nat) (Option.some Jvm.ClassFile.FieldType.int) [((0 : Nat), (8 : Nat), (11 : Nat), (98 : Nat))]) ∈ lw_all := lw_g (lw_at lw_m11 71 rfl) rfl
theorem q2592 : (Jvm.Cond.methodLink "ContractMachineLaw" (100 : Nat) ({ cls := "ContractMachine", name := "restoreState", desc := "()I" } : Jvm.MethodName)) ∈ lw_all := lw_g (lw_at lw_m11 72 rfl) rfl
theorem q2596 : (Jvm.Cond.classLink "ContractMachineLaw" (104 : Nat) "ContractMachineModel") ∈ lw_all := lw_g (lw_at lw_m11 76 rfl) rfl
theorem q2598 : (Jvm.Cond.methodLink "ContractMachineLaw" (106 : Nat) ({ cls := "ContractMachineModel", name := "<init>", desc := "()V" } : Jvm.MethodName)) ∈ lw_all := lw_g (lw_at lw_m11 78 rfl) rfl
theorem q2729 : (Jvm.Cond.methodLink "ContractMachineLaw" (158 : Nat) ({ cls := "ContractMachineModel", name := "thrown", desc := "()I" } : Jvm.MethodName)) ∈ lw_all := lw_g (lw_at lw_m11 209 rfl) rfl
theorem q2733 : (Jvm.Cond.methodLink "ContractMachineLaw" (111 : Nat) ({ cls := "ContractMachineModel", name := "appendInput", desc := "(IIIII)I" } : Jvm.MethodName)) ∈ lw_all := lw_g (lw_at lw_m11 213 rfl) rfl
theorem q2741 : (Jvm.Cond.methodLink "ContractMachineLaw" (115 : Nat) ({ cls := "ContractMachineModel", name := "truncateInput", desc := "(I)Z" } : Jvm.MethodName)) ∈ lw_all := lw_g (lw_at lw_m11 221 rfl) rfl
theorem q2748 : (Jvm.Cond.methodLink "ContractMachineLaw" (119 : Nat) ({ cls := "ContractMachineModel", name := "loadMachine", desc := "()I" } : Jvm.MethodName)) ∈ lw_all := lw_g (lw_at lw_m11 228 rfl) rfl
theorem q2907 : (Jvm.Cond.methodLink "ContractMachineLaw" (123 : Nat) ({ cls := "ContractMachineModel", name := "runScript", desc := "()I" } : Jvm.MethodName)) ∈ lw_all := lw_g (lw_at lw_m12 147 rfl) rfl
theorem q2985 : (Jvm.Cond.methodLink "ContractMachineLaw" (127 : Nat) ({ cls := "ContractMachineModel", name := "errorCode", desc := "()I" } : Jvm.MethodName)) ∈ lw_all := lw_g (lw_at lw_m12 225 rfl) rfl
theorem q2989 : (Jvm.Cond.methodLink "ContractMachineLaw" (131 : Nat) ({ cls := "ContractMachineModel", name := "errorOffset", desc := "()I" } : Jvm.MethodName)) ∈ lw_all := lw_g (lw_at lw_m12 229 rfl) rfl
theorem q2993 : (Jvm.Cond.methodLink "ContractMachineLaw" (135 : Nat) ({ cls := "ContractMachineModel", name := "stateCount", desc := "()I" } : Jvm.MethodName)) ∈ lw_all := lw_g (lw_at lw_m12 233 rfl) rfl
theorem q2997 : (Jvm.Cond.methodLink "ContractMachineLaw" (139 : Nat) ({ cls := "ContractMachineModel", name := "eventCount", desc := "()I" } : Jvm.MethodName)) ∈ lw_all := lw_g (lw_at lw_m12 237 rfl) rfl
theorem q3001 : (Jvm.Cond.methodLink "ContractMachineLaw" (143 : Nat) ({ cls := "ContractMachineModel", name := "variableCount", desc := "()I" } : Jvm.MethodName)) ∈ lw_all := lw_g (lw_at lw_m13 1 rfl) rfl
theorem q3005 : (Jvm.Cond.methodLink "ContractMachineLaw" (147 : Nat) ({ cls := "ContractMachineModel", name := "transitionCount", desc := "()I" } : Jvm.MethodName)) ∈ lw_all := lw_g (lw_at lw_m13 5 rfl) rfl
theorem q3009 : (Jvm.Cond.methodLink "ContractMachineLaw" (151 : Nat) ({ cls := "ContractMachineModel", name := "invariantCount", desc := "()I" } : Jvm.MethodName)) ∈ lw_all := lw_g (lw_at lw_m13 9 rfl) rfl
theorem q3013 : (Jvm.Cond.methodLink "ContractMachineLaw" (170 : Nat) ({ cls := "ContractMachineModel", name := "currentState", desc := "()I" } : Jvm.MethodName)) ∈ lw_all := lw_g (lw_at lw_m13 13 rfl) rfl
theorem q3017 : (Jvm.Cond.methodLink "ContractMachineLaw" (222 : Nat) ({ cls := "ContractMachineModel", name := "acceptedCount", desc := "()I" } : Jvm.MethodName)) ∈ lw_all := lw_g (lw_at lw_m13 17 rfl) rfl
theorem q3021 : (Jvm.Cond.methodLink "ContractMachineLaw" (226 : Nat) ({ cls := "ContractMachineModel", name := "rejectedCount", desc := "()I" } : Jvm.MethodName)) ∈ lw_all := lw_g (lw_at lw_m13 21 rfl) rfl
theorem q3025 : (Jvm.Cond.methodLink "ContractMachineLaw" (250 : Nat) ({ cls := "ContractMachineModel", name := "traceLength", desc := "()I" } : Jvm.MethodName)) ∈ lw_all := lw_g (lw_at lw_m13 25 rfl) rfl
theorem q3029 : (Jvm.Cond.methodLink "ContractMachineLaw" (157 : Nat) ({ cls := "ContractMachineModel", name := "stateNameByte", desc := "(II)I" } : Jvm.MethodName)) ∈ lw_all := lw_g (lw_at lw_m13 29 rfl) rfl
theorem q3045 : (Jvm.Cond.methodLink "ContractMachineLaw" (163 : Nat) ({ cls := "ContractMachineModel", name := "eventNameByte", desc := "(II)I" } : Jvm.MethodName)) ∈ lw_all := lw_g (lw_at lw_m13 45 rfl) rfl
theorem q3049 : (Jvm.Cond.methodLink "ContractMachineLaw" (166 : Nat) ({ cls := "ContractMachineModel", name := "variableNameByte", desc := "(II)I" } : Jvm.MethodName)) ∈ lw_all := lw_g (lw_at lw_m13 49 rfl) rfl
theorem q3053 : (Jvm.Cond.methodLink "ContractMachineLaw" (180 : Nat) ({ cls := "ContractMachineModel", name := "sourceOf", desc := "(I)I" } : Jvm.MethodName)) ∈ lw_all := lw_g (lw_at lw_m13 53 rfl) rfl
theorem q3057 : (Jvm.Cond.methodLink "ContractMachineLaw" (183 : Nat) ({ cls := "ContractMachineModel", name := "eventOf", desc := "(I)I" } : Jvm.MethodName)) ∈ lw_all := lw_g (lw_at lw_m13 57 rfl) rfl
theorem q3061 : (Jvm.Cond.methodLink "ContractMachineLaw" (186 : Nat) ({ cls := "ContractMachineModel", name := "targetOf", desc := "(I)I" } : Jvm.MethodName)) ∈ lw_all := lw_g (lw_at lw_m13 61 rfl) rfl
theorem q3065 : (Jvm.Cond.methodLink "ContractMachineLaw" (215 : Nat) ({ cls := "ContractMachineModel", name := "timesTaken", desc := "(I)I" } : Jvm.MethodName)) ∈ lw_all := lw_g (lw_at lw_m13 65 rfl) rfl
theorem q3069 : (Jvm.Cond.methodLink "ContractMachineLaw" (174 : Nat) ({ cls := "ContractMachineModel", name := "valueOf", desc := "(I)I" } : Jvm.MethodName)) ∈ lw_all := lw_g (lw_at lw_m13 69 rfl) rfl
theorem q3073 : (Jvm.Cond.methodLink "ContractMachineLaw" (177 : Nat) ({ cls := "ContractMachineModel", name := "initialValueOf", desc := "(I)I" } : Jvm.MethodName)) ∈ lw_all := lw_g (lw_at lw_m13 73 rfl) rfl
theorem q3077 : (Jvm.Cond.methodLink "ContractMachineLaw" (189 : Nat) ({ cls := "ContractMachineModel", name := "hasGuard", desc := "(I)Z" } : Jvm.MethodName)) ∈ lw_all := lw_g (lw_at lw_m13 77 rfl) rfl
theorem q3081 : (Jvm.Cond.methodLink "ContractMachineLaw" (192 : Nat) ({ cls := "ContractMachineModel", name := "guardHolds", desc := "(I)Z" } : Jvm.MethodName)) ∈ lw_all := lw_g (lw_at lw_m13 81 rfl) rfl
theorem q3085 : (Jvm.Cond.methodLink "ContractMachineLaw" (195 : Nat) ({ cls := "ContractMachineModel", name := "stateOfInvariant", desc := "(I)I" } : Jvm.MethodName)) ∈ lw_all := lw_g (lw_at lw_m13 85 rfl) rfl
theorem q3089 : (Jvm.Cond.methodLink "ContractMachineLaw" (198 : Nat) ({ cls := "ContractMachineModel", name := "comparisonHolds", desc := "(I)Z" } : Jvm.MethodName)) ∈ lw_all := lw_g (lw_at lw_m13 89 rfl) rfl
theorem q3093 : (Jvm.Cond.methodLink "ContractMachineLaw" (201 : Nat) ({ cls := "ContractMachineModel", name := "verdictOf", desc := "(I)I" } : Jvm.MethodName)) ∈ lw_all := lw_g (lw_at lw_m13 93 rfl) rfl
theorem q3097 : (Jvm.Cond.methodLink "ContractMachineLaw" (204 : Nat) ({ cls := "ContractMachineModel", name := "chosenTransition", desc := "(I)I" } : Jvm.MethodName)) ∈ lw_all := lw_g (lw_at lw_m13 97 rfl) rfl
theorem q3101 : (Jvm.Cond.methodLink "ContractMachineLaw" (207 : Nat) ({ cls := "ContractMachineModel", name := "brokenInvariant", desc := "(I)I" } : Jvm.MethodName)) ∈ lw_all := lw_g (lw_at lw_m13 101 rfl) rfl
theorem q3105 : (Jvm.Cond.methodLink "ContractMachineLaw" (212 : Nat) ({ cls := "ContractMachineModel", name := "isDeadlocked", desc := "()Z" } : Jvm.MethodName)) ∈ lw_all := lw_g (lw_at lw_m13 105 rfl) rfl
theorem q3113 : (Jvm.Cond.methodLink "ContractMachineLaw" (218 : Nat) ({ cls := "ContractMachineModel", name := "visitsOf", desc := "(I)I" } : Jvm.MethodName)) ∈ lw_all := lw_g (lw_at lw_m13 113 rfl) rfl
theorem q3117 : (Jvm.Cond.methodLink "ContractMachineLaw" (229 : Nat) ({ cls := "ContractMachineModel", name := "rejectedWith", desc := "(I)I" } : Jvm.MethodName)) ∈ lw_all := lw_g (lw_at lw_m13 117 rfl) rfl
theorem q3121 : (Jvm.Cond.methodLink "ContractMachineLaw" (234 : Nat) ({ cls := "ContractMachineModel", name := "stateCoverage", desc := "()F" } : Jvm.MethodName)) ∈ lw_all := lw_g (lw_at lw_m13 121 rfl) rfl
theorem q3132 : (Jvm.Cond.methodLink "ContractMachineLaw" (238 : Nat) ({ cls := "ContractMachineModel", name := "transitionCoverage", desc := "()F" } : Jvm.MethodName)) ∈ lw_all := lw_g (lw_at lw_m13 132 rfl) rfl
theorem q3136 : (Jvm.Cond.methodLink "ContractMachineLaw" (242 : Nat) ({ cls := "ContractMachineModel", name := "firstUncovered", desc := "()I" } : Jvm.MethodName)) ∈ lw_all := lw_g (lw_at lw_m13 136 rfl) rfl
theorem q3140 : (Jvm.Cond.methodLink "ContractMachineLaw" (246 : Nat) ({ cls := "ContractMachineModel", name := "mostVisitedState", desc := "()I" } : Jvm.MethodName)) ∈ lw_all := lw_g (lw_at lw_m13 140 rfl) rfl
theorem q3144 : (Jvm.Cond.methodLink "ContractMachineLaw" (254 : Nat) ({ cls := "ContractMachineModel", name := "traceEvent", desc := "(I)I" } : Jvm.MethodName)) ∈ lw_all := lw_g (lw_at lw_m13 144 rfl) rfl
theorem q3148 : (Jvm.Cond.methodLink "ContractMachineLaw" (258 : Nat) ({ cls := "ContractMachineModel", name := "traceTransition", desc := "(I)I" } : Jvm.MethodName)) ∈ lw_all := lw_g (lw_at lw_m13 148 rfl) rfl
theorem q3152 : (Jvm.Cond.methodLink "ContractMachineLaw" (262 : Nat) ({ cls := "ContractMachineModel", name := "reachableCount", desc := "()I" } : Jvm.MethodName)) ∈ lw_all := lw_g (lw_at lw_m13 152 rfl) rfl
theorem q3164 : (Jvm.Cond.methodLink "ContractMachineLaw" (265 : Nat) ({ cls := "ContractMachineModel", name := "isReachable", desc := "(I)Z" } : Jvm.MethodName)) ∈ lw_all := lw_g (lw_at lw_m13 164 rfl) rfl
theorem q3172 : (Jvm.Cond.methodLink "ContractMachineLaw" (268 : Nat) ({ cls := "ContractMachineModel", name := "canBeTaken", desc := "(I)Z" } : Jvm.MethodName)) ∈ lw_all := lw_g (lw_at lw_m13 172 rfl) rfl
theorem q3176 : (Jvm.Cond.methodLink "ContractMachineLaw" (271 : Nat) ({ cls := "ContractMachineModel", name := "stepsTo", desc := "(I)I" } : Jvm.MethodName)) ∈ lw_all := lw_g (lw_at lw_m13 176 rfl) rfl
theorem q3180 : (Jvm.Cond.methodLink "ContractMachineLaw" (274 : Nat) ({ cls := "ContractMachineModel", name := "firstEventTo", desc := "(I)I" } : Jvm.MethodName)) ∈ lw_all := lw_g (lw_at lw_m13 180 rfl) rfl
theorem q3184 : (Jvm.Cond.methodLink "ContractMachineLaw" (278 : Nat) ({ cls := "ContractMachineModel", name := "deadlockCount", desc := "()I" } : Jvm.MethodName)) ∈ lw_all := lw_g (lw_at lw_m13 184 rfl) rfl
theorem q3188 : (Jvm.Cond.methodLink "ContractMachineLaw" (282 : Nat) ({ cls := "ContractMachineModel", name := "stepsToDeadlock", desc := "()I" } : Jvm.MethodName)) ∈ lw_all := lw_g (lw_at lw_m13 188 rfl) rfl
theorem q3192 : (Jvm.Cond.methodLink "ContractMachineLaw" (286 : Nat) ({ cls := "ContractMachineModel", name := "isConsistent", desc := "()Z" } : Jvm.MethodName)) ∈ lw_all := lw_g (lw_at lw_m13 192 rfl) rfl
theorem q3204 : (Jvm.Cond.methodLink "ContractMachineLaw" (291 : Nat) ({ cls := "ContractMachineModel", name := "meanValue", desc := "()D" } : Jvm.MethodName)) ∈ lw_all := lw_g (lw_at lw_m13 204 rfl) rfl
theorem q3208 : (Jvm.Cond.methodLink "ContractMachineLaw" (294 : Nat) ({ cls := "ContractMachineModel", name := "fire", desc := "(I)I" } : Jvm.MethodName)) ∈ lw_all := lw_g (lw_at lw_m13 208 rfl) rfl
theorem q3212 : (Jvm.Cond.methodLink "ContractMachineLaw" (297 : Nat) ({ cls := "ContractMachineModel", name := "setValue", desc := "(II)I" } : Jvm.MethodName)) ∈ lw_all := lw_g (lw_at lw_m13 212 rfl) rfl
theorem q3216 : (Jvm.Cond.methodLink "ContractMachineLaw" (301 : Nat) ({ cls := "ContractMachineModel", name := "reset", desc := "()I" } : Jvm.MethodName)) ∈ lw_all := lw_g (lw_at lw_m13 216 rfl) rfl
theorem q3220 : (Jvm.Cond.methodLink "ContractMachineLaw" (305 : Nat) ({ cls := "ContractMachineModel", name := "clearCoverage", desc := "()I" } : Jvm.MethodName)) ∈ lw_all := lw_g (lw_at lw_m13 220 rfl) rfl
theorem q3224 : (Jvm.Cond.methodLink "ContractMachineLaw" (309 : Nat) ({ cls := "ContractMachineModel", name := "addAlways", desc := "(III)I" } : Jvm.MethodName)) ∈ lw_all := lw_g (lw_at lw_m13 224 rfl) rfl
theorem q3232 : (Jvm.Cond.methodLink "ContractMachineLaw" (313 : Nat) ({ cls := "ContractMachineModel", name := "undo", desc := "()I" } : Jvm.MethodName)) ∈ lw_all := lw_g (lw_at lw_m13 232 rfl) rfl
theorem q3236 : (Jvm.Cond.methodLink "ContractMachineLaw" (317 : Nat) ({ cls := "ContractMachineModel", name := "writeConfiguration", desc := "()I" } : Jvm.MethodName)) ∈ lw_all := lw_g (lw_at lw_m13 236 rfl) rfl
theorem q3248 : (Jvm.Cond.methodLink "ContractMachineLaw" (321 : Nat) ({ cls := "ContractMachineModel", name := "outputByte", desc := "(I)I" } : Jvm.MethodName)) ∈ lw_all := lw_g (lw_at lw_m14 8 rfl) rfl
theorem q3252 : (Jvm.Cond.methodLink "ContractMachineLaw" (325 : Nat) ({ cls := "ContractMachineModel", name := "saveState", desc := "()I" } : Jvm.MethodName)) ∈ lw_all := lw_g (lw_at lw_m14 12 rfl) rfl
theorem q3256 : (Jvm.Cond.methodLink "ContractMachineLaw" (328 : Nat) ({ cls := "ContractMachineModel", name := "restoreState", desc := "()I" } : Jvm.MethodName)) ∈ lw_all := lw_g (lw_at lw_m14 16 rfl) rfl
/-! the law's own entry -/
set_option maxRecDepth 100000
abbrev cL_law : ByteArray := code
def dkwL_law_98 : List UInt8 := [4, 172]
abbrev dktL_law_98 : List UInt8 := dkwL_law_98 ++ []
def dkwL_law_97 : List UInt8 := [154, 0, 15, 45, 3, 47, 21, 6, 133, 148, 153, 0, 5, 3, 172, 167, 0, 3, 132, 4, 6, 167, 246, 81]
abbrev dktL_law_97 : List UInt8 := dkwL_law_97 ++ dktL_law_98
def dkwL_law_96 : List UInt8 := [184, 1, 70, 54, 5, 44, 182, 1, 72, 54, 6, 44, 182, 0, 158, 21, 5, 159, 0, 5, 3, 172, 21, 5]
abbrev dktL_law_96 : List UInt8 := dkwL_law_96 ++ dktL_law_97
def dkwL_law_95 : List UInt8 := [46, 182, 1, 65, 159, 0, 62, 3, 172, 43, 182, 1, 66, 44, 182, 1, 69, 159, 0, 49, 3, 172, 43, 45]
abbrev dktL_law_95 : List UInt8 := dkwL_law_95 ++ dktL_law_96
def dkwL_law_94 : List UInt8 := [182, 1, 61, 159, 0, 87, 3, 172, 43, 42, 21, 4, 4, 96, 46, 182, 1, 62, 44, 42, 21, 4, 4, 96]
abbrev dktL_law_94 : List UInt8 := dkwL_law_94 ++ dktL_law_95
def dkwL_law_93 : List UInt8 := [154, 0, 15, 45, 3, 47, 21, 6, 133, 148, 153, 0, 5, 3, 172, 167, 0, 98, 43, 182, 1, 58, 44]
abbrev dktL_law_93 : List UInt8 := dkwL_law_93 ++ dktL_law_94
def dkwL_law_92 : List UInt8 := [184, 1, 54, 54, 5, 44, 182, 1, 57, 54, 6, 44, 182, 0, 158, 21, 5, 159, 0, 5, 3, 172, 21, 5]
abbrev dktL_law_92 : List UInt8 := dkwL_law_92 ++ dktL_law_93
def dkwL_law_91 : List UInt8 := [21, 5, 154, 0, 15, 45, 3, 47, 21, 6, 133, 148, 153, 0, 5, 3, 172, 167, 0, 142, 43, 45]
abbrev dktL_law_91 : List UInt8 := dkwL_law_91 ++ dktL_law_92
def dkwL_law_90 : List UInt8 := [96, 46, 42, 21, 4, 6, 96, 46, 182, 1, 53, 54, 6, 44, 182, 0, 158, 21, 5, 159, 0, 5, 3, 172]
abbrev dktL_law_90 : List UInt8 := dkwL_law_90 ++ dktL_law_91
def dkwL_law_89 : List UInt8 := [46, 42, 21, 4, 6, 96, 46, 45, 184, 1, 50, 54, 5, 44, 42, 21, 4, 4, 96, 46, 42, 21, 4, 5]
abbrev dktL_law_89 : List UInt8 := dkwL_law_89 ++ dktL_law_90
def dkwL_law_88 : List UInt8 := [182, 1, 46, 44, 182, 1, 49, 159, 0, 224, 3, 172, 43, 42, 21, 4, 4, 96, 46, 42, 21, 4, 5, 96]
abbrev dktL_law_88 : List UInt8 := dkwL_law_88 ++ dktL_law_89
def dkwL_law_87 : List UInt8 := [153, 0, 5, 3, 172, 167, 0, 248, 43, 182, 1, 42, 44, 182, 1, 45, 159, 0, 237, 3, 172, 43]
abbrev dktL_law_87 : List UInt8 := dkwL_law_87 ++ dktL_law_88
def dkwL_law_86 : List UInt8 := [182, 0, 158, 21, 5, 159, 0, 5, 3, 172, 21, 5, 154, 0, 15, 45, 3, 47, 21, 6, 133, 148]
abbrev dktL_law_86 : List UInt8 := dkwL_law_86 ++ dktL_law_87
def dkwL_law_85 : List UInt8 := [184, 1, 39, 54, 5, 44, 42, 21, 4, 4, 96, 46, 42, 21, 4, 5, 96, 46, 182, 1, 41, 54, 6, 44]
abbrev dktL_law_85 : List UInt8 := dkwL_law_85 ++ dktL_law_86
def dkwL_law_84 : List UInt8 := [148, 153, 0, 5, 3, 172, 167, 1, 60, 43, 42, 21, 4, 4, 96, 46, 42, 21, 4, 5, 96, 46, 45]
abbrev dktL_law_84 : List UInt8 := dkwL_law_84 ++ dktL_law_85
def dkwL_law_83 : List UInt8 := [54, 6, 44, 182, 0, 158, 21, 5, 159, 0, 5, 3, 172, 21, 5, 154, 0, 15, 45, 3, 47, 21, 6, 133]
abbrev dktL_law_83 : List UInt8 := dkwL_law_83 ++ dktL_law_84
def dkwL_law_82 : List UInt8 := [43, 42, 21, 4, 4, 96, 46, 45, 184, 1, 36, 54, 5, 44, 42, 21, 4, 4, 96, 46, 182, 1, 38]
abbrev dktL_law_82 : List UInt8 := dkwL_law_82 ++ dktL_law_83
def dkwL_law_81 : List UInt8 := [153, 0, 21, 24, 5, 24, 5, 151, 153, 0, 11, 24, 7, 24, 7, 151, 154, 0, 5, 3, 172, 167, 1, 116]
abbrev dktL_law_81 : List UInt8 := dkwL_law_81 ++ dktL_law_82
def dkwL_law_80 : List UInt8 := [159, 1, 159, 3, 172, 43, 182, 1, 31, 57, 5, 44, 182, 1, 35, 57, 7, 24, 5, 24, 7, 151]
abbrev dktL_law_80 : List UInt8 := dkwL_law_80 ++ dktL_law_81
def dkwL_law_79 : List UInt8 := [172, 43, 182, 1, 23, 44, 182, 1, 26, 159, 1, 172, 3, 172, 43, 182, 1, 27, 44, 182, 1, 30]
abbrev dktL_law_79 : List UInt8 := dkwL_law_79 ++ dktL_law_80
def dkwL_law_78 : List UInt8 := [21, 6, 133, 148, 153, 0, 5, 3, 172, 167, 1, 196, 43, 182, 1, 19, 44, 182, 1, 22, 159, 1, 185, 3]
abbrev dktL_law_78 : List UInt8 := dkwL_law_78 ++ dktL_law_79
def dkwL_law_77 : List UInt8 := [182, 1, 18, 54, 6, 44, 182, 0, 158, 21, 5, 159, 0, 5, 3, 172, 21, 5, 154, 0, 15, 45, 3, 47]
abbrev dktL_law_77 : List UInt8 := dkwL_law_77 ++ dktL_law_78
def dkwL_law_76 : List UInt8 := [167, 1, 252, 43, 42, 21, 4, 4, 96, 46, 45, 184, 1, 16, 54, 5, 44, 42, 21, 4, 4, 96, 46]
abbrev dktL_law_76 : List UInt8 := dkwL_law_76 ++ dktL_law_77
def dkwL_law_75 : List UInt8 := [21, 5, 159, 0, 5, 3, 172, 21, 5, 154, 0, 15, 45, 3, 47, 21, 6, 133, 148, 153, 0, 5, 3, 172]
abbrev dktL_law_75 : List UInt8 := dkwL_law_75 ++ dktL_law_76
def dkwL_law_74 : List UInt8 := [96, 46, 45, 184, 1, 13, 54, 5, 44, 42, 21, 4, 4, 96, 46, 182, 1, 15, 54, 6, 44, 182, 0, 158]
abbrev dktL_law_74 : List UInt8 := dkwL_law_74 ++ dktL_law_75
def dkwL_law_73 : List UInt8 := [21, 6, 153, 0, 7, 10, 167, 0, 4, 9, 148, 153, 0, 5, 3, 172, 167, 2, 52, 43, 42, 21, 4, 4]
abbrev dktL_law_73 : List UInt8 := dkwL_law_73 ++ dktL_law_74
def dkwL_law_72 : List UInt8 := [182, 1, 12, 54, 6, 44, 182, 0, 158, 21, 5, 159, 0, 5, 3, 172, 21, 5, 154, 0, 22, 45, 3, 47]
abbrev dktL_law_72 : List UInt8 := dkwL_law_72 ++ dktL_law_73
def dkwL_law_71 : List UInt8 := [167, 2, 115, 43, 42, 21, 4, 4, 96, 46, 45, 184, 1, 10, 54, 5, 44, 42, 21, 4, 4, 96, 46]
abbrev dktL_law_71 : List UInt8 := dkwL_law_71 ++ dktL_law_72
def dkwL_law_70 : List UInt8 := [154, 0, 22, 45, 3, 47, 21, 6, 153, 0, 7, 10, 167, 0, 4, 9, 148, 153, 0, 5, 3, 172]
abbrev dktL_law_70 : List UInt8 := dkwL_law_70 ++ dktL_law_71
def dkwL_law_69 : List UInt8 := [21, 4, 4, 96, 46, 182, 1, 9, 54, 6, 44, 182, 0, 158, 21, 5, 159, 0, 5, 3, 172, 21, 5]
abbrev dktL_law_69 : List UInt8 := dkwL_law_69 ++ dktL_law_70
def dkwL_law_68 : List UInt8 := [182, 1, 6, 159, 2, 180, 3, 172, 43, 42, 21, 4, 4, 96, 46, 45, 184, 1, 7, 54, 5, 44, 42]
abbrev dktL_law_68 : List UInt8 := dkwL_law_68 ++ dktL_law_69
def dkwL_law_67 : List UInt8 := [46, 182, 0, 255, 44, 42, 21, 4, 4, 96, 46, 182, 1, 2, 159, 2, 193, 3, 172, 43, 182, 1, 3, 44]
abbrev dktL_law_67 : List UInt8 := dkwL_law_67 ++ dktL_law_68
def dkwL_law_66 : List UInt8 := [182, 0, 251, 44, 42, 21, 4, 4, 96, 46, 182, 0, 254, 159, 2, 218, 3, 172, 43, 42, 21, 4, 4, 96]
abbrev dktL_law_66 : List UInt8 := dkwL_law_66 ++ dktL_law_67
def dkwL_law_65 : List UInt8 := [3, 172, 43, 182, 0, 247, 44, 182, 0, 250, 159, 2, 243, 3, 172, 43, 42, 21, 4, 4, 96, 46]
abbrev dktL_law_65 : List UInt8 := dkwL_law_65 ++ dktL_law_66
def dkwL_law_64 : List UInt8 := [43, 182, 0, 239, 44, 182, 0, 242, 159, 3, 13, 3, 172, 43, 182, 0, 243, 44, 182, 0, 246, 159, 3, 0]
abbrev dktL_law_64 : List UInt8 := dkwL_law_64 ++ dktL_law_65
def dkwL_law_63 : List UInt8 := [153, 0, 21, 24, 5, 24, 5, 151, 153, 0, 11, 24, 7, 24, 7, 151, 154, 0, 5, 3, 172, 167, 3, 24]
abbrev dktL_law_63 : List UInt8 := dkwL_law_63 ++ dktL_law_64
def dkwL_law_62 : List UInt8 := [167, 3, 67, 43, 182, 0, 235, 141, 57, 5, 44, 182, 0, 238, 141, 57, 7, 24, 5, 24, 7, 151]
abbrev dktL_law_62 : List UInt8 := dkwL_law_62 ++ dktL_law_63
def dkwL_law_61 : List UInt8 := [24, 7, 151, 153, 0, 21, 24, 5, 24, 5, 151, 153, 0, 11, 24, 7, 24, 7, 151, 154, 0, 5, 3, 172]
abbrev dktL_law_61 : List UInt8 := dkwL_law_61 ++ dktL_law_62
def dkwL_law_60 : List UInt8 := [153, 0, 5, 3, 172, 167, 3, 110, 43, 182, 0, 230, 141, 57, 5, 44, 182, 0, 234, 141, 57, 7, 24, 5]
abbrev dktL_law_60 : List UInt8 := dkwL_law_60 ++ dktL_law_61
def dkwL_law_59 : List UInt8 := [182, 0, 158, 21, 5, 159, 0, 5, 3, 172, 21, 5, 154, 0, 15, 45, 3, 47, 21, 6, 133, 148]
abbrev dktL_law_59 : List UInt8 := dkwL_law_59 ++ dktL_law_60
def dkwL_law_58 : List UInt8 := [21, 4, 4, 96, 46, 45, 184, 0, 227, 54, 5, 44, 42, 21, 4, 4, 96, 46, 182, 0, 229, 54, 6, 44]
abbrev dktL_law_58 : List UInt8 := dkwL_law_58 ++ dktL_law_59
def dkwL_law_57 : List UInt8 := [182, 0, 222, 159, 3, 181, 3, 172, 43, 182, 0, 223, 44, 182, 0, 226, 159, 3, 168, 3, 172, 43, 42]
abbrev dktL_law_57 : List UInt8 := dkwL_law_57 ++ dktL_law_58
def dkwL_law_56 : List UInt8 := [154, 0, 15, 45, 3, 47, 21, 6, 133, 148, 153, 0, 5, 3, 172, 167, 3, 192, 43, 182, 0, 219, 44]
abbrev dktL_law_56 : List UInt8 := dkwL_law_56 ++ dktL_law_57
def dkwL_law_55 : List UInt8 := [21, 4, 4, 96, 46, 182, 0, 218, 54, 6, 44, 182, 0, 158, 21, 5, 159, 0, 5, 3, 172, 21, 5]
abbrev dktL_law_55 : List UInt8 := dkwL_law_55 ++ dktL_law_56
def dkwL_law_54 : List UInt8 := [153, 0, 5, 3, 172, 167, 3, 248, 43, 42, 21, 4, 4, 96, 46, 45, 184, 0, 216, 54, 5, 44, 42]
abbrev dktL_law_54 : List UInt8 := dkwL_law_54 ++ dktL_law_55
def dkwL_law_53 : List UInt8 := [182, 0, 158, 21, 5, 159, 0, 5, 3, 172, 21, 5, 154, 0, 15, 45, 3, 47, 21, 6, 133, 148]
abbrev dktL_law_53 : List UInt8 := dkwL_law_53 ++ dktL_law_54
def dkwL_law_52 : List UInt8 := [21, 4, 4, 96, 46, 45, 184, 0, 213, 54, 5, 44, 42, 21, 4, 4, 96, 46, 182, 0, 215, 54, 6, 44]
abbrev dktL_law_52 : List UInt8 := dkwL_law_52 ++ dktL_law_53
def dkwL_law_51 : List UInt8 := [153, 0, 5, 3, 172, 167, 4, 61, 43, 182, 0, 208, 44, 182, 0, 212, 159, 4, 50, 3, 172, 43, 42]
abbrev dktL_law_51 : List UInt8 := dkwL_law_51 ++ dktL_law_52
def dkwL_law_50 : List UInt8 := [182, 0, 158, 21, 5, 159, 0, 5, 3, 172, 21, 5, 154, 0, 15, 45, 3, 47, 21, 6, 133, 148]
abbrev dktL_law_50 : List UInt8 := dkwL_law_50 ++ dktL_law_51
def dkwL_law_49 : List UInt8 := [21, 4, 4, 96, 46, 45, 184, 0, 205, 54, 5, 44, 42, 21, 4, 4, 96, 46, 182, 0, 207, 54, 6, 44]
abbrev dktL_law_49 : List UInt8 := dkwL_law_49 ++ dktL_law_50
def dkwL_law_48 : List UInt8 := [172, 21, 5, 154, 0, 15, 45, 3, 47, 21, 6, 133, 148, 153, 0, 5, 3, 172, 167, 4, 117, 43, 42]
abbrev dktL_law_48 : List UInt8 := dkwL_law_48 ++ dktL_law_49
def dkwL_law_47 : List UInt8 := [54, 5, 44, 42, 21, 4, 4, 96, 46, 182, 0, 204, 54, 6, 44, 182, 0, 158, 21, 5, 159, 0, 5, 3]
abbrev dktL_law_47 : List UInt8 := dkwL_law_47 ++ dktL_law_48
def dkwL_law_46 : List UInt8 := [21, 6, 133, 148, 153, 0, 5, 3, 172, 167, 4, 173, 43, 42, 21, 4, 4, 96, 46, 45, 184, 0, 202]
abbrev dktL_law_46 : List UInt8 := dkwL_law_46 ++ dktL_law_47
def dkwL_law_45 : List UInt8 := [182, 0, 201, 54, 6, 44, 182, 0, 158, 21, 5, 159, 0, 5, 3, 172, 21, 5, 154, 0, 15, 45, 3, 47]
abbrev dktL_law_45 : List UInt8 := dkwL_law_45 ++ dktL_law_46
def dkwL_law_44 : List UInt8 := [172, 167, 4, 229, 43, 42, 21, 4, 4, 96, 46, 45, 184, 0, 199, 54, 5, 44, 42, 21, 4, 4, 96, 46]
abbrev dktL_law_44 : List UInt8 := dkwL_law_44 ++ dktL_law_45
def dkwL_law_43 : List UInt8 := [172, 21, 5, 154, 0, 22, 45, 3, 47, 21, 6, 153, 0, 7, 10, 167, 0, 4, 9, 148, 153, 0, 5, 3]
abbrev dktL_law_43 : List UInt8 := dkwL_law_43 ++ dktL_law_44
def dkwL_law_42 : List UInt8 := [54, 5, 44, 42, 21, 4, 4, 96, 46, 182, 0, 198, 54, 6, 44, 182, 0, 158, 21, 5, 159, 0, 5, 3]
abbrev dktL_law_42 : List UInt8 := dkwL_law_42 ++ dktL_law_43
def dkwL_law_41 : List UInt8 := [21, 6, 133, 148, 153, 0, 5, 3, 172, 167, 5, 36, 43, 42, 21, 4, 4, 96, 46, 45, 184, 0, 196]
abbrev dktL_law_41 : List UInt8 := dkwL_law_41 ++ dktL_law_42
def dkwL_law_40 : List UInt8 := [182, 0, 195, 54, 6, 44, 182, 0, 158, 21, 5, 159, 0, 5, 3, 172, 21, 5, 154, 0, 15, 45, 3, 47]
abbrev dktL_law_40 : List UInt8 := dkwL_law_40 ++ dktL_law_41
def dkwL_law_39 : List UInt8 := [167, 5, 92, 43, 42, 21, 4, 4, 96, 46, 45, 184, 0, 193, 54, 5, 44, 42, 21, 4, 4, 96, 46]
abbrev dktL_law_39 : List UInt8 := dkwL_law_39 ++ dktL_law_40
def dkwL_law_38 : List UInt8 := [154, 0, 22, 45, 3, 47, 21, 6, 153, 0, 7, 10, 167, 0, 4, 9, 148, 153, 0, 5, 3, 172]
abbrev dktL_law_38 : List UInt8 := dkwL_law_38 ++ dktL_law_39
def dkwL_law_37 : List UInt8 := [42, 21, 4, 4, 96, 46, 182, 0, 192, 54, 6, 44, 182, 0, 158, 21, 5, 159, 0, 5, 3, 172, 21, 5]
abbrev dktL_law_37 : List UInt8 := dkwL_law_37 ++ dktL_law_38
def dkwL_law_36 : List UInt8 := [9, 148, 153, 0, 5, 3, 172, 167, 5, 155, 43, 42, 21, 4, 4, 96, 46, 45, 184, 0, 190, 54, 5, 44]
abbrev dktL_law_36 : List UInt8 := dkwL_law_36 ++ dktL_law_37
def dkwL_law_35 : List UInt8 := [21, 5, 159, 0, 5, 3, 172, 21, 5, 154, 0, 22, 45, 3, 47, 21, 6, 153, 0, 7, 10, 167, 0, 4]
abbrev dktL_law_35 : List UInt8 := dkwL_law_35 ++ dktL_law_36
def dkwL_law_34 : List UInt8 := [46, 45, 184, 0, 187, 54, 5, 44, 42, 21, 4, 4, 96, 46, 182, 0, 189, 54, 6, 44, 182, 0, 158]
abbrev dktL_law_34 : List UInt8 := dkwL_law_34 ++ dktL_law_35
def dkwL_law_33 : List UInt8 := [154, 0, 15, 45, 3, 47, 21, 6, 133, 148, 153, 0, 5, 3, 172, 167, 5, 218, 43, 42, 21, 4, 4, 96]
abbrev dktL_law_33 : List UInt8 := dkwL_law_33 ++ dktL_law_34
def dkwL_law_32 : List UInt8 := [21, 4, 4, 96, 46, 182, 0, 186, 54, 6, 44, 182, 0, 158, 21, 5, 159, 0, 5, 3, 172, 21, 5]
abbrev dktL_law_32 : List UInt8 := dkwL_law_32 ++ dktL_law_33
def dkwL_law_31 : List UInt8 := [153, 0, 5, 3, 172, 167, 6, 18, 43, 42, 21, 4, 4, 96, 46, 45, 184, 0, 184, 54, 5, 44, 42]
abbrev dktL_law_31 : List UInt8 := dkwL_law_31 ++ dktL_law_32
def dkwL_law_30 : List UInt8 := [182, 0, 158, 21, 5, 159, 0, 5, 3, 172, 21, 5, 154, 0, 15, 45, 3, 47, 21, 6, 133, 148]
abbrev dktL_law_30 : List UInt8 := dkwL_law_30 ++ dktL_law_31
def dkwL_law_29 : List UInt8 := [21, 4, 4, 96, 46, 45, 184, 0, 181, 54, 5, 44, 42, 21, 4, 4, 96, 46, 182, 0, 183, 54, 6, 44]
abbrev dktL_law_29 : List UInt8 := dkwL_law_29 ++ dktL_law_30
def dkwL_law_28 : List UInt8 := [172, 21, 5, 154, 0, 15, 45, 3, 47, 21, 6, 133, 148, 153, 0, 5, 3, 172, 167, 6, 74, 43, 42]
abbrev dktL_law_28 : List UInt8 := dkwL_law_28 ++ dktL_law_29
def dkwL_law_27 : List UInt8 := [54, 5, 44, 42, 21, 4, 4, 96, 46, 182, 0, 180, 54, 6, 44, 182, 0, 158, 21, 5, 159, 0, 5, 3]
abbrev dktL_law_27 : List UInt8 := dkwL_law_27 ++ dktL_law_28
def dkwL_law_26 : List UInt8 := [21, 6, 133, 148, 153, 0, 5, 3, 172, 167, 6, 130, 43, 42, 21, 4, 4, 96, 46, 45, 184, 0, 178]
abbrev dktL_law_26 : List UInt8 := dkwL_law_26 ++ dktL_law_27
def dkwL_law_25 : List UInt8 := [182, 0, 177, 54, 6, 44, 182, 0, 158, 21, 5, 159, 0, 5, 3, 172, 21, 5, 154, 0, 15, 45, 3, 47]
abbrev dktL_law_25 : List UInt8 := dkwL_law_25 ++ dktL_law_26
def dkwL_law_24 : List UInt8 := [167, 6, 186, 43, 42, 21, 4, 4, 96, 46, 45, 184, 0, 175, 54, 5, 44, 42, 21, 4, 4, 96, 46]
abbrev dktL_law_24 : List UInt8 := dkwL_law_24 ++ dktL_law_25
def dkwL_law_23 : List UInt8 := [159, 0, 5, 3, 172, 21, 5, 154, 0, 15, 45, 3, 47, 21, 6, 133, 148, 153, 0, 5, 3, 172]
abbrev dktL_law_23 : List UInt8 := dkwL_law_23 ++ dktL_law_24
def dkwL_law_22 : List UInt8 := [184, 0, 171, 54, 5, 44, 42, 21, 4, 4, 96, 46, 182, 0, 174, 54, 6, 44, 182, 0, 158, 21, 5]
abbrev dktL_law_22 : List UInt8 := dkwL_law_22 ++ dktL_law_23
def dkwL_law_21 : List UInt8 := [167, 6, 255, 43, 182, 0, 167, 44, 182, 0, 170, 159, 6, 244, 3, 172, 43, 42, 21, 4, 4, 96, 46, 45]
abbrev dktL_law_21 : List UInt8 := dkwL_law_21 ++ dktL_law_22
def dkwL_law_20 : List UInt8 := [159, 0, 5, 3, 172, 21, 5, 154, 0, 15, 45, 3, 47, 21, 6, 133, 148, 153, 0, 5, 3, 172]
abbrev dktL_law_20 : List UInt8 := dkwL_law_20 ++ dktL_law_21
def dkwL_law_19 : List UInt8 := [21, 4, 4, 96, 46, 42, 21, 4, 5, 96, 46, 182, 0, 166, 54, 6, 44, 182, 0, 158, 21, 5]
abbrev dktL_law_19 : List UInt8 := dkwL_law_19 ++ dktL_law_20
def dkwL_law_18 : List UInt8 := [167, 7, 67, 43, 42, 21, 4, 4, 96, 46, 42, 21, 4, 5, 96, 46, 45, 184, 0, 164, 54, 5, 44, 42]
abbrev dktL_law_18 : List UInt8 := dkwL_law_18 ++ dktL_law_19
def dkwL_law_17 : List UInt8 := [159, 0, 5, 3, 172, 21, 5, 154, 0, 15, 45, 3, 47, 21, 6, 133, 148, 153, 0, 5, 3, 172]
abbrev dktL_law_17 : List UInt8 := dkwL_law_17 ++ dktL_law_18
def dkwL_law_16 : List UInt8 := [21, 4, 4, 96, 46, 42, 21, 4, 5, 96, 46, 182, 0, 163, 54, 6, 44, 182, 0, 158, 21, 5]
abbrev dktL_law_16 : List UInt8 := dkwL_law_16 ++ dktL_law_17
def dkwL_law_15 : List UInt8 := [167, 7, 135, 43, 42, 21, 4, 4, 96, 46, 42, 21, 4, 5, 96, 46, 45, 184, 0, 161, 54, 5, 44, 42]
abbrev dktL_law_15 : List UInt8 := dkwL_law_15 ++ dktL_law_16
def dkwL_law_14 : List UInt8 := [159, 0, 5, 3, 172, 21, 5, 154, 0, 15, 45, 3, 47, 21, 6, 133, 148, 153, 0, 5, 3, 172]
abbrev dktL_law_14 : List UInt8 := dkwL_law_14 ++ dktL_law_15
def dkwL_law_13 : List UInt8 := [44, 42, 21, 4, 4, 96, 46, 42, 21, 4, 5, 96, 46, 182, 0, 157, 54, 6, 44, 182, 0, 158, 21, 5]
abbrev dktL_law_13 : List UInt8 := dkwL_law_13 ++ dktL_law_14
def dkwL_law_12 : List UInt8 := [159, 7, 205, 3, 172, 43, 42, 21, 4, 4, 96, 46, 42, 21, 4, 5, 96, 46, 45, 184, 0, 152, 54, 5]
abbrev dktL_law_12 : List UInt8 := dkwL_law_12 ++ dktL_law_13
def dkwL_law_11 : List UInt8 := [172, 43, 182, 0, 144, 44, 182, 0, 147, 159, 7, 218, 3, 172, 43, 182, 0, 148, 44, 182, 0, 151]
abbrev dktL_law_11 : List UInt8 := dkwL_law_11 ++ dktL_law_12
def dkwL_law_10 : List UInt8 := [182, 0, 136, 44, 182, 0, 139, 159, 7, 244, 3, 172, 43, 182, 0, 140, 44, 182, 0, 143, 159, 7, 231, 3]
abbrev dktL_law_10 : List UInt8 := dkwL_law_10 ++ dktL_law_11
def dkwL_law_9 : List UInt8 := [182, 0, 131, 159, 8, 14, 3, 172, 43, 182, 0, 132, 44, 182, 0, 135, 159, 8, 1, 3, 172, 43]
abbrev dktL_law_9 : List UInt8 := dkwL_law_9 ++ dktL_law_10
def dkwL_law_8 : List UInt8 := [159, 8, 40, 3, 172, 43, 182, 0, 124, 44, 182, 0, 127, 159, 8, 27, 3, 172, 43, 182, 0, 128, 44]
abbrev dktL_law_8 : List UInt8 := dkwL_law_8 ++ dktL_law_9
def dkwL_law_7 : List UInt8 := [3, 172, 43, 182, 0, 116, 44, 182, 0, 119, 159, 8, 53, 3, 172, 43, 182, 0, 120, 44, 182, 0, 123]
abbrev dktL_law_7 : List UInt8 := dkwL_law_7 ++ dktL_law_8
def dkwL_law_6 : List UInt8 := [172, 43, 42, 21, 4, 4, 96, 46, 182, 0, 112, 44, 42, 21, 4, 4, 96, 46, 182, 0, 115, 159, 8, 66]
abbrev dktL_law_6 : List UInt8 := dkwL_law_6 ++ dktL_law_7
def dkwL_law_5 : List UInt8 := [21, 4, 6, 96, 46, 42, 21, 4, 7, 96, 46, 42, 21, 4, 8, 96, 46, 182, 0, 111, 159, 8, 91, 3]
abbrev dktL_law_5 : List UInt8 := dkwL_law_5 ++ dktL_law_6
def dkwL_law_4 : List UInt8 := [46, 42, 21, 4, 8, 96, 46, 182, 0, 107, 44, 42, 21, 4, 4, 96, 46, 42, 21, 4, 5, 96, 46, 42]
abbrev dktL_law_4 : List UInt8 := dkwL_law_4 ++ dktL_law_5
def dkwL_law_3 : List UInt8 := [43, 42, 21, 4, 4, 96, 46, 42, 21, 4, 5, 96, 46, 42, 21, 4, 6, 96, 46, 42, 21, 4, 7, 96]
abbrev dktL_law_3 : List UInt8 := dkwL_law_3 ++ dktL_law_4
def dkwL_law_2 : List UInt8 := [170, 0, 0, 0, 0, 0, 9, 155, 0, 0, 0, 0, 0, 0, 0, 58, 0, 0, 0, 252, 0, 0, 1, 69, 0, 0, 1, 94, 0, 0, 1, 107, 0, 0, 1, 120, 0, 0, 1, 133, 0, 0, 1, 146, 0, 0, 1, 159, 0, 0, 1, 172, 0, 0, 1, 185, 0, 0, 1, 198, 0, 0, 1, 211, 0, 0, 2, 23, 0, 0, 2, 91, 0, 0, 2, 159, 0, 0, 2, 172, 0, 0, 2, 228, 0, 0, 3, 28, 0, 0, 3, 84, 0, 0, 3, 140, 0, 0, 3, 196, 0, 0, 4, 3, 0, 0, 4, 66, 0, 0, 4, 122, 0, 0, 4, 185, 0, 0, 4, 241, 0, 0, 5, 41, 0, 0, 5, 97, 0, 0, 5, 110, 0, 0, 5, 166, 0, 0, 5, 222, 0, 0, 5, 235, 0, 0, 5, 248, 0, 0, 6, 48, 0, 0, 6, 91, 0, 0, 6, 134, 0, 0, 6, 147, 0, 0, 6, 160, 0, 0, 6, 173, 0, 0, 6, 198, 0, 0, 6, 223, 0, 0, 6, 236, 0, 0, 7, 43, 0, 0, 7, 106, 0, 0, 7, 162, 0, 0, 7, 218, 0, 0, 7, 231, 0, 0, 7, 244, 0, 0, 8, 1, 0, 0, 8, 42, 0, 0, 8, 98, 0, 0, 8, 166, 0, 0, 8, 179, 0, 0, 8, 192, 0, 0, 9, 16, 0, 0, 9, 60, 0, 0, 9, 73, 0, 0, 9, 98, 0, 0, 9, 111]
abbrev dktL_law_2 : List UInt8 := dkwL_law_2 ++ dktL_law_3
def dkwL_law_1 : List UInt8 := [21, 4, 42, 190, 16, 6, 100, 163, 9, 171, 42, 21, 4, 46, 16, 63, 126]
abbrev dktL_law_1 : List UInt8 := dkwL_law_1 ++ dktL_law_2
def dkwL_law_0 : List UInt8 := [187, 0, 8, 89, 183, 0, 103, 76, 187, 0, 104, 89, 183, 0, 106, 77, 4, 188, 11, 78, 3, 54, 4]
abbrev dktL_law_0 : List UInt8 := dkwL_law_0 ++ dktL_law_1
theorem dksL_law_0 : cL_law.data.toList.drop 0 = dktL_law_0 := by decide +kernel
theorem dksL_law_1 : cL_law.data.toList.drop 23 = dktL_law_1 := dk_seg dksL_law_0 23 rfl rfl
theorem dksL_law_2 : cL_law.data.toList.drop 40 = dktL_law_2 := dk_seg dksL_law_1 17 rfl rfl
theorem dksL_law_3 : cL_law.data.toList.drop 292 = dktL_law_3 := dk_seg dksL_law_2 252 rfl rfl
theorem dksL_law_4 : cL_law.data.toList.drop 316 = dktL_law_4 := dk_seg dksL_law_3 24 rfl rfl
theorem dksL_law_5 : cL_law.data.toList.drop 340 = dktL_law_5 := dk_seg dksL_law_4 24 rfl rfl
theorem dksL_law_6 : cL_law.data.toList.drop 364 = dktL_law_6 := dk_seg dksL_law_5 24 rfl rfl
theorem dksL_law_7 : cL_law.data.toList.drop 388 = dktL_law_7 := dk_seg dksL_law_6 24 rfl rfl
theorem dksL_law_8 : cL_law.data.toList.drop 411 = dktL_law_8 := dk_seg dksL_law_7 23 rfl rfl
theorem dksL_law_9 : cL_law.data.toList.drop 434 = dktL_law_9 := dk_seg dksL_law_8 23 rfl rfl
theorem dksL_law_10 : cL_law.data.toList.drop 456 = dktL_law_10 := dk_seg dksL_law_9 22 rfl rfl
theorem dksL_law_11 : cL_law.data.toList.drop 480 = dktL_law_11 := dk_seg dksL_law_10 24 rfl rfl
theorem dksL_law_12 : cL_law.data.toList.drop 502 = dktL_law_12 := dk_seg dksL_law_11 22 rfl rfl
theorem dksL_law_13 : cL_law.data.toList.drop 526 = dktL_law_13 := dk_seg dksL_law_12 24 rfl rfl
theorem dksL_law_14 : cL_law.data.toList.drop 550 = dktL_law_14 := dk_seg dksL_law_13 24 rfl rfl
theorem dksL_law_15 : cL_law.data.toList.drop 572 = dktL_law_15 := dk_seg dksL_law_14 22 rfl rfl
theorem dksL_law_16 : cL_law.data.toList.drop 596 = dktL_law_16 := dk_seg dksL_law_15 24 rfl rfl
theorem dksL_law_17 : cL_law.data.toList.drop 618 = dktL_law_17 := dk_seg dksL_law_16 22 rfl rfl
theorem dksL_law_18 : cL_law.data.toList.drop 640 = dktL_law_18 := dk_seg dksL_law_17 22 rfl rfl
theorem dksL_law_19 : cL_law.data.toList.drop 664 = dktL_law_19 := dk_seg dksL_law_18 24 rfl rfl
theorem dksL_law_20 : cL_law.data.toList.drop 686 = dktL_law_20 := dk_seg dksL_law_19 22 rfl rfl
theorem dksL_law_21 : cL_law.data.toList.drop 708 = dktL_law_21 := dk_seg dksL_law_20 22 rfl rfl
theorem dksL_law_22 : cL_law.data.toList.drop 732 = dktL_law_22 := dk_seg dksL_law_21 24 rfl rfl
theorem dksL_law_23 : cL_law.data.toList.drop 755 = dktL_law_23 := dk_seg dksL_law_22 23 rfl rfl
theorem dksL_law_24 : cL_law.data.toList.drop 777 = dktL_law_24 := dk_seg dksL_law_23 22 rfl rfl
theorem dksL_law_25 : cL_law.data.toList.drop 800 = dktL_law_25 := dk_seg dksL_law_24 23 rfl rfl
theorem dksL_law_26 : cL_law.data.toList.drop 824 = dktL_law_26 := dk_seg dksL_law_25 24 rfl rfl
theorem dksL_law_27 : cL_law.data.toList.drop 847 = dktL_law_27 := dk_seg dksL_law_26 23 rfl rfl
theorem dksL_law_28 : cL_law.data.toList.drop 871 = dktL_law_28 := dk_seg dksL_law_27 24 rfl rfl
theorem dksL_law_29 : cL_law.data.toList.drop 894 = dktL_law_29 := dk_seg dksL_law_28 23 rfl rfl
theorem dksL_law_30 : cL_law.data.toList.drop 918 = dktL_law_30 := dk_seg dksL_law_29 24 rfl rfl
theorem dksL_law_31 : cL_law.data.toList.drop 940 = dktL_law_31 := dk_seg dksL_law_30 22 rfl rfl
theorem dksL_law_32 : cL_law.data.toList.drop 963 = dktL_law_32 := dk_seg dksL_law_31 23 rfl rfl
theorem dksL_law_33 : cL_law.data.toList.drop 986 = dktL_law_33 := dk_seg dksL_law_32 23 rfl rfl
theorem dksL_law_34 : cL_law.data.toList.drop 1010 = dktL_law_34 := dk_seg dksL_law_33 24 rfl rfl
theorem dksL_law_35 : cL_law.data.toList.drop 1033 = dktL_law_35 := dk_seg dksL_law_34 23 rfl rfl
theorem dksL_law_36 : cL_law.data.toList.drop 1057 = dktL_law_36 := dk_seg dksL_law_35 24 rfl rfl
theorem dksL_law_37 : cL_law.data.toList.drop 1081 = dktL_law_37 := dk_seg dksL_law_36 24 rfl rfl
theorem dksL_law_38 : cL_law.data.toList.drop 1105 = dktL_law_38 := dk_seg dksL_law_37 24 rfl rfl
theorem dksL_law_39 : cL_law.data.toList.drop 1127 = dktL_law_39 := dk_seg dksL_law_38 22 rfl rfl
theorem dksL_law_40 : cL_law.data.toList.drop 1150 = dktL_law_40 := dk_seg dksL_law_39 23 rfl rfl
theorem dksL_law_41 : cL_law.data.toList.drop 1174 = dktL_law_41 := dk_seg dksL_law_40 24 rfl rfl
theorem dksL_law_42 : cL_law.data.toList.drop 1197 = dktL_law_42 := dk_seg dksL_law_41 23 rfl rfl
theorem dksL_law_43 : cL_law.data.toList.drop 1221 = dktL_law_43 := dk_seg dksL_law_42 24 rfl rfl
theorem dksL_law_44 : cL_law.data.toList.drop 1245 = dktL_law_44 := dk_seg dksL_law_43 24 rfl rfl
theorem dksL_law_45 : cL_law.data.toList.drop 1269 = dktL_law_45 := dk_seg dksL_law_44 24 rfl rfl
theorem dksL_law_46 : cL_law.data.toList.drop 1293 = dktL_law_46 := dk_seg dksL_law_45 24 rfl rfl
theorem dksL_law_47 : cL_law.data.toList.drop 1316 = dktL_law_47 := dk_seg dksL_law_46 23 rfl rfl
theorem dksL_law_48 : cL_law.data.toList.drop 1340 = dktL_law_48 := dk_seg dksL_law_47 24 rfl rfl
theorem dksL_law_49 : cL_law.data.toList.drop 1363 = dktL_law_49 := dk_seg dksL_law_48 23 rfl rfl
theorem dksL_law_50 : cL_law.data.toList.drop 1387 = dktL_law_50 := dk_seg dksL_law_49 24 rfl rfl
theorem dksL_law_51 : cL_law.data.toList.drop 1409 = dktL_law_51 := dk_seg dksL_law_50 22 rfl rfl
theorem dksL_law_52 : cL_law.data.toList.drop 1432 = dktL_law_52 := dk_seg dksL_law_51 23 rfl rfl
theorem dksL_law_53 : cL_law.data.toList.drop 1456 = dktL_law_53 := dk_seg dksL_law_52 24 rfl rfl
theorem dksL_law_54 : cL_law.data.toList.drop 1478 = dktL_law_54 := dk_seg dksL_law_53 22 rfl rfl
theorem dksL_law_55 : cL_law.data.toList.drop 1501 = dktL_law_55 := dk_seg dksL_law_54 23 rfl rfl
theorem dksL_law_56 : cL_law.data.toList.drop 1524 = dktL_law_56 := dk_seg dksL_law_55 23 rfl rfl
theorem dksL_law_57 : cL_law.data.toList.drop 1547 = dktL_law_57 := dk_seg dksL_law_56 23 rfl rfl
theorem dksL_law_58 : cL_law.data.toList.drop 1570 = dktL_law_58 := dk_seg dksL_law_57 23 rfl rfl
theorem dksL_law_59 : cL_law.data.toList.drop 1594 = dktL_law_59 := dk_seg dksL_law_58 24 rfl rfl
theorem dksL_law_60 : cL_law.data.toList.drop 1616 = dktL_law_60 := dk_seg dksL_law_59 22 rfl rfl
theorem dksL_law_61 : cL_law.data.toList.drop 1640 = dktL_law_61 := dk_seg dksL_law_60 24 rfl rfl
theorem dksL_law_62 : cL_law.data.toList.drop 1664 = dktL_law_62 := dk_seg dksL_law_61 24 rfl rfl
theorem dksL_law_63 : cL_law.data.toList.drop 1686 = dktL_law_63 := dk_seg dksL_law_62 22 rfl rfl
theorem dksL_law_64 : cL_law.data.toList.drop 1710 = dktL_law_64 := dk_seg dksL_law_63 24 rfl rfl
theorem dksL_law_65 : cL_law.data.toList.drop 1734 = dktL_law_65 := dk_seg dksL_law_64 24 rfl rfl
theorem dksL_law_66 : cL_law.data.toList.drop 1756 = dktL_law_66 := dk_seg dksL_law_65 22 rfl rfl
theorem dksL_law_67 : cL_law.data.toList.drop 1780 = dktL_law_67 := dk_seg dksL_law_66 24 rfl rfl
theorem dksL_law_68 : cL_law.data.toList.drop 1804 = dktL_law_68 := dk_seg dksL_law_67 24 rfl rfl
theorem dksL_law_69 : cL_law.data.toList.drop 1827 = dktL_law_69 := dk_seg dksL_law_68 23 rfl rfl
theorem dksL_law_70 : cL_law.data.toList.drop 1850 = dktL_law_70 := dk_seg dksL_law_69 23 rfl rfl
theorem dksL_law_71 : cL_law.data.toList.drop 1872 = dktL_law_71 := dk_seg dksL_law_70 22 rfl rfl
theorem dksL_law_72 : cL_law.data.toList.drop 1895 = dktL_law_72 := dk_seg dksL_law_71 23 rfl rfl
theorem dksL_law_73 : cL_law.data.toList.drop 1919 = dktL_law_73 := dk_seg dksL_law_72 24 rfl rfl
theorem dksL_law_74 : cL_law.data.toList.drop 1943 = dktL_law_74 := dk_seg dksL_law_73 24 rfl rfl
theorem dksL_law_75 : cL_law.data.toList.drop 1967 = dktL_law_75 := dk_seg dksL_law_74 24 rfl rfl
theorem dksL_law_76 : cL_law.data.toList.drop 1991 = dktL_law_76 := dk_seg dksL_law_75 24 rfl rfl
theorem dksL_law_77 : cL_law.data.toList.drop 2014 = dktL_law_77 := dk_seg dksL_law_76 23 rfl rfl
theorem dksL_law_78 : cL_law.data.toList.drop 2038 = dktL_law_78 := dk_seg dksL_law_77 24 rfl rfl
theorem dksL_law_79 : cL_law.data.toList.drop 2062 = dktL_law_79 := dk_seg dksL_law_78 24 rfl rfl
theorem dksL_law_80 : cL_law.data.toList.drop 2084 = dktL_law_80 := dk_seg dksL_law_79 22 rfl rfl
theorem dksL_law_81 : cL_law.data.toList.drop 2106 = dktL_law_81 := dk_seg dksL_law_80 22 rfl rfl
theorem dksL_law_82 : cL_law.data.toList.drop 2130 = dktL_law_82 := dk_seg dksL_law_81 24 rfl rfl
theorem dksL_law_83 : cL_law.data.toList.drop 2153 = dktL_law_83 := dk_seg dksL_law_82 23 rfl rfl
theorem dksL_law_84 : cL_law.data.toList.drop 2177 = dktL_law_84 := dk_seg dksL_law_83 24 rfl rfl
theorem dksL_law_85 : cL_law.data.toList.drop 2200 = dktL_law_85 := dk_seg dksL_law_84 23 rfl rfl
theorem dksL_law_86 : cL_law.data.toList.drop 2224 = dktL_law_86 := dk_seg dksL_law_85 24 rfl rfl
theorem dksL_law_87 : cL_law.data.toList.drop 2246 = dktL_law_87 := dk_seg dksL_law_86 22 rfl rfl
theorem dksL_law_88 : cL_law.data.toList.drop 2268 = dktL_law_88 := dk_seg dksL_law_87 22 rfl rfl
theorem dksL_law_89 : cL_law.data.toList.drop 2292 = dktL_law_89 := dk_seg dksL_law_88 24 rfl rfl
theorem dksL_law_90 : cL_law.data.toList.drop 2316 = dktL_law_90 := dk_seg dksL_law_89 24 rfl rfl
theorem dksL_law_91 : cL_law.data.toList.drop 2340 = dktL_law_91 := dk_seg dksL_law_90 24 rfl rfl
theorem dksL_law_92 : cL_law.data.toList.drop 2362 = dktL_law_92 := dk_seg dksL_law_91 22 rfl rfl
theorem dksL_law_93 : cL_law.data.toList.drop 2386 = dktL_law_93 := dk_seg dksL_law_92 24 rfl rfl
theorem dksL_law_94 : cL_law.data.toList.drop 2409 = dktL_law_94 := dk_seg dksL_law_93 23 rfl rfl
theorem dksL_law_95 : cL_law.data.toList.drop 2433 = dktL_law_95 := dk_seg dksL_law_94 24 rfl rfl
theorem dksL_law_96 : cL_law.data.toList.drop 2457 = dktL_law_96 := dk_seg dksL_law_95 24 rfl rfl
theorem dksL_law_97 : cL_law.data.toList.drop 2481 = dktL_law_97 := dk_seg dksL_law_96 24 rfl rfl
theorem dksL_law_98 : cL_law.data.toList.drop 2505 = dktL_law_98 := dk_seg dksL_law_97 24 rfl rfl
theorem dL_law_0 : decode cL_law 0 = .ok (.new 8, 3) := dk_187 0 8 (dk_at dksL_law_0 0 rfl rfl)
theorem dL_law_3 : decode cL_law 3 = .ok (.dup, 1) := dk_89 (dk_at dksL_law_0 3 rfl rfl)
theorem dL_law_4 : decode cL_law 4 = .ok (.invokespecial 103, 3) := dk_183 0 103 (dk_at dksL_law_0 4 rfl rfl)
theorem dL_law_7 : decode cL_law 7 = .ok (.astore_n 1, 1) := dk_76 (dk_at dksL_law_0 7 rfl rfl)
theorem dL_law_8 : decode cL_law 8 = .ok (.new 104, 3) := dk_187 0 104 (dk_at dksL_law_0 8 rfl rfl)
theorem dL_law_11 : decode cL_law 11 = .ok (.dup, 1) := dk_89 (dk_at dksL_law_0 11 rfl rfl)
theorem dL_law_12 : decode cL_law 12 = .ok (.invokespecial 106, 3) := dk_183 0 106 (dk_at dksL_law_0 12 rfl rfl)
theorem dL_law_15 : decode cL_law 15 = .ok (.astore_n 2, 1) := dk_77 (dk_at dksL_law_0 15 rfl rfl)
theorem dL_law_16 : decode cL_law 16 = .ok (.iconst 1, 1) := dk_4 (dk_at dksL_law_0 16 rfl rfl)
theorem dL_law_17 : decode cL_law 17 = .ok (.newarray .long, 2) := dk_188_11 (dk_at dksL_law_0 17 rfl rfl)
theorem dL_law_19 : decode cL_law 19 = .ok (.astore_n 3, 1) := dk_78 (dk_at dksL_law_0 19 rfl rfl)
theorem dL_law_20 : decode cL_law 20 = .ok (.iconst 0, 1) := dk_3 (dk_at dksL_law_0 20 rfl rfl)
theorem dL_law_21 : decode cL_law 21 = .ok (.istore 4, 2) := dk_54 4 (dk_at dksL_law_0 21 rfl rfl)
theorem dL_law_23 : decode cL_law 23 = .ok (.iload 4, 2) := dk_21 4 (dk_at dksL_law_1 0 rfl rfl)
theorem dL_law_25 : decode cL_law 25 = .ok (.aload_n 0, 1) := dk_42 (dk_at dksL_law_1 2 rfl rfl)
theorem dL_law_26 : decode cL_law 26 = .ok (.arraylength, 1) := dk_190 (dk_at dksL_law_1 3 rfl rfl)
theorem dL_law_27 : decode cL_law 27 = .ok (.bipush 6, 2) := dk_16 6 (dk_at dksL_law_1 4 rfl rfl)
theorem dL_law_29 : decode cL_law 29 = .ok (.isub, 1) := dk_100 (dk_at dksL_law_1 6 rfl rfl)
theorem dL_law_30 : decode cL_law 30 = .ok (.if_icmp .gt 2475, 3) := dk_163 9 171 (dk_at dksL_law_1 7 rfl rfl)
theorem dL_law_33 : decode cL_law 33 = .ok (.aload_n 0, 1) := dk_42 (dk_at dksL_law_1 10 rfl rfl)
theorem dL_law_34 : decode cL_law 34 = .ok (.iload 4, 2) := dk_21 4 (dk_at dksL_law_1 11 rfl rfl)
theorem dL_law_36 : decode cL_law 36 = .ok (.iaload, 1) := dk_46 (dk_at dksL_law_1 13 rfl rfl)
theorem dL_law_37 : decode cL_law 37 = .ok (.bipush 63, 2) := dk_16 63 (dk_at dksL_law_1 14 rfl rfl)
theorem dL_law_39 : decode cL_law 39 = .ok (.iand, 1) := dk_126 (dk_at dksL_law_1 16 rfl rfl)
theorem dL_law_40 : decode cL_law 40 = .ok (.tableswitch 2459 0 58 #[252, 325, 350, 363, 376, 389, 402, 415, 428, 441, 454, 467, 535, 603, 671, 684, 740, 796, 852, 908, 964, 1027, 1090, 1146, 1209, 1265, 1321, 1377, 1390, 1446, 1502, 1515, 1528, 1584, 1627, 1670, 1683, 1696, 1709, 1734, 1759, 1772, 1835, 1898, 1954, 2010, 2023, 2036, 2049, 2090, 2146, 2214, 2227, 2240, 2320, 2364, 2377, 2402, 2415], 252) := by decide +kernel
theorem dL_law_292 : decode cL_law 292 = .ok (.aload_n 1, 1) := dk_43 (dk_at dksL_law_3 0 rfl rfl)
theorem dL_law_293 : decode cL_law 293 = .ok (.aload_n 0, 1) := dk_42 (dk_at dksL_law_3 1 rfl rfl)
theorem dL_law_294 : decode cL_law 294 = .ok (.iload 4, 2) := dk_21 4 (dk_at dksL_law_3 2 rfl rfl)
theorem dL_law_296 : decode cL_law 296 = .ok (.iconst 1, 1) := dk_4 (dk_at dksL_law_3 4 rfl rfl)
theorem dL_law_297 : decode cL_law 297 = .ok (.iadd, 1) := dk_96 (dk_at dksL_law_3 5 rfl rfl)
theorem dL_law_298 : decode cL_law 298 = .ok (.iaload, 1) := dk_46 (dk_at dksL_law_3 6 rfl rfl)
theorem dL_law_299 : decode cL_law 299 = .ok (.aload_n 0, 1) := dk_42 (dk_at dksL_law_3 7 rfl rfl)
theorem dL_law_300 : decode cL_law 300 = .ok (.iload 4, 2) := dk_21 4 (dk_at dksL_law_3 8 rfl rfl)
theorem dL_law_302 : decode cL_law 302 = .ok (.iconst 2, 1) := dk_5 (dk_at dksL_law_3 10 rfl rfl)
theorem dL_law_303 : decode cL_law 303 = .ok (.iadd, 1) := dk_96 (dk_at dksL_law_3 11 rfl rfl)
theorem dL_law_304 : decode cL_law 304 = .ok (.iaload, 1) := dk_46 (dk_at dksL_law_3 12 rfl rfl)
theorem dL_law_305 : decode cL_law 305 = .ok (.aload_n 0, 1) := dk_42 (dk_at dksL_law_3 13 rfl rfl)
theorem dL_law_306 : decode cL_law 306 = .ok (.iload 4, 2) := dk_21 4 (dk_at dksL_law_3 14 rfl rfl)
theorem dL_law_308 : decode cL_law 308 = .ok (.iconst 3, 1) := dk_6 (dk_at dksL_law_3 16 rfl rfl)
theorem dL_law_309 : decode cL_law 309 = .ok (.iadd, 1) := dk_96 (dk_at dksL_law_3 17 rfl rfl)
theorem dL_law_310 : decode cL_law 310 = .ok (.iaload, 1) := dk_46 (dk_at dksL_law_3 18 rfl rfl)
theorem dL_law_311 : decode cL_law 311 = .ok (.aload_n 0, 1) := dk_42 (dk_at dksL_law_3 19 rfl rfl)
theorem dL_law_312 : decode cL_law 312 = .ok (.iload 4, 2) := dk_21 4 (dk_at dksL_law_3 20 rfl rfl)
theorem dL_law_314 : decode cL_law 314 = .ok (.iconst 4, 1) := dk_7 (dk_at dksL_law_3 22 rfl rfl)
theorem dL_law_315 : decode cL_law 315 = .ok (.iadd, 1) := dk_96 (dk_at dksL_law_3 23 rfl rfl)
theorem dL_law_316 : decode cL_law 316 = .ok (.iaload, 1) := dk_46 (dk_at dksL_law_4 0 rfl rfl)
theorem dL_law_317 : decode cL_law 317 = .ok (.aload_n 0, 1) := dk_42 (dk_at dksL_law_4 1 rfl rfl)
theorem dL_law_318 : decode cL_law 318 = .ok (.iload 4, 2) := dk_21 4 (dk_at dksL_law_4 2 rfl rfl)
theorem dL_law_320 : decode cL_law 320 = .ok (.iconst 5, 1) := dk_8 (dk_at dksL_law_4 4 rfl rfl)
theorem dL_law_321 : decode cL_law 321 = .ok (.iadd, 1) := dk_96 (dk_at dksL_law_4 5 rfl rfl)
theorem dL_law_322 : decode cL_law 322 = .ok (.iaload, 1) := dk_46 (dk_at dksL_law_4 6 rfl rfl)
theorem dL_law_323 : decode cL_law 323 = .ok (.invokevirtual 107, 3) := dk_182 0 107 (dk_at dksL_law_4 7 rfl rfl)
theorem dL_law_326 : decode cL_law 326 = .ok (.aload_n 2, 1) := dk_44 (dk_at dksL_law_4 10 rfl rfl)
theorem dL_law_327 : decode cL_law 327 = .ok (.aload_n 0, 1) := dk_42 (dk_at dksL_law_4 11 rfl rfl)
theorem dL_law_328 : decode cL_law 328 = .ok (.iload 4, 2) := dk_21 4 (dk_at dksL_law_4 12 rfl rfl)
theorem dL_law_330 : decode cL_law 330 = .ok (.iconst 1, 1) := dk_4 (dk_at dksL_law_4 14 rfl rfl)
theorem dL_law_331 : decode cL_law 331 = .ok (.iadd, 1) := dk_96 (dk_at dksL_law_4 15 rfl rfl)
theorem dL_law_332 : decode cL_law 332 = .ok (.iaload, 1) := dk_46 (dk_at dksL_law_4 16 rfl rfl)
theorem dL_law_333 : decode cL_law 333 = .ok (.aload_n 0, 1) := dk_42 (dk_at dksL_law_4 17 rfl rfl)
theorem dL_law_334 : decode cL_law 334 = .ok (.iload 4, 2) := dk_21 4 (dk_at dksL_law_4 18 rfl rfl)
theorem dL_law_336 : decode cL_law 336 = .ok (.iconst 2, 1) := dk_5 (dk_at dksL_law_4 20 rfl rfl)
theorem dL_law_337 : decode cL_law 337 = .ok (.iadd, 1) := dk_96 (dk_at dksL_law_4 21 rfl rfl)
theorem dL_law_338 : decode cL_law 338 = .ok (.iaload, 1) := dk_46 (dk_at dksL_law_4 22 rfl rfl)
theorem dL_law_339 : decode cL_law 339 = .ok (.aload_n 0, 1) := dk_42 (dk_at dksL_law_4 23 rfl rfl)
theorem dL_law_340 : decode cL_law 340 = .ok (.iload 4, 2) := dk_21 4 (dk_at dksL_law_5 0 rfl rfl)
theorem dL_law_342 : decode cL_law 342 = .ok (.iconst 3, 1) := dk_6 (dk_at dksL_law_5 2 rfl rfl)
theorem dL_law_343 : decode cL_law 343 = .ok (.iadd, 1) := dk_96 (dk_at dksL_law_5 3 rfl rfl)
theorem dL_law_344 : decode cL_law 344 = .ok (.iaload, 1) := dk_46 (dk_at dksL_law_5 4 rfl rfl)
theorem dL_law_345 : decode cL_law 345 = .ok (.aload_n 0, 1) := dk_42 (dk_at dksL_law_5 5 rfl rfl)
theorem dL_law_346 : decode cL_law 346 = .ok (.iload 4, 2) := dk_21 4 (dk_at dksL_law_5 6 rfl rfl)
theorem dL_law_348 : decode cL_law 348 = .ok (.iconst 4, 1) := dk_7 (dk_at dksL_law_5 8 rfl rfl)
theorem dL_law_349 : decode cL_law 349 = .ok (.iadd, 1) := dk_96 (dk_at dksL_law_5 9 rfl rfl)
theorem dL_law_350 : decode cL_law 350 = .ok (.iaload, 1) := dk_46 (dk_at dksL_law_5 10 rfl rfl)
theorem dL_law_351 : decode cL_law 351 = .ok (.aload_n 0, 1) := dk_42 (dk_at dksL_law_5 11 rfl rfl)
theorem dL_law_352 : decode cL_law 352 = .ok (.iload 4, 2) := dk_21 4 (dk_at dksL_law_5 12 rfl rfl)
theorem dL_law_354 : decode cL_law 354 = .ok (.iconst 5, 1) := dk_8 (dk_at dksL_law_5 14 rfl rfl)
theorem dL_law_355 : decode cL_law 355 = .ok (.iadd, 1) := dk_96 (dk_at dksL_law_5 15 rfl rfl)
theorem dL_law_356 : decode cL_law 356 = .ok (.iaload, 1) := dk_46 (dk_at dksL_law_5 16 rfl rfl)
theorem dL_law_357 : decode cL_law 357 = .ok (.invokevirtual 111, 3) := dk_182 0 111 (dk_at dksL_law_5 17 rfl rfl)
theorem dL_law_360 : decode cL_law 360 = .ok (.if_icmp .eq 2139, 3) := dk_159 8 91 (dk_at dksL_law_5 20 rfl rfl)
theorem dL_law_363 : decode cL_law 363 = .ok (.iconst 0, 1) := dk_3 (dk_at dksL_law_5 23 rfl rfl)
theorem dL_law_364 : decode cL_law 364 = .ok (.ireturn, 1) := dk_172 (dk_at dksL_law_6 0 rfl rfl)
theorem dL_law_365 : decode cL_law 365 = .ok (.aload_n 1, 1) := dk_43 (dk_at dksL_law_6 1 rfl rfl)
theorem dL_law_366 : decode cL_law 366 = .ok (.aload_n 0, 1) := dk_42 (dk_at dksL_law_6 2 rfl rfl)
theorem dL_law_367 : decode cL_law 367 = .ok (.iload 4, 2) := dk_21 4 (dk_at dksL_law_6 3 rfl rfl)
theorem dL_law_369 : decode cL_law 369 = .ok (.iconst 1, 1) := dk_4 (dk_at dksL_law_6 5 rfl rfl)
theorem dL_law_370 : decode cL_law 370 = .ok (.iadd, 1) := dk_96 (dk_at dksL_law_6 6 rfl rfl)
theorem dL_law_371 : decode cL_law 371 = .ok (.iaload, 1) := dk_46 (dk_at dksL_law_6 7 rfl rfl)
theorem dL_law_372 : decode cL_law 372 = .ok (.invokevirtual 112, 3) := dk_182 0 112 (dk_at dksL_law_6 8 rfl rfl)
theorem dL_law_375 : decode cL_law 375 = .ok (.aload_n 2, 1) := dk_44 (dk_at dksL_law_6 11 rfl rfl)
theorem dL_law_376 : decode cL_law 376 = .ok (.aload_n 0, 1) := dk_42 (dk_at dksL_law_6 12 rfl rfl)
theorem dL_law_377 : decode cL_law 377 = .ok (.iload 4, 2) := dk_21 4 (dk_at dksL_law_6 13 rfl rfl)
theorem dL_law_379 : decode cL_law 379 = .ok (.iconst 1, 1) := dk_4 (dk_at dksL_law_6 15 rfl rfl)
theorem dL_law_380 : decode cL_law 380 = .ok (.iadd, 1) := dk_96 (dk_at dksL_law_6 16 rfl rfl)
theorem dL_law_381 : decode cL_law 381 = .ok (.iaload, 1) := dk_46 (dk_at dksL_law_6 17 rfl rfl)
theorem dL_law_382 : decode cL_law 382 = .ok (.invokevirtual 115, 3) := dk_182 0 115 (dk_at dksL_law_6 18 rfl rfl)
theorem dL_law_385 : decode cL_law 385 = .ok (.if_icmp .eq 2114, 3) := dk_159 8 66 (dk_at dksL_law_6 21 rfl rfl)
theorem dL_law_388 : decode cL_law 388 = .ok (.iconst 0, 1) := dk_3 (dk_at dksL_law_7 0 rfl rfl)
theorem dL_law_389 : decode cL_law 389 = .ok (.ireturn, 1) := dk_172 (dk_at dksL_law_7 1 rfl rfl)
theorem dL_law_390 : decode cL_law 390 = .ok (.aload_n 1, 1) := dk_43 (dk_at dksL_law_7 2 rfl rfl)
theorem dL_law_391 : decode cL_law 391 = .ok (.invokevirtual 116, 3) := dk_182 0 116 (dk_at dksL_law_7 3 rfl rfl)
theorem dL_law_394 : decode cL_law 394 = .ok (.aload_n 2, 1) := dk_44 (dk_at dksL_law_7 6 rfl rfl)
theorem dL_law_395 : decode cL_law 395 = .ok (.invokevirtual 119, 3) := dk_182 0 119 (dk_at dksL_law_7 7 rfl rfl)
theorem dL_law_398 : decode cL_law 398 = .ok (.if_icmp .eq 2101, 3) := dk_159 8 53 (dk_at dksL_law_7 10 rfl rfl)
theorem dL_law_401 : decode cL_law 401 = .ok (.iconst 0, 1) := dk_3 (dk_at dksL_law_7 13 rfl rfl)
theorem dL_law_402 : decode cL_law 402 = .ok (.ireturn, 1) := dk_172 (dk_at dksL_law_7 14 rfl rfl)
theorem dL_law_403 : decode cL_law 403 = .ok (.aload_n 1, 1) := dk_43 (dk_at dksL_law_7 15 rfl rfl)
theorem dL_law_404 : decode cL_law 404 = .ok (.invokevirtual 120, 3) := dk_182 0 120 (dk_at dksL_law_7 16 rfl rfl)
theorem dL_law_407 : decode cL_law 407 = .ok (.aload_n 2, 1) := dk_44 (dk_at dksL_law_7 19 rfl rfl)
theorem dL_law_408 : decode cL_law 408 = .ok (.invokevirtual 123, 3) := dk_182 0 123 (dk_at dksL_law_7 20 rfl rfl)
theorem dL_law_411 : decode cL_law 411 = .ok (.if_icmp .eq 2088, 3) := dk_159 8 40 (dk_at dksL_law_8 0 rfl rfl)
theorem dL_law_414 : decode cL_law 414 = .ok (.iconst 0, 1) := dk_3 (dk_at dksL_law_8 3 rfl rfl)
theorem dL_law_415 : decode cL_law 415 = .ok (.ireturn, 1) := dk_172 (dk_at dksL_law_8 4 rfl rfl)
theorem dL_law_416 : decode cL_law 416 = .ok (.aload_n 1, 1) := dk_43 (dk_at dksL_law_8 5 rfl rfl)
theorem dL_law_417 : decode cL_law 417 = .ok (.invokevirtual 124, 3) := dk_182 0 124 (dk_at dksL_law_8 6 rfl rfl)
theorem dL_law_420 : decode cL_law 420 = .ok (.aload_n 2, 1) := dk_44 (dk_at dksL_law_8 9 rfl rfl)
theorem dL_law_421 : decode cL_law 421 = .ok (.invokevirtual 127, 3) := dk_182 0 127 (dk_at dksL_law_8 10 rfl rfl)
theorem dL_law_424 : decode cL_law 424 = .ok (.if_icmp .eq 2075, 3) := dk_159 8 27 (dk_at dksL_law_8 13 rfl rfl)
theorem dL_law_427 : decode cL_law 427 = .ok (.iconst 0, 1) := dk_3 (dk_at dksL_law_8 16 rfl rfl)
theorem dL_law_428 : decode cL_law 428 = .ok (.ireturn, 1) := dk_172 (dk_at dksL_law_8 17 rfl rfl)
theorem dL_law_429 : decode cL_law 429 = .ok (.aload_n 1, 1) := dk_43 (dk_at dksL_law_8 18 rfl rfl)
theorem dL_law_430 : decode cL_law 430 = .ok (.invokevirtual 128, 3) := dk_182 0 128 (dk_at dksL_law_8 19 rfl rfl)
theorem dL_law_433 : decode cL_law 433 = .ok (.aload_n 2, 1) := dk_44 (dk_at dksL_law_8 22 rfl rfl)
theorem dL_law_434 : decode cL_law 434 = .ok (.invokevirtual 131, 3) := dk_182 0 131 (dk_at dksL_law_9 0 rfl rfl)
theorem dL_law_437 : decode cL_law 437 = .ok (.if_icmp .eq 2062, 3) := dk_159 8 14 (dk_at dksL_law_9 3 rfl rfl)
theorem dL_law_440 : decode cL_law 440 = .ok (.iconst 0, 1) := dk_3 (dk_at dksL_law_9 6 rfl rfl)
theorem dL_law_441 : decode cL_law 441 = .ok (.ireturn, 1) := dk_172 (dk_at dksL_law_9 7 rfl rfl)
theorem dL_law_442 : decode cL_law 442 = .ok (.aload_n 1, 1) := dk_43 (dk_at dksL_law_9 8 rfl rfl)
theorem dL_law_443 : decode cL_law 443 = .ok (.invokevirtual 132, 3) := dk_182 0 132 (dk_at dksL_law_9 9 rfl rfl)
theorem dL_law_446 : decode cL_law 446 = .ok (.aload_n 2, 1) := dk_44 (dk_at dksL_law_9 12 rfl rfl)
theorem dL_law_447 : decode cL_law 447 = .ok (.invokevirtual 135, 3) := dk_182 0 135 (dk_at dksL_law_9 13 rfl rfl)
theorem dL_law_450 : decode cL_law 450 = .ok (.if_icmp .eq 2049, 3) := dk_159 8 1 (dk_at dksL_law_9 16 rfl rfl)
theorem dL_law_453 : decode cL_law 453 = .ok (.iconst 0, 1) := dk_3 (dk_at dksL_law_9 19 rfl rfl)
theorem dL_law_454 : decode cL_law 454 = .ok (.ireturn, 1) := dk_172 (dk_at dksL_law_9 20 rfl rfl)
theorem dL_law_455 : decode cL_law 455 = .ok (.aload_n 1, 1) := dk_43 (dk_at dksL_law_9 21 rfl rfl)
theorem dL_law_456 : decode cL_law 456 = .ok (.invokevirtual 136, 3) := dk_182 0 136 (dk_at dksL_law_10 0 rfl rfl)
theorem dL_law_459 : decode cL_law 459 = .ok (.aload_n 2, 1) := dk_44 (dk_at dksL_law_10 3 rfl rfl)
theorem dL_law_460 : decode cL_law 460 = .ok (.invokevirtual 139, 3) := dk_182 0 139 (dk_at dksL_law_10 4 rfl rfl)
theorem dL_law_463 : decode cL_law 463 = .ok (.if_icmp .eq 2036, 3) := dk_159 7 244 (dk_at dksL_law_10 7 rfl rfl)
theorem dL_law_466 : decode cL_law 466 = .ok (.iconst 0, 1) := dk_3 (dk_at dksL_law_10 10 rfl rfl)
theorem dL_law_467 : decode cL_law 467 = .ok (.ireturn, 1) := dk_172 (dk_at dksL_law_10 11 rfl rfl)
theorem dL_law_468 : decode cL_law 468 = .ok (.aload_n 1, 1) := dk_43 (dk_at dksL_law_10 12 rfl rfl)
theorem dL_law_469 : decode cL_law 469 = .ok (.invokevirtual 140, 3) := dk_182 0 140 (dk_at dksL_law_10 13 rfl rfl)
theorem dL_law_472 : decode cL_law 472 = .ok (.aload_n 2, 1) := dk_44 (dk_at dksL_law_10 16 rfl rfl)
theorem dL_law_473 : decode cL_law 473 = .ok (.invokevirtual 143, 3) := dk_182 0 143 (dk_at dksL_law_10 17 rfl rfl)
theorem dL_law_476 : decode cL_law 476 = .ok (.if_icmp .eq 2023, 3) := dk_159 7 231 (dk_at dksL_law_10 20 rfl rfl)
theorem dL_law_479 : decode cL_law 479 = .ok (.iconst 0, 1) := dk_3 (dk_at dksL_law_10 23 rfl rfl)
theorem dL_law_480 : decode cL_law 480 = .ok (.ireturn, 1) := dk_172 (dk_at dksL_law_11 0 rfl rfl)
theorem dL_law_481 : decode cL_law 481 = .ok (.aload_n 1, 1) := dk_43 (dk_at dksL_law_11 1 rfl rfl)
theorem dL_law_482 : decode cL_law 482 = .ok (.invokevirtual 144, 3) := dk_182 0 144 (dk_at dksL_law_11 2 rfl rfl)
theorem dL_law_485 : decode cL_law 485 = .ok (.aload_n 2, 1) := dk_44 (dk_at dksL_law_11 5 rfl rfl)
theorem dL_law_486 : decode cL_law 486 = .ok (.invokevirtual 147, 3) := dk_182 0 147 (dk_at dksL_law_11 6 rfl rfl)
theorem dL_law_489 : decode cL_law 489 = .ok (.if_icmp .eq 2010, 3) := dk_159 7 218 (dk_at dksL_law_11 9 rfl rfl)
theorem dL_law_492 : decode cL_law 492 = .ok (.iconst 0, 1) := dk_3 (dk_at dksL_law_11 12 rfl rfl)
theorem dL_law_493 : decode cL_law 493 = .ok (.ireturn, 1) := dk_172 (dk_at dksL_law_11 13 rfl rfl)
theorem dL_law_494 : decode cL_law 494 = .ok (.aload_n 1, 1) := dk_43 (dk_at dksL_law_11 14 rfl rfl)
theorem dL_law_495 : decode cL_law 495 = .ok (.invokevirtual 148, 3) := dk_182 0 148 (dk_at dksL_law_11 15 rfl rfl)
theorem dL_law_498 : decode cL_law 498 = .ok (.aload_n 2, 1) := dk_44 (dk_at dksL_law_11 18 rfl rfl)
theorem dL_law_499 : decode cL_law 499 = .ok (.invokevirtual 151, 3) := dk_182 0 151 (dk_at dksL_law_11 19 rfl rfl)
theorem dL_law_502 : decode cL_law 502 = .ok (.if_icmp .eq 1997, 3) := dk_159 7 205 (dk_at dksL_law_12 0 rfl rfl)
theorem dL_law_505 : decode cL_law 505 = .ok (.iconst 0, 1) := dk_3 (dk_at dksL_law_12 3 rfl rfl)
theorem dL_law_506 : decode cL_law 506 = .ok (.ireturn, 1) := dk_172 (dk_at dksL_law_12 4 rfl rfl)
theorem dL_law_507 : decode cL_law 507 = .ok (.aload_n 1, 1) := dk_43 (dk_at dksL_law_12 5 rfl rfl)
theorem dL_law_508 : decode cL_law 508 = .ok (.aload_n 0, 1) := dk_42 (dk_at dksL_law_12 6 rfl rfl)
theorem dL_law_509 : decode cL_law 509 = .ok (.iload 4, 2) := dk_21 4 (dk_at dksL_law_12 7 rfl rfl)
theorem dL_law_511 : decode cL_law 511 = .ok (.iconst 1, 1) := dk_4 (dk_at dksL_law_12 9 rfl rfl)
theorem dL_law_512 : decode cL_law 512 = .ok (.iadd, 1) := dk_96 (dk_at dksL_law_12 10 rfl rfl)
theorem dL_law_513 : decode cL_law 513 = .ok (.iaload, 1) := dk_46 (dk_at dksL_law_12 11 rfl rfl)
theorem dL_law_514 : decode cL_law 514 = .ok (.aload_n 0, 1) := dk_42 (dk_at dksL_law_12 12 rfl rfl)
theorem dL_law_515 : decode cL_law 515 = .ok (.iload 4, 2) := dk_21 4 (dk_at dksL_law_12 13 rfl rfl)
theorem dL_law_517 : decode cL_law 517 = .ok (.iconst 2, 1) := dk_5 (dk_at dksL_law_12 15 rfl rfl)
theorem dL_law_518 : decode cL_law 518 = .ok (.iadd, 1) := dk_96 (dk_at dksL_law_12 16 rfl rfl)
theorem dL_law_519 : decode cL_law 519 = .ok (.iaload, 1) := dk_46 (dk_at dksL_law_12 17 rfl rfl)
theorem dL_law_520 : decode cL_law 520 = .ok (.aload_n 3, 1) := dk_45 (dk_at dksL_law_12 18 rfl rfl)
theorem dL_law_521 : decode cL_law 521 = .ok (.invokestatic 152, 3) := dk_184 0 152 (dk_at dksL_law_12 19 rfl rfl)
theorem dL_law_524 : decode cL_law 524 = .ok (.istore 5, 2) := dk_54 5 (dk_at dksL_law_12 22 rfl rfl)
theorem dL_law_526 : decode cL_law 526 = .ok (.aload_n 2, 1) := dk_44 (dk_at dksL_law_13 0 rfl rfl)
theorem dL_law_527 : decode cL_law 527 = .ok (.aload_n 0, 1) := dk_42 (dk_at dksL_law_13 1 rfl rfl)
theorem dL_law_528 : decode cL_law 528 = .ok (.iload 4, 2) := dk_21 4 (dk_at dksL_law_13 2 rfl rfl)
theorem dL_law_530 : decode cL_law 530 = .ok (.iconst 1, 1) := dk_4 (dk_at dksL_law_13 4 rfl rfl)
theorem dL_law_531 : decode cL_law 531 = .ok (.iadd, 1) := dk_96 (dk_at dksL_law_13 5 rfl rfl)
theorem dL_law_532 : decode cL_law 532 = .ok (.iaload, 1) := dk_46 (dk_at dksL_law_13 6 rfl rfl)
theorem dL_law_533 : decode cL_law 533 = .ok (.aload_n 0, 1) := dk_42 (dk_at dksL_law_13 7 rfl rfl)
theorem dL_law_534 : decode cL_law 534 = .ok (.iload 4, 2) := dk_21 4 (dk_at dksL_law_13 8 rfl rfl)
theorem dL_law_536 : decode cL_law 536 = .ok (.iconst 2, 1) := dk_5 (dk_at dksL_law_13 10 rfl rfl)
theorem dL_law_537 : decode cL_law 537 = .ok (.iadd, 1) := dk_96 (dk_at dksL_law_13 11 rfl rfl)
theorem dL_law_538 : decode cL_law 538 = .ok (.iaload, 1) := dk_46 (dk_at dksL_law_13 12 rfl rfl)
theorem dL_law_539 : decode cL_law 539 = .ok (.invokevirtual 157, 3) := dk_182 0 157 (dk_at dksL_law_13 13 rfl rfl)
theorem dL_law_542 : decode cL_law 542 = .ok (.istore 6, 2) := dk_54 6 (dk_at dksL_law_13 16 rfl rfl)
theorem dL_law_544 : decode cL_law 544 = .ok (.aload_n 2, 1) := dk_44 (dk_at dksL_law_13 18 rfl rfl)
theorem dL_law_545 : decode cL_law 545 = .ok (.invokevirtual 158, 3) := dk_182 0 158 (dk_at dksL_law_13 19 rfl rfl)
theorem dL_law_548 : decode cL_law 548 = .ok (.iload 5, 2) := dk_21 5 (dk_at dksL_law_13 22 rfl rfl)
theorem dL_law_550 : decode cL_law 550 = .ok (.if_icmp .eq 5, 3) := dk_159 0 5 (dk_at dksL_law_14 0 rfl rfl)
theorem dL_law_553 : decode cL_law 553 = .ok (.iconst 0, 1) := dk_3 (dk_at dksL_law_14 3 rfl rfl)
theorem dL_law_554 : decode cL_law 554 = .ok (.ireturn, 1) := dk_172 (dk_at dksL_law_14 4 rfl rfl)
theorem dL_law_555 : decode cL_law 555 = .ok (.iload 5, 2) := dk_21 5 (dk_at dksL_law_14 5 rfl rfl)
theorem dL_law_557 : decode cL_law 557 = .ok (.ifCond .ne 15, 3) := dk_154 0 15 (dk_at dksL_law_14 7 rfl rfl)
theorem dL_law_560 : decode cL_law 560 = .ok (.aload_n 3, 1) := dk_45 (dk_at dksL_law_14 10 rfl rfl)
theorem dL_law_561 : decode cL_law 561 = .ok (.iconst 0, 1) := dk_3 (dk_at dksL_law_14 11 rfl rfl)
theorem dL_law_562 : decode cL_law 562 = .ok (.laload, 1) := dk_47 (dk_at dksL_law_14 12 rfl rfl)
theorem dL_law_563 : decode cL_law 563 = .ok (.iload 6, 2) := dk_21 6 (dk_at dksL_law_14 13 rfl rfl)
theorem dL_law_565 : decode cL_law 565 = .ok (.i2l, 1) := dk_133 (dk_at dksL_law_14 15 rfl rfl)
theorem dL_law_566 : decode cL_law 566 = .ok (.lcmp, 1) := dk_148 (dk_at dksL_law_14 16 rfl rfl)
theorem dL_law_567 : decode cL_law 567 = .ok (.ifCond .eq 5, 3) := dk_153 0 5 (dk_at dksL_law_14 17 rfl rfl)
theorem dL_law_570 : decode cL_law 570 = .ok (.iconst 0, 1) := dk_3 (dk_at dksL_law_14 20 rfl rfl)
theorem dL_law_571 : decode cL_law 571 = .ok (.ireturn, 1) := dk_172 (dk_at dksL_law_14 21 rfl rfl)
theorem dL_law_572 : decode cL_law 572 = .ok (.goto 1927, 3) := dk_167 7 135 (dk_at dksL_law_15 0 rfl rfl)
theorem dL_law_575 : decode cL_law 575 = .ok (.aload_n 1, 1) := dk_43 (dk_at dksL_law_15 3 rfl rfl)
theorem dL_law_576 : decode cL_law 576 = .ok (.aload_n 0, 1) := dk_42 (dk_at dksL_law_15 4 rfl rfl)
theorem dL_law_577 : decode cL_law 577 = .ok (.iload 4, 2) := dk_21 4 (dk_at dksL_law_15 5 rfl rfl)
theorem dL_law_579 : decode cL_law 579 = .ok (.iconst 1, 1) := dk_4 (dk_at dksL_law_15 7 rfl rfl)
theorem dL_law_580 : decode cL_law 580 = .ok (.iadd, 1) := dk_96 (dk_at dksL_law_15 8 rfl rfl)
theorem dL_law_581 : decode cL_law 581 = .ok (.iaload, 1) := dk_46 (dk_at dksL_law_15 9 rfl rfl)
theorem dL_law_582 : decode cL_law 582 = .ok (.aload_n 0, 1) := dk_42 (dk_at dksL_law_15 10 rfl rfl)
theorem dL_law_583 : decode cL_law 583 = .ok (.iload 4, 2) := dk_21 4 (dk_at dksL_law_15 11 rfl rfl)
theorem dL_law_585 : decode cL_law 585 = .ok (.iconst 2, 1) := dk_5 (dk_at dksL_law_15 13 rfl rfl)
theorem dL_law_586 : decode cL_law 586 = .ok (.iadd, 1) := dk_96 (dk_at dksL_law_15 14 rfl rfl)
theorem dL_law_587 : decode cL_law 587 = .ok (.iaload, 1) := dk_46 (dk_at dksL_law_15 15 rfl rfl)
theorem dL_law_588 : decode cL_law 588 = .ok (.aload_n 3, 1) := dk_45 (dk_at dksL_law_15 16 rfl rfl)
theorem dL_law_589 : decode cL_law 589 = .ok (.invokestatic 161, 3) := dk_184 0 161 (dk_at dksL_law_15 17 rfl rfl)
theorem dL_law_592 : decode cL_law 592 = .ok (.istore 5, 2) := dk_54 5 (dk_at dksL_law_15 20 rfl rfl)
theorem dL_law_594 : decode cL_law 594 = .ok (.aload_n 2, 1) := dk_44 (dk_at dksL_law_15 22 rfl rfl)
theorem dL_law_595 : decode cL_law 595 = .ok (.aload_n 0, 1) := dk_42 (dk_at dksL_law_15 23 rfl rfl)
theorem dL_law_596 : decode cL_law 596 = .ok (.iload 4, 2) := dk_21 4 (dk_at dksL_law_16 0 rfl rfl)
theorem dL_law_598 : decode cL_law 598 = .ok (.iconst 1, 1) := dk_4 (dk_at dksL_law_16 2 rfl rfl)
theorem dL_law_599 : decode cL_law 599 = .ok (.iadd, 1) := dk_96 (dk_at dksL_law_16 3 rfl rfl)
theorem dL_law_600 : decode cL_law 600 = .ok (.iaload, 1) := dk_46 (dk_at dksL_law_16 4 rfl rfl)
theorem dL_law_601 : decode cL_law 601 = .ok (.aload_n 0, 1) := dk_42 (dk_at dksL_law_16 5 rfl rfl)
theorem dL_law_602 : decode cL_law 602 = .ok (.iload 4, 2) := dk_21 4 (dk_at dksL_law_16 6 rfl rfl)
theorem dL_law_604 : decode cL_law 604 = .ok (.iconst 2, 1) := dk_5 (dk_at dksL_law_16 8 rfl rfl)
theorem dL_law_605 : decode cL_law 605 = .ok (.iadd, 1) := dk_96 (dk_at dksL_law_16 9 rfl rfl)
theorem dL_law_606 : decode cL_law 606 = .ok (.iaload, 1) := dk_46 (dk_at dksL_law_16 10 rfl rfl)
theorem dL_law_607 : decode cL_law 607 = .ok (.invokevirtual 163, 3) := dk_182 0 163 (dk_at dksL_law_16 11 rfl rfl)
theorem dL_law_610 : decode cL_law 610 = .ok (.istore 6, 2) := dk_54 6 (dk_at dksL_law_16 14 rfl rfl)
theorem dL_law_612 : decode cL_law 612 = .ok (.aload_n 2, 1) := dk_44 (dk_at dksL_law_16 16 rfl rfl)
theorem dL_law_613 : decode cL_law 613 = .ok (.invokevirtual 158, 3) := dk_182 0 158 (dk_at dksL_law_16 17 rfl rfl)
theorem dL_law_616 : decode cL_law 616 = .ok (.iload 5, 2) := dk_21 5 (dk_at dksL_law_16 20 rfl rfl)
theorem dL_law_618 : decode cL_law 618 = .ok (.if_icmp .eq 5, 3) := dk_159 0 5 (dk_at dksL_law_17 0 rfl rfl)
theorem dL_law_621 : decode cL_law 621 = .ok (.iconst 0, 1) := dk_3 (dk_at dksL_law_17 3 rfl rfl)
theorem dL_law_622 : decode cL_law 622 = .ok (.ireturn, 1) := dk_172 (dk_at dksL_law_17 4 rfl rfl)
theorem dL_law_623 : decode cL_law 623 = .ok (.iload 5, 2) := dk_21 5 (dk_at dksL_law_17 5 rfl rfl)
theorem dL_law_625 : decode cL_law 625 = .ok (.ifCond .ne 15, 3) := dk_154 0 15 (dk_at dksL_law_17 7 rfl rfl)
theorem dL_law_628 : decode cL_law 628 = .ok (.aload_n 3, 1) := dk_45 (dk_at dksL_law_17 10 rfl rfl)
theorem dL_law_629 : decode cL_law 629 = .ok (.iconst 0, 1) := dk_3 (dk_at dksL_law_17 11 rfl rfl)
theorem dL_law_630 : decode cL_law 630 = .ok (.laload, 1) := dk_47 (dk_at dksL_law_17 12 rfl rfl)
theorem dL_law_631 : decode cL_law 631 = .ok (.iload 6, 2) := dk_21 6 (dk_at dksL_law_17 13 rfl rfl)
theorem dL_law_633 : decode cL_law 633 = .ok (.i2l, 1) := dk_133 (dk_at dksL_law_17 15 rfl rfl)
theorem dL_law_634 : decode cL_law 634 = .ok (.lcmp, 1) := dk_148 (dk_at dksL_law_17 16 rfl rfl)
theorem dL_law_635 : decode cL_law 635 = .ok (.ifCond .eq 5, 3) := dk_153 0 5 (dk_at dksL_law_17 17 rfl rfl)
theorem dL_law_638 : decode cL_law 638 = .ok (.iconst 0, 1) := dk_3 (dk_at dksL_law_17 20 rfl rfl)
theorem dL_law_639 : decode cL_law 639 = .ok (.ireturn, 1) := dk_172 (dk_at dksL_law_17 21 rfl rfl)
theorem dL_law_640 : decode cL_law 640 = .ok (.goto 1859, 3) := dk_167 7 67 (dk_at dksL_law_18 0 rfl rfl)
theorem dL_law_643 : decode cL_law 643 = .ok (.aload_n 1, 1) := dk_43 (dk_at dksL_law_18 3 rfl rfl)
theorem dL_law_644 : decode cL_law 644 = .ok (.aload_n 0, 1) := dk_42 (dk_at dksL_law_18 4 rfl rfl)
theorem dL_law_645 : decode cL_law 645 = .ok (.iload 4, 2) := dk_21 4 (dk_at dksL_law_18 5 rfl rfl)
theorem dL_law_647 : decode cL_law 647 = .ok (.iconst 1, 1) := dk_4 (dk_at dksL_law_18 7 rfl rfl)
theorem dL_law_648 : decode cL_law 648 = .ok (.iadd, 1) := dk_96 (dk_at dksL_law_18 8 rfl rfl)
theorem dL_law_649 : decode cL_law 649 = .ok (.iaload, 1) := dk_46 (dk_at dksL_law_18 9 rfl rfl)
theorem dL_law_650 : decode cL_law 650 = .ok (.aload_n 0, 1) := dk_42 (dk_at dksL_law_18 10 rfl rfl)
theorem dL_law_651 : decode cL_law 651 = .ok (.iload 4, 2) := dk_21 4 (dk_at dksL_law_18 11 rfl rfl)
theorem dL_law_653 : decode cL_law 653 = .ok (.iconst 2, 1) := dk_5 (dk_at dksL_law_18 13 rfl rfl)
theorem dL_law_654 : decode cL_law 654 = .ok (.iadd, 1) := dk_96 (dk_at dksL_law_18 14 rfl rfl)
theorem dL_law_655 : decode cL_law 655 = .ok (.iaload, 1) := dk_46 (dk_at dksL_law_18 15 rfl rfl)
theorem dL_law_656 : decode cL_law 656 = .ok (.aload_n 3, 1) := dk_45 (dk_at dksL_law_18 16 rfl rfl)
theorem dL_law_657 : decode cL_law 657 = .ok (.invokestatic 164, 3) := dk_184 0 164 (dk_at dksL_law_18 17 rfl rfl)
theorem dL_law_660 : decode cL_law 660 = .ok (.istore 5, 2) := dk_54 5 (dk_at dksL_law_18 20 rfl rfl)
theorem dL_law_662 : decode cL_law 662 = .ok (.aload_n 2, 1) := dk_44 (dk_at dksL_law_18 22 rfl rfl)
theorem dL_law_663 : decode cL_law 663 = .ok (.aload_n 0, 1) := dk_42 (dk_at dksL_law_18 23 rfl rfl)
theorem dL_law_664 : decode cL_law 664 = .ok (.iload 4, 2) := dk_21 4 (dk_at dksL_law_19 0 rfl rfl)
theorem dL_law_666 : decode cL_law 666 = .ok (.iconst 1, 1) := dk_4 (dk_at dksL_law_19 2 rfl rfl)
theorem dL_law_667 : decode cL_law 667 = .ok (.iadd, 1) := dk_96 (dk_at dksL_law_19 3 rfl rfl)
theorem dL_law_668 : decode cL_law 668 = .ok (.iaload, 1) := dk_46 (dk_at dksL_law_19 4 rfl rfl)
theorem dL_law_669 : decode cL_law 669 = .ok (.aload_n 0, 1) := dk_42 (dk_at dksL_law_19 5 rfl rfl)
theorem dL_law_670 : decode cL_law 670 = .ok (.iload 4, 2) := dk_21 4 (dk_at dksL_law_19 6 rfl rfl)
theorem dL_law_672 : decode cL_law 672 = .ok (.iconst 2, 1) := dk_5 (dk_at dksL_law_19 8 rfl rfl)
theorem dL_law_673 : decode cL_law 673 = .ok (.iadd, 1) := dk_96 (dk_at dksL_law_19 9 rfl rfl)
theorem dL_law_674 : decode cL_law 674 = .ok (.iaload, 1) := dk_46 (dk_at dksL_law_19 10 rfl rfl)
theorem dL_law_675 : decode cL_law 675 = .ok (.invokevirtual 166, 3) := dk_182 0 166 (dk_at dksL_law_19 11 rfl rfl)
theorem dL_law_678 : decode cL_law 678 = .ok (.istore 6, 2) := dk_54 6 (dk_at dksL_law_19 14 rfl rfl)
theorem dL_law_680 : decode cL_law 680 = .ok (.aload_n 2, 1) := dk_44 (dk_at dksL_law_19 16 rfl rfl)
theorem dL_law_681 : decode cL_law 681 = .ok (.invokevirtual 158, 3) := dk_182 0 158 (dk_at dksL_law_19 17 rfl rfl)
theorem dL_law_684 : decode cL_law 684 = .ok (.iload 5, 2) := dk_21 5 (dk_at dksL_law_19 20 rfl rfl)
theorem dL_law_686 : decode cL_law 686 = .ok (.if_icmp .eq 5, 3) := dk_159 0 5 (dk_at dksL_law_20 0 rfl rfl)
theorem dL_law_689 : decode cL_law 689 = .ok (.iconst 0, 1) := dk_3 (dk_at dksL_law_20 3 rfl rfl)
theorem dL_law_690 : decode cL_law 690 = .ok (.ireturn, 1) := dk_172 (dk_at dksL_law_20 4 rfl rfl)
theorem dL_law_691 : decode cL_law 691 = .ok (.iload 5, 2) := dk_21 5 (dk_at dksL_law_20 5 rfl rfl)
theorem dL_law_693 : decode cL_law 693 = .ok (.ifCond .ne 15, 3) := dk_154 0 15 (dk_at dksL_law_20 7 rfl rfl)
theorem dL_law_696 : decode cL_law 696 = .ok (.aload_n 3, 1) := dk_45 (dk_at dksL_law_20 10 rfl rfl)
theorem dL_law_697 : decode cL_law 697 = .ok (.iconst 0, 1) := dk_3 (dk_at dksL_law_20 11 rfl rfl)
theorem dL_law_698 : decode cL_law 698 = .ok (.laload, 1) := dk_47 (dk_at dksL_law_20 12 rfl rfl)
theorem dL_law_699 : decode cL_law 699 = .ok (.iload 6, 2) := dk_21 6 (dk_at dksL_law_20 13 rfl rfl)
theorem dL_law_701 : decode cL_law 701 = .ok (.i2l, 1) := dk_133 (dk_at dksL_law_20 15 rfl rfl)
theorem dL_law_702 : decode cL_law 702 = .ok (.lcmp, 1) := dk_148 (dk_at dksL_law_20 16 rfl rfl)
theorem dL_law_703 : decode cL_law 703 = .ok (.ifCond .eq 5, 3) := dk_153 0 5 (dk_at dksL_law_20 17 rfl rfl)
theorem dL_law_706 : decode cL_law 706 = .ok (.iconst 0, 1) := dk_3 (dk_at dksL_law_20 20 rfl rfl)
theorem dL_law_707 : decode cL_law 707 = .ok (.ireturn, 1) := dk_172 (dk_at dksL_law_20 21 rfl rfl)
theorem dL_law_708 : decode cL_law 708 = .ok (.goto 1791, 3) := dk_167 6 255 (dk_at dksL_law_21 0 rfl rfl)
theorem dL_law_711 : decode cL_law 711 = .ok (.aload_n 1, 1) := dk_43 (dk_at dksL_law_21 3 rfl rfl)
theorem dL_law_712 : decode cL_law 712 = .ok (.invokevirtual 167, 3) := dk_182 0 167 (dk_at dksL_law_21 4 rfl rfl)
theorem dL_law_715 : decode cL_law 715 = .ok (.aload_n 2, 1) := dk_44 (dk_at dksL_law_21 7 rfl rfl)
theorem dL_law_716 : decode cL_law 716 = .ok (.invokevirtual 170, 3) := dk_182 0 170 (dk_at dksL_law_21 8 rfl rfl)
theorem dL_law_719 : decode cL_law 719 = .ok (.if_icmp .eq 1780, 3) := dk_159 6 244 (dk_at dksL_law_21 11 rfl rfl)
theorem dL_law_722 : decode cL_law 722 = .ok (.iconst 0, 1) := dk_3 (dk_at dksL_law_21 14 rfl rfl)
theorem dL_law_723 : decode cL_law 723 = .ok (.ireturn, 1) := dk_172 (dk_at dksL_law_21 15 rfl rfl)
theorem dL_law_724 : decode cL_law 724 = .ok (.aload_n 1, 1) := dk_43 (dk_at dksL_law_21 16 rfl rfl)
theorem dL_law_725 : decode cL_law 725 = .ok (.aload_n 0, 1) := dk_42 (dk_at dksL_law_21 17 rfl rfl)
theorem dL_law_726 : decode cL_law 726 = .ok (.iload 4, 2) := dk_21 4 (dk_at dksL_law_21 18 rfl rfl)
theorem dL_law_728 : decode cL_law 728 = .ok (.iconst 1, 1) := dk_4 (dk_at dksL_law_21 20 rfl rfl)
theorem dL_law_729 : decode cL_law 729 = .ok (.iadd, 1) := dk_96 (dk_at dksL_law_21 21 rfl rfl)
theorem dL_law_730 : decode cL_law 730 = .ok (.iaload, 1) := dk_46 (dk_at dksL_law_21 22 rfl rfl)
theorem dL_law_731 : decode cL_law 731 = .ok (.aload_n 3, 1) := dk_45 (dk_at dksL_law_21 23 rfl rfl)
theorem dL_law_732 : decode cL_law 732 = .ok (.invokestatic 171, 3) := dk_184 0 171 (dk_at dksL_law_22 0 rfl rfl)
theorem dL_law_735 : decode cL_law 735 = .ok (.istore 5, 2) := dk_54 5 (dk_at dksL_law_22 3 rfl rfl)
theorem dL_law_737 : decode cL_law 737 = .ok (.aload_n 2, 1) := dk_44 (dk_at dksL_law_22 5 rfl rfl)
theorem dL_law_738 : decode cL_law 738 = .ok (.aload_n 0, 1) := dk_42 (dk_at dksL_law_22 6 rfl rfl)
theorem dL_law_739 : decode cL_law 739 = .ok (.iload 4, 2) := dk_21 4 (dk_at dksL_law_22 7 rfl rfl)
theorem dL_law_741 : decode cL_law 741 = .ok (.iconst 1, 1) := dk_4 (dk_at dksL_law_22 9 rfl rfl)
theorem dL_law_742 : decode cL_law 742 = .ok (.iadd, 1) := dk_96 (dk_at dksL_law_22 10 rfl rfl)
theorem dL_law_743 : decode cL_law 743 = .ok (.iaload, 1) := dk_46 (dk_at dksL_law_22 11 rfl rfl)
theorem dL_law_744 : decode cL_law 744 = .ok (.invokevirtual 174, 3) := dk_182 0 174 (dk_at dksL_law_22 12 rfl rfl)
theorem dL_law_747 : decode cL_law 747 = .ok (.istore 6, 2) := dk_54 6 (dk_at dksL_law_22 15 rfl rfl)
theorem dL_law_749 : decode cL_law 749 = .ok (.aload_n 2, 1) := dk_44 (dk_at dksL_law_22 17 rfl rfl)
theorem dL_law_750 : decode cL_law 750 = .ok (.invokevirtual 158, 3) := dk_182 0 158 (dk_at dksL_law_22 18 rfl rfl)
theorem dL_law_753 : decode cL_law 753 = .ok (.iload 5, 2) := dk_21 5 (dk_at dksL_law_22 21 rfl rfl)
theorem dL_law_755 : decode cL_law 755 = .ok (.if_icmp .eq 5, 3) := dk_159 0 5 (dk_at dksL_law_23 0 rfl rfl)
theorem dL_law_758 : decode cL_law 758 = .ok (.iconst 0, 1) := dk_3 (dk_at dksL_law_23 3 rfl rfl)
theorem dL_law_759 : decode cL_law 759 = .ok (.ireturn, 1) := dk_172 (dk_at dksL_law_23 4 rfl rfl)
theorem dL_law_760 : decode cL_law 760 = .ok (.iload 5, 2) := dk_21 5 (dk_at dksL_law_23 5 rfl rfl)
theorem dL_law_762 : decode cL_law 762 = .ok (.ifCond .ne 15, 3) := dk_154 0 15 (dk_at dksL_law_23 7 rfl rfl)
theorem dL_law_765 : decode cL_law 765 = .ok (.aload_n 3, 1) := dk_45 (dk_at dksL_law_23 10 rfl rfl)
theorem dL_law_766 : decode cL_law 766 = .ok (.iconst 0, 1) := dk_3 (dk_at dksL_law_23 11 rfl rfl)
theorem dL_law_767 : decode cL_law 767 = .ok (.laload, 1) := dk_47 (dk_at dksL_law_23 12 rfl rfl)
theorem dL_law_768 : decode cL_law 768 = .ok (.iload 6, 2) := dk_21 6 (dk_at dksL_law_23 13 rfl rfl)
theorem dL_law_770 : decode cL_law 770 = .ok (.i2l, 1) := dk_133 (dk_at dksL_law_23 15 rfl rfl)
theorem dL_law_771 : decode cL_law 771 = .ok (.lcmp, 1) := dk_148 (dk_at dksL_law_23 16 rfl rfl)
theorem dL_law_772 : decode cL_law 772 = .ok (.ifCond .eq 5, 3) := dk_153 0 5 (dk_at dksL_law_23 17 rfl rfl)
theorem dL_law_775 : decode cL_law 775 = .ok (.iconst 0, 1) := dk_3 (dk_at dksL_law_23 20 rfl rfl)
theorem dL_law_776 : decode cL_law 776 = .ok (.ireturn, 1) := dk_172 (dk_at dksL_law_23 21 rfl rfl)
theorem dL_law_777 : decode cL_law 777 = .ok (.goto 1722, 3) := dk_167 6 186 (dk_at dksL_law_24 0 rfl rfl)
theorem dL_law_780 : decode cL_law 780 = .ok (.aload_n 1, 1) := dk_43 (dk_at dksL_law_24 3 rfl rfl)
theorem dL_law_781 : decode cL_law 781 = .ok (.aload_n 0, 1) := dk_42 (dk_at dksL_law_24 4 rfl rfl)
theorem dL_law_782 : decode cL_law 782 = .ok (.iload 4, 2) := dk_21 4 (dk_at dksL_law_24 5 rfl rfl)
theorem dL_law_784 : decode cL_law 784 = .ok (.iconst 1, 1) := dk_4 (dk_at dksL_law_24 7 rfl rfl)
theorem dL_law_785 : decode cL_law 785 = .ok (.iadd, 1) := dk_96 (dk_at dksL_law_24 8 rfl rfl)
theorem dL_law_786 : decode cL_law 786 = .ok (.iaload, 1) := dk_46 (dk_at dksL_law_24 9 rfl rfl)
theorem dL_law_787 : decode cL_law 787 = .ok (.aload_n 3, 1) := dk_45 (dk_at dksL_law_24 10 rfl rfl)
theorem dL_law_788 : decode cL_law 788 = .ok (.invokestatic 175, 3) := dk_184 0 175 (dk_at dksL_law_24 11 rfl rfl)
theorem dL_law_791 : decode cL_law 791 = .ok (.istore 5, 2) := dk_54 5 (dk_at dksL_law_24 14 rfl rfl)
theorem dL_law_793 : decode cL_law 793 = .ok (.aload_n 2, 1) := dk_44 (dk_at dksL_law_24 16 rfl rfl)
theorem dL_law_794 : decode cL_law 794 = .ok (.aload_n 0, 1) := dk_42 (dk_at dksL_law_24 17 rfl rfl)
theorem dL_law_795 : decode cL_law 795 = .ok (.iload 4, 2) := dk_21 4 (dk_at dksL_law_24 18 rfl rfl)
theorem dL_law_797 : decode cL_law 797 = .ok (.iconst 1, 1) := dk_4 (dk_at dksL_law_24 20 rfl rfl)
theorem dL_law_798 : decode cL_law 798 = .ok (.iadd, 1) := dk_96 (dk_at dksL_law_24 21 rfl rfl)
theorem dL_law_799 : decode cL_law 799 = .ok (.iaload, 1) := dk_46 (dk_at dksL_law_24 22 rfl rfl)
theorem dL_law_800 : decode cL_law 800 = .ok (.invokevirtual 177, 3) := dk_182 0 177 (dk_at dksL_law_25 0 rfl rfl)
theorem dL_law_803 : decode cL_law 803 = .ok (.istore 6, 2) := dk_54 6 (dk_at dksL_law_25 3 rfl rfl)
theorem dL_law_805 : decode cL_law 805 = .ok (.aload_n 2, 1) := dk_44 (dk_at dksL_law_25 5 rfl rfl)
theorem dL_law_806 : decode cL_law 806 = .ok (.invokevirtual 158, 3) := dk_182 0 158 (dk_at dksL_law_25 6 rfl rfl)
theorem dL_law_809 : decode cL_law 809 = .ok (.iload 5, 2) := dk_21 5 (dk_at dksL_law_25 9 rfl rfl)
theorem dL_law_811 : decode cL_law 811 = .ok (.if_icmp .eq 5, 3) := dk_159 0 5 (dk_at dksL_law_25 11 rfl rfl)
theorem dL_law_814 : decode cL_law 814 = .ok (.iconst 0, 1) := dk_3 (dk_at dksL_law_25 14 rfl rfl)
theorem dL_law_815 : decode cL_law 815 = .ok (.ireturn, 1) := dk_172 (dk_at dksL_law_25 15 rfl rfl)
theorem dL_law_816 : decode cL_law 816 = .ok (.iload 5, 2) := dk_21 5 (dk_at dksL_law_25 16 rfl rfl)
theorem dL_law_818 : decode cL_law 818 = .ok (.ifCond .ne 15, 3) := dk_154 0 15 (dk_at dksL_law_25 18 rfl rfl)
theorem dL_law_821 : decode cL_law 821 = .ok (.aload_n 3, 1) := dk_45 (dk_at dksL_law_25 21 rfl rfl)
theorem dL_law_822 : decode cL_law 822 = .ok (.iconst 0, 1) := dk_3 (dk_at dksL_law_25 22 rfl rfl)
theorem dL_law_823 : decode cL_law 823 = .ok (.laload, 1) := dk_47 (dk_at dksL_law_25 23 rfl rfl)
theorem dL_law_824 : decode cL_law 824 = .ok (.iload 6, 2) := dk_21 6 (dk_at dksL_law_26 0 rfl rfl)
theorem dL_law_826 : decode cL_law 826 = .ok (.i2l, 1) := dk_133 (dk_at dksL_law_26 2 rfl rfl)
theorem dL_law_827 : decode cL_law 827 = .ok (.lcmp, 1) := dk_148 (dk_at dksL_law_26 3 rfl rfl)
theorem dL_law_828 : decode cL_law 828 = .ok (.ifCond .eq 5, 3) := dk_153 0 5 (dk_at dksL_law_26 4 rfl rfl)
theorem dL_law_831 : decode cL_law 831 = .ok (.iconst 0, 1) := dk_3 (dk_at dksL_law_26 7 rfl rfl)
theorem dL_law_832 : decode cL_law 832 = .ok (.ireturn, 1) := dk_172 (dk_at dksL_law_26 8 rfl rfl)
theorem dL_law_833 : decode cL_law 833 = .ok (.goto 1666, 3) := dk_167 6 130 (dk_at dksL_law_26 9 rfl rfl)
theorem dL_law_836 : decode cL_law 836 = .ok (.aload_n 1, 1) := dk_43 (dk_at dksL_law_26 12 rfl rfl)
theorem dL_law_837 : decode cL_law 837 = .ok (.aload_n 0, 1) := dk_42 (dk_at dksL_law_26 13 rfl rfl)
theorem dL_law_838 : decode cL_law 838 = .ok (.iload 4, 2) := dk_21 4 (dk_at dksL_law_26 14 rfl rfl)
theorem dL_law_840 : decode cL_law 840 = .ok (.iconst 1, 1) := dk_4 (dk_at dksL_law_26 16 rfl rfl)
theorem dL_law_841 : decode cL_law 841 = .ok (.iadd, 1) := dk_96 (dk_at dksL_law_26 17 rfl rfl)
theorem dL_law_842 : decode cL_law 842 = .ok (.iaload, 1) := dk_46 (dk_at dksL_law_26 18 rfl rfl)
theorem dL_law_843 : decode cL_law 843 = .ok (.aload_n 3, 1) := dk_45 (dk_at dksL_law_26 19 rfl rfl)
theorem dL_law_844 : decode cL_law 844 = .ok (.invokestatic 178, 3) := dk_184 0 178 (dk_at dksL_law_26 20 rfl rfl)
theorem dL_law_847 : decode cL_law 847 = .ok (.istore 5, 2) := dk_54 5 (dk_at dksL_law_27 0 rfl rfl)
theorem dL_law_849 : decode cL_law 849 = .ok (.aload_n 2, 1) := dk_44 (dk_at dksL_law_27 2 rfl rfl)
theorem dL_law_850 : decode cL_law 850 = .ok (.aload_n 0, 1) := dk_42 (dk_at dksL_law_27 3 rfl rfl)
theorem dL_law_851 : decode cL_law 851 = .ok (.iload 4, 2) := dk_21 4 (dk_at dksL_law_27 4 rfl rfl)
theorem dL_law_853 : decode cL_law 853 = .ok (.iconst 1, 1) := dk_4 (dk_at dksL_law_27 6 rfl rfl)
theorem dL_law_854 : decode cL_law 854 = .ok (.iadd, 1) := dk_96 (dk_at dksL_law_27 7 rfl rfl)
theorem dL_law_855 : decode cL_law 855 = .ok (.iaload, 1) := dk_46 (dk_at dksL_law_27 8 rfl rfl)
theorem dL_law_856 : decode cL_law 856 = .ok (.invokevirtual 180, 3) := dk_182 0 180 (dk_at dksL_law_27 9 rfl rfl)
theorem dL_law_859 : decode cL_law 859 = .ok (.istore 6, 2) := dk_54 6 (dk_at dksL_law_27 12 rfl rfl)
theorem dL_law_861 : decode cL_law 861 = .ok (.aload_n 2, 1) := dk_44 (dk_at dksL_law_27 14 rfl rfl)
theorem dL_law_862 : decode cL_law 862 = .ok (.invokevirtual 158, 3) := dk_182 0 158 (dk_at dksL_law_27 15 rfl rfl)
theorem dL_law_865 : decode cL_law 865 = .ok (.iload 5, 2) := dk_21 5 (dk_at dksL_law_27 18 rfl rfl)
theorem dL_law_867 : decode cL_law 867 = .ok (.if_icmp .eq 5, 3) := dk_159 0 5 (dk_at dksL_law_27 20 rfl rfl)
theorem dL_law_870 : decode cL_law 870 = .ok (.iconst 0, 1) := dk_3 (dk_at dksL_law_27 23 rfl rfl)
theorem dL_law_871 : decode cL_law 871 = .ok (.ireturn, 1) := dk_172 (dk_at dksL_law_28 0 rfl rfl)
theorem dL_law_872 : decode cL_law 872 = .ok (.iload 5, 2) := dk_21 5 (dk_at dksL_law_28 1 rfl rfl)
theorem dL_law_874 : decode cL_law 874 = .ok (.ifCond .ne 15, 3) := dk_154 0 15 (dk_at dksL_law_28 3 rfl rfl)
theorem dL_law_877 : decode cL_law 877 = .ok (.aload_n 3, 1) := dk_45 (dk_at dksL_law_28 6 rfl rfl)
theorem dL_law_878 : decode cL_law 878 = .ok (.iconst 0, 1) := dk_3 (dk_at dksL_law_28 7 rfl rfl)
theorem dL_law_879 : decode cL_law 879 = .ok (.laload, 1) := dk_47 (dk_at dksL_law_28 8 rfl rfl)
theorem dL_law_880 : decode cL_law 880 = .ok (.iload 6, 2) := dk_21 6 (dk_at dksL_law_28 9 rfl rfl)
theorem dL_law_882 : decode cL_law 882 = .ok (.i2l, 1) := dk_133 (dk_at dksL_law_28 11 rfl rfl)
theorem dL_law_883 : decode cL_law 883 = .ok (.lcmp, 1) := dk_148 (dk_at dksL_law_28 12 rfl rfl)
theorem dL_law_884 : decode cL_law 884 = .ok (.ifCond .eq 5, 3) := dk_153 0 5 (dk_at dksL_law_28 13 rfl rfl)
theorem dL_law_887 : decode cL_law 887 = .ok (.iconst 0, 1) := dk_3 (dk_at dksL_law_28 16 rfl rfl)
theorem dL_law_888 : decode cL_law 888 = .ok (.ireturn, 1) := dk_172 (dk_at dksL_law_28 17 rfl rfl)
theorem dL_law_889 : decode cL_law 889 = .ok (.goto 1610, 3) := dk_167 6 74 (dk_at dksL_law_28 18 rfl rfl)
theorem dL_law_892 : decode cL_law 892 = .ok (.aload_n 1, 1) := dk_43 (dk_at dksL_law_28 21 rfl rfl)
theorem dL_law_893 : decode cL_law 893 = .ok (.aload_n 0, 1) := dk_42 (dk_at dksL_law_28 22 rfl rfl)
theorem dL_law_894 : decode cL_law 894 = .ok (.iload 4, 2) := dk_21 4 (dk_at dksL_law_29 0 rfl rfl)
theorem dL_law_896 : decode cL_law 896 = .ok (.iconst 1, 1) := dk_4 (dk_at dksL_law_29 2 rfl rfl)
theorem dL_law_897 : decode cL_law 897 = .ok (.iadd, 1) := dk_96 (dk_at dksL_law_29 3 rfl rfl)
theorem dL_law_898 : decode cL_law 898 = .ok (.iaload, 1) := dk_46 (dk_at dksL_law_29 4 rfl rfl)
theorem dL_law_899 : decode cL_law 899 = .ok (.aload_n 3, 1) := dk_45 (dk_at dksL_law_29 5 rfl rfl)
theorem dL_law_900 : decode cL_law 900 = .ok (.invokestatic 181, 3) := dk_184 0 181 (dk_at dksL_law_29 6 rfl rfl)
theorem dL_law_903 : decode cL_law 903 = .ok (.istore 5, 2) := dk_54 5 (dk_at dksL_law_29 9 rfl rfl)
theorem dL_law_905 : decode cL_law 905 = .ok (.aload_n 2, 1) := dk_44 (dk_at dksL_law_29 11 rfl rfl)
theorem dL_law_906 : decode cL_law 906 = .ok (.aload_n 0, 1) := dk_42 (dk_at dksL_law_29 12 rfl rfl)
theorem dL_law_907 : decode cL_law 907 = .ok (.iload 4, 2) := dk_21 4 (dk_at dksL_law_29 13 rfl rfl)
theorem dL_law_909 : decode cL_law 909 = .ok (.iconst 1, 1) := dk_4 (dk_at dksL_law_29 15 rfl rfl)
theorem dL_law_910 : decode cL_law 910 = .ok (.iadd, 1) := dk_96 (dk_at dksL_law_29 16 rfl rfl)
theorem dL_law_911 : decode cL_law 911 = .ok (.iaload, 1) := dk_46 (dk_at dksL_law_29 17 rfl rfl)
theorem dL_law_912 : decode cL_law 912 = .ok (.invokevirtual 183, 3) := dk_182 0 183 (dk_at dksL_law_29 18 rfl rfl)
theorem dL_law_915 : decode cL_law 915 = .ok (.istore 6, 2) := dk_54 6 (dk_at dksL_law_29 21 rfl rfl)
theorem dL_law_917 : decode cL_law 917 = .ok (.aload_n 2, 1) := dk_44 (dk_at dksL_law_29 23 rfl rfl)
theorem dL_law_918 : decode cL_law 918 = .ok (.invokevirtual 158, 3) := dk_182 0 158 (dk_at dksL_law_30 0 rfl rfl)
theorem dL_law_921 : decode cL_law 921 = .ok (.iload 5, 2) := dk_21 5 (dk_at dksL_law_30 3 rfl rfl)
theorem dL_law_923 : decode cL_law 923 = .ok (.if_icmp .eq 5, 3) := dk_159 0 5 (dk_at dksL_law_30 5 rfl rfl)
theorem dL_law_926 : decode cL_law 926 = .ok (.iconst 0, 1) := dk_3 (dk_at dksL_law_30 8 rfl rfl)
theorem dL_law_927 : decode cL_law 927 = .ok (.ireturn, 1) := dk_172 (dk_at dksL_law_30 9 rfl rfl)
theorem dL_law_928 : decode cL_law 928 = .ok (.iload 5, 2) := dk_21 5 (dk_at dksL_law_30 10 rfl rfl)
theorem dL_law_930 : decode cL_law 930 = .ok (.ifCond .ne 15, 3) := dk_154 0 15 (dk_at dksL_law_30 12 rfl rfl)
theorem dL_law_933 : decode cL_law 933 = .ok (.aload_n 3, 1) := dk_45 (dk_at dksL_law_30 15 rfl rfl)
theorem dL_law_934 : decode cL_law 934 = .ok (.iconst 0, 1) := dk_3 (dk_at dksL_law_30 16 rfl rfl)
theorem dL_law_935 : decode cL_law 935 = .ok (.laload, 1) := dk_47 (dk_at dksL_law_30 17 rfl rfl)
theorem dL_law_936 : decode cL_law 936 = .ok (.iload 6, 2) := dk_21 6 (dk_at dksL_law_30 18 rfl rfl)
theorem dL_law_938 : decode cL_law 938 = .ok (.i2l, 1) := dk_133 (dk_at dksL_law_30 20 rfl rfl)
theorem dL_law_939 : decode cL_law 939 = .ok (.lcmp, 1) := dk_148 (dk_at dksL_law_30 21 rfl rfl)
theorem dL_law_940 : decode cL_law 940 = .ok (.ifCond .eq 5, 3) := dk_153 0 5 (dk_at dksL_law_31 0 rfl rfl)
theorem dL_law_943 : decode cL_law 943 = .ok (.iconst 0, 1) := dk_3 (dk_at dksL_law_31 3 rfl rfl)
theorem dL_law_944 : decode cL_law 944 = .ok (.ireturn, 1) := dk_172 (dk_at dksL_law_31 4 rfl rfl)
theorem dL_law_945 : decode cL_law 945 = .ok (.goto 1554, 3) := dk_167 6 18 (dk_at dksL_law_31 5 rfl rfl)
theorem dL_law_948 : decode cL_law 948 = .ok (.aload_n 1, 1) := dk_43 (dk_at dksL_law_31 8 rfl rfl)
theorem dL_law_949 : decode cL_law 949 = .ok (.aload_n 0, 1) := dk_42 (dk_at dksL_law_31 9 rfl rfl)
theorem dL_law_950 : decode cL_law 950 = .ok (.iload 4, 2) := dk_21 4 (dk_at dksL_law_31 10 rfl rfl)
theorem dL_law_952 : decode cL_law 952 = .ok (.iconst 1, 1) := dk_4 (dk_at dksL_law_31 12 rfl rfl)
theorem dL_law_953 : decode cL_law 953 = .ok (.iadd, 1) := dk_96 (dk_at dksL_law_31 13 rfl rfl)
theorem dL_law_954 : decode cL_law 954 = .ok (.iaload, 1) := dk_46 (dk_at dksL_law_31 14 rfl rfl)
theorem dL_law_955 : decode cL_law 955 = .ok (.aload_n 3, 1) := dk_45 (dk_at dksL_law_31 15 rfl rfl)
theorem dL_law_956 : decode cL_law 956 = .ok (.invokestatic 184, 3) := dk_184 0 184 (dk_at dksL_law_31 16 rfl rfl)
theorem dL_law_959 : decode cL_law 959 = .ok (.istore 5, 2) := dk_54 5 (dk_at dksL_law_31 19 rfl rfl)
theorem dL_law_961 : decode cL_law 961 = .ok (.aload_n 2, 1) := dk_44 (dk_at dksL_law_31 21 rfl rfl)
theorem dL_law_962 : decode cL_law 962 = .ok (.aload_n 0, 1) := dk_42 (dk_at dksL_law_31 22 rfl rfl)
theorem dL_law_963 : decode cL_law 963 = .ok (.iload 4, 2) := dk_21 4 (dk_at dksL_law_32 0 rfl rfl)
theorem dL_law_965 : decode cL_law 965 = .ok (.iconst 1, 1) := dk_4 (dk_at dksL_law_32 2 rfl rfl)
theorem dL_law_966 : decode cL_law 966 = .ok (.iadd, 1) := dk_96 (dk_at dksL_law_32 3 rfl rfl)
theorem dL_law_967 : decode cL_law 967 = .ok (.iaload, 1) := dk_46 (dk_at dksL_law_32 4 rfl rfl)
theorem dL_law_968 : decode cL_law 968 = .ok (.invokevirtual 186, 3) := dk_182 0 186 (dk_at dksL_law_32 5 rfl rfl)
theorem dL_law_971 : decode cL_law 971 = .ok (.istore 6, 2) := dk_54 6 (dk_at dksL_law_32 8 rfl rfl)
theorem dL_law_973 : decode cL_law 973 = .ok (.aload_n 2, 1) := dk_44 (dk_at dksL_law_32 10 rfl rfl)
theorem dL_law_974 : decode cL_law 974 = .ok (.invokevirtual 158, 3) := dk_182 0 158 (dk_at dksL_law_32 11 rfl rfl)
theorem dL_law_977 : decode cL_law 977 = .ok (.iload 5, 2) := dk_21 5 (dk_at dksL_law_32 14 rfl rfl)
theorem dL_law_979 : decode cL_law 979 = .ok (.if_icmp .eq 5, 3) := dk_159 0 5 (dk_at dksL_law_32 16 rfl rfl)
theorem dL_law_982 : decode cL_law 982 = .ok (.iconst 0, 1) := dk_3 (dk_at dksL_law_32 19 rfl rfl)
theorem dL_law_983 : decode cL_law 983 = .ok (.ireturn, 1) := dk_172 (dk_at dksL_law_32 20 rfl rfl)
theorem dL_law_984 : decode cL_law 984 = .ok (.iload 5, 2) := dk_21 5 (dk_at dksL_law_32 21 rfl rfl)
theorem dL_law_986 : decode cL_law 986 = .ok (.ifCond .ne 15, 3) := dk_154 0 15 (dk_at dksL_law_33 0 rfl rfl)
theorem dL_law_989 : decode cL_law 989 = .ok (.aload_n 3, 1) := dk_45 (dk_at dksL_law_33 3 rfl rfl)
theorem dL_law_990 : decode cL_law 990 = .ok (.iconst 0, 1) := dk_3 (dk_at dksL_law_33 4 rfl rfl)
theorem dL_law_991 : decode cL_law 991 = .ok (.laload, 1) := dk_47 (dk_at dksL_law_33 5 rfl rfl)
theorem dL_law_992 : decode cL_law 992 = .ok (.iload 6, 2) := dk_21 6 (dk_at dksL_law_33 6 rfl rfl)
theorem dL_law_994 : decode cL_law 994 = .ok (.i2l, 1) := dk_133 (dk_at dksL_law_33 8 rfl rfl)
theorem dL_law_995 : decode cL_law 995 = .ok (.lcmp, 1) := dk_148 (dk_at dksL_law_33 9 rfl rfl)
theorem dL_law_996 : decode cL_law 996 = .ok (.ifCond .eq 5, 3) := dk_153 0 5 (dk_at dksL_law_33 10 rfl rfl)
theorem dL_law_999 : decode cL_law 999 = .ok (.iconst 0, 1) := dk_3 (dk_at dksL_law_33 13 rfl rfl)
theorem dL_law_1000 : decode cL_law 1000 = .ok (.ireturn, 1) := dk_172 (dk_at dksL_law_33 14 rfl rfl)
theorem dL_law_1001 : decode cL_law 1001 = .ok (.goto 1498, 3) := dk_167 5 218 (dk_at dksL_law_33 15 rfl rfl)
theorem dL_law_1004 : decode cL_law 1004 = .ok (.aload_n 1, 1) := dk_43 (dk_at dksL_law_33 18 rfl rfl)
theorem dL_law_1005 : decode cL_law 1005 = .ok (.aload_n 0, 1) := dk_42 (dk_at dksL_law_33 19 rfl rfl)
theorem dL_law_1006 : decode cL_law 1006 = .ok (.iload 4, 2) := dk_21 4 (dk_at dksL_law_33 20 rfl rfl)
theorem dL_law_1008 : decode cL_law 1008 = .ok (.iconst 1, 1) := dk_4 (dk_at dksL_law_33 22 rfl rfl)
theorem dL_law_1009 : decode cL_law 1009 = .ok (.iadd, 1) := dk_96 (dk_at dksL_law_33 23 rfl rfl)
theorem dL_law_1010 : decode cL_law 1010 = .ok (.iaload, 1) := dk_46 (dk_at dksL_law_34 0 rfl rfl)
theorem dL_law_1011 : decode cL_law 1011 = .ok (.aload_n 3, 1) := dk_45 (dk_at dksL_law_34 1 rfl rfl)
theorem dL_law_1012 : decode cL_law 1012 = .ok (.invokestatic 187, 3) := dk_184 0 187 (dk_at dksL_law_34 2 rfl rfl)
theorem dL_law_1015 : decode cL_law 1015 = .ok (.istore 5, 2) := dk_54 5 (dk_at dksL_law_34 5 rfl rfl)
theorem dL_law_1017 : decode cL_law 1017 = .ok (.aload_n 2, 1) := dk_44 (dk_at dksL_law_34 7 rfl rfl)
theorem dL_law_1018 : decode cL_law 1018 = .ok (.aload_n 0, 1) := dk_42 (dk_at dksL_law_34 8 rfl rfl)
theorem dL_law_1019 : decode cL_law 1019 = .ok (.iload 4, 2) := dk_21 4 (dk_at dksL_law_34 9 rfl rfl)
theorem dL_law_1021 : decode cL_law 1021 = .ok (.iconst 1, 1) := dk_4 (dk_at dksL_law_34 11 rfl rfl)
theorem dL_law_1022 : decode cL_law 1022 = .ok (.iadd, 1) := dk_96 (dk_at dksL_law_34 12 rfl rfl)
theorem dL_law_1023 : decode cL_law 1023 = .ok (.iaload, 1) := dk_46 (dk_at dksL_law_34 13 rfl rfl)
theorem dL_law_1024 : decode cL_law 1024 = .ok (.invokevirtual 189, 3) := dk_182 0 189 (dk_at dksL_law_34 14 rfl rfl)
theorem dL_law_1027 : decode cL_law 1027 = .ok (.istore 6, 2) := dk_54 6 (dk_at dksL_law_34 17 rfl rfl)
theorem dL_law_1029 : decode cL_law 1029 = .ok (.aload_n 2, 1) := dk_44 (dk_at dksL_law_34 19 rfl rfl)
theorem dL_law_1030 : decode cL_law 1030 = .ok (.invokevirtual 158, 3) := dk_182 0 158 (dk_at dksL_law_34 20 rfl rfl)
theorem dL_law_1033 : decode cL_law 1033 = .ok (.iload 5, 2) := dk_21 5 (dk_at dksL_law_35 0 rfl rfl)
theorem dL_law_1035 : decode cL_law 1035 = .ok (.if_icmp .eq 5, 3) := dk_159 0 5 (dk_at dksL_law_35 2 rfl rfl)
theorem dL_law_1038 : decode cL_law 1038 = .ok (.iconst 0, 1) := dk_3 (dk_at dksL_law_35 5 rfl rfl)
theorem dL_law_1039 : decode cL_law 1039 = .ok (.ireturn, 1) := dk_172 (dk_at dksL_law_35 6 rfl rfl)
theorem dL_law_1040 : decode cL_law 1040 = .ok (.iload 5, 2) := dk_21 5 (dk_at dksL_law_35 7 rfl rfl)
theorem dL_law_1042 : decode cL_law 1042 = .ok (.ifCond .ne 22, 3) := dk_154 0 22 (dk_at dksL_law_35 9 rfl rfl)
theorem dL_law_1045 : decode cL_law 1045 = .ok (.aload_n 3, 1) := dk_45 (dk_at dksL_law_35 12 rfl rfl)
theorem dL_law_1046 : decode cL_law 1046 = .ok (.iconst 0, 1) := dk_3 (dk_at dksL_law_35 13 rfl rfl)
theorem dL_law_1047 : decode cL_law 1047 = .ok (.laload, 1) := dk_47 (dk_at dksL_law_35 14 rfl rfl)
theorem dL_law_1048 : decode cL_law 1048 = .ok (.iload 6, 2) := dk_21 6 (dk_at dksL_law_35 15 rfl rfl)
theorem dL_law_1050 : decode cL_law 1050 = .ok (.ifCond .eq 7, 3) := dk_153 0 7 (dk_at dksL_law_35 17 rfl rfl)
theorem dL_law_1053 : decode cL_law 1053 = .ok (.lconst 1, 1) := dk_10 (dk_at dksL_law_35 20 rfl rfl)
theorem dL_law_1054 : decode cL_law 1054 = .ok (.goto 4, 3) := dk_167 0 4 (dk_at dksL_law_35 21 rfl rfl)
theorem dL_law_1057 : decode cL_law 1057 = .ok (.lconst 0, 1) := dk_9 (dk_at dksL_law_36 0 rfl rfl)
theorem dL_law_1058 : decode cL_law 1058 = .ok (.lcmp, 1) := dk_148 (dk_at dksL_law_36 1 rfl rfl)
theorem dL_law_1059 : decode cL_law 1059 = .ok (.ifCond .eq 5, 3) := dk_153 0 5 (dk_at dksL_law_36 2 rfl rfl)
theorem dL_law_1062 : decode cL_law 1062 = .ok (.iconst 0, 1) := dk_3 (dk_at dksL_law_36 5 rfl rfl)
theorem dL_law_1063 : decode cL_law 1063 = .ok (.ireturn, 1) := dk_172 (dk_at dksL_law_36 6 rfl rfl)
theorem dL_law_1064 : decode cL_law 1064 = .ok (.goto 1435, 3) := dk_167 5 155 (dk_at dksL_law_36 7 rfl rfl)
theorem dL_law_1067 : decode cL_law 1067 = .ok (.aload_n 1, 1) := dk_43 (dk_at dksL_law_36 10 rfl rfl)
theorem dL_law_1068 : decode cL_law 1068 = .ok (.aload_n 0, 1) := dk_42 (dk_at dksL_law_36 11 rfl rfl)
theorem dL_law_1069 : decode cL_law 1069 = .ok (.iload 4, 2) := dk_21 4 (dk_at dksL_law_36 12 rfl rfl)
theorem dL_law_1071 : decode cL_law 1071 = .ok (.iconst 1, 1) := dk_4 (dk_at dksL_law_36 14 rfl rfl)
theorem dL_law_1072 : decode cL_law 1072 = .ok (.iadd, 1) := dk_96 (dk_at dksL_law_36 15 rfl rfl)
theorem dL_law_1073 : decode cL_law 1073 = .ok (.iaload, 1) := dk_46 (dk_at dksL_law_36 16 rfl rfl)
theorem dL_law_1074 : decode cL_law 1074 = .ok (.aload_n 3, 1) := dk_45 (dk_at dksL_law_36 17 rfl rfl)
theorem dL_law_1075 : decode cL_law 1075 = .ok (.invokestatic 190, 3) := dk_184 0 190 (dk_at dksL_law_36 18 rfl rfl)
theorem dL_law_1078 : decode cL_law 1078 = .ok (.istore 5, 2) := dk_54 5 (dk_at dksL_law_36 21 rfl rfl)
theorem dL_law_1080 : decode cL_law 1080 = .ok (.aload_n 2, 1) := dk_44 (dk_at dksL_law_36 23 rfl rfl)
theorem dL_law_1081 : decode cL_law 1081 = .ok (.aload_n 0, 1) := dk_42 (dk_at dksL_law_37 0 rfl rfl)
theorem dL_law_1082 : decode cL_law 1082 = .ok (.iload 4, 2) := dk_21 4 (dk_at dksL_law_37 1 rfl rfl)
theorem dL_law_1084 : decode cL_law 1084 = .ok (.iconst 1, 1) := dk_4 (dk_at dksL_law_37 3 rfl rfl)
theorem dL_law_1085 : decode cL_law 1085 = .ok (.iadd, 1) := dk_96 (dk_at dksL_law_37 4 rfl rfl)
theorem dL_law_1086 : decode cL_law 1086 = .ok (.iaload, 1) := dk_46 (dk_at dksL_law_37 5 rfl rfl)
theorem dL_law_1087 : decode cL_law 1087 = .ok (.invokevirtual 192, 3) := dk_182 0 192 (dk_at dksL_law_37 6 rfl rfl)
theorem dL_law_1090 : decode cL_law 1090 = .ok (.istore 6, 2) := dk_54 6 (dk_at dksL_law_37 9 rfl rfl)
theorem dL_law_1092 : decode cL_law 1092 = .ok (.aload_n 2, 1) := dk_44 (dk_at dksL_law_37 11 rfl rfl)
theorem dL_law_1093 : decode cL_law 1093 = .ok (.invokevirtual 158, 3) := dk_182 0 158 (dk_at dksL_law_37 12 rfl rfl)
theorem dL_law_1096 : decode cL_law 1096 = .ok (.iload 5, 2) := dk_21 5 (dk_at dksL_law_37 15 rfl rfl)
theorem dL_law_1098 : decode cL_law 1098 = .ok (.if_icmp .eq 5, 3) := dk_159 0 5 (dk_at dksL_law_37 17 rfl rfl)
theorem dL_law_1101 : decode cL_law 1101 = .ok (.iconst 0, 1) := dk_3 (dk_at dksL_law_37 20 rfl rfl)
theorem dL_law_1102 : decode cL_law 1102 = .ok (.ireturn, 1) := dk_172 (dk_at dksL_law_37 21 rfl rfl)
theorem dL_law_1103 : decode cL_law 1103 = .ok (.iload 5, 2) := dk_21 5 (dk_at dksL_law_37 22 rfl rfl)
theorem dL_law_1105 : decode cL_law 1105 = .ok (.ifCond .ne 22, 3) := dk_154 0 22 (dk_at dksL_law_38 0 rfl rfl)
theorem dL_law_1108 : decode cL_law 1108 = .ok (.aload_n 3, 1) := dk_45 (dk_at dksL_law_38 3 rfl rfl)
theorem dL_law_1109 : decode cL_law 1109 = .ok (.iconst 0, 1) := dk_3 (dk_at dksL_law_38 4 rfl rfl)
theorem dL_law_1110 : decode cL_law 1110 = .ok (.laload, 1) := dk_47 (dk_at dksL_law_38 5 rfl rfl)
theorem dL_law_1111 : decode cL_law 1111 = .ok (.iload 6, 2) := dk_21 6 (dk_at dksL_law_38 6 rfl rfl)
theorem dL_law_1113 : decode cL_law 1113 = .ok (.ifCond .eq 7, 3) := dk_153 0 7 (dk_at dksL_law_38 8 rfl rfl)
theorem dL_law_1116 : decode cL_law 1116 = .ok (.lconst 1, 1) := dk_10 (dk_at dksL_law_38 11 rfl rfl)
theorem dL_law_1117 : decode cL_law 1117 = .ok (.goto 4, 3) := dk_167 0 4 (dk_at dksL_law_38 12 rfl rfl)
theorem dL_law_1120 : decode cL_law 1120 = .ok (.lconst 0, 1) := dk_9 (dk_at dksL_law_38 15 rfl rfl)
theorem dL_law_1121 : decode cL_law 1121 = .ok (.lcmp, 1) := dk_148 (dk_at dksL_law_38 16 rfl rfl)
theorem dL_law_1122 : decode cL_law 1122 = .ok (.ifCond .eq 5, 3) := dk_153 0 5 (dk_at dksL_law_38 17 rfl rfl)
theorem dL_law_1125 : decode cL_law 1125 = .ok (.iconst 0, 1) := dk_3 (dk_at dksL_law_38 20 rfl rfl)
theorem dL_law_1126 : decode cL_law 1126 = .ok (.ireturn, 1) := dk_172 (dk_at dksL_law_38 21 rfl rfl)
theorem dL_law_1127 : decode cL_law 1127 = .ok (.goto 1372, 3) := dk_167 5 92 (dk_at dksL_law_39 0 rfl rfl)
theorem dL_law_1130 : decode cL_law 1130 = .ok (.aload_n 1, 1) := dk_43 (dk_at dksL_law_39 3 rfl rfl)
theorem dL_law_1131 : decode cL_law 1131 = .ok (.aload_n 0, 1) := dk_42 (dk_at dksL_law_39 4 rfl rfl)
theorem dL_law_1132 : decode cL_law 1132 = .ok (.iload 4, 2) := dk_21 4 (dk_at dksL_law_39 5 rfl rfl)
theorem dL_law_1134 : decode cL_law 1134 = .ok (.iconst 1, 1) := dk_4 (dk_at dksL_law_39 7 rfl rfl)
theorem dL_law_1135 : decode cL_law 1135 = .ok (.iadd, 1) := dk_96 (dk_at dksL_law_39 8 rfl rfl)
theorem dL_law_1136 : decode cL_law 1136 = .ok (.iaload, 1) := dk_46 (dk_at dksL_law_39 9 rfl rfl)
theorem dL_law_1137 : decode cL_law 1137 = .ok (.aload_n 3, 1) := dk_45 (dk_at dksL_law_39 10 rfl rfl)
theorem dL_law_1138 : decode cL_law 1138 = .ok (.invokestatic 193, 3) := dk_184 0 193 (dk_at dksL_law_39 11 rfl rfl)
theorem dL_law_1141 : decode cL_law 1141 = .ok (.istore 5, 2) := dk_54 5 (dk_at dksL_law_39 14 rfl rfl)
theorem dL_law_1143 : decode cL_law 1143 = .ok (.aload_n 2, 1) := dk_44 (dk_at dksL_law_39 16 rfl rfl)
theorem dL_law_1144 : decode cL_law 1144 = .ok (.aload_n 0, 1) := dk_42 (dk_at dksL_law_39 17 rfl rfl)
theorem dL_law_1145 : decode cL_law 1145 = .ok (.iload 4, 2) := dk_21 4 (dk_at dksL_law_39 18 rfl rfl)
theorem dL_law_1147 : decode cL_law 1147 = .ok (.iconst 1, 1) := dk_4 (dk_at dksL_law_39 20 rfl rfl)
theorem dL_law_1148 : decode cL_law 1148 = .ok (.iadd, 1) := dk_96 (dk_at dksL_law_39 21 rfl rfl)
theorem dL_law_1149 : decode cL_law 1149 = .ok (.iaload, 1) := dk_46 (dk_at dksL_law_39 22 rfl rfl)
theorem dL_law_1150 : decode cL_law 1150 = .ok (.invokevirtual 195, 3) := dk_182 0 195 (dk_at dksL_law_40 0 rfl rfl)
theorem dL_law_1153 : decode cL_law 1153 = .ok (.istore 6, 2) := dk_54 6 (dk_at dksL_law_40 3 rfl rfl)
theorem dL_law_1155 : decode cL_law 1155 = .ok (.aload_n 2, 1) := dk_44 (dk_at dksL_law_40 5 rfl rfl)
theorem dL_law_1156 : decode cL_law 1156 = .ok (.invokevirtual 158, 3) := dk_182 0 158 (dk_at dksL_law_40 6 rfl rfl)
theorem dL_law_1159 : decode cL_law 1159 = .ok (.iload 5, 2) := dk_21 5 (dk_at dksL_law_40 9 rfl rfl)
theorem dL_law_1161 : decode cL_law 1161 = .ok (.if_icmp .eq 5, 3) := dk_159 0 5 (dk_at dksL_law_40 11 rfl rfl)
theorem dL_law_1164 : decode cL_law 1164 = .ok (.iconst 0, 1) := dk_3 (dk_at dksL_law_40 14 rfl rfl)
theorem dL_law_1165 : decode cL_law 1165 = .ok (.ireturn, 1) := dk_172 (dk_at dksL_law_40 15 rfl rfl)
theorem dL_law_1166 : decode cL_law 1166 = .ok (.iload 5, 2) := dk_21 5 (dk_at dksL_law_40 16 rfl rfl)
theorem dL_law_1168 : decode cL_law 1168 = .ok (.ifCond .ne 15, 3) := dk_154 0 15 (dk_at dksL_law_40 18 rfl rfl)
theorem dL_law_1171 : decode cL_law 1171 = .ok (.aload_n 3, 1) := dk_45 (dk_at dksL_law_40 21 rfl rfl)
theorem dL_law_1172 : decode cL_law 1172 = .ok (.iconst 0, 1) := dk_3 (dk_at dksL_law_40 22 rfl rfl)
theorem dL_law_1173 : decode cL_law 1173 = .ok (.laload, 1) := dk_47 (dk_at dksL_law_40 23 rfl rfl)
theorem dL_law_1174 : decode cL_law 1174 = .ok (.iload 6, 2) := dk_21 6 (dk_at dksL_law_41 0 rfl rfl)
theorem dL_law_1176 : decode cL_law 1176 = .ok (.i2l, 1) := dk_133 (dk_at dksL_law_41 2 rfl rfl)
theorem dL_law_1177 : decode cL_law 1177 = .ok (.lcmp, 1) := dk_148 (dk_at dksL_law_41 3 rfl rfl)
theorem dL_law_1178 : decode cL_law 1178 = .ok (.ifCond .eq 5, 3) := dk_153 0 5 (dk_at dksL_law_41 4 rfl rfl)
theorem dL_law_1181 : decode cL_law 1181 = .ok (.iconst 0, 1) := dk_3 (dk_at dksL_law_41 7 rfl rfl)
theorem dL_law_1182 : decode cL_law 1182 = .ok (.ireturn, 1) := dk_172 (dk_at dksL_law_41 8 rfl rfl)
theorem dL_law_1183 : decode cL_law 1183 = .ok (.goto 1316, 3) := dk_167 5 36 (dk_at dksL_law_41 9 rfl rfl)
theorem dL_law_1186 : decode cL_law 1186 = .ok (.aload_n 1, 1) := dk_43 (dk_at dksL_law_41 12 rfl rfl)
theorem dL_law_1187 : decode cL_law 1187 = .ok (.aload_n 0, 1) := dk_42 (dk_at dksL_law_41 13 rfl rfl)
theorem dL_law_1188 : decode cL_law 1188 = .ok (.iload 4, 2) := dk_21 4 (dk_at dksL_law_41 14 rfl rfl)
theorem dL_law_1190 : decode cL_law 1190 = .ok (.iconst 1, 1) := dk_4 (dk_at dksL_law_41 16 rfl rfl)
theorem dL_law_1191 : decode cL_law 1191 = .ok (.iadd, 1) := dk_96 (dk_at dksL_law_41 17 rfl rfl)
theorem dL_law_1192 : decode cL_law 1192 = .ok (.iaload, 1) := dk_46 (dk_at dksL_law_41 18 rfl rfl)
theorem dL_law_1193 : decode cL_law 1193 = .ok (.aload_n 3, 1) := dk_45 (dk_at dksL_law_41 19 rfl rfl)
theorem dL_law_1194 : decode cL_law 1194 = .ok (.invokestatic 196, 3) := dk_184 0 196 (dk_at dksL_law_41 20 rfl rfl)
theorem dL_law_1197 : decode cL_law 1197 = .ok (.istore 5, 2) := dk_54 5 (dk_at dksL_law_42 0 rfl rfl)
theorem dL_law_1199 : decode cL_law 1199 = .ok (.aload_n 2, 1) := dk_44 (dk_at dksL_law_42 2 rfl rfl)
theorem dL_law_1200 : decode cL_law 1200 = .ok (.aload_n 0, 1) := dk_42 (dk_at dksL_law_42 3 rfl rfl)
theorem dL_law_1201 : decode cL_law 1201 = .ok (.iload 4, 2) := dk_21 4 (dk_at dksL_law_42 4 rfl rfl)
theorem dL_law_1203 : decode cL_law 1203 = .ok (.iconst 1, 1) := dk_4 (dk_at dksL_law_42 6 rfl rfl)
theorem dL_law_1204 : decode cL_law 1204 = .ok (.iadd, 1) := dk_96 (dk_at dksL_law_42 7 rfl rfl)
theorem dL_law_1205 : decode cL_law 1205 = .ok (.iaload, 1) := dk_46 (dk_at dksL_law_42 8 rfl rfl)
theorem dL_law_1206 : decode cL_law 1206 = .ok (.invokevirtual 198, 3) := dk_182 0 198 (dk_at dksL_law_42 9 rfl rfl)
theorem dL_law_1209 : decode cL_law 1209 = .ok (.istore 6, 2) := dk_54 6 (dk_at dksL_law_42 12 rfl rfl)
theorem dL_law_1211 : decode cL_law 1211 = .ok (.aload_n 2, 1) := dk_44 (dk_at dksL_law_42 14 rfl rfl)
theorem dL_law_1212 : decode cL_law 1212 = .ok (.invokevirtual 158, 3) := dk_182 0 158 (dk_at dksL_law_42 15 rfl rfl)
theorem dL_law_1215 : decode cL_law 1215 = .ok (.iload 5, 2) := dk_21 5 (dk_at dksL_law_42 18 rfl rfl)
theorem dL_law_1217 : decode cL_law 1217 = .ok (.if_icmp .eq 5, 3) := dk_159 0 5 (dk_at dksL_law_42 20 rfl rfl)
theorem dL_law_1220 : decode cL_law 1220 = .ok (.iconst 0, 1) := dk_3 (dk_at dksL_law_42 23 rfl rfl)
theorem dL_law_1221 : decode cL_law 1221 = .ok (.ireturn, 1) := dk_172 (dk_at dksL_law_43 0 rfl rfl)
theorem dL_law_1222 : decode cL_law 1222 = .ok (.iload 5, 2) := dk_21 5 (dk_at dksL_law_43 1 rfl rfl)
theorem dL_law_1224 : decode cL_law 1224 = .ok (.ifCond .ne 22, 3) := dk_154 0 22 (dk_at dksL_law_43 3 rfl rfl)
theorem dL_law_1227 : decode cL_law 1227 = .ok (.aload_n 3, 1) := dk_45 (dk_at dksL_law_43 6 rfl rfl)
theorem dL_law_1228 : decode cL_law 1228 = .ok (.iconst 0, 1) := dk_3 (dk_at dksL_law_43 7 rfl rfl)
theorem dL_law_1229 : decode cL_law 1229 = .ok (.laload, 1) := dk_47 (dk_at dksL_law_43 8 rfl rfl)
theorem dL_law_1230 : decode cL_law 1230 = .ok (.iload 6, 2) := dk_21 6 (dk_at dksL_law_43 9 rfl rfl)
theorem dL_law_1232 : decode cL_law 1232 = .ok (.ifCond .eq 7, 3) := dk_153 0 7 (dk_at dksL_law_43 11 rfl rfl)
theorem dL_law_1235 : decode cL_law 1235 = .ok (.lconst 1, 1) := dk_10 (dk_at dksL_law_43 14 rfl rfl)
theorem dL_law_1236 : decode cL_law 1236 = .ok (.goto 4, 3) := dk_167 0 4 (dk_at dksL_law_43 15 rfl rfl)
theorem dL_law_1239 : decode cL_law 1239 = .ok (.lconst 0, 1) := dk_9 (dk_at dksL_law_43 18 rfl rfl)
theorem dL_law_1240 : decode cL_law 1240 = .ok (.lcmp, 1) := dk_148 (dk_at dksL_law_43 19 rfl rfl)
theorem dL_law_1241 : decode cL_law 1241 = .ok (.ifCond .eq 5, 3) := dk_153 0 5 (dk_at dksL_law_43 20 rfl rfl)
theorem dL_law_1244 : decode cL_law 1244 = .ok (.iconst 0, 1) := dk_3 (dk_at dksL_law_43 23 rfl rfl)
theorem dL_law_1245 : decode cL_law 1245 = .ok (.ireturn, 1) := dk_172 (dk_at dksL_law_44 0 rfl rfl)
theorem dL_law_1246 : decode cL_law 1246 = .ok (.goto 1253, 3) := dk_167 4 229 (dk_at dksL_law_44 1 rfl rfl)
theorem dL_law_1249 : decode cL_law 1249 = .ok (.aload_n 1, 1) := dk_43 (dk_at dksL_law_44 4 rfl rfl)
theorem dL_law_1250 : decode cL_law 1250 = .ok (.aload_n 0, 1) := dk_42 (dk_at dksL_law_44 5 rfl rfl)
theorem dL_law_1251 : decode cL_law 1251 = .ok (.iload 4, 2) := dk_21 4 (dk_at dksL_law_44 6 rfl rfl)
theorem dL_law_1253 : decode cL_law 1253 = .ok (.iconst 1, 1) := dk_4 (dk_at dksL_law_44 8 rfl rfl)
theorem dL_law_1254 : decode cL_law 1254 = .ok (.iadd, 1) := dk_96 (dk_at dksL_law_44 9 rfl rfl)
theorem dL_law_1255 : decode cL_law 1255 = .ok (.iaload, 1) := dk_46 (dk_at dksL_law_44 10 rfl rfl)
theorem dL_law_1256 : decode cL_law 1256 = .ok (.aload_n 3, 1) := dk_45 (dk_at dksL_law_44 11 rfl rfl)
theorem dL_law_1257 : decode cL_law 1257 = .ok (.invokestatic 199, 3) := dk_184 0 199 (dk_at dksL_law_44 12 rfl rfl)
theorem dL_law_1260 : decode cL_law 1260 = .ok (.istore 5, 2) := dk_54 5 (dk_at dksL_law_44 15 rfl rfl)
theorem dL_law_1262 : decode cL_law 1262 = .ok (.aload_n 2, 1) := dk_44 (dk_at dksL_law_44 17 rfl rfl)
theorem dL_law_1263 : decode cL_law 1263 = .ok (.aload_n 0, 1) := dk_42 (dk_at dksL_law_44 18 rfl rfl)
theorem dL_law_1264 : decode cL_law 1264 = .ok (.iload 4, 2) := dk_21 4 (dk_at dksL_law_44 19 rfl rfl)
theorem dL_law_1266 : decode cL_law 1266 = .ok (.iconst 1, 1) := dk_4 (dk_at dksL_law_44 21 rfl rfl)
theorem dL_law_1267 : decode cL_law 1267 = .ok (.iadd, 1) := dk_96 (dk_at dksL_law_44 22 rfl rfl)
theorem dL_law_1268 : decode cL_law 1268 = .ok (.iaload, 1) := dk_46 (dk_at dksL_law_44 23 rfl rfl)
theorem dL_law_1269 : decode cL_law 1269 = .ok (.invokevirtual 201, 3) := dk_182 0 201 (dk_at dksL_law_45 0 rfl rfl)
theorem dL_law_1272 : decode cL_law 1272 = .ok (.istore 6, 2) := dk_54 6 (dk_at dksL_law_45 3 rfl rfl)
theorem dL_law_1274 : decode cL_law 1274 = .ok (.aload_n 2, 1) := dk_44 (dk_at dksL_law_45 5 rfl rfl)
theorem dL_law_1275 : decode cL_law 1275 = .ok (.invokevirtual 158, 3) := dk_182 0 158 (dk_at dksL_law_45 6 rfl rfl)
theorem dL_law_1278 : decode cL_law 1278 = .ok (.iload 5, 2) := dk_21 5 (dk_at dksL_law_45 9 rfl rfl)
theorem dL_law_1280 : decode cL_law 1280 = .ok (.if_icmp .eq 5, 3) := dk_159 0 5 (dk_at dksL_law_45 11 rfl rfl)
theorem dL_law_1283 : decode cL_law 1283 = .ok (.iconst 0, 1) := dk_3 (dk_at dksL_law_45 14 rfl rfl)
theorem dL_law_1284 : decode cL_law 1284 = .ok (.ireturn, 1) := dk_172 (dk_at dksL_law_45 15 rfl rfl)
theorem dL_law_1285 : decode cL_law 1285 = .ok (.iload 5, 2) := dk_21 5 (dk_at dksL_law_45 16 rfl rfl)
theorem dL_law_1287 : decode cL_law 1287 = .ok (.ifCond .ne 15, 3) := dk_154 0 15 (dk_at dksL_law_45 18 rfl rfl)
theorem dL_law_1290 : decode cL_law 1290 = .ok (.aload_n 3, 1) := dk_45 (dk_at dksL_law_45 21 rfl rfl)
theorem dL_law_1291 : decode cL_law 1291 = .ok (.iconst 0, 1) := dk_3 (dk_at dksL_law_45 22 rfl rfl)
theorem dL_law_1292 : decode cL_law 1292 = .ok (.laload, 1) := dk_47 (dk_at dksL_law_45 23 rfl rfl)
theorem dL_law_1293 : decode cL_law 1293 = .ok (.iload 6, 2) := dk_21 6 (dk_at dksL_law_46 0 rfl rfl)
theorem dL_law_1295 : decode cL_law 1295 = .ok (.i2l, 1) := dk_133 (dk_at dksL_law_46 2 rfl rfl)
theorem dL_law_1296 : decode cL_law 1296 = .ok (.lcmp, 1) := dk_148 (dk_at dksL_law_46 3 rfl rfl)
theorem dL_law_1297 : decode cL_law 1297 = .ok (.ifCond .eq 5, 3) := dk_153 0 5 (dk_at dksL_law_46 4 rfl rfl)
theorem dL_law_1300 : decode cL_law 1300 = .ok (.iconst 0, 1) := dk_3 (dk_at dksL_law_46 7 rfl rfl)
theorem dL_law_1301 : decode cL_law 1301 = .ok (.ireturn, 1) := dk_172 (dk_at dksL_law_46 8 rfl rfl)
theorem dL_law_1302 : decode cL_law 1302 = .ok (.goto 1197, 3) := dk_167 4 173 (dk_at dksL_law_46 9 rfl rfl)
theorem dL_law_1305 : decode cL_law 1305 = .ok (.aload_n 1, 1) := dk_43 (dk_at dksL_law_46 12 rfl rfl)
theorem dL_law_1306 : decode cL_law 1306 = .ok (.aload_n 0, 1) := dk_42 (dk_at dksL_law_46 13 rfl rfl)
theorem dL_law_1307 : decode cL_law 1307 = .ok (.iload 4, 2) := dk_21 4 (dk_at dksL_law_46 14 rfl rfl)
theorem dL_law_1309 : decode cL_law 1309 = .ok (.iconst 1, 1) := dk_4 (dk_at dksL_law_46 16 rfl rfl)
theorem dL_law_1310 : decode cL_law 1310 = .ok (.iadd, 1) := dk_96 (dk_at dksL_law_46 17 rfl rfl)
theorem dL_law_1311 : decode cL_law 1311 = .ok (.iaload, 1) := dk_46 (dk_at dksL_law_46 18 rfl rfl)
theorem dL_law_1312 : decode cL_law 1312 = .ok (.aload_n 3, 1) := dk_45 (dk_at dksL_law_46 19 rfl rfl)
theorem dL_law_1313 : decode cL_law 1313 = .ok (.invokestatic 202, 3) := dk_184 0 202 (dk_at dksL_law_46 20 rfl rfl)
theorem dL_law_1316 : decode cL_law 1316 = .ok (.istore 5, 2) := dk_54 5 (dk_at dksL_law_47 0 rfl rfl)
theorem dL_law_1318 : decode cL_law 1318 = .ok (.aload_n 2, 1) := dk_44 (dk_at dksL_law_47 2 rfl rfl)
theorem dL_law_1319 : decode cL_law 1319 = .ok (.aload_n 0, 1) := dk_42 (dk_at dksL_law_47 3 rfl rfl)
theorem dL_law_1320 : decode cL_law 1320 = .ok (.iload 4, 2) := dk_21 4 (dk_at dksL_law_47 4 rfl rfl)
theorem dL_law_1322 : decode cL_law 1322 = .ok (.iconst 1, 1) := dk_4 (dk_at dksL_law_47 6 rfl rfl)
theorem dL_law_1323 : decode cL_law 1323 = .ok (.iadd, 1) := dk_96 (dk_at dksL_law_47 7 rfl rfl)
theorem dL_law_1324 : decode cL_law 1324 = .ok (.iaload, 1) := dk_46 (dk_at dksL_law_47 8 rfl rfl)
theorem dL_law_1325 : decode cL_law 1325 = .ok (.invokevirtual 204, 3) := dk_182 0 204 (dk_at dksL_law_47 9 rfl rfl)
theorem dL_law_1328 : decode cL_law 1328 = .ok (.istore 6, 2) := dk_54 6 (dk_at dksL_law_47 12 rfl rfl)
theorem dL_law_1330 : decode cL_law 1330 = .ok (.aload_n 2, 1) := dk_44 (dk_at dksL_law_47 14 rfl rfl)
theorem dL_law_1331 : decode cL_law 1331 = .ok (.invokevirtual 158, 3) := dk_182 0 158 (dk_at dksL_law_47 15 rfl rfl)
theorem dL_law_1334 : decode cL_law 1334 = .ok (.iload 5, 2) := dk_21 5 (dk_at dksL_law_47 18 rfl rfl)
theorem dL_law_1336 : decode cL_law 1336 = .ok (.if_icmp .eq 5, 3) := dk_159 0 5 (dk_at dksL_law_47 20 rfl rfl)
theorem dL_law_1339 : decode cL_law 1339 = .ok (.iconst 0, 1) := dk_3 (dk_at dksL_law_47 23 rfl rfl)
theorem dL_law_1340 : decode cL_law 1340 = .ok (.ireturn, 1) := dk_172 (dk_at dksL_law_48 0 rfl rfl)
theorem dL_law_1341 : decode cL_law 1341 = .ok (.iload 5, 2) := dk_21 5 (dk_at dksL_law_48 1 rfl rfl)
theorem dL_law_1343 : decode cL_law 1343 = .ok (.ifCond .ne 15, 3) := dk_154 0 15 (dk_at dksL_law_48 3 rfl rfl)
theorem dL_law_1346 : decode cL_law 1346 = .ok (.aload_n 3, 1) := dk_45 (dk_at dksL_law_48 6 rfl rfl)
theorem dL_law_1347 : decode cL_law 1347 = .ok (.iconst 0, 1) := dk_3 (dk_at dksL_law_48 7 rfl rfl)
theorem dL_law_1348 : decode cL_law 1348 = .ok (.laload, 1) := dk_47 (dk_at dksL_law_48 8 rfl rfl)
theorem dL_law_1349 : decode cL_law 1349 = .ok (.iload 6, 2) := dk_21 6 (dk_at dksL_law_48 9 rfl rfl)
theorem dL_law_1351 : decode cL_law 1351 = .ok (.i2l, 1) := dk_133 (dk_at dksL_law_48 11 rfl rfl)
theorem dL_law_1352 : decode cL_law 1352 = .ok (.lcmp, 1) := dk_148 (dk_at dksL_law_48 12 rfl rfl)
theorem dL_law_1353 : decode cL_law 1353 = .ok (.ifCond .eq 5, 3) := dk_153 0 5 (dk_at dksL_law_48 13 rfl rfl)
theorem dL_law_1356 : decode cL_law 1356 = .ok (.iconst 0, 1) := dk_3 (dk_at dksL_law_48 16 rfl rfl)
theorem dL_law_1357 : decode cL_law 1357 = .ok (.ireturn, 1) := dk_172 (dk_at dksL_law_48 17 rfl rfl)
theorem dL_law_1358 : decode cL_law 1358 = .ok (.goto 1141, 3) := dk_167 4 117 (dk_at dksL_law_48 18 rfl rfl)
theorem dL_law_1361 : decode cL_law 1361 = .ok (.aload_n 1, 1) := dk_43 (dk_at dksL_law_48 21 rfl rfl)
theorem dL_law_1362 : decode cL_law 1362 = .ok (.aload_n 0, 1) := dk_42 (dk_at dksL_law_48 22 rfl rfl)
theorem dL_law_1363 : decode cL_law 1363 = .ok (.iload 4, 2) := dk_21 4 (dk_at dksL_law_49 0 rfl rfl)
theorem dL_law_1365 : decode cL_law 1365 = .ok (.iconst 1, 1) := dk_4 (dk_at dksL_law_49 2 rfl rfl)
theorem dL_law_1366 : decode cL_law 1366 = .ok (.iadd, 1) := dk_96 (dk_at dksL_law_49 3 rfl rfl)
theorem dL_law_1367 : decode cL_law 1367 = .ok (.iaload, 1) := dk_46 (dk_at dksL_law_49 4 rfl rfl)
theorem dL_law_1368 : decode cL_law 1368 = .ok (.aload_n 3, 1) := dk_45 (dk_at dksL_law_49 5 rfl rfl)
theorem dL_law_1369 : decode cL_law 1369 = .ok (.invokestatic 205, 3) := dk_184 0 205 (dk_at dksL_law_49 6 rfl rfl)
theorem dL_law_1372 : decode cL_law 1372 = .ok (.istore 5, 2) := dk_54 5 (dk_at dksL_law_49 9 rfl rfl)
theorem dL_law_1374 : decode cL_law 1374 = .ok (.aload_n 2, 1) := dk_44 (dk_at dksL_law_49 11 rfl rfl)
theorem dL_law_1375 : decode cL_law 1375 = .ok (.aload_n 0, 1) := dk_42 (dk_at dksL_law_49 12 rfl rfl)
theorem dL_law_1376 : decode cL_law 1376 = .ok (.iload 4, 2) := dk_21 4 (dk_at dksL_law_49 13 rfl rfl)
theorem dL_law_1378 : decode cL_law 1378 = .ok (.iconst 1, 1) := dk_4 (dk_at dksL_law_49 15 rfl rfl)
theorem dL_law_1379 : decode cL_law 1379 = .ok (.iadd, 1) := dk_96 (dk_at dksL_law_49 16 rfl rfl)
theorem dL_law_1380 : decode cL_law 1380 = .ok (.iaload, 1) := dk_46 (dk_at dksL_law_49 17 rfl rfl)
theorem dL_law_1381 : decode cL_law 1381 = .ok (.invokevirtual 207, 3) := dk_182 0 207 (dk_at dksL_law_49 18 rfl rfl)
theorem dL_law_1384 : decode cL_law 1384 = .ok (.istore 6, 2) := dk_54 6 (dk_at dksL_law_49 21 rfl rfl)
theorem dL_law_1386 : decode cL_law 1386 = .ok (.aload_n 2, 1) := dk_44 (dk_at dksL_law_49 23 rfl rfl)
theorem dL_law_1387 : decode cL_law 1387 = .ok (.invokevirtual 158, 3) := dk_182 0 158 (dk_at dksL_law_50 0 rfl rfl)
theorem dL_law_1390 : decode cL_law 1390 = .ok (.iload 5, 2) := dk_21 5 (dk_at dksL_law_50 3 rfl rfl)
theorem dL_law_1392 : decode cL_law 1392 = .ok (.if_icmp .eq 5, 3) := dk_159 0 5 (dk_at dksL_law_50 5 rfl rfl)
theorem dL_law_1395 : decode cL_law 1395 = .ok (.iconst 0, 1) := dk_3 (dk_at dksL_law_50 8 rfl rfl)
theorem dL_law_1396 : decode cL_law 1396 = .ok (.ireturn, 1) := dk_172 (dk_at dksL_law_50 9 rfl rfl)
theorem dL_law_1397 : decode cL_law 1397 = .ok (.iload 5, 2) := dk_21 5 (dk_at dksL_law_50 10 rfl rfl)
theorem dL_law_1399 : decode cL_law 1399 = .ok (.ifCond .ne 15, 3) := dk_154 0 15 (dk_at dksL_law_50 12 rfl rfl)
theorem dL_law_1402 : decode cL_law 1402 = .ok (.aload_n 3, 1) := dk_45 (dk_at dksL_law_50 15 rfl rfl)
theorem dL_law_1403 : decode cL_law 1403 = .ok (.iconst 0, 1) := dk_3 (dk_at dksL_law_50 16 rfl rfl)
theorem dL_law_1404 : decode cL_law 1404 = .ok (.laload, 1) := dk_47 (dk_at dksL_law_50 17 rfl rfl)
theorem dL_law_1405 : decode cL_law 1405 = .ok (.iload 6, 2) := dk_21 6 (dk_at dksL_law_50 18 rfl rfl)
theorem dL_law_1407 : decode cL_law 1407 = .ok (.i2l, 1) := dk_133 (dk_at dksL_law_50 20 rfl rfl)
theorem dL_law_1408 : decode cL_law 1408 = .ok (.lcmp, 1) := dk_148 (dk_at dksL_law_50 21 rfl rfl)
theorem dL_law_1409 : decode cL_law 1409 = .ok (.ifCond .eq 5, 3) := dk_153 0 5 (dk_at dksL_law_51 0 rfl rfl)
theorem dL_law_1412 : decode cL_law 1412 = .ok (.iconst 0, 1) := dk_3 (dk_at dksL_law_51 3 rfl rfl)
theorem dL_law_1413 : decode cL_law 1413 = .ok (.ireturn, 1) := dk_172 (dk_at dksL_law_51 4 rfl rfl)
theorem dL_law_1414 : decode cL_law 1414 = .ok (.goto 1085, 3) := dk_167 4 61 (dk_at dksL_law_51 5 rfl rfl)
theorem dL_law_1417 : decode cL_law 1417 = .ok (.aload_n 1, 1) := dk_43 (dk_at dksL_law_51 8 rfl rfl)
theorem dL_law_1418 : decode cL_law 1418 = .ok (.invokevirtual 208, 3) := dk_182 0 208 (dk_at dksL_law_51 9 rfl rfl)
theorem dL_law_1421 : decode cL_law 1421 = .ok (.aload_n 2, 1) := dk_44 (dk_at dksL_law_51 12 rfl rfl)
theorem dL_law_1422 : decode cL_law 1422 = .ok (.invokevirtual 212, 3) := dk_182 0 212 (dk_at dksL_law_51 13 rfl rfl)
theorem dL_law_1425 : decode cL_law 1425 = .ok (.if_icmp .eq 1074, 3) := dk_159 4 50 (dk_at dksL_law_51 16 rfl rfl)
theorem dL_law_1428 : decode cL_law 1428 = .ok (.iconst 0, 1) := dk_3 (dk_at dksL_law_51 19 rfl rfl)
theorem dL_law_1429 : decode cL_law 1429 = .ok (.ireturn, 1) := dk_172 (dk_at dksL_law_51 20 rfl rfl)
theorem dL_law_1430 : decode cL_law 1430 = .ok (.aload_n 1, 1) := dk_43 (dk_at dksL_law_51 21 rfl rfl)
theorem dL_law_1431 : decode cL_law 1431 = .ok (.aload_n 0, 1) := dk_42 (dk_at dksL_law_51 22 rfl rfl)
theorem dL_law_1432 : decode cL_law 1432 = .ok (.iload 4, 2) := dk_21 4 (dk_at dksL_law_52 0 rfl rfl)
theorem dL_law_1434 : decode cL_law 1434 = .ok (.iconst 1, 1) := dk_4 (dk_at dksL_law_52 2 rfl rfl)
theorem dL_law_1435 : decode cL_law 1435 = .ok (.iadd, 1) := dk_96 (dk_at dksL_law_52 3 rfl rfl)
theorem dL_law_1436 : decode cL_law 1436 = .ok (.iaload, 1) := dk_46 (dk_at dksL_law_52 4 rfl rfl)
theorem dL_law_1437 : decode cL_law 1437 = .ok (.aload_n 3, 1) := dk_45 (dk_at dksL_law_52 5 rfl rfl)
theorem dL_law_1438 : decode cL_law 1438 = .ok (.invokestatic 213, 3) := dk_184 0 213 (dk_at dksL_law_52 6 rfl rfl)
theorem dL_law_1441 : decode cL_law 1441 = .ok (.istore 5, 2) := dk_54 5 (dk_at dksL_law_52 9 rfl rfl)
theorem dL_law_1443 : decode cL_law 1443 = .ok (.aload_n 2, 1) := dk_44 (dk_at dksL_law_52 11 rfl rfl)
theorem dL_law_1444 : decode cL_law 1444 = .ok (.aload_n 0, 1) := dk_42 (dk_at dksL_law_52 12 rfl rfl)
theorem dL_law_1445 : decode cL_law 1445 = .ok (.iload 4, 2) := dk_21 4 (dk_at dksL_law_52 13 rfl rfl)
theorem dL_law_1447 : decode cL_law 1447 = .ok (.iconst 1, 1) := dk_4 (dk_at dksL_law_52 15 rfl rfl)
theorem dL_law_1448 : decode cL_law 1448 = .ok (.iadd, 1) := dk_96 (dk_at dksL_law_52 16 rfl rfl)
theorem dL_law_1449 : decode cL_law 1449 = .ok (.iaload, 1) := dk_46 (dk_at dksL_law_52 17 rfl rfl)
theorem dL_law_1450 : decode cL_law 1450 = .ok (.invokevirtual 215, 3) := dk_182 0 215 (dk_at dksL_law_52 18 rfl rfl)
theorem dL_law_1453 : decode cL_law 1453 = .ok (.istore 6, 2) := dk_54 6 (dk_at dksL_law_52 21 rfl rfl)
theorem dL_law_1455 : decode cL_law 1455 = .ok (.aload_n 2, 1) := dk_44 (dk_at dksL_law_52 23 rfl rfl)
theorem dL_law_1456 : decode cL_law 1456 = .ok (.invokevirtual 158, 3) := dk_182 0 158 (dk_at dksL_law_53 0 rfl rfl)
theorem dL_law_1459 : decode cL_law 1459 = .ok (.iload 5, 2) := dk_21 5 (dk_at dksL_law_53 3 rfl rfl)
theorem dL_law_1461 : decode cL_law 1461 = .ok (.if_icmp .eq 5, 3) := dk_159 0 5 (dk_at dksL_law_53 5 rfl rfl)
theorem dL_law_1464 : decode cL_law 1464 = .ok (.iconst 0, 1) := dk_3 (dk_at dksL_law_53 8 rfl rfl)
theorem dL_law_1465 : decode cL_law 1465 = .ok (.ireturn, 1) := dk_172 (dk_at dksL_law_53 9 rfl rfl)
theorem dL_law_1466 : decode cL_law 1466 = .ok (.iload 5, 2) := dk_21 5 (dk_at dksL_law_53 10 rfl rfl)
theorem dL_law_1468 : decode cL_law 1468 = .ok (.ifCond .ne 15, 3) := dk_154 0 15 (dk_at dksL_law_53 12 rfl rfl)
theorem dL_law_1471 : decode cL_law 1471 = .ok (.aload_n 3, 1) := dk_45 (dk_at dksL_law_53 15 rfl rfl)
theorem dL_law_1472 : decode cL_law 1472 = .ok (.iconst 0, 1) := dk_3 (dk_at dksL_law_53 16 rfl rfl)
theorem dL_law_1473 : decode cL_law 1473 = .ok (.laload, 1) := dk_47 (dk_at dksL_law_53 17 rfl rfl)
theorem dL_law_1474 : decode cL_law 1474 = .ok (.iload 6, 2) := dk_21 6 (dk_at dksL_law_53 18 rfl rfl)
theorem dL_law_1476 : decode cL_law 1476 = .ok (.i2l, 1) := dk_133 (dk_at dksL_law_53 20 rfl rfl)
theorem dL_law_1477 : decode cL_law 1477 = .ok (.lcmp, 1) := dk_148 (dk_at dksL_law_53 21 rfl rfl)
theorem dL_law_1478 : decode cL_law 1478 = .ok (.ifCond .eq 5, 3) := dk_153 0 5 (dk_at dksL_law_54 0 rfl rfl)
theorem dL_law_1481 : decode cL_law 1481 = .ok (.iconst 0, 1) := dk_3 (dk_at dksL_law_54 3 rfl rfl)
theorem dL_law_1482 : decode cL_law 1482 = .ok (.ireturn, 1) := dk_172 (dk_at dksL_law_54 4 rfl rfl)
theorem dL_law_1483 : decode cL_law 1483 = .ok (.goto 1016, 3) := dk_167 3 248 (dk_at dksL_law_54 5 rfl rfl)
theorem dL_law_1486 : decode cL_law 1486 = .ok (.aload_n 1, 1) := dk_43 (dk_at dksL_law_54 8 rfl rfl)
theorem dL_law_1487 : decode cL_law 1487 = .ok (.aload_n 0, 1) := dk_42 (dk_at dksL_law_54 9 rfl rfl)
theorem dL_law_1488 : decode cL_law 1488 = .ok (.iload 4, 2) := dk_21 4 (dk_at dksL_law_54 10 rfl rfl)
theorem dL_law_1490 : decode cL_law 1490 = .ok (.iconst 1, 1) := dk_4 (dk_at dksL_law_54 12 rfl rfl)
theorem dL_law_1491 : decode cL_law 1491 = .ok (.iadd, 1) := dk_96 (dk_at dksL_law_54 13 rfl rfl)
theorem dL_law_1492 : decode cL_law 1492 = .ok (.iaload, 1) := dk_46 (dk_at dksL_law_54 14 rfl rfl)
theorem dL_law_1493 : decode cL_law 1493 = .ok (.aload_n 3, 1) := dk_45 (dk_at dksL_law_54 15 rfl rfl)
theorem dL_law_1494 : decode cL_law 1494 = .ok (.invokestatic 216, 3) := dk_184 0 216 (dk_at dksL_law_54 16 rfl rfl)
theorem dL_law_1497 : decode cL_law 1497 = .ok (.istore 5, 2) := dk_54 5 (dk_at dksL_law_54 19 rfl rfl)
theorem dL_law_1499 : decode cL_law 1499 = .ok (.aload_n 2, 1) := dk_44 (dk_at dksL_law_54 21 rfl rfl)
theorem dL_law_1500 : decode cL_law 1500 = .ok (.aload_n 0, 1) := dk_42 (dk_at dksL_law_54 22 rfl rfl)
theorem dL_law_1501 : decode cL_law 1501 = .ok (.iload 4, 2) := dk_21 4 (dk_at dksL_law_55 0 rfl rfl)
theorem dL_law_1503 : decode cL_law 1503 = .ok (.iconst 1, 1) := dk_4 (dk_at dksL_law_55 2 rfl rfl)
theorem dL_law_1504 : decode cL_law 1504 = .ok (.iadd, 1) := dk_96 (dk_at dksL_law_55 3 rfl rfl)
theorem dL_law_1505 : decode cL_law 1505 = .ok (.iaload, 1) := dk_46 (dk_at dksL_law_55 4 rfl rfl)
theorem dL_law_1506 : decode cL_law 1506 = .ok (.invokevirtual 218, 3) := dk_182 0 218 (dk_at dksL_law_55 5 rfl rfl)
theorem dL_law_1509 : decode cL_law 1509 = .ok (.istore 6, 2) := dk_54 6 (dk_at dksL_law_55 8 rfl rfl)
theorem dL_law_1511 : decode cL_law 1511 = .ok (.aload_n 2, 1) := dk_44 (dk_at dksL_law_55 10 rfl rfl)
theorem dL_law_1512 : decode cL_law 1512 = .ok (.invokevirtual 158, 3) := dk_182 0 158 (dk_at dksL_law_55 11 rfl rfl)
theorem dL_law_1515 : decode cL_law 1515 = .ok (.iload 5, 2) := dk_21 5 (dk_at dksL_law_55 14 rfl rfl)
theorem dL_law_1517 : decode cL_law 1517 = .ok (.if_icmp .eq 5, 3) := dk_159 0 5 (dk_at dksL_law_55 16 rfl rfl)
theorem dL_law_1520 : decode cL_law 1520 = .ok (.iconst 0, 1) := dk_3 (dk_at dksL_law_55 19 rfl rfl)
theorem dL_law_1521 : decode cL_law 1521 = .ok (.ireturn, 1) := dk_172 (dk_at dksL_law_55 20 rfl rfl)
theorem dL_law_1522 : decode cL_law 1522 = .ok (.iload 5, 2) := dk_21 5 (dk_at dksL_law_55 21 rfl rfl)
theorem dL_law_1524 : decode cL_law 1524 = .ok (.ifCond .ne 15, 3) := dk_154 0 15 (dk_at dksL_law_56 0 rfl rfl)
theorem dL_law_1527 : decode cL_law 1527 = .ok (.aload_n 3, 1) := dk_45 (dk_at dksL_law_56 3 rfl rfl)
theorem dL_law_1528 : decode cL_law 1528 = .ok (.iconst 0, 1) := dk_3 (dk_at dksL_law_56 4 rfl rfl)
theorem dL_law_1529 : decode cL_law 1529 = .ok (.laload, 1) := dk_47 (dk_at dksL_law_56 5 rfl rfl)
theorem dL_law_1530 : decode cL_law 1530 = .ok (.iload 6, 2) := dk_21 6 (dk_at dksL_law_56 6 rfl rfl)
theorem dL_law_1532 : decode cL_law 1532 = .ok (.i2l, 1) := dk_133 (dk_at dksL_law_56 8 rfl rfl)
theorem dL_law_1533 : decode cL_law 1533 = .ok (.lcmp, 1) := dk_148 (dk_at dksL_law_56 9 rfl rfl)
theorem dL_law_1534 : decode cL_law 1534 = .ok (.ifCond .eq 5, 3) := dk_153 0 5 (dk_at dksL_law_56 10 rfl rfl)
theorem dL_law_1537 : decode cL_law 1537 = .ok (.iconst 0, 1) := dk_3 (dk_at dksL_law_56 13 rfl rfl)
theorem dL_law_1538 : decode cL_law 1538 = .ok (.ireturn, 1) := dk_172 (dk_at dksL_law_56 14 rfl rfl)
theorem dL_law_1539 : decode cL_law 1539 = .ok (.goto 960, 3) := dk_167 3 192 (dk_at dksL_law_56 15 rfl rfl)
theorem dL_law_1542 : decode cL_law 1542 = .ok (.aload_n 1, 1) := dk_43 (dk_at dksL_law_56 18 rfl rfl)
theorem dL_law_1543 : decode cL_law 1543 = .ok (.invokevirtual 219, 3) := dk_182 0 219 (dk_at dksL_law_56 19 rfl rfl)
theorem dL_law_1546 : decode cL_law 1546 = .ok (.aload_n 2, 1) := dk_44 (dk_at dksL_law_56 22 rfl rfl)
theorem dL_law_1547 : decode cL_law 1547 = .ok (.invokevirtual 222, 3) := dk_182 0 222 (dk_at dksL_law_57 0 rfl rfl)
theorem dL_law_1550 : decode cL_law 1550 = .ok (.if_icmp .eq 949, 3) := dk_159 3 181 (dk_at dksL_law_57 3 rfl rfl)
theorem dL_law_1553 : decode cL_law 1553 = .ok (.iconst 0, 1) := dk_3 (dk_at dksL_law_57 6 rfl rfl)
theorem dL_law_1554 : decode cL_law 1554 = .ok (.ireturn, 1) := dk_172 (dk_at dksL_law_57 7 rfl rfl)
theorem dL_law_1555 : decode cL_law 1555 = .ok (.aload_n 1, 1) := dk_43 (dk_at dksL_law_57 8 rfl rfl)
theorem dL_law_1556 : decode cL_law 1556 = .ok (.invokevirtual 223, 3) := dk_182 0 223 (dk_at dksL_law_57 9 rfl rfl)
theorem dL_law_1559 : decode cL_law 1559 = .ok (.aload_n 2, 1) := dk_44 (dk_at dksL_law_57 12 rfl rfl)
theorem dL_law_1560 : decode cL_law 1560 = .ok (.invokevirtual 226, 3) := dk_182 0 226 (dk_at dksL_law_57 13 rfl rfl)
theorem dL_law_1563 : decode cL_law 1563 = .ok (.if_icmp .eq 936, 3) := dk_159 3 168 (dk_at dksL_law_57 16 rfl rfl)
theorem dL_law_1566 : decode cL_law 1566 = .ok (.iconst 0, 1) := dk_3 (dk_at dksL_law_57 19 rfl rfl)
theorem dL_law_1567 : decode cL_law 1567 = .ok (.ireturn, 1) := dk_172 (dk_at dksL_law_57 20 rfl rfl)
theorem dL_law_1568 : decode cL_law 1568 = .ok (.aload_n 1, 1) := dk_43 (dk_at dksL_law_57 21 rfl rfl)
theorem dL_law_1569 : decode cL_law 1569 = .ok (.aload_n 0, 1) := dk_42 (dk_at dksL_law_57 22 rfl rfl)
theorem dL_law_1570 : decode cL_law 1570 = .ok (.iload 4, 2) := dk_21 4 (dk_at dksL_law_58 0 rfl rfl)
theorem dL_law_1572 : decode cL_law 1572 = .ok (.iconst 1, 1) := dk_4 (dk_at dksL_law_58 2 rfl rfl)
theorem dL_law_1573 : decode cL_law 1573 = .ok (.iadd, 1) := dk_96 (dk_at dksL_law_58 3 rfl rfl)
theorem dL_law_1574 : decode cL_law 1574 = .ok (.iaload, 1) := dk_46 (dk_at dksL_law_58 4 rfl rfl)
theorem dL_law_1575 : decode cL_law 1575 = .ok (.aload_n 3, 1) := dk_45 (dk_at dksL_law_58 5 rfl rfl)
theorem dL_law_1576 : decode cL_law 1576 = .ok (.invokestatic 227, 3) := dk_184 0 227 (dk_at dksL_law_58 6 rfl rfl)
theorem dL_law_1579 : decode cL_law 1579 = .ok (.istore 5, 2) := dk_54 5 (dk_at dksL_law_58 9 rfl rfl)
theorem dL_law_1581 : decode cL_law 1581 = .ok (.aload_n 2, 1) := dk_44 (dk_at dksL_law_58 11 rfl rfl)
theorem dL_law_1582 : decode cL_law 1582 = .ok (.aload_n 0, 1) := dk_42 (dk_at dksL_law_58 12 rfl rfl)
theorem dL_law_1583 : decode cL_law 1583 = .ok (.iload 4, 2) := dk_21 4 (dk_at dksL_law_58 13 rfl rfl)
theorem dL_law_1585 : decode cL_law 1585 = .ok (.iconst 1, 1) := dk_4 (dk_at dksL_law_58 15 rfl rfl)
theorem dL_law_1586 : decode cL_law 1586 = .ok (.iadd, 1) := dk_96 (dk_at dksL_law_58 16 rfl rfl)
theorem dL_law_1587 : decode cL_law 1587 = .ok (.iaload, 1) := dk_46 (dk_at dksL_law_58 17 rfl rfl)
theorem dL_law_1588 : decode cL_law 1588 = .ok (.invokevirtual 229, 3) := dk_182 0 229 (dk_at dksL_law_58 18 rfl rfl)
theorem dL_law_1591 : decode cL_law 1591 = .ok (.istore 6, 2) := dk_54 6 (dk_at dksL_law_58 21 rfl rfl)
theorem dL_law_1593 : decode cL_law 1593 = .ok (.aload_n 2, 1) := dk_44 (dk_at dksL_law_58 23 rfl rfl)
theorem dL_law_1594 : decode cL_law 1594 = .ok (.invokevirtual 158, 3) := dk_182 0 158 (dk_at dksL_law_59 0 rfl rfl)
theorem dL_law_1597 : decode cL_law 1597 = .ok (.iload 5, 2) := dk_21 5 (dk_at dksL_law_59 3 rfl rfl)
theorem dL_law_1599 : decode cL_law 1599 = .ok (.if_icmp .eq 5, 3) := dk_159 0 5 (dk_at dksL_law_59 5 rfl rfl)
theorem dL_law_1602 : decode cL_law 1602 = .ok (.iconst 0, 1) := dk_3 (dk_at dksL_law_59 8 rfl rfl)
theorem dL_law_1603 : decode cL_law 1603 = .ok (.ireturn, 1) := dk_172 (dk_at dksL_law_59 9 rfl rfl)
theorem dL_law_1604 : decode cL_law 1604 = .ok (.iload 5, 2) := dk_21 5 (dk_at dksL_law_59 10 rfl rfl)
theorem dL_law_1606 : decode cL_law 1606 = .ok (.ifCond .ne 15, 3) := dk_154 0 15 (dk_at dksL_law_59 12 rfl rfl)
theorem dL_law_1609 : decode cL_law 1609 = .ok (.aload_n 3, 1) := dk_45 (dk_at dksL_law_59 15 rfl rfl)
theorem dL_law_1610 : decode cL_law 1610 = .ok (.iconst 0, 1) := dk_3 (dk_at dksL_law_59 16 rfl rfl)
theorem dL_law_1611 : decode cL_law 1611 = .ok (.laload, 1) := dk_47 (dk_at dksL_law_59 17 rfl rfl)
theorem dL_law_1612 : decode cL_law 1612 = .ok (.iload 6, 2) := dk_21 6 (dk_at dksL_law_59 18 rfl rfl)
theorem dL_law_1614 : decode cL_law 1614 = .ok (.i2l, 1) := dk_133 (dk_at dksL_law_59 20 rfl rfl)
theorem dL_law_1615 : decode cL_law 1615 = .ok (.lcmp, 1) := dk_148 (dk_at dksL_law_59 21 rfl rfl)
theorem dL_law_1616 : decode cL_law 1616 = .ok (.ifCond .eq 5, 3) := dk_153 0 5 (dk_at dksL_law_60 0 rfl rfl)
theorem dL_law_1619 : decode cL_law 1619 = .ok (.iconst 0, 1) := dk_3 (dk_at dksL_law_60 3 rfl rfl)
theorem dL_law_1620 : decode cL_law 1620 = .ok (.ireturn, 1) := dk_172 (dk_at dksL_law_60 4 rfl rfl)
theorem dL_law_1621 : decode cL_law 1621 = .ok (.goto 878, 3) := dk_167 3 110 (dk_at dksL_law_60 5 rfl rfl)
theorem dL_law_1624 : decode cL_law 1624 = .ok (.aload_n 1, 1) := dk_43 (dk_at dksL_law_60 8 rfl rfl)
theorem dL_law_1625 : decode cL_law 1625 = .ok (.invokevirtual 230, 3) := dk_182 0 230 (dk_at dksL_law_60 9 rfl rfl)
theorem dL_law_1628 : decode cL_law 1628 = .ok (.f2d, 1) := dk_141 (dk_at dksL_law_60 12 rfl rfl)
theorem dL_law_1629 : decode cL_law 1629 = .ok (.dstore 5, 2) := dk_57 5 (dk_at dksL_law_60 13 rfl rfl)
theorem dL_law_1631 : decode cL_law 1631 = .ok (.aload_n 2, 1) := dk_44 (dk_at dksL_law_60 15 rfl rfl)
theorem dL_law_1632 : decode cL_law 1632 = .ok (.invokevirtual 234, 3) := dk_182 0 234 (dk_at dksL_law_60 16 rfl rfl)
theorem dL_law_1635 : decode cL_law 1635 = .ok (.f2d, 1) := dk_141 (dk_at dksL_law_60 19 rfl rfl)
theorem dL_law_1636 : decode cL_law 1636 = .ok (.dstore 7, 2) := dk_57 7 (dk_at dksL_law_60 20 rfl rfl)
theorem dL_law_1638 : decode cL_law 1638 = .ok (.dload 5, 2) := dk_24 5 (dk_at dksL_law_60 22 rfl rfl)
theorem dL_law_1640 : decode cL_law 1640 = .ok (.dload 7, 2) := dk_24 7 (dk_at dksL_law_61 0 rfl rfl)
theorem dL_law_1642 : decode cL_law 1642 = .ok (.dcmp .l, 1) := dk_151 (dk_at dksL_law_61 2 rfl rfl)
theorem dL_law_1643 : decode cL_law 1643 = .ok (.ifCond .eq 21, 3) := dk_153 0 21 (dk_at dksL_law_61 3 rfl rfl)
theorem dL_law_1646 : decode cL_law 1646 = .ok (.dload 5, 2) := dk_24 5 (dk_at dksL_law_61 6 rfl rfl)
theorem dL_law_1648 : decode cL_law 1648 = .ok (.dload 5, 2) := dk_24 5 (dk_at dksL_law_61 8 rfl rfl)
theorem dL_law_1650 : decode cL_law 1650 = .ok (.dcmp .l, 1) := dk_151 (dk_at dksL_law_61 10 rfl rfl)
theorem dL_law_1651 : decode cL_law 1651 = .ok (.ifCond .eq 11, 3) := dk_153 0 11 (dk_at dksL_law_61 11 rfl rfl)
theorem dL_law_1654 : decode cL_law 1654 = .ok (.dload 7, 2) := dk_24 7 (dk_at dksL_law_61 14 rfl rfl)
theorem dL_law_1656 : decode cL_law 1656 = .ok (.dload 7, 2) := dk_24 7 (dk_at dksL_law_61 16 rfl rfl)
theorem dL_law_1658 : decode cL_law 1658 = .ok (.dcmp .l, 1) := dk_151 (dk_at dksL_law_61 18 rfl rfl)
theorem dL_law_1659 : decode cL_law 1659 = .ok (.ifCond .ne 5, 3) := dk_154 0 5 (dk_at dksL_law_61 19 rfl rfl)
theorem dL_law_1662 : decode cL_law 1662 = .ok (.iconst 0, 1) := dk_3 (dk_at dksL_law_61 22 rfl rfl)
theorem dL_law_1663 : decode cL_law 1663 = .ok (.ireturn, 1) := dk_172 (dk_at dksL_law_61 23 rfl rfl)
theorem dL_law_1664 : decode cL_law 1664 = .ok (.goto 835, 3) := dk_167 3 67 (dk_at dksL_law_62 0 rfl rfl)
theorem dL_law_1667 : decode cL_law 1667 = .ok (.aload_n 1, 1) := dk_43 (dk_at dksL_law_62 3 rfl rfl)
theorem dL_law_1668 : decode cL_law 1668 = .ok (.invokevirtual 235, 3) := dk_182 0 235 (dk_at dksL_law_62 4 rfl rfl)
theorem dL_law_1671 : decode cL_law 1671 = .ok (.f2d, 1) := dk_141 (dk_at dksL_law_62 7 rfl rfl)
theorem dL_law_1672 : decode cL_law 1672 = .ok (.dstore 5, 2) := dk_57 5 (dk_at dksL_law_62 8 rfl rfl)
theorem dL_law_1674 : decode cL_law 1674 = .ok (.aload_n 2, 1) := dk_44 (dk_at dksL_law_62 10 rfl rfl)
theorem dL_law_1675 : decode cL_law 1675 = .ok (.invokevirtual 238, 3) := dk_182 0 238 (dk_at dksL_law_62 11 rfl rfl)
theorem dL_law_1678 : decode cL_law 1678 = .ok (.f2d, 1) := dk_141 (dk_at dksL_law_62 14 rfl rfl)
theorem dL_law_1679 : decode cL_law 1679 = .ok (.dstore 7, 2) := dk_57 7 (dk_at dksL_law_62 15 rfl rfl)
theorem dL_law_1681 : decode cL_law 1681 = .ok (.dload 5, 2) := dk_24 5 (dk_at dksL_law_62 17 rfl rfl)
theorem dL_law_1683 : decode cL_law 1683 = .ok (.dload 7, 2) := dk_24 7 (dk_at dksL_law_62 19 rfl rfl)
theorem dL_law_1685 : decode cL_law 1685 = .ok (.dcmp .l, 1) := dk_151 (dk_at dksL_law_62 21 rfl rfl)
theorem dL_law_1686 : decode cL_law 1686 = .ok (.ifCond .eq 21, 3) := dk_153 0 21 (dk_at dksL_law_63 0 rfl rfl)
theorem dL_law_1689 : decode cL_law 1689 = .ok (.dload 5, 2) := dk_24 5 (dk_at dksL_law_63 3 rfl rfl)
theorem dL_law_1691 : decode cL_law 1691 = .ok (.dload 5, 2) := dk_24 5 (dk_at dksL_law_63 5 rfl rfl)
theorem dL_law_1693 : decode cL_law 1693 = .ok (.dcmp .l, 1) := dk_151 (dk_at dksL_law_63 7 rfl rfl)
theorem dL_law_1694 : decode cL_law 1694 = .ok (.ifCond .eq 11, 3) := dk_153 0 11 (dk_at dksL_law_63 8 rfl rfl)
theorem dL_law_1697 : decode cL_law 1697 = .ok (.dload 7, 2) := dk_24 7 (dk_at dksL_law_63 11 rfl rfl)
theorem dL_law_1699 : decode cL_law 1699 = .ok (.dload 7, 2) := dk_24 7 (dk_at dksL_law_63 13 rfl rfl)
theorem dL_law_1701 : decode cL_law 1701 = .ok (.dcmp .l, 1) := dk_151 (dk_at dksL_law_63 15 rfl rfl)
theorem dL_law_1702 : decode cL_law 1702 = .ok (.ifCond .ne 5, 3) := dk_154 0 5 (dk_at dksL_law_63 16 rfl rfl)
theorem dL_law_1705 : decode cL_law 1705 = .ok (.iconst 0, 1) := dk_3 (dk_at dksL_law_63 19 rfl rfl)
theorem dL_law_1706 : decode cL_law 1706 = .ok (.ireturn, 1) := dk_172 (dk_at dksL_law_63 20 rfl rfl)
theorem dL_law_1707 : decode cL_law 1707 = .ok (.goto 792, 3) := dk_167 3 24 (dk_at dksL_law_63 21 rfl rfl)
theorem dL_law_1710 : decode cL_law 1710 = .ok (.aload_n 1, 1) := dk_43 (dk_at dksL_law_64 0 rfl rfl)
theorem dL_law_1711 : decode cL_law 1711 = .ok (.invokevirtual 239, 3) := dk_182 0 239 (dk_at dksL_law_64 1 rfl rfl)
theorem dL_law_1714 : decode cL_law 1714 = .ok (.aload_n 2, 1) := dk_44 (dk_at dksL_law_64 4 rfl rfl)
theorem dL_law_1715 : decode cL_law 1715 = .ok (.invokevirtual 242, 3) := dk_182 0 242 (dk_at dksL_law_64 5 rfl rfl)
theorem dL_law_1718 : decode cL_law 1718 = .ok (.if_icmp .eq 781, 3) := dk_159 3 13 (dk_at dksL_law_64 8 rfl rfl)
theorem dL_law_1721 : decode cL_law 1721 = .ok (.iconst 0, 1) := dk_3 (dk_at dksL_law_64 11 rfl rfl)
theorem dL_law_1722 : decode cL_law 1722 = .ok (.ireturn, 1) := dk_172 (dk_at dksL_law_64 12 rfl rfl)
theorem dL_law_1723 : decode cL_law 1723 = .ok (.aload_n 1, 1) := dk_43 (dk_at dksL_law_64 13 rfl rfl)
theorem dL_law_1724 : decode cL_law 1724 = .ok (.invokevirtual 243, 3) := dk_182 0 243 (dk_at dksL_law_64 14 rfl rfl)
theorem dL_law_1727 : decode cL_law 1727 = .ok (.aload_n 2, 1) := dk_44 (dk_at dksL_law_64 17 rfl rfl)
theorem dL_law_1728 : decode cL_law 1728 = .ok (.invokevirtual 246, 3) := dk_182 0 246 (dk_at dksL_law_64 18 rfl rfl)
theorem dL_law_1731 : decode cL_law 1731 = .ok (.if_icmp .eq 768, 3) := dk_159 3 0 (dk_at dksL_law_64 21 rfl rfl)
theorem dL_law_1734 : decode cL_law 1734 = .ok (.iconst 0, 1) := dk_3 (dk_at dksL_law_65 0 rfl rfl)
theorem dL_law_1735 : decode cL_law 1735 = .ok (.ireturn, 1) := dk_172 (dk_at dksL_law_65 1 rfl rfl)
theorem dL_law_1736 : decode cL_law 1736 = .ok (.aload_n 1, 1) := dk_43 (dk_at dksL_law_65 2 rfl rfl)
theorem dL_law_1737 : decode cL_law 1737 = .ok (.invokevirtual 247, 3) := dk_182 0 247 (dk_at dksL_law_65 3 rfl rfl)
theorem dL_law_1740 : decode cL_law 1740 = .ok (.aload_n 2, 1) := dk_44 (dk_at dksL_law_65 6 rfl rfl)
theorem dL_law_1741 : decode cL_law 1741 = .ok (.invokevirtual 250, 3) := dk_182 0 250 (dk_at dksL_law_65 7 rfl rfl)
theorem dL_law_1744 : decode cL_law 1744 = .ok (.if_icmp .eq 755, 3) := dk_159 2 243 (dk_at dksL_law_65 10 rfl rfl)
theorem dL_law_1747 : decode cL_law 1747 = .ok (.iconst 0, 1) := dk_3 (dk_at dksL_law_65 13 rfl rfl)
theorem dL_law_1748 : decode cL_law 1748 = .ok (.ireturn, 1) := dk_172 (dk_at dksL_law_65 14 rfl rfl)
theorem dL_law_1749 : decode cL_law 1749 = .ok (.aload_n 1, 1) := dk_43 (dk_at dksL_law_65 15 rfl rfl)
theorem dL_law_1750 : decode cL_law 1750 = .ok (.aload_n 0, 1) := dk_42 (dk_at dksL_law_65 16 rfl rfl)
theorem dL_law_1751 : decode cL_law 1751 = .ok (.iload 4, 2) := dk_21 4 (dk_at dksL_law_65 17 rfl rfl)
theorem dL_law_1753 : decode cL_law 1753 = .ok (.iconst 1, 1) := dk_4 (dk_at dksL_law_65 19 rfl rfl)
theorem dL_law_1754 : decode cL_law 1754 = .ok (.iadd, 1) := dk_96 (dk_at dksL_law_65 20 rfl rfl)
theorem dL_law_1755 : decode cL_law 1755 = .ok (.iaload, 1) := dk_46 (dk_at dksL_law_65 21 rfl rfl)
theorem dL_law_1756 : decode cL_law 1756 = .ok (.invokevirtual 251, 3) := dk_182 0 251 (dk_at dksL_law_66 0 rfl rfl)
theorem dL_law_1759 : decode cL_law 1759 = .ok (.aload_n 2, 1) := dk_44 (dk_at dksL_law_66 3 rfl rfl)
theorem dL_law_1760 : decode cL_law 1760 = .ok (.aload_n 0, 1) := dk_42 (dk_at dksL_law_66 4 rfl rfl)
theorem dL_law_1761 : decode cL_law 1761 = .ok (.iload 4, 2) := dk_21 4 (dk_at dksL_law_66 5 rfl rfl)
theorem dL_law_1763 : decode cL_law 1763 = .ok (.iconst 1, 1) := dk_4 (dk_at dksL_law_66 7 rfl rfl)
theorem dL_law_1764 : decode cL_law 1764 = .ok (.iadd, 1) := dk_96 (dk_at dksL_law_66 8 rfl rfl)
theorem dL_law_1765 : decode cL_law 1765 = .ok (.iaload, 1) := dk_46 (dk_at dksL_law_66 9 rfl rfl)
theorem dL_law_1766 : decode cL_law 1766 = .ok (.invokevirtual 254, 3) := dk_182 0 254 (dk_at dksL_law_66 10 rfl rfl)
theorem dL_law_1769 : decode cL_law 1769 = .ok (.if_icmp .eq 730, 3) := dk_159 2 218 (dk_at dksL_law_66 13 rfl rfl)
theorem dL_law_1772 : decode cL_law 1772 = .ok (.iconst 0, 1) := dk_3 (dk_at dksL_law_66 16 rfl rfl)
theorem dL_law_1773 : decode cL_law 1773 = .ok (.ireturn, 1) := dk_172 (dk_at dksL_law_66 17 rfl rfl)
theorem dL_law_1774 : decode cL_law 1774 = .ok (.aload_n 1, 1) := dk_43 (dk_at dksL_law_66 18 rfl rfl)
theorem dL_law_1775 : decode cL_law 1775 = .ok (.aload_n 0, 1) := dk_42 (dk_at dksL_law_66 19 rfl rfl)
theorem dL_law_1776 : decode cL_law 1776 = .ok (.iload 4, 2) := dk_21 4 (dk_at dksL_law_66 20 rfl rfl)
theorem dL_law_1778 : decode cL_law 1778 = .ok (.iconst 1, 1) := dk_4 (dk_at dksL_law_66 22 rfl rfl)
theorem dL_law_1779 : decode cL_law 1779 = .ok (.iadd, 1) := dk_96 (dk_at dksL_law_66 23 rfl rfl)
theorem dL_law_1780 : decode cL_law 1780 = .ok (.iaload, 1) := dk_46 (dk_at dksL_law_67 0 rfl rfl)
theorem dL_law_1781 : decode cL_law 1781 = .ok (.invokevirtual 255, 3) := dk_182 0 255 (dk_at dksL_law_67 1 rfl rfl)
theorem dL_law_1784 : decode cL_law 1784 = .ok (.aload_n 2, 1) := dk_44 (dk_at dksL_law_67 4 rfl rfl)
theorem dL_law_1785 : decode cL_law 1785 = .ok (.aload_n 0, 1) := dk_42 (dk_at dksL_law_67 5 rfl rfl)
theorem dL_law_1786 : decode cL_law 1786 = .ok (.iload 4, 2) := dk_21 4 (dk_at dksL_law_67 6 rfl rfl)
theorem dL_law_1788 : decode cL_law 1788 = .ok (.iconst 1, 1) := dk_4 (dk_at dksL_law_67 8 rfl rfl)
theorem dL_law_1789 : decode cL_law 1789 = .ok (.iadd, 1) := dk_96 (dk_at dksL_law_67 9 rfl rfl)
theorem dL_law_1790 : decode cL_law 1790 = .ok (.iaload, 1) := dk_46 (dk_at dksL_law_67 10 rfl rfl)
theorem dL_law_1791 : decode cL_law 1791 = .ok (.invokevirtual 258, 3) := dk_182 1 2 (dk_at dksL_law_67 11 rfl rfl)
theorem dL_law_1794 : decode cL_law 1794 = .ok (.if_icmp .eq 705, 3) := dk_159 2 193 (dk_at dksL_law_67 14 rfl rfl)
theorem dL_law_1797 : decode cL_law 1797 = .ok (.iconst 0, 1) := dk_3 (dk_at dksL_law_67 17 rfl rfl)
theorem dL_law_1798 : decode cL_law 1798 = .ok (.ireturn, 1) := dk_172 (dk_at dksL_law_67 18 rfl rfl)
theorem dL_law_1799 : decode cL_law 1799 = .ok (.aload_n 1, 1) := dk_43 (dk_at dksL_law_67 19 rfl rfl)
theorem dL_law_1800 : decode cL_law 1800 = .ok (.invokevirtual 259, 3) := dk_182 1 3 (dk_at dksL_law_67 20 rfl rfl)
theorem dL_law_1803 : decode cL_law 1803 = .ok (.aload_n 2, 1) := dk_44 (dk_at dksL_law_67 23 rfl rfl)
theorem dL_law_1804 : decode cL_law 1804 = .ok (.invokevirtual 262, 3) := dk_182 1 6 (dk_at dksL_law_68 0 rfl rfl)
theorem dL_law_1807 : decode cL_law 1807 = .ok (.if_icmp .eq 692, 3) := dk_159 2 180 (dk_at dksL_law_68 3 rfl rfl)
theorem dL_law_1810 : decode cL_law 1810 = .ok (.iconst 0, 1) := dk_3 (dk_at dksL_law_68 6 rfl rfl)
theorem dL_law_1811 : decode cL_law 1811 = .ok (.ireturn, 1) := dk_172 (dk_at dksL_law_68 7 rfl rfl)
theorem dL_law_1812 : decode cL_law 1812 = .ok (.aload_n 1, 1) := dk_43 (dk_at dksL_law_68 8 rfl rfl)
theorem dL_law_1813 : decode cL_law 1813 = .ok (.aload_n 0, 1) := dk_42 (dk_at dksL_law_68 9 rfl rfl)
theorem dL_law_1814 : decode cL_law 1814 = .ok (.iload 4, 2) := dk_21 4 (dk_at dksL_law_68 10 rfl rfl)
theorem dL_law_1816 : decode cL_law 1816 = .ok (.iconst 1, 1) := dk_4 (dk_at dksL_law_68 12 rfl rfl)
theorem dL_law_1817 : decode cL_law 1817 = .ok (.iadd, 1) := dk_96 (dk_at dksL_law_68 13 rfl rfl)
theorem dL_law_1818 : decode cL_law 1818 = .ok (.iaload, 1) := dk_46 (dk_at dksL_law_68 14 rfl rfl)
theorem dL_law_1819 : decode cL_law 1819 = .ok (.aload_n 3, 1) := dk_45 (dk_at dksL_law_68 15 rfl rfl)
theorem dL_law_1820 : decode cL_law 1820 = .ok (.invokestatic 263, 3) := dk_184 1 7 (dk_at dksL_law_68 16 rfl rfl)
theorem dL_law_1823 : decode cL_law 1823 = .ok (.istore 5, 2) := dk_54 5 (dk_at dksL_law_68 19 rfl rfl)
theorem dL_law_1825 : decode cL_law 1825 = .ok (.aload_n 2, 1) := dk_44 (dk_at dksL_law_68 21 rfl rfl)
theorem dL_law_1826 : decode cL_law 1826 = .ok (.aload_n 0, 1) := dk_42 (dk_at dksL_law_68 22 rfl rfl)
theorem dL_law_1827 : decode cL_law 1827 = .ok (.iload 4, 2) := dk_21 4 (dk_at dksL_law_69 0 rfl rfl)
theorem dL_law_1829 : decode cL_law 1829 = .ok (.iconst 1, 1) := dk_4 (dk_at dksL_law_69 2 rfl rfl)
theorem dL_law_1830 : decode cL_law 1830 = .ok (.iadd, 1) := dk_96 (dk_at dksL_law_69 3 rfl rfl)
theorem dL_law_1831 : decode cL_law 1831 = .ok (.iaload, 1) := dk_46 (dk_at dksL_law_69 4 rfl rfl)
theorem dL_law_1832 : decode cL_law 1832 = .ok (.invokevirtual 265, 3) := dk_182 1 9 (dk_at dksL_law_69 5 rfl rfl)
theorem dL_law_1835 : decode cL_law 1835 = .ok (.istore 6, 2) := dk_54 6 (dk_at dksL_law_69 8 rfl rfl)
theorem dL_law_1837 : decode cL_law 1837 = .ok (.aload_n 2, 1) := dk_44 (dk_at dksL_law_69 10 rfl rfl)
theorem dL_law_1838 : decode cL_law 1838 = .ok (.invokevirtual 158, 3) := dk_182 0 158 (dk_at dksL_law_69 11 rfl rfl)
theorem dL_law_1841 : decode cL_law 1841 = .ok (.iload 5, 2) := dk_21 5 (dk_at dksL_law_69 14 rfl rfl)
theorem dL_law_1843 : decode cL_law 1843 = .ok (.if_icmp .eq 5, 3) := dk_159 0 5 (dk_at dksL_law_69 16 rfl rfl)
theorem dL_law_1846 : decode cL_law 1846 = .ok (.iconst 0, 1) := dk_3 (dk_at dksL_law_69 19 rfl rfl)
theorem dL_law_1847 : decode cL_law 1847 = .ok (.ireturn, 1) := dk_172 (dk_at dksL_law_69 20 rfl rfl)
theorem dL_law_1848 : decode cL_law 1848 = .ok (.iload 5, 2) := dk_21 5 (dk_at dksL_law_69 21 rfl rfl)
theorem dL_law_1850 : decode cL_law 1850 = .ok (.ifCond .ne 22, 3) := dk_154 0 22 (dk_at dksL_law_70 0 rfl rfl)
theorem dL_law_1853 : decode cL_law 1853 = .ok (.aload_n 3, 1) := dk_45 (dk_at dksL_law_70 3 rfl rfl)
theorem dL_law_1854 : decode cL_law 1854 = .ok (.iconst 0, 1) := dk_3 (dk_at dksL_law_70 4 rfl rfl)
theorem dL_law_1855 : decode cL_law 1855 = .ok (.laload, 1) := dk_47 (dk_at dksL_law_70 5 rfl rfl)
theorem dL_law_1856 : decode cL_law 1856 = .ok (.iload 6, 2) := dk_21 6 (dk_at dksL_law_70 6 rfl rfl)
theorem dL_law_1858 : decode cL_law 1858 = .ok (.ifCond .eq 7, 3) := dk_153 0 7 (dk_at dksL_law_70 8 rfl rfl)
theorem dL_law_1861 : decode cL_law 1861 = .ok (.lconst 1, 1) := dk_10 (dk_at dksL_law_70 11 rfl rfl)
theorem dL_law_1862 : decode cL_law 1862 = .ok (.goto 4, 3) := dk_167 0 4 (dk_at dksL_law_70 12 rfl rfl)
theorem dL_law_1865 : decode cL_law 1865 = .ok (.lconst 0, 1) := dk_9 (dk_at dksL_law_70 15 rfl rfl)
theorem dL_law_1866 : decode cL_law 1866 = .ok (.lcmp, 1) := dk_148 (dk_at dksL_law_70 16 rfl rfl)
theorem dL_law_1867 : decode cL_law 1867 = .ok (.ifCond .eq 5, 3) := dk_153 0 5 (dk_at dksL_law_70 17 rfl rfl)
theorem dL_law_1870 : decode cL_law 1870 = .ok (.iconst 0, 1) := dk_3 (dk_at dksL_law_70 20 rfl rfl)
theorem dL_law_1871 : decode cL_law 1871 = .ok (.ireturn, 1) := dk_172 (dk_at dksL_law_70 21 rfl rfl)
theorem dL_law_1872 : decode cL_law 1872 = .ok (.goto 627, 3) := dk_167 2 115 (dk_at dksL_law_71 0 rfl rfl)
theorem dL_law_1875 : decode cL_law 1875 = .ok (.aload_n 1, 1) := dk_43 (dk_at dksL_law_71 3 rfl rfl)
theorem dL_law_1876 : decode cL_law 1876 = .ok (.aload_n 0, 1) := dk_42 (dk_at dksL_law_71 4 rfl rfl)
theorem dL_law_1877 : decode cL_law 1877 = .ok (.iload 4, 2) := dk_21 4 (dk_at dksL_law_71 5 rfl rfl)
theorem dL_law_1879 : decode cL_law 1879 = .ok (.iconst 1, 1) := dk_4 (dk_at dksL_law_71 7 rfl rfl)
theorem dL_law_1880 : decode cL_law 1880 = .ok (.iadd, 1) := dk_96 (dk_at dksL_law_71 8 rfl rfl)
theorem dL_law_1881 : decode cL_law 1881 = .ok (.iaload, 1) := dk_46 (dk_at dksL_law_71 9 rfl rfl)
theorem dL_law_1882 : decode cL_law 1882 = .ok (.aload_n 3, 1) := dk_45 (dk_at dksL_law_71 10 rfl rfl)
theorem dL_law_1883 : decode cL_law 1883 = .ok (.invokestatic 266, 3) := dk_184 1 10 (dk_at dksL_law_71 11 rfl rfl)
theorem dL_law_1886 : decode cL_law 1886 = .ok (.istore 5, 2) := dk_54 5 (dk_at dksL_law_71 14 rfl rfl)
theorem dL_law_1888 : decode cL_law 1888 = .ok (.aload_n 2, 1) := dk_44 (dk_at dksL_law_71 16 rfl rfl)
theorem dL_law_1889 : decode cL_law 1889 = .ok (.aload_n 0, 1) := dk_42 (dk_at dksL_law_71 17 rfl rfl)
theorem dL_law_1890 : decode cL_law 1890 = .ok (.iload 4, 2) := dk_21 4 (dk_at dksL_law_71 18 rfl rfl)
theorem dL_law_1892 : decode cL_law 1892 = .ok (.iconst 1, 1) := dk_4 (dk_at dksL_law_71 20 rfl rfl)
theorem dL_law_1893 : decode cL_law 1893 = .ok (.iadd, 1) := dk_96 (dk_at dksL_law_71 21 rfl rfl)
theorem dL_law_1894 : decode cL_law 1894 = .ok (.iaload, 1) := dk_46 (dk_at dksL_law_71 22 rfl rfl)
theorem dL_law_1895 : decode cL_law 1895 = .ok (.invokevirtual 268, 3) := dk_182 1 12 (dk_at dksL_law_72 0 rfl rfl)
theorem dL_law_1898 : decode cL_law 1898 = .ok (.istore 6, 2) := dk_54 6 (dk_at dksL_law_72 3 rfl rfl)
theorem dL_law_1900 : decode cL_law 1900 = .ok (.aload_n 2, 1) := dk_44 (dk_at dksL_law_72 5 rfl rfl)
theorem dL_law_1901 : decode cL_law 1901 = .ok (.invokevirtual 158, 3) := dk_182 0 158 (dk_at dksL_law_72 6 rfl rfl)
theorem dL_law_1904 : decode cL_law 1904 = .ok (.iload 5, 2) := dk_21 5 (dk_at dksL_law_72 9 rfl rfl)
theorem dL_law_1906 : decode cL_law 1906 = .ok (.if_icmp .eq 5, 3) := dk_159 0 5 (dk_at dksL_law_72 11 rfl rfl)
theorem dL_law_1909 : decode cL_law 1909 = .ok (.iconst 0, 1) := dk_3 (dk_at dksL_law_72 14 rfl rfl)
theorem dL_law_1910 : decode cL_law 1910 = .ok (.ireturn, 1) := dk_172 (dk_at dksL_law_72 15 rfl rfl)
theorem dL_law_1911 : decode cL_law 1911 = .ok (.iload 5, 2) := dk_21 5 (dk_at dksL_law_72 16 rfl rfl)
theorem dL_law_1913 : decode cL_law 1913 = .ok (.ifCond .ne 22, 3) := dk_154 0 22 (dk_at dksL_law_72 18 rfl rfl)
theorem dL_law_1916 : decode cL_law 1916 = .ok (.aload_n 3, 1) := dk_45 (dk_at dksL_law_72 21 rfl rfl)
theorem dL_law_1917 : decode cL_law 1917 = .ok (.iconst 0, 1) := dk_3 (dk_at dksL_law_72 22 rfl rfl)
theorem dL_law_1918 : decode cL_law 1918 = .ok (.laload, 1) := dk_47 (dk_at dksL_law_72 23 rfl rfl)
theorem dL_law_1919 : decode cL_law 1919 = .ok (.iload 6, 2) := dk_21 6 (dk_at dksL_law_73 0 rfl rfl)
theorem dL_law_1921 : decode cL_law 1921 = .ok (.ifCond .eq 7, 3) := dk_153 0 7 (dk_at dksL_law_73 2 rfl rfl)
theorem dL_law_1924 : decode cL_law 1924 = .ok (.lconst 1, 1) := dk_10 (dk_at dksL_law_73 5 rfl rfl)
theorem dL_law_1925 : decode cL_law 1925 = .ok (.goto 4, 3) := dk_167 0 4 (dk_at dksL_law_73 6 rfl rfl)
theorem dL_law_1928 : decode cL_law 1928 = .ok (.lconst 0, 1) := dk_9 (dk_at dksL_law_73 9 rfl rfl)
theorem dL_law_1929 : decode cL_law 1929 = .ok (.lcmp, 1) := dk_148 (dk_at dksL_law_73 10 rfl rfl)
theorem dL_law_1930 : decode cL_law 1930 = .ok (.ifCond .eq 5, 3) := dk_153 0 5 (dk_at dksL_law_73 11 rfl rfl)
theorem dL_law_1933 : decode cL_law 1933 = .ok (.iconst 0, 1) := dk_3 (dk_at dksL_law_73 14 rfl rfl)
theorem dL_law_1934 : decode cL_law 1934 = .ok (.ireturn, 1) := dk_172 (dk_at dksL_law_73 15 rfl rfl)
theorem dL_law_1935 : decode cL_law 1935 = .ok (.goto 564, 3) := dk_167 2 52 (dk_at dksL_law_73 16 rfl rfl)
theorem dL_law_1938 : decode cL_law 1938 = .ok (.aload_n 1, 1) := dk_43 (dk_at dksL_law_73 19 rfl rfl)
theorem dL_law_1939 : decode cL_law 1939 = .ok (.aload_n 0, 1) := dk_42 (dk_at dksL_law_73 20 rfl rfl)
theorem dL_law_1940 : decode cL_law 1940 = .ok (.iload 4, 2) := dk_21 4 (dk_at dksL_law_73 21 rfl rfl)
theorem dL_law_1942 : decode cL_law 1942 = .ok (.iconst 1, 1) := dk_4 (dk_at dksL_law_73 23 rfl rfl)
theorem dL_law_1943 : decode cL_law 1943 = .ok (.iadd, 1) := dk_96 (dk_at dksL_law_74 0 rfl rfl)
theorem dL_law_1944 : decode cL_law 1944 = .ok (.iaload, 1) := dk_46 (dk_at dksL_law_74 1 rfl rfl)
theorem dL_law_1945 : decode cL_law 1945 = .ok (.aload_n 3, 1) := dk_45 (dk_at dksL_law_74 2 rfl rfl)
theorem dL_law_1946 : decode cL_law 1946 = .ok (.invokestatic 269, 3) := dk_184 1 13 (dk_at dksL_law_74 3 rfl rfl)
theorem dL_law_1949 : decode cL_law 1949 = .ok (.istore 5, 2) := dk_54 5 (dk_at dksL_law_74 6 rfl rfl)
theorem dL_law_1951 : decode cL_law 1951 = .ok (.aload_n 2, 1) := dk_44 (dk_at dksL_law_74 8 rfl rfl)
theorem dL_law_1952 : decode cL_law 1952 = .ok (.aload_n 0, 1) := dk_42 (dk_at dksL_law_74 9 rfl rfl)
theorem dL_law_1953 : decode cL_law 1953 = .ok (.iload 4, 2) := dk_21 4 (dk_at dksL_law_74 10 rfl rfl)
theorem dL_law_1955 : decode cL_law 1955 = .ok (.iconst 1, 1) := dk_4 (dk_at dksL_law_74 12 rfl rfl)
theorem dL_law_1956 : decode cL_law 1956 = .ok (.iadd, 1) := dk_96 (dk_at dksL_law_74 13 rfl rfl)
theorem dL_law_1957 : decode cL_law 1957 = .ok (.iaload, 1) := dk_46 (dk_at dksL_law_74 14 rfl rfl)
theorem dL_law_1958 : decode cL_law 1958 = .ok (.invokevirtual 271, 3) := dk_182 1 15 (dk_at dksL_law_74 15 rfl rfl)
theorem dL_law_1961 : decode cL_law 1961 = .ok (.istore 6, 2) := dk_54 6 (dk_at dksL_law_74 18 rfl rfl)
theorem dL_law_1963 : decode cL_law 1963 = .ok (.aload_n 2, 1) := dk_44 (dk_at dksL_law_74 20 rfl rfl)
theorem dL_law_1964 : decode cL_law 1964 = .ok (.invokevirtual 158, 3) := dk_182 0 158 (dk_at dksL_law_74 21 rfl rfl)
theorem dL_law_1967 : decode cL_law 1967 = .ok (.iload 5, 2) := dk_21 5 (dk_at dksL_law_75 0 rfl rfl)
theorem dL_law_1969 : decode cL_law 1969 = .ok (.if_icmp .eq 5, 3) := dk_159 0 5 (dk_at dksL_law_75 2 rfl rfl)
theorem dL_law_1972 : decode cL_law 1972 = .ok (.iconst 0, 1) := dk_3 (dk_at dksL_law_75 5 rfl rfl)
theorem dL_law_1973 : decode cL_law 1973 = .ok (.ireturn, 1) := dk_172 (dk_at dksL_law_75 6 rfl rfl)
theorem dL_law_1974 : decode cL_law 1974 = .ok (.iload 5, 2) := dk_21 5 (dk_at dksL_law_75 7 rfl rfl)
theorem dL_law_1976 : decode cL_law 1976 = .ok (.ifCond .ne 15, 3) := dk_154 0 15 (dk_at dksL_law_75 9 rfl rfl)
theorem dL_law_1979 : decode cL_law 1979 = .ok (.aload_n 3, 1) := dk_45 (dk_at dksL_law_75 12 rfl rfl)
theorem dL_law_1980 : decode cL_law 1980 = .ok (.iconst 0, 1) := dk_3 (dk_at dksL_law_75 13 rfl rfl)
theorem dL_law_1981 : decode cL_law 1981 = .ok (.laload, 1) := dk_47 (dk_at dksL_law_75 14 rfl rfl)
theorem dL_law_1982 : decode cL_law 1982 = .ok (.iload 6, 2) := dk_21 6 (dk_at dksL_law_75 15 rfl rfl)
theorem dL_law_1984 : decode cL_law 1984 = .ok (.i2l, 1) := dk_133 (dk_at dksL_law_75 17 rfl rfl)
theorem dL_law_1985 : decode cL_law 1985 = .ok (.lcmp, 1) := dk_148 (dk_at dksL_law_75 18 rfl rfl)
theorem dL_law_1986 : decode cL_law 1986 = .ok (.ifCond .eq 5, 3) := dk_153 0 5 (dk_at dksL_law_75 19 rfl rfl)
theorem dL_law_1989 : decode cL_law 1989 = .ok (.iconst 0, 1) := dk_3 (dk_at dksL_law_75 22 rfl rfl)
theorem dL_law_1990 : decode cL_law 1990 = .ok (.ireturn, 1) := dk_172 (dk_at dksL_law_75 23 rfl rfl)
theorem dL_law_1991 : decode cL_law 1991 = .ok (.goto 508, 3) := dk_167 1 252 (dk_at dksL_law_76 0 rfl rfl)
theorem dL_law_1994 : decode cL_law 1994 = .ok (.aload_n 1, 1) := dk_43 (dk_at dksL_law_76 3 rfl rfl)
theorem dL_law_1995 : decode cL_law 1995 = .ok (.aload_n 0, 1) := dk_42 (dk_at dksL_law_76 4 rfl rfl)
theorem dL_law_1996 : decode cL_law 1996 = .ok (.iload 4, 2) := dk_21 4 (dk_at dksL_law_76 5 rfl rfl)
theorem dL_law_1998 : decode cL_law 1998 = .ok (.iconst 1, 1) := dk_4 (dk_at dksL_law_76 7 rfl rfl)
theorem dL_law_1999 : decode cL_law 1999 = .ok (.iadd, 1) := dk_96 (dk_at dksL_law_76 8 rfl rfl)
theorem dL_law_2000 : decode cL_law 2000 = .ok (.iaload, 1) := dk_46 (dk_at dksL_law_76 9 rfl rfl)
theorem dL_law_2001 : decode cL_law 2001 = .ok (.aload_n 3, 1) := dk_45 (dk_at dksL_law_76 10 rfl rfl)
theorem dL_law_2002 : decode cL_law 2002 = .ok (.invokestatic 272, 3) := dk_184 1 16 (dk_at dksL_law_76 11 rfl rfl)
theorem dL_law_2005 : decode cL_law 2005 = .ok (.istore 5, 2) := dk_54 5 (dk_at dksL_law_76 14 rfl rfl)
theorem dL_law_2007 : decode cL_law 2007 = .ok (.aload_n 2, 1) := dk_44 (dk_at dksL_law_76 16 rfl rfl)
theorem dL_law_2008 : decode cL_law 2008 = .ok (.aload_n 0, 1) := dk_42 (dk_at dksL_law_76 17 rfl rfl)
theorem dL_law_2009 : decode cL_law 2009 = .ok (.iload 4, 2) := dk_21 4 (dk_at dksL_law_76 18 rfl rfl)
theorem dL_law_2011 : decode cL_law 2011 = .ok (.iconst 1, 1) := dk_4 (dk_at dksL_law_76 20 rfl rfl)
theorem dL_law_2012 : decode cL_law 2012 = .ok (.iadd, 1) := dk_96 (dk_at dksL_law_76 21 rfl rfl)
theorem dL_law_2013 : decode cL_law 2013 = .ok (.iaload, 1) := dk_46 (dk_at dksL_law_76 22 rfl rfl)
theorem dL_law_2014 : decode cL_law 2014 = .ok (.invokevirtual 274, 3) := dk_182 1 18 (dk_at dksL_law_77 0 rfl rfl)
theorem dL_law_2017 : decode cL_law 2017 = .ok (.istore 6, 2) := dk_54 6 (dk_at dksL_law_77 3 rfl rfl)
theorem dL_law_2019 : decode cL_law 2019 = .ok (.aload_n 2, 1) := dk_44 (dk_at dksL_law_77 5 rfl rfl)
theorem dL_law_2020 : decode cL_law 2020 = .ok (.invokevirtual 158, 3) := dk_182 0 158 (dk_at dksL_law_77 6 rfl rfl)
theorem dL_law_2023 : decode cL_law 2023 = .ok (.iload 5, 2) := dk_21 5 (dk_at dksL_law_77 9 rfl rfl)
theorem dL_law_2025 : decode cL_law 2025 = .ok (.if_icmp .eq 5, 3) := dk_159 0 5 (dk_at dksL_law_77 11 rfl rfl)
theorem dL_law_2028 : decode cL_law 2028 = .ok (.iconst 0, 1) := dk_3 (dk_at dksL_law_77 14 rfl rfl)
theorem dL_law_2029 : decode cL_law 2029 = .ok (.ireturn, 1) := dk_172 (dk_at dksL_law_77 15 rfl rfl)
theorem dL_law_2030 : decode cL_law 2030 = .ok (.iload 5, 2) := dk_21 5 (dk_at dksL_law_77 16 rfl rfl)
theorem dL_law_2032 : decode cL_law 2032 = .ok (.ifCond .ne 15, 3) := dk_154 0 15 (dk_at dksL_law_77 18 rfl rfl)
theorem dL_law_2035 : decode cL_law 2035 = .ok (.aload_n 3, 1) := dk_45 (dk_at dksL_law_77 21 rfl rfl)
theorem dL_law_2036 : decode cL_law 2036 = .ok (.iconst 0, 1) := dk_3 (dk_at dksL_law_77 22 rfl rfl)
theorem dL_law_2037 : decode cL_law 2037 = .ok (.laload, 1) := dk_47 (dk_at dksL_law_77 23 rfl rfl)
theorem dL_law_2038 : decode cL_law 2038 = .ok (.iload 6, 2) := dk_21 6 (dk_at dksL_law_78 0 rfl rfl)
theorem dL_law_2040 : decode cL_law 2040 = .ok (.i2l, 1) := dk_133 (dk_at dksL_law_78 2 rfl rfl)
theorem dL_law_2041 : decode cL_law 2041 = .ok (.lcmp, 1) := dk_148 (dk_at dksL_law_78 3 rfl rfl)
theorem dL_law_2042 : decode cL_law 2042 = .ok (.ifCond .eq 5, 3) := dk_153 0 5 (dk_at dksL_law_78 4 rfl rfl)
theorem dL_law_2045 : decode cL_law 2045 = .ok (.iconst 0, 1) := dk_3 (dk_at dksL_law_78 7 rfl rfl)
theorem dL_law_2046 : decode cL_law 2046 = .ok (.ireturn, 1) := dk_172 (dk_at dksL_law_78 8 rfl rfl)
theorem dL_law_2047 : decode cL_law 2047 = .ok (.goto 452, 3) := dk_167 1 196 (dk_at dksL_law_78 9 rfl rfl)
theorem dL_law_2050 : decode cL_law 2050 = .ok (.aload_n 1, 1) := dk_43 (dk_at dksL_law_78 12 rfl rfl)
theorem dL_law_2051 : decode cL_law 2051 = .ok (.invokevirtual 275, 3) := dk_182 1 19 (dk_at dksL_law_78 13 rfl rfl)
theorem dL_law_2054 : decode cL_law 2054 = .ok (.aload_n 2, 1) := dk_44 (dk_at dksL_law_78 16 rfl rfl)
theorem dL_law_2055 : decode cL_law 2055 = .ok (.invokevirtual 278, 3) := dk_182 1 22 (dk_at dksL_law_78 17 rfl rfl)
theorem dL_law_2058 : decode cL_law 2058 = .ok (.if_icmp .eq 441, 3) := dk_159 1 185 (dk_at dksL_law_78 20 rfl rfl)
theorem dL_law_2061 : decode cL_law 2061 = .ok (.iconst 0, 1) := dk_3 (dk_at dksL_law_78 23 rfl rfl)
theorem dL_law_2062 : decode cL_law 2062 = .ok (.ireturn, 1) := dk_172 (dk_at dksL_law_79 0 rfl rfl)
theorem dL_law_2063 : decode cL_law 2063 = .ok (.aload_n 1, 1) := dk_43 (dk_at dksL_law_79 1 rfl rfl)
theorem dL_law_2064 : decode cL_law 2064 = .ok (.invokevirtual 279, 3) := dk_182 1 23 (dk_at dksL_law_79 2 rfl rfl)
theorem dL_law_2067 : decode cL_law 2067 = .ok (.aload_n 2, 1) := dk_44 (dk_at dksL_law_79 5 rfl rfl)
theorem dL_law_2068 : decode cL_law 2068 = .ok (.invokevirtual 282, 3) := dk_182 1 26 (dk_at dksL_law_79 6 rfl rfl)
theorem dL_law_2071 : decode cL_law 2071 = .ok (.if_icmp .eq 428, 3) := dk_159 1 172 (dk_at dksL_law_79 9 rfl rfl)
theorem dL_law_2074 : decode cL_law 2074 = .ok (.iconst 0, 1) := dk_3 (dk_at dksL_law_79 12 rfl rfl)
theorem dL_law_2075 : decode cL_law 2075 = .ok (.ireturn, 1) := dk_172 (dk_at dksL_law_79 13 rfl rfl)
theorem dL_law_2076 : decode cL_law 2076 = .ok (.aload_n 1, 1) := dk_43 (dk_at dksL_law_79 14 rfl rfl)
theorem dL_law_2077 : decode cL_law 2077 = .ok (.invokevirtual 283, 3) := dk_182 1 27 (dk_at dksL_law_79 15 rfl rfl)
theorem dL_law_2080 : decode cL_law 2080 = .ok (.aload_n 2, 1) := dk_44 (dk_at dksL_law_79 18 rfl rfl)
theorem dL_law_2081 : decode cL_law 2081 = .ok (.invokevirtual 286, 3) := dk_182 1 30 (dk_at dksL_law_79 19 rfl rfl)
theorem dL_law_2084 : decode cL_law 2084 = .ok (.if_icmp .eq 415, 3) := dk_159 1 159 (dk_at dksL_law_80 0 rfl rfl)
theorem dL_law_2087 : decode cL_law 2087 = .ok (.iconst 0, 1) := dk_3 (dk_at dksL_law_80 3 rfl rfl)
theorem dL_law_2088 : decode cL_law 2088 = .ok (.ireturn, 1) := dk_172 (dk_at dksL_law_80 4 rfl rfl)
theorem dL_law_2089 : decode cL_law 2089 = .ok (.aload_n 1, 1) := dk_43 (dk_at dksL_law_80 5 rfl rfl)
theorem dL_law_2090 : decode cL_law 2090 = .ok (.invokevirtual 287, 3) := dk_182 1 31 (dk_at dksL_law_80 6 rfl rfl)
theorem dL_law_2093 : decode cL_law 2093 = .ok (.dstore 5, 2) := dk_57 5 (dk_at dksL_law_80 9 rfl rfl)
theorem dL_law_2095 : decode cL_law 2095 = .ok (.aload_n 2, 1) := dk_44 (dk_at dksL_law_80 11 rfl rfl)
theorem dL_law_2096 : decode cL_law 2096 = .ok (.invokevirtual 291, 3) := dk_182 1 35 (dk_at dksL_law_80 12 rfl rfl)
theorem dL_law_2099 : decode cL_law 2099 = .ok (.dstore 7, 2) := dk_57 7 (dk_at dksL_law_80 15 rfl rfl)
theorem dL_law_2101 : decode cL_law 2101 = .ok (.dload 5, 2) := dk_24 5 (dk_at dksL_law_80 17 rfl rfl)
theorem dL_law_2103 : decode cL_law 2103 = .ok (.dload 7, 2) := dk_24 7 (dk_at dksL_law_80 19 rfl rfl)
theorem dL_law_2105 : decode cL_law 2105 = .ok (.dcmp .l, 1) := dk_151 (dk_at dksL_law_80 21 rfl rfl)
theorem dL_law_2106 : decode cL_law 2106 = .ok (.ifCond .eq 21, 3) := dk_153 0 21 (dk_at dksL_law_81 0 rfl rfl)
theorem dL_law_2109 : decode cL_law 2109 = .ok (.dload 5, 2) := dk_24 5 (dk_at dksL_law_81 3 rfl rfl)
theorem dL_law_2111 : decode cL_law 2111 = .ok (.dload 5, 2) := dk_24 5 (dk_at dksL_law_81 5 rfl rfl)
theorem dL_law_2113 : decode cL_law 2113 = .ok (.dcmp .l, 1) := dk_151 (dk_at dksL_law_81 7 rfl rfl)
theorem dL_law_2114 : decode cL_law 2114 = .ok (.ifCond .eq 11, 3) := dk_153 0 11 (dk_at dksL_law_81 8 rfl rfl)
theorem dL_law_2117 : decode cL_law 2117 = .ok (.dload 7, 2) := dk_24 7 (dk_at dksL_law_81 11 rfl rfl)
theorem dL_law_2119 : decode cL_law 2119 = .ok (.dload 7, 2) := dk_24 7 (dk_at dksL_law_81 13 rfl rfl)
theorem dL_law_2121 : decode cL_law 2121 = .ok (.dcmp .l, 1) := dk_151 (dk_at dksL_law_81 15 rfl rfl)
theorem dL_law_2122 : decode cL_law 2122 = .ok (.ifCond .ne 5, 3) := dk_154 0 5 (dk_at dksL_law_81 16 rfl rfl)
theorem dL_law_2125 : decode cL_law 2125 = .ok (.iconst 0, 1) := dk_3 (dk_at dksL_law_81 19 rfl rfl)
theorem dL_law_2126 : decode cL_law 2126 = .ok (.ireturn, 1) := dk_172 (dk_at dksL_law_81 20 rfl rfl)
theorem dL_law_2127 : decode cL_law 2127 = .ok (.goto 372, 3) := dk_167 1 116 (dk_at dksL_law_81 21 rfl rfl)
theorem dL_law_2130 : decode cL_law 2130 = .ok (.aload_n 1, 1) := dk_43 (dk_at dksL_law_82 0 rfl rfl)
theorem dL_law_2131 : decode cL_law 2131 = .ok (.aload_n 0, 1) := dk_42 (dk_at dksL_law_82 1 rfl rfl)
theorem dL_law_2132 : decode cL_law 2132 = .ok (.iload 4, 2) := dk_21 4 (dk_at dksL_law_82 2 rfl rfl)
theorem dL_law_2134 : decode cL_law 2134 = .ok (.iconst 1, 1) := dk_4 (dk_at dksL_law_82 4 rfl rfl)
theorem dL_law_2135 : decode cL_law 2135 = .ok (.iadd, 1) := dk_96 (dk_at dksL_law_82 5 rfl rfl)
theorem dL_law_2136 : decode cL_law 2136 = .ok (.iaload, 1) := dk_46 (dk_at dksL_law_82 6 rfl rfl)
theorem dL_law_2137 : decode cL_law 2137 = .ok (.aload_n 3, 1) := dk_45 (dk_at dksL_law_82 7 rfl rfl)
theorem dL_law_2138 : decode cL_law 2138 = .ok (.invokestatic 292, 3) := dk_184 1 36 (dk_at dksL_law_82 8 rfl rfl)
theorem dL_law_2141 : decode cL_law 2141 = .ok (.istore 5, 2) := dk_54 5 (dk_at dksL_law_82 11 rfl rfl)
theorem dL_law_2143 : decode cL_law 2143 = .ok (.aload_n 2, 1) := dk_44 (dk_at dksL_law_82 13 rfl rfl)
theorem dL_law_2144 : decode cL_law 2144 = .ok (.aload_n 0, 1) := dk_42 (dk_at dksL_law_82 14 rfl rfl)
theorem dL_law_2145 : decode cL_law 2145 = .ok (.iload 4, 2) := dk_21 4 (dk_at dksL_law_82 15 rfl rfl)
theorem dL_law_2147 : decode cL_law 2147 = .ok (.iconst 1, 1) := dk_4 (dk_at dksL_law_82 17 rfl rfl)
theorem dL_law_2148 : decode cL_law 2148 = .ok (.iadd, 1) := dk_96 (dk_at dksL_law_82 18 rfl rfl)
theorem dL_law_2149 : decode cL_law 2149 = .ok (.iaload, 1) := dk_46 (dk_at dksL_law_82 19 rfl rfl)
theorem dL_law_2150 : decode cL_law 2150 = .ok (.invokevirtual 294, 3) := dk_182 1 38 (dk_at dksL_law_82 20 rfl rfl)
theorem dL_law_2153 : decode cL_law 2153 = .ok (.istore 6, 2) := dk_54 6 (dk_at dksL_law_83 0 rfl rfl)
theorem dL_law_2155 : decode cL_law 2155 = .ok (.aload_n 2, 1) := dk_44 (dk_at dksL_law_83 2 rfl rfl)
theorem dL_law_2156 : decode cL_law 2156 = .ok (.invokevirtual 158, 3) := dk_182 0 158 (dk_at dksL_law_83 3 rfl rfl)
theorem dL_law_2159 : decode cL_law 2159 = .ok (.iload 5, 2) := dk_21 5 (dk_at dksL_law_83 6 rfl rfl)
theorem dL_law_2161 : decode cL_law 2161 = .ok (.if_icmp .eq 5, 3) := dk_159 0 5 (dk_at dksL_law_83 8 rfl rfl)
theorem dL_law_2164 : decode cL_law 2164 = .ok (.iconst 0, 1) := dk_3 (dk_at dksL_law_83 11 rfl rfl)
theorem dL_law_2165 : decode cL_law 2165 = .ok (.ireturn, 1) := dk_172 (dk_at dksL_law_83 12 rfl rfl)
theorem dL_law_2166 : decode cL_law 2166 = .ok (.iload 5, 2) := dk_21 5 (dk_at dksL_law_83 13 rfl rfl)
theorem dL_law_2168 : decode cL_law 2168 = .ok (.ifCond .ne 15, 3) := dk_154 0 15 (dk_at dksL_law_83 15 rfl rfl)
theorem dL_law_2171 : decode cL_law 2171 = .ok (.aload_n 3, 1) := dk_45 (dk_at dksL_law_83 18 rfl rfl)
theorem dL_law_2172 : decode cL_law 2172 = .ok (.iconst 0, 1) := dk_3 (dk_at dksL_law_83 19 rfl rfl)
theorem dL_law_2173 : decode cL_law 2173 = .ok (.laload, 1) := dk_47 (dk_at dksL_law_83 20 rfl rfl)
theorem dL_law_2174 : decode cL_law 2174 = .ok (.iload 6, 2) := dk_21 6 (dk_at dksL_law_83 21 rfl rfl)
theorem dL_law_2176 : decode cL_law 2176 = .ok (.i2l, 1) := dk_133 (dk_at dksL_law_83 23 rfl rfl)
theorem dL_law_2177 : decode cL_law 2177 = .ok (.lcmp, 1) := dk_148 (dk_at dksL_law_84 0 rfl rfl)
theorem dL_law_2178 : decode cL_law 2178 = .ok (.ifCond .eq 5, 3) := dk_153 0 5 (dk_at dksL_law_84 1 rfl rfl)
theorem dL_law_2181 : decode cL_law 2181 = .ok (.iconst 0, 1) := dk_3 (dk_at dksL_law_84 4 rfl rfl)
theorem dL_law_2182 : decode cL_law 2182 = .ok (.ireturn, 1) := dk_172 (dk_at dksL_law_84 5 rfl rfl)
theorem dL_law_2183 : decode cL_law 2183 = .ok (.goto 316, 3) := dk_167 1 60 (dk_at dksL_law_84 6 rfl rfl)
theorem dL_law_2186 : decode cL_law 2186 = .ok (.aload_n 1, 1) := dk_43 (dk_at dksL_law_84 9 rfl rfl)
theorem dL_law_2187 : decode cL_law 2187 = .ok (.aload_n 0, 1) := dk_42 (dk_at dksL_law_84 10 rfl rfl)
theorem dL_law_2188 : decode cL_law 2188 = .ok (.iload 4, 2) := dk_21 4 (dk_at dksL_law_84 11 rfl rfl)
theorem dL_law_2190 : decode cL_law 2190 = .ok (.iconst 1, 1) := dk_4 (dk_at dksL_law_84 13 rfl rfl)
theorem dL_law_2191 : decode cL_law 2191 = .ok (.iadd, 1) := dk_96 (dk_at dksL_law_84 14 rfl rfl)
theorem dL_law_2192 : decode cL_law 2192 = .ok (.iaload, 1) := dk_46 (dk_at dksL_law_84 15 rfl rfl)
theorem dL_law_2193 : decode cL_law 2193 = .ok (.aload_n 0, 1) := dk_42 (dk_at dksL_law_84 16 rfl rfl)
theorem dL_law_2194 : decode cL_law 2194 = .ok (.iload 4, 2) := dk_21 4 (dk_at dksL_law_84 17 rfl rfl)
theorem dL_law_2196 : decode cL_law 2196 = .ok (.iconst 2, 1) := dk_5 (dk_at dksL_law_84 19 rfl rfl)
theorem dL_law_2197 : decode cL_law 2197 = .ok (.iadd, 1) := dk_96 (dk_at dksL_law_84 20 rfl rfl)
theorem dL_law_2198 : decode cL_law 2198 = .ok (.iaload, 1) := dk_46 (dk_at dksL_law_84 21 rfl rfl)
theorem dL_law_2199 : decode cL_law 2199 = .ok (.aload_n 3, 1) := dk_45 (dk_at dksL_law_84 22 rfl rfl)
theorem dL_law_2200 : decode cL_law 2200 = .ok (.invokestatic 295, 3) := dk_184 1 39 (dk_at dksL_law_85 0 rfl rfl)
theorem dL_law_2203 : decode cL_law 2203 = .ok (.istore 5, 2) := dk_54 5 (dk_at dksL_law_85 3 rfl rfl)
theorem dL_law_2205 : decode cL_law 2205 = .ok (.aload_n 2, 1) := dk_44 (dk_at dksL_law_85 5 rfl rfl)
theorem dL_law_2206 : decode cL_law 2206 = .ok (.aload_n 0, 1) := dk_42 (dk_at dksL_law_85 6 rfl rfl)
theorem dL_law_2207 : decode cL_law 2207 = .ok (.iload 4, 2) := dk_21 4 (dk_at dksL_law_85 7 rfl rfl)
theorem dL_law_2209 : decode cL_law 2209 = .ok (.iconst 1, 1) := dk_4 (dk_at dksL_law_85 9 rfl rfl)
theorem dL_law_2210 : decode cL_law 2210 = .ok (.iadd, 1) := dk_96 (dk_at dksL_law_85 10 rfl rfl)
theorem dL_law_2211 : decode cL_law 2211 = .ok (.iaload, 1) := dk_46 (dk_at dksL_law_85 11 rfl rfl)
theorem dL_law_2212 : decode cL_law 2212 = .ok (.aload_n 0, 1) := dk_42 (dk_at dksL_law_85 12 rfl rfl)
theorem dL_law_2213 : decode cL_law 2213 = .ok (.iload 4, 2) := dk_21 4 (dk_at dksL_law_85 13 rfl rfl)
theorem dL_law_2215 : decode cL_law 2215 = .ok (.iconst 2, 1) := dk_5 (dk_at dksL_law_85 15 rfl rfl)
theorem dL_law_2216 : decode cL_law 2216 = .ok (.iadd, 1) := dk_96 (dk_at dksL_law_85 16 rfl rfl)
theorem dL_law_2217 : decode cL_law 2217 = .ok (.iaload, 1) := dk_46 (dk_at dksL_law_85 17 rfl rfl)
theorem dL_law_2218 : decode cL_law 2218 = .ok (.invokevirtual 297, 3) := dk_182 1 41 (dk_at dksL_law_85 18 rfl rfl)
theorem dL_law_2221 : decode cL_law 2221 = .ok (.istore 6, 2) := dk_54 6 (dk_at dksL_law_85 21 rfl rfl)
theorem dL_law_2223 : decode cL_law 2223 = .ok (.aload_n 2, 1) := dk_44 (dk_at dksL_law_85 23 rfl rfl)
theorem dL_law_2224 : decode cL_law 2224 = .ok (.invokevirtual 158, 3) := dk_182 0 158 (dk_at dksL_law_86 0 rfl rfl)
theorem dL_law_2227 : decode cL_law 2227 = .ok (.iload 5, 2) := dk_21 5 (dk_at dksL_law_86 3 rfl rfl)
theorem dL_law_2229 : decode cL_law 2229 = .ok (.if_icmp .eq 5, 3) := dk_159 0 5 (dk_at dksL_law_86 5 rfl rfl)
theorem dL_law_2232 : decode cL_law 2232 = .ok (.iconst 0, 1) := dk_3 (dk_at dksL_law_86 8 rfl rfl)
theorem dL_law_2233 : decode cL_law 2233 = .ok (.ireturn, 1) := dk_172 (dk_at dksL_law_86 9 rfl rfl)
theorem dL_law_2234 : decode cL_law 2234 = .ok (.iload 5, 2) := dk_21 5 (dk_at dksL_law_86 10 rfl rfl)
theorem dL_law_2236 : decode cL_law 2236 = .ok (.ifCond .ne 15, 3) := dk_154 0 15 (dk_at dksL_law_86 12 rfl rfl)
theorem dL_law_2239 : decode cL_law 2239 = .ok (.aload_n 3, 1) := dk_45 (dk_at dksL_law_86 15 rfl rfl)
theorem dL_law_2240 : decode cL_law 2240 = .ok (.iconst 0, 1) := dk_3 (dk_at dksL_law_86 16 rfl rfl)
theorem dL_law_2241 : decode cL_law 2241 = .ok (.laload, 1) := dk_47 (dk_at dksL_law_86 17 rfl rfl)
theorem dL_law_2242 : decode cL_law 2242 = .ok (.iload 6, 2) := dk_21 6 (dk_at dksL_law_86 18 rfl rfl)
theorem dL_law_2244 : decode cL_law 2244 = .ok (.i2l, 1) := dk_133 (dk_at dksL_law_86 20 rfl rfl)
theorem dL_law_2245 : decode cL_law 2245 = .ok (.lcmp, 1) := dk_148 (dk_at dksL_law_86 21 rfl rfl)
theorem dL_law_2246 : decode cL_law 2246 = .ok (.ifCond .eq 5, 3) := dk_153 0 5 (dk_at dksL_law_87 0 rfl rfl)
theorem dL_law_2249 : decode cL_law 2249 = .ok (.iconst 0, 1) := dk_3 (dk_at dksL_law_87 3 rfl rfl)
theorem dL_law_2250 : decode cL_law 2250 = .ok (.ireturn, 1) := dk_172 (dk_at dksL_law_87 4 rfl rfl)
theorem dL_law_2251 : decode cL_law 2251 = .ok (.goto 248, 3) := dk_167 0 248 (dk_at dksL_law_87 5 rfl rfl)
theorem dL_law_2254 : decode cL_law 2254 = .ok (.aload_n 1, 1) := dk_43 (dk_at dksL_law_87 8 rfl rfl)
theorem dL_law_2255 : decode cL_law 2255 = .ok (.invokevirtual 298, 3) := dk_182 1 42 (dk_at dksL_law_87 9 rfl rfl)
theorem dL_law_2258 : decode cL_law 2258 = .ok (.aload_n 2, 1) := dk_44 (dk_at dksL_law_87 12 rfl rfl)
theorem dL_law_2259 : decode cL_law 2259 = .ok (.invokevirtual 301, 3) := dk_182 1 45 (dk_at dksL_law_87 13 rfl rfl)
theorem dL_law_2262 : decode cL_law 2262 = .ok (.if_icmp .eq 237, 3) := dk_159 0 237 (dk_at dksL_law_87 16 rfl rfl)
theorem dL_law_2265 : decode cL_law 2265 = .ok (.iconst 0, 1) := dk_3 (dk_at dksL_law_87 19 rfl rfl)
theorem dL_law_2266 : decode cL_law 2266 = .ok (.ireturn, 1) := dk_172 (dk_at dksL_law_87 20 rfl rfl)
theorem dL_law_2267 : decode cL_law 2267 = .ok (.aload_n 1, 1) := dk_43 (dk_at dksL_law_87 21 rfl rfl)
theorem dL_law_2268 : decode cL_law 2268 = .ok (.invokevirtual 302, 3) := dk_182 1 46 (dk_at dksL_law_88 0 rfl rfl)
theorem dL_law_2271 : decode cL_law 2271 = .ok (.aload_n 2, 1) := dk_44 (dk_at dksL_law_88 3 rfl rfl)
theorem dL_law_2272 : decode cL_law 2272 = .ok (.invokevirtual 305, 3) := dk_182 1 49 (dk_at dksL_law_88 4 rfl rfl)
theorem dL_law_2275 : decode cL_law 2275 = .ok (.if_icmp .eq 224, 3) := dk_159 0 224 (dk_at dksL_law_88 7 rfl rfl)
theorem dL_law_2278 : decode cL_law 2278 = .ok (.iconst 0, 1) := dk_3 (dk_at dksL_law_88 10 rfl rfl)
theorem dL_law_2279 : decode cL_law 2279 = .ok (.ireturn, 1) := dk_172 (dk_at dksL_law_88 11 rfl rfl)
theorem dL_law_2280 : decode cL_law 2280 = .ok (.aload_n 1, 1) := dk_43 (dk_at dksL_law_88 12 rfl rfl)
theorem dL_law_2281 : decode cL_law 2281 = .ok (.aload_n 0, 1) := dk_42 (dk_at dksL_law_88 13 rfl rfl)
theorem dL_law_2282 : decode cL_law 2282 = .ok (.iload 4, 2) := dk_21 4 (dk_at dksL_law_88 14 rfl rfl)
theorem dL_law_2284 : decode cL_law 2284 = .ok (.iconst 1, 1) := dk_4 (dk_at dksL_law_88 16 rfl rfl)
theorem dL_law_2285 : decode cL_law 2285 = .ok (.iadd, 1) := dk_96 (dk_at dksL_law_88 17 rfl rfl)
theorem dL_law_2286 : decode cL_law 2286 = .ok (.iaload, 1) := dk_46 (dk_at dksL_law_88 18 rfl rfl)
theorem dL_law_2287 : decode cL_law 2287 = .ok (.aload_n 0, 1) := dk_42 (dk_at dksL_law_88 19 rfl rfl)
theorem dL_law_2288 : decode cL_law 2288 = .ok (.iload 4, 2) := dk_21 4 (dk_at dksL_law_88 20 rfl rfl)
theorem dL_law_2290 : decode cL_law 2290 = .ok (.iconst 2, 1) := dk_5 (dk_at dksL_law_88 22 rfl rfl)
theorem dL_law_2291 : decode cL_law 2291 = .ok (.iadd, 1) := dk_96 (dk_at dksL_law_88 23 rfl rfl)
theorem dL_law_2292 : decode cL_law 2292 = .ok (.iaload, 1) := dk_46 (dk_at dksL_law_89 0 rfl rfl)
theorem dL_law_2293 : decode cL_law 2293 = .ok (.aload_n 0, 1) := dk_42 (dk_at dksL_law_89 1 rfl rfl)
theorem dL_law_2294 : decode cL_law 2294 = .ok (.iload 4, 2) := dk_21 4 (dk_at dksL_law_89 2 rfl rfl)
theorem dL_law_2296 : decode cL_law 2296 = .ok (.iconst 3, 1) := dk_6 (dk_at dksL_law_89 4 rfl rfl)
theorem dL_law_2297 : decode cL_law 2297 = .ok (.iadd, 1) := dk_96 (dk_at dksL_law_89 5 rfl rfl)
theorem dL_law_2298 : decode cL_law 2298 = .ok (.iaload, 1) := dk_46 (dk_at dksL_law_89 6 rfl rfl)
theorem dL_law_2299 : decode cL_law 2299 = .ok (.aload_n 3, 1) := dk_45 (dk_at dksL_law_89 7 rfl rfl)
theorem dL_law_2300 : decode cL_law 2300 = .ok (.invokestatic 306, 3) := dk_184 1 50 (dk_at dksL_law_89 8 rfl rfl)
theorem dL_law_2303 : decode cL_law 2303 = .ok (.istore 5, 2) := dk_54 5 (dk_at dksL_law_89 11 rfl rfl)
theorem dL_law_2305 : decode cL_law 2305 = .ok (.aload_n 2, 1) := dk_44 (dk_at dksL_law_89 13 rfl rfl)
theorem dL_law_2306 : decode cL_law 2306 = .ok (.aload_n 0, 1) := dk_42 (dk_at dksL_law_89 14 rfl rfl)
theorem dL_law_2307 : decode cL_law 2307 = .ok (.iload 4, 2) := dk_21 4 (dk_at dksL_law_89 15 rfl rfl)
theorem dL_law_2309 : decode cL_law 2309 = .ok (.iconst 1, 1) := dk_4 (dk_at dksL_law_89 17 rfl rfl)
theorem dL_law_2310 : decode cL_law 2310 = .ok (.iadd, 1) := dk_96 (dk_at dksL_law_89 18 rfl rfl)
theorem dL_law_2311 : decode cL_law 2311 = .ok (.iaload, 1) := dk_46 (dk_at dksL_law_89 19 rfl rfl)
theorem dL_law_2312 : decode cL_law 2312 = .ok (.aload_n 0, 1) := dk_42 (dk_at dksL_law_89 20 rfl rfl)
theorem dL_law_2313 : decode cL_law 2313 = .ok (.iload 4, 2) := dk_21 4 (dk_at dksL_law_89 21 rfl rfl)
theorem dL_law_2315 : decode cL_law 2315 = .ok (.iconst 2, 1) := dk_5 (dk_at dksL_law_89 23 rfl rfl)
theorem dL_law_2316 : decode cL_law 2316 = .ok (.iadd, 1) := dk_96 (dk_at dksL_law_90 0 rfl rfl)
theorem dL_law_2317 : decode cL_law 2317 = .ok (.iaload, 1) := dk_46 (dk_at dksL_law_90 1 rfl rfl)
theorem dL_law_2318 : decode cL_law 2318 = .ok (.aload_n 0, 1) := dk_42 (dk_at dksL_law_90 2 rfl rfl)
theorem dL_law_2319 : decode cL_law 2319 = .ok (.iload 4, 2) := dk_21 4 (dk_at dksL_law_90 3 rfl rfl)
theorem dL_law_2321 : decode cL_law 2321 = .ok (.iconst 3, 1) := dk_6 (dk_at dksL_law_90 5 rfl rfl)
theorem dL_law_2322 : decode cL_law 2322 = .ok (.iadd, 1) := dk_96 (dk_at dksL_law_90 6 rfl rfl)
theorem dL_law_2323 : decode cL_law 2323 = .ok (.iaload, 1) := dk_46 (dk_at dksL_law_90 7 rfl rfl)
theorem dL_law_2324 : decode cL_law 2324 = .ok (.invokevirtual 309, 3) := dk_182 1 53 (dk_at dksL_law_90 8 rfl rfl)
theorem dL_law_2327 : decode cL_law 2327 = .ok (.istore 6, 2) := dk_54 6 (dk_at dksL_law_90 11 rfl rfl)
theorem dL_law_2329 : decode cL_law 2329 = .ok (.aload_n 2, 1) := dk_44 (dk_at dksL_law_90 13 rfl rfl)
theorem dL_law_2330 : decode cL_law 2330 = .ok (.invokevirtual 158, 3) := dk_182 0 158 (dk_at dksL_law_90 14 rfl rfl)
theorem dL_law_2333 : decode cL_law 2333 = .ok (.iload 5, 2) := dk_21 5 (dk_at dksL_law_90 17 rfl rfl)
theorem dL_law_2335 : decode cL_law 2335 = .ok (.if_icmp .eq 5, 3) := dk_159 0 5 (dk_at dksL_law_90 19 rfl rfl)
theorem dL_law_2338 : decode cL_law 2338 = .ok (.iconst 0, 1) := dk_3 (dk_at dksL_law_90 22 rfl rfl)
theorem dL_law_2339 : decode cL_law 2339 = .ok (.ireturn, 1) := dk_172 (dk_at dksL_law_90 23 rfl rfl)
theorem dL_law_2340 : decode cL_law 2340 = .ok (.iload 5, 2) := dk_21 5 (dk_at dksL_law_91 0 rfl rfl)
theorem dL_law_2342 : decode cL_law 2342 = .ok (.ifCond .ne 15, 3) := dk_154 0 15 (dk_at dksL_law_91 2 rfl rfl)
theorem dL_law_2345 : decode cL_law 2345 = .ok (.aload_n 3, 1) := dk_45 (dk_at dksL_law_91 5 rfl rfl)
theorem dL_law_2346 : decode cL_law 2346 = .ok (.iconst 0, 1) := dk_3 (dk_at dksL_law_91 6 rfl rfl)
theorem dL_law_2347 : decode cL_law 2347 = .ok (.laload, 1) := dk_47 (dk_at dksL_law_91 7 rfl rfl)
theorem dL_law_2348 : decode cL_law 2348 = .ok (.iload 6, 2) := dk_21 6 (dk_at dksL_law_91 8 rfl rfl)
theorem dL_law_2350 : decode cL_law 2350 = .ok (.i2l, 1) := dk_133 (dk_at dksL_law_91 10 rfl rfl)
theorem dL_law_2351 : decode cL_law 2351 = .ok (.lcmp, 1) := dk_148 (dk_at dksL_law_91 11 rfl rfl)
theorem dL_law_2352 : decode cL_law 2352 = .ok (.ifCond .eq 5, 3) := dk_153 0 5 (dk_at dksL_law_91 12 rfl rfl)
theorem dL_law_2355 : decode cL_law 2355 = .ok (.iconst 0, 1) := dk_3 (dk_at dksL_law_91 15 rfl rfl)
theorem dL_law_2356 : decode cL_law 2356 = .ok (.ireturn, 1) := dk_172 (dk_at dksL_law_91 16 rfl rfl)
theorem dL_law_2357 : decode cL_law 2357 = .ok (.goto 142, 3) := dk_167 0 142 (dk_at dksL_law_91 17 rfl rfl)
theorem dL_law_2360 : decode cL_law 2360 = .ok (.aload_n 1, 1) := dk_43 (dk_at dksL_law_91 20 rfl rfl)
theorem dL_law_2361 : decode cL_law 2361 = .ok (.aload_n 3, 1) := dk_45 (dk_at dksL_law_91 21 rfl rfl)
theorem dL_law_2362 : decode cL_law 2362 = .ok (.invokestatic 310, 3) := dk_184 1 54 (dk_at dksL_law_92 0 rfl rfl)
theorem dL_law_2365 : decode cL_law 2365 = .ok (.istore 5, 2) := dk_54 5 (dk_at dksL_law_92 3 rfl rfl)
theorem dL_law_2367 : decode cL_law 2367 = .ok (.aload_n 2, 1) := dk_44 (dk_at dksL_law_92 5 rfl rfl)
theorem dL_law_2368 : decode cL_law 2368 = .ok (.invokevirtual 313, 3) := dk_182 1 57 (dk_at dksL_law_92 6 rfl rfl)
theorem dL_law_2371 : decode cL_law 2371 = .ok (.istore 6, 2) := dk_54 6 (dk_at dksL_law_92 9 rfl rfl)
theorem dL_law_2373 : decode cL_law 2373 = .ok (.aload_n 2, 1) := dk_44 (dk_at dksL_law_92 11 rfl rfl)
theorem dL_law_2374 : decode cL_law 2374 = .ok (.invokevirtual 158, 3) := dk_182 0 158 (dk_at dksL_law_92 12 rfl rfl)
theorem dL_law_2377 : decode cL_law 2377 = .ok (.iload 5, 2) := dk_21 5 (dk_at dksL_law_92 15 rfl rfl)
theorem dL_law_2379 : decode cL_law 2379 = .ok (.if_icmp .eq 5, 3) := dk_159 0 5 (dk_at dksL_law_92 17 rfl rfl)
theorem dL_law_2382 : decode cL_law 2382 = .ok (.iconst 0, 1) := dk_3 (dk_at dksL_law_92 20 rfl rfl)
theorem dL_law_2383 : decode cL_law 2383 = .ok (.ireturn, 1) := dk_172 (dk_at dksL_law_92 21 rfl rfl)
theorem dL_law_2384 : decode cL_law 2384 = .ok (.iload 5, 2) := dk_21 5 (dk_at dksL_law_92 22 rfl rfl)
theorem dL_law_2386 : decode cL_law 2386 = .ok (.ifCond .ne 15, 3) := dk_154 0 15 (dk_at dksL_law_93 0 rfl rfl)
theorem dL_law_2389 : decode cL_law 2389 = .ok (.aload_n 3, 1) := dk_45 (dk_at dksL_law_93 3 rfl rfl)
theorem dL_law_2390 : decode cL_law 2390 = .ok (.iconst 0, 1) := dk_3 (dk_at dksL_law_93 4 rfl rfl)
theorem dL_law_2391 : decode cL_law 2391 = .ok (.laload, 1) := dk_47 (dk_at dksL_law_93 5 rfl rfl)
theorem dL_law_2392 : decode cL_law 2392 = .ok (.iload 6, 2) := dk_21 6 (dk_at dksL_law_93 6 rfl rfl)
theorem dL_law_2394 : decode cL_law 2394 = .ok (.i2l, 1) := dk_133 (dk_at dksL_law_93 8 rfl rfl)
theorem dL_law_2395 : decode cL_law 2395 = .ok (.lcmp, 1) := dk_148 (dk_at dksL_law_93 9 rfl rfl)
theorem dL_law_2396 : decode cL_law 2396 = .ok (.ifCond .eq 5, 3) := dk_153 0 5 (dk_at dksL_law_93 10 rfl rfl)
theorem dL_law_2399 : decode cL_law 2399 = .ok (.iconst 0, 1) := dk_3 (dk_at dksL_law_93 13 rfl rfl)
theorem dL_law_2400 : decode cL_law 2400 = .ok (.ireturn, 1) := dk_172 (dk_at dksL_law_93 14 rfl rfl)
theorem dL_law_2401 : decode cL_law 2401 = .ok (.goto 98, 3) := dk_167 0 98 (dk_at dksL_law_93 15 rfl rfl)
theorem dL_law_2404 : decode cL_law 2404 = .ok (.aload_n 1, 1) := dk_43 (dk_at dksL_law_93 18 rfl rfl)
theorem dL_law_2405 : decode cL_law 2405 = .ok (.invokevirtual 314, 3) := dk_182 1 58 (dk_at dksL_law_93 19 rfl rfl)
theorem dL_law_2408 : decode cL_law 2408 = .ok (.aload_n 2, 1) := dk_44 (dk_at dksL_law_93 22 rfl rfl)
theorem dL_law_2409 : decode cL_law 2409 = .ok (.invokevirtual 317, 3) := dk_182 1 61 (dk_at dksL_law_94 0 rfl rfl)
theorem dL_law_2412 : decode cL_law 2412 = .ok (.if_icmp .eq 87, 3) := dk_159 0 87 (dk_at dksL_law_94 3 rfl rfl)
theorem dL_law_2415 : decode cL_law 2415 = .ok (.iconst 0, 1) := dk_3 (dk_at dksL_law_94 6 rfl rfl)
theorem dL_law_2416 : decode cL_law 2416 = .ok (.ireturn, 1) := dk_172 (dk_at dksL_law_94 7 rfl rfl)
theorem dL_law_2417 : decode cL_law 2417 = .ok (.aload_n 1, 1) := dk_43 (dk_at dksL_law_94 8 rfl rfl)
theorem dL_law_2418 : decode cL_law 2418 = .ok (.aload_n 0, 1) := dk_42 (dk_at dksL_law_94 9 rfl rfl)
theorem dL_law_2419 : decode cL_law 2419 = .ok (.iload 4, 2) := dk_21 4 (dk_at dksL_law_94 10 rfl rfl)
theorem dL_law_2421 : decode cL_law 2421 = .ok (.iconst 1, 1) := dk_4 (dk_at dksL_law_94 12 rfl rfl)
theorem dL_law_2422 : decode cL_law 2422 = .ok (.iadd, 1) := dk_96 (dk_at dksL_law_94 13 rfl rfl)
theorem dL_law_2423 : decode cL_law 2423 = .ok (.iaload, 1) := dk_46 (dk_at dksL_law_94 14 rfl rfl)
theorem dL_law_2424 : decode cL_law 2424 = .ok (.invokevirtual 318, 3) := dk_182 1 62 (dk_at dksL_law_94 15 rfl rfl)
theorem dL_law_2427 : decode cL_law 2427 = .ok (.aload_n 2, 1) := dk_44 (dk_at dksL_law_94 18 rfl rfl)
theorem dL_law_2428 : decode cL_law 2428 = .ok (.aload_n 0, 1) := dk_42 (dk_at dksL_law_94 19 rfl rfl)
theorem dL_law_2429 : decode cL_law 2429 = .ok (.iload 4, 2) := dk_21 4 (dk_at dksL_law_94 20 rfl rfl)
theorem dL_law_2431 : decode cL_law 2431 = .ok (.iconst 1, 1) := dk_4 (dk_at dksL_law_94 22 rfl rfl)
theorem dL_law_2432 : decode cL_law 2432 = .ok (.iadd, 1) := dk_96 (dk_at dksL_law_94 23 rfl rfl)
theorem dL_law_2433 : decode cL_law 2433 = .ok (.iaload, 1) := dk_46 (dk_at dksL_law_95 0 rfl rfl)
theorem dL_law_2434 : decode cL_law 2434 = .ok (.invokevirtual 321, 3) := dk_182 1 65 (dk_at dksL_law_95 1 rfl rfl)
theorem dL_law_2437 : decode cL_law 2437 = .ok (.if_icmp .eq 62, 3) := dk_159 0 62 (dk_at dksL_law_95 4 rfl rfl)
theorem dL_law_2440 : decode cL_law 2440 = .ok (.iconst 0, 1) := dk_3 (dk_at dksL_law_95 7 rfl rfl)
theorem dL_law_2441 : decode cL_law 2441 = .ok (.ireturn, 1) := dk_172 (dk_at dksL_law_95 8 rfl rfl)
theorem dL_law_2442 : decode cL_law 2442 = .ok (.aload_n 1, 1) := dk_43 (dk_at dksL_law_95 9 rfl rfl)
theorem dL_law_2443 : decode cL_law 2443 = .ok (.invokevirtual 322, 3) := dk_182 1 66 (dk_at dksL_law_95 10 rfl rfl)
theorem dL_law_2446 : decode cL_law 2446 = .ok (.aload_n 2, 1) := dk_44 (dk_at dksL_law_95 13 rfl rfl)
theorem dL_law_2447 : decode cL_law 2447 = .ok (.invokevirtual 325, 3) := dk_182 1 69 (dk_at dksL_law_95 14 rfl rfl)
theorem dL_law_2450 : decode cL_law 2450 = .ok (.if_icmp .eq 49, 3) := dk_159 0 49 (dk_at dksL_law_95 17 rfl rfl)
theorem dL_law_2453 : decode cL_law 2453 = .ok (.iconst 0, 1) := dk_3 (dk_at dksL_law_95 20 rfl rfl)
theorem dL_law_2454 : decode cL_law 2454 = .ok (.ireturn, 1) := dk_172 (dk_at dksL_law_95 21 rfl rfl)
theorem dL_law_2455 : decode cL_law 2455 = .ok (.aload_n 1, 1) := dk_43 (dk_at dksL_law_95 22 rfl rfl)
theorem dL_law_2456 : decode cL_law 2456 = .ok (.aload_n 3, 1) := dk_45 (dk_at dksL_law_95 23 rfl rfl)
theorem dL_law_2457 : decode cL_law 2457 = .ok (.invokestatic 326, 3) := dk_184 1 70 (dk_at dksL_law_96 0 rfl rfl)
theorem dL_law_2460 : decode cL_law 2460 = .ok (.istore 5, 2) := dk_54 5 (dk_at dksL_law_96 3 rfl rfl)
theorem dL_law_2462 : decode cL_law 2462 = .ok (.aload_n 2, 1) := dk_44 (dk_at dksL_law_96 5 rfl rfl)
theorem dL_law_2463 : decode cL_law 2463 = .ok (.invokevirtual 328, 3) := dk_182 1 72 (dk_at dksL_law_96 6 rfl rfl)
theorem dL_law_2466 : decode cL_law 2466 = .ok (.istore 6, 2) := dk_54 6 (dk_at dksL_law_96 9 rfl rfl)
theorem dL_law_2468 : decode cL_law 2468 = .ok (.aload_n 2, 1) := dk_44 (dk_at dksL_law_96 11 rfl rfl)
theorem dL_law_2469 : decode cL_law 2469 = .ok (.invokevirtual 158, 3) := dk_182 0 158 (dk_at dksL_law_96 12 rfl rfl)
theorem dL_law_2472 : decode cL_law 2472 = .ok (.iload 5, 2) := dk_21 5 (dk_at dksL_law_96 15 rfl rfl)
theorem dL_law_2474 : decode cL_law 2474 = .ok (.if_icmp .eq 5, 3) := dk_159 0 5 (dk_at dksL_law_96 17 rfl rfl)
theorem dL_law_2477 : decode cL_law 2477 = .ok (.iconst 0, 1) := dk_3 (dk_at dksL_law_96 20 rfl rfl)
theorem dL_law_2478 : decode cL_law 2478 = .ok (.ireturn, 1) := dk_172 (dk_at dksL_law_96 21 rfl rfl)
theorem dL_law_2479 : decode cL_law 2479 = .ok (.iload 5, 2) := dk_21 5 (dk_at dksL_law_96 22 rfl rfl)
theorem dL_law_2481 : decode cL_law 2481 = .ok (.ifCond .ne 15, 3) := dk_154 0 15 (dk_at dksL_law_97 0 rfl rfl)
theorem dL_law_2484 : decode cL_law 2484 = .ok (.aload_n 3, 1) := dk_45 (dk_at dksL_law_97 3 rfl rfl)
theorem dL_law_2485 : decode cL_law 2485 = .ok (.iconst 0, 1) := dk_3 (dk_at dksL_law_97 4 rfl rfl)
theorem dL_law_2486 : decode cL_law 2486 = .ok (.laload, 1) := dk_47 (dk_at dksL_law_97 5 rfl rfl)
theorem dL_law_2487 : decode cL_law 2487 = .ok (.iload 6, 2) := dk_21 6 (dk_at dksL_law_97 6 rfl rfl)
theorem dL_law_2489 : decode cL_law 2489 = .ok (.i2l, 1) := dk_133 (dk_at dksL_law_97 8 rfl rfl)
theorem dL_law_2490 : decode cL_law 2490 = .ok (.lcmp, 1) := dk_148 (dk_at dksL_law_97 9 rfl rfl)
theorem dL_law_2491 : decode cL_law 2491 = .ok (.ifCond .eq 5, 3) := dk_153 0 5 (dk_at dksL_law_97 10 rfl rfl)
theorem dL_law_2494 : decode cL_law 2494 = .ok (.iconst 0, 1) := dk_3 (dk_at dksL_law_97 13 rfl rfl)
theorem dL_law_2495 : decode cL_law 2495 = .ok (.ireturn, 1) := dk_172 (dk_at dksL_law_97 14 rfl rfl)
theorem dL_law_2496 : decode cL_law 2496 = .ok (.goto 3, 3) := dk_167 0 3 (dk_at dksL_law_97 15 rfl rfl)
theorem dL_law_2499 : decode cL_law 2499 = .ok (.iinc 4 6, 3) := dk_132 4 6 (dk_at dksL_law_97 18 rfl rfl)
theorem dL_law_2502 : decode cL_law 2502 = .ok (.goto (-2479), 3) := dk_167 246 81 (dk_at dksL_law_97 21 rfl rfl)
theorem dL_law_2505 : decode cL_law 2505 = .ok (.iconst 1, 1) := dk_4 (dk_at dksL_law_98 0 rfl rfl)
theorem dL_law_2506 : decode cL_law 2506 = .ok (.ireturn, 1) := dk_172 (dk_at dksL_law_98 1 rfl rfl)
