/-! CodeRecoveryLaw -/
set_option maxRecDepth 100000
def RX0 : String := "CodeRecoveryLaw"
abbrev cX0_appendCharacter : ByteArray := method_3_code
def yX0_appendCharacter : MethodName := ⟨RX0, "appendCharacter", "(LCodeRecovery;I[J)I"⟩
def dkwX0_appendCharacter_0 : List UInt8 := [44, 3, 42, 27, 182, 0, 7, 133, 80, 167, 0, 9, 78, 4, 172, 78, 5, 172, 3, 172]
abbrev dktX0_appendCharacter_0 : List UInt8 := dkwX0_appendCharacter_0 ++ []
theorem dksX0_appendCharacter_0 : cX0_appendCharacter.data.toList.drop 0 = dktX0_appendCharacter_0 := by decide +kernel
theorem dX0_appendCharacter_0 : decode cX0_appendCharacter 0 = .ok (.aload_n 2, 1) := dk_44 (dk_at dksX0_appendCharacter_0 0 rfl rfl)
theorem dX0_appendCharacter_1 : decode cX0_appendCharacter 1 = .ok (.iconst 0, 1) := dk_3 (dk_at dksX0_appendCharacter_0 1 rfl rfl)
theorem dX0_appendCharacter_2 : decode cX0_appendCharacter 2 = .ok (.aload_n 0, 1) := dk_42 (dk_at dksX0_appendCharacter_0 2 rfl rfl)
theorem dX0_appendCharacter_3 : decode cX0_appendCharacter 3 = .ok (.iload_n 1, 1) := dk_27 (dk_at dksX0_appendCharacter_0 3 rfl rfl)
theorem dX0_appendCharacter_4 : decode cX0_appendCharacter 4 = .ok (.invokevirtual 7, 3) := dk_182 0 7 (dk_at dksX0_appendCharacter_0 4 rfl rfl)
theorem dX0_appendCharacter_7 : decode cX0_appendCharacter 7 = .ok (.i2l, 1) := dk_133 (dk_at dksX0_appendCharacter_0 7 rfl rfl)
theorem dX0_appendCharacter_8 : decode cX0_appendCharacter 8 = .ok (.lastore, 1) := dk_80 (dk_at dksX0_appendCharacter_0 8 rfl rfl)
theorem dX0_appendCharacter_9 : decode cX0_appendCharacter 9 = .ok (.goto 9, 3) := dk_167 0 9 (dk_at dksX0_appendCharacter_0 9 rfl rfl)
theorem dX0_appendCharacter_12 : decode cX0_appendCharacter 12 = .ok (.astore_n 3, 1) := dk_78 (dk_at dksX0_appendCharacter_0 12 rfl rfl)
theorem dX0_appendCharacter_13 : decode cX0_appendCharacter 13 = .ok (.iconst 1, 1) := dk_4 (dk_at dksX0_appendCharacter_0 13 rfl rfl)
theorem dX0_appendCharacter_14 : decode cX0_appendCharacter 14 = .ok (.ireturn, 1) := dk_172 (dk_at dksX0_appendCharacter_0 14 rfl rfl)
theorem dX0_appendCharacter_15 : decode cX0_appendCharacter 15 = .ok (.astore_n 3, 1) := dk_78 (dk_at dksX0_appendCharacter_0 15 rfl rfl)
theorem dX0_appendCharacter_16 : decode cX0_appendCharacter 16 = .ok (.iconst 2, 1) := dk_5 (dk_at dksX0_appendCharacter_0 16 rfl rfl)
theorem dX0_appendCharacter_17 : decode cX0_appendCharacter 17 = .ok (.ireturn, 1) := dk_172 (dk_at dksX0_appendCharacter_0 17 rfl rfl)
theorem dX0_appendCharacter_18 : decode cX0_appendCharacter 18 = .ok (.iconst 0, 1) := dk_3 (dk_at dksX0_appendCharacter_0 18 rfl rfl)
theorem dX0_appendCharacter_19 : decode cX0_appendCharacter 19 = .ok (.ireturn, 1) := dk_172 (dk_at dksX0_appendCharacter_0 19 rfl rfl)
abbrev cX0_addBytes : ByteArray := method_4_code
def yX0_addBytes : MethodName := ⟨RX0, "addBytes", "(LCodeRecovery;[J)I"⟩
def dkwX0_addBytes_0 : List UInt8 := [43, 3, 42, 182, 0, 17, 133, 80, 167, 0, 9, 77, 4, 172, 77, 5, 172, 3, 172]
abbrev dktX0_addBytes_0 : List UInt8 := dkwX0_addBytes_0 ++ []
theorem dksX0_addBytes_0 : cX0_addBytes.data.toList.drop 0 = dktX0_addBytes_0 := by decide +kernel
theorem dX0_addBytes_0 : decode cX0_addBytes 0 = .ok (.aload_n 1, 1) := dk_43 (dk_at dksX0_addBytes_0 0 rfl rfl)
theorem dX0_addBytes_1 : decode cX0_addBytes 1 = .ok (.iconst 0, 1) := dk_3 (dk_at dksX0_addBytes_0 1 rfl rfl)
theorem dX0_addBytes_2 : decode cX0_addBytes 2 = .ok (.aload_n 0, 1) := dk_42 (dk_at dksX0_addBytes_0 2 rfl rfl)
theorem dX0_addBytes_3 : decode cX0_addBytes 3 = .ok (.invokevirtual 17, 3) := dk_182 0 17 (dk_at dksX0_addBytes_0 3 rfl rfl)
theorem dX0_addBytes_6 : decode cX0_addBytes 6 = .ok (.i2l, 1) := dk_133 (dk_at dksX0_addBytes_0 6 rfl rfl)
theorem dX0_addBytes_7 : decode cX0_addBytes 7 = .ok (.lastore, 1) := dk_80 (dk_at dksX0_addBytes_0 7 rfl rfl)
theorem dX0_addBytes_8 : decode cX0_addBytes 8 = .ok (.goto 9, 3) := dk_167 0 9 (dk_at dksX0_addBytes_0 8 rfl rfl)
theorem dX0_addBytes_11 : decode cX0_addBytes 11 = .ok (.astore_n 2, 1) := dk_77 (dk_at dksX0_addBytes_0 11 rfl rfl)
theorem dX0_addBytes_12 : decode cX0_addBytes 12 = .ok (.iconst 1, 1) := dk_4 (dk_at dksX0_addBytes_0 12 rfl rfl)
theorem dX0_addBytes_13 : decode cX0_addBytes 13 = .ok (.ireturn, 1) := dk_172 (dk_at dksX0_addBytes_0 13 rfl rfl)
theorem dX0_addBytes_14 : decode cX0_addBytes 14 = .ok (.astore_n 2, 1) := dk_77 (dk_at dksX0_addBytes_0 14 rfl rfl)
theorem dX0_addBytes_15 : decode cX0_addBytes 15 = .ok (.iconst 2, 1) := dk_5 (dk_at dksX0_addBytes_0 15 rfl rfl)
theorem dX0_addBytes_16 : decode cX0_addBytes 16 = .ok (.ireturn, 1) := dk_172 (dk_at dksX0_addBytes_0 16 rfl rfl)
theorem dX0_addBytes_17 : decode cX0_addBytes 17 = .ok (.iconst 0, 1) := dk_3 (dk_at dksX0_addBytes_0 17 rfl rfl)
theorem dX0_addBytes_18 : decode cX0_addBytes 18 = .ok (.ireturn, 1) := dk_172 (dk_at dksX0_addBytes_0 18 rfl rfl)
abbrev cX0_setByte : ByteArray := method_5_code
def yX0_setByte : MethodName := ⟨RX0, "setByte", "(LCodeRecovery;II[J)I"⟩
def dkwX0_setByte_0 : List UInt8 := [45, 3, 42, 27, 28, 182, 0, 21, 133, 80, 167, 0, 11, 58, 4, 4, 172, 58, 4, 5, 172, 3, 172]
abbrev dktX0_setByte_0 : List UInt8 := dkwX0_setByte_0 ++ []
theorem dksX0_setByte_0 : cX0_setByte.data.toList.drop 0 = dktX0_setByte_0 := by decide +kernel
theorem dX0_setByte_0 : decode cX0_setByte 0 = .ok (.aload_n 3, 1) := dk_45 (dk_at dksX0_setByte_0 0 rfl rfl)
theorem dX0_setByte_1 : decode cX0_setByte 1 = .ok (.iconst 0, 1) := dk_3 (dk_at dksX0_setByte_0 1 rfl rfl)
theorem dX0_setByte_2 : decode cX0_setByte 2 = .ok (.aload_n 0, 1) := dk_42 (dk_at dksX0_setByte_0 2 rfl rfl)
theorem dX0_setByte_3 : decode cX0_setByte 3 = .ok (.iload_n 1, 1) := dk_27 (dk_at dksX0_setByte_0 3 rfl rfl)
theorem dX0_setByte_4 : decode cX0_setByte 4 = .ok (.iload_n 2, 1) := dk_28 (dk_at dksX0_setByte_0 4 rfl rfl)
theorem dX0_setByte_5 : decode cX0_setByte 5 = .ok (.invokevirtual 21, 3) := dk_182 0 21 (dk_at dksX0_setByte_0 5 rfl rfl)
theorem dX0_setByte_8 : decode cX0_setByte 8 = .ok (.i2l, 1) := dk_133 (dk_at dksX0_setByte_0 8 rfl rfl)
theorem dX0_setByte_9 : decode cX0_setByte 9 = .ok (.lastore, 1) := dk_80 (dk_at dksX0_setByte_0 9 rfl rfl)
theorem dX0_setByte_10 : decode cX0_setByte 10 = .ok (.goto 11, 3) := dk_167 0 11 (dk_at dksX0_setByte_0 10 rfl rfl)
theorem dX0_setByte_13 : decode cX0_setByte 13 = .ok (.astore 4, 2) := dk_58 4 (dk_at dksX0_setByte_0 13 rfl rfl)
theorem dX0_setByte_15 : decode cX0_setByte 15 = .ok (.iconst 1, 1) := dk_4 (dk_at dksX0_setByte_0 15 rfl rfl)
theorem dX0_setByte_16 : decode cX0_setByte 16 = .ok (.ireturn, 1) := dk_172 (dk_at dksX0_setByte_0 16 rfl rfl)
theorem dX0_setByte_17 : decode cX0_setByte 17 = .ok (.astore 4, 2) := dk_58 4 (dk_at dksX0_setByte_0 17 rfl rfl)
theorem dX0_setByte_19 : decode cX0_setByte 19 = .ok (.iconst 2, 1) := dk_5 (dk_at dksX0_setByte_0 19 rfl rfl)
theorem dX0_setByte_20 : decode cX0_setByte 20 = .ok (.ireturn, 1) := dk_172 (dk_at dksX0_setByte_0 20 rfl rfl)
theorem dX0_setByte_21 : decode cX0_setByte 21 = .ok (.iconst 0, 1) := dk_3 (dk_at dksX0_setByte_0 21 rfl rfl)
theorem dX0_setByte_22 : decode cX0_setByte 22 = .ok (.ireturn, 1) := dk_172 (dk_at dksX0_setByte_0 22 rfl rfl)
abbrev cX0_byteAt : ByteArray := method_6_code
def yX0_byteAt : MethodName := ⟨RX0, "byteAt", "(LCodeRecovery;I[J)I"⟩
def dkwX0_byteAt_0 : List UInt8 := [44, 3, 42, 27, 182, 0, 27, 133, 80, 167, 0, 6, 78, 4, 172, 3, 172]
abbrev dktX0_byteAt_0 : List UInt8 := dkwX0_byteAt_0 ++ []
theorem dksX0_byteAt_0 : cX0_byteAt.data.toList.drop 0 = dktX0_byteAt_0 := by decide +kernel
theorem dX0_byteAt_0 : decode cX0_byteAt 0 = .ok (.aload_n 2, 1) := dk_44 (dk_at dksX0_byteAt_0 0 rfl rfl)
theorem dX0_byteAt_1 : decode cX0_byteAt 1 = .ok (.iconst 0, 1) := dk_3 (dk_at dksX0_byteAt_0 1 rfl rfl)
theorem dX0_byteAt_2 : decode cX0_byteAt 2 = .ok (.aload_n 0, 1) := dk_42 (dk_at dksX0_byteAt_0 2 rfl rfl)
theorem dX0_byteAt_3 : decode cX0_byteAt 3 = .ok (.iload_n 1, 1) := dk_27 (dk_at dksX0_byteAt_0 3 rfl rfl)
theorem dX0_byteAt_4 : decode cX0_byteAt 4 = .ok (.invokevirtual 27, 3) := dk_182 0 27 (dk_at dksX0_byteAt_0 4 rfl rfl)
theorem dX0_byteAt_7 : decode cX0_byteAt 7 = .ok (.i2l, 1) := dk_133 (dk_at dksX0_byteAt_0 7 rfl rfl)
theorem dX0_byteAt_8 : decode cX0_byteAt 8 = .ok (.lastore, 1) := dk_80 (dk_at dksX0_byteAt_0 8 rfl rfl)
theorem dX0_byteAt_9 : decode cX0_byteAt 9 = .ok (.goto 6, 3) := dk_167 0 6 (dk_at dksX0_byteAt_0 9 rfl rfl)
theorem dX0_byteAt_12 : decode cX0_byteAt 12 = .ok (.astore_n 3, 1) := dk_78 (dk_at dksX0_byteAt_0 12 rfl rfl)
theorem dX0_byteAt_13 : decode cX0_byteAt 13 = .ok (.iconst 1, 1) := dk_4 (dk_at dksX0_byteAt_0 13 rfl rfl)
theorem dX0_byteAt_14 : decode cX0_byteAt 14 = .ok (.ireturn, 1) := dk_172 (dk_at dksX0_byteAt_0 14 rfl rfl)
theorem dX0_byteAt_15 : decode cX0_byteAt 15 = .ok (.iconst 0, 1) := dk_3 (dk_at dksX0_byteAt_0 15 rfl rfl)
theorem dX0_byteAt_16 : decode cX0_byteAt 16 = .ok (.ireturn, 1) := dk_172 (dk_at dksX0_byteAt_0 16 rfl rfl)
abbrev cX0_addEntry : ByteArray := method_7_code
def yX0_addEntry : MethodName := ⟨RX0, "addEntry", "(LCodeRecovery;I[J)I"⟩
def dkwX0_addEntry_0 : List UInt8 := [44, 3, 42, 27, 182, 0, 30, 133, 80, 167, 0, 9, 78, 4, 172, 78, 5, 172, 3, 172]
abbrev dktX0_addEntry_0 : List UInt8 := dkwX0_addEntry_0 ++ []
theorem dksX0_addEntry_0 : cX0_addEntry.data.toList.drop 0 = dktX0_addEntry_0 := by decide +kernel
theorem dX0_addEntry_0 : decode cX0_addEntry 0 = .ok (.aload_n 2, 1) := dk_44 (dk_at dksX0_addEntry_0 0 rfl rfl)
theorem dX0_addEntry_1 : decode cX0_addEntry 1 = .ok (.iconst 0, 1) := dk_3 (dk_at dksX0_addEntry_0 1 rfl rfl)
theorem dX0_addEntry_2 : decode cX0_addEntry 2 = .ok (.aload_n 0, 1) := dk_42 (dk_at dksX0_addEntry_0 2 rfl rfl)
theorem dX0_addEntry_3 : decode cX0_addEntry 3 = .ok (.iload_n 1, 1) := dk_27 (dk_at dksX0_addEntry_0 3 rfl rfl)
theorem dX0_addEntry_4 : decode cX0_addEntry 4 = .ok (.invokevirtual 30, 3) := dk_182 0 30 (dk_at dksX0_addEntry_0 4 rfl rfl)
theorem dX0_addEntry_7 : decode cX0_addEntry 7 = .ok (.i2l, 1) := dk_133 (dk_at dksX0_addEntry_0 7 rfl rfl)
theorem dX0_addEntry_8 : decode cX0_addEntry 8 = .ok (.lastore, 1) := dk_80 (dk_at dksX0_addEntry_0 8 rfl rfl)
theorem dX0_addEntry_9 : decode cX0_addEntry 9 = .ok (.goto 9, 3) := dk_167 0 9 (dk_at dksX0_addEntry_0 9 rfl rfl)
theorem dX0_addEntry_12 : decode cX0_addEntry 12 = .ok (.astore_n 3, 1) := dk_78 (dk_at dksX0_addEntry_0 12 rfl rfl)
theorem dX0_addEntry_13 : decode cX0_addEntry 13 = .ok (.iconst 1, 1) := dk_4 (dk_at dksX0_addEntry_0 13 rfl rfl)
theorem dX0_addEntry_14 : decode cX0_addEntry 14 = .ok (.ireturn, 1) := dk_172 (dk_at dksX0_addEntry_0 14 rfl rfl)
theorem dX0_addEntry_15 : decode cX0_addEntry 15 = .ok (.astore_n 3, 1) := dk_78 (dk_at dksX0_addEntry_0 15 rfl rfl)
theorem dX0_addEntry_16 : decode cX0_addEntry 16 = .ok (.iconst 2, 1) := dk_5 (dk_at dksX0_addEntry_0 16 rfl rfl)
theorem dX0_addEntry_17 : decode cX0_addEntry 17 = .ok (.ireturn, 1) := dk_172 (dk_at dksX0_addEntry_0 17 rfl rfl)
theorem dX0_addEntry_18 : decode cX0_addEntry 18 = .ok (.iconst 0, 1) := dk_3 (dk_at dksX0_addEntry_0 18 rfl rfl)
theorem dX0_addEntry_19 : decode cX0_addEntry 19 = .ok (.ireturn, 1) := dk_172 (dk_at dksX0_addEntry_0 19 rfl rfl)
abbrev cX0_removeEntry : ByteArray := method_8_code
def yX0_removeEntry : MethodName := ⟨RX0, "removeEntry", "(LCodeRecovery;I[J)I"⟩
def dkwX0_removeEntry_0 : List UInt8 := [44, 3, 42, 27, 182, 0, 33, 133, 80, 167, 0, 6, 78, 4, 172, 3, 172]
abbrev dktX0_removeEntry_0 : List UInt8 := dkwX0_removeEntry_0 ++ []
theorem dksX0_removeEntry_0 : cX0_removeEntry.data.toList.drop 0 = dktX0_removeEntry_0 := by decide +kernel
theorem dX0_removeEntry_0 : decode cX0_removeEntry 0 = .ok (.aload_n 2, 1) := dk_44 (dk_at dksX0_removeEntry_0 0 rfl rfl)
theorem dX0_removeEntry_1 : decode cX0_removeEntry 1 = .ok (.iconst 0, 1) := dk_3 (dk_at dksX0_removeEntry_0 1 rfl rfl)
theorem dX0_removeEntry_2 : decode cX0_removeEntry 2 = .ok (.aload_n 0, 1) := dk_42 (dk_at dksX0_removeEntry_0 2 rfl rfl)
theorem dX0_removeEntry_3 : decode cX0_removeEntry 3 = .ok (.iload_n 1, 1) := dk_27 (dk_at dksX0_removeEntry_0 3 rfl rfl)
theorem dX0_removeEntry_4 : decode cX0_removeEntry 4 = .ok (.invokevirtual 33, 3) := dk_182 0 33 (dk_at dksX0_removeEntry_0 4 rfl rfl)
theorem dX0_removeEntry_7 : decode cX0_removeEntry 7 = .ok (.i2l, 1) := dk_133 (dk_at dksX0_removeEntry_0 7 rfl rfl)
theorem dX0_removeEntry_8 : decode cX0_removeEntry 8 = .ok (.lastore, 1) := dk_80 (dk_at dksX0_removeEntry_0 8 rfl rfl)
theorem dX0_removeEntry_9 : decode cX0_removeEntry 9 = .ok (.goto 6, 3) := dk_167 0 6 (dk_at dksX0_removeEntry_0 9 rfl rfl)
theorem dX0_removeEntry_12 : decode cX0_removeEntry 12 = .ok (.astore_n 3, 1) := dk_78 (dk_at dksX0_removeEntry_0 12 rfl rfl)
theorem dX0_removeEntry_13 : decode cX0_removeEntry 13 = .ok (.iconst 1, 1) := dk_4 (dk_at dksX0_removeEntry_0 13 rfl rfl)
theorem dX0_removeEntry_14 : decode cX0_removeEntry 14 = .ok (.ireturn, 1) := dk_172 (dk_at dksX0_removeEntry_0 14 rfl rfl)
theorem dX0_removeEntry_15 : decode cX0_removeEntry 15 = .ok (.iconst 0, 1) := dk_3 (dk_at dksX0_removeEntry_0 15 rfl rfl)
theorem dX0_removeEntry_16 : decode cX0_removeEntry 16 = .ok (.ireturn, 1) := dk_172 (dk_at dksX0_removeEntry_0 16 rfl rfl)
abbrev cX0_setThreshold : ByteArray := method_9_code
def yX0_setThreshold : MethodName := ⟨RX0, "setThreshold", "(LCodeRecovery;I[J)I"⟩
def dkwX0_setThreshold_0 : List UInt8 := [44, 3, 42, 27, 182, 0, 36, 133, 80, 167, 0, 6, 78, 4, 172, 3, 172]
abbrev dktX0_setThreshold_0 : List UInt8 := dkwX0_setThreshold_0 ++ []
theorem dksX0_setThreshold_0 : cX0_setThreshold.data.toList.drop 0 = dktX0_setThreshold_0 := by decide +kernel
theorem dX0_setThreshold_0 : decode cX0_setThreshold 0 = .ok (.aload_n 2, 1) := dk_44 (dk_at dksX0_setThreshold_0 0 rfl rfl)
theorem dX0_setThreshold_1 : decode cX0_setThreshold 1 = .ok (.iconst 0, 1) := dk_3 (dk_at dksX0_setThreshold_0 1 rfl rfl)
theorem dX0_setThreshold_2 : decode cX0_setThreshold 2 = .ok (.aload_n 0, 1) := dk_42 (dk_at dksX0_setThreshold_0 2 rfl rfl)
theorem dX0_setThreshold_3 : decode cX0_setThreshold 3 = .ok (.iload_n 1, 1) := dk_27 (dk_at dksX0_setThreshold_0 3 rfl rfl)
theorem dX0_setThreshold_4 : decode cX0_setThreshold 4 = .ok (.invokevirtual 36, 3) := dk_182 0 36 (dk_at dksX0_setThreshold_0 4 rfl rfl)
theorem dX0_setThreshold_7 : decode cX0_setThreshold 7 = .ok (.i2l, 1) := dk_133 (dk_at dksX0_setThreshold_0 7 rfl rfl)
theorem dX0_setThreshold_8 : decode cX0_setThreshold 8 = .ok (.lastore, 1) := dk_80 (dk_at dksX0_setThreshold_0 8 rfl rfl)
theorem dX0_setThreshold_9 : decode cX0_setThreshold 9 = .ok (.goto 6, 3) := dk_167 0 6 (dk_at dksX0_setThreshold_0 9 rfl rfl)
theorem dX0_setThreshold_12 : decode cX0_setThreshold 12 = .ok (.astore_n 3, 1) := dk_78 (dk_at dksX0_setThreshold_0 12 rfl rfl)
theorem dX0_setThreshold_13 : decode cX0_setThreshold 13 = .ok (.iconst 1, 1) := dk_4 (dk_at dksX0_setThreshold_0 13 rfl rfl)
theorem dX0_setThreshold_14 : decode cX0_setThreshold 14 = .ok (.ireturn, 1) := dk_172 (dk_at dksX0_setThreshold_0 14 rfl rfl)
theorem dX0_setThreshold_15 : decode cX0_setThreshold 15 = .ok (.iconst 0, 1) := dk_3 (dk_at dksX0_setThreshold_0 15 rfl rfl)
theorem dX0_setThreshold_16 : decode cX0_setThreshold 16 = .ok (.ireturn, 1) := dk_172 (dk_at dksX0_setThreshold_0 16 rfl rfl)
abbrev cX0_isValid : ByteArray := method_10_code
def yX0_isValid : MethodName := ⟨RX0, "isValid", "(LCodeRecovery;I[J)I"⟩
def dkwX0_isValid_0 : List UInt8 := [44, 3, 42, 27, 182, 0, 39, 153, 0, 7, 10, 167, 0, 4, 9, 80, 167, 0, 6, 78, 4, 172, 3, 172]
abbrev dktX0_isValid_0 : List UInt8 := dkwX0_isValid_0 ++ []
theorem dksX0_isValid_0 : cX0_isValid.data.toList.drop 0 = dktX0_isValid_0 := by decide +kernel
theorem dX0_isValid_0 : decode cX0_isValid 0 = .ok (.aload_n 2, 1) := dk_44 (dk_at dksX0_isValid_0 0 rfl rfl)
theorem dX0_isValid_1 : decode cX0_isValid 1 = .ok (.iconst 0, 1) := dk_3 (dk_at dksX0_isValid_0 1 rfl rfl)
theorem dX0_isValid_2 : decode cX0_isValid 2 = .ok (.aload_n 0, 1) := dk_42 (dk_at dksX0_isValid_0 2 rfl rfl)
theorem dX0_isValid_3 : decode cX0_isValid 3 = .ok (.iload_n 1, 1) := dk_27 (dk_at dksX0_isValid_0 3 rfl rfl)
theorem dX0_isValid_4 : decode cX0_isValid 4 = .ok (.invokevirtual 39, 3) := dk_182 0 39 (dk_at dksX0_isValid_0 4 rfl rfl)
theorem dX0_isValid_7 : decode cX0_isValid 7 = .ok (.ifCond .eq 7, 3) := dk_153 0 7 (dk_at dksX0_isValid_0 7 rfl rfl)
theorem dX0_isValid_10 : decode cX0_isValid 10 = .ok (.lconst 1, 1) := dk_10 (dk_at dksX0_isValid_0 10 rfl rfl)
theorem dX0_isValid_11 : decode cX0_isValid 11 = .ok (.goto 4, 3) := dk_167 0 4 (dk_at dksX0_isValid_0 11 rfl rfl)
theorem dX0_isValid_14 : decode cX0_isValid 14 = .ok (.lconst 0, 1) := dk_9 (dk_at dksX0_isValid_0 14 rfl rfl)
theorem dX0_isValid_15 : decode cX0_isValid 15 = .ok (.lastore, 1) := dk_80 (dk_at dksX0_isValid_0 15 rfl rfl)
theorem dX0_isValid_16 : decode cX0_isValid 16 = .ok (.goto 6, 3) := dk_167 0 6 (dk_at dksX0_isValid_0 16 rfl rfl)
theorem dX0_isValid_19 : decode cX0_isValid 19 = .ok (.astore_n 3, 1) := dk_78 (dk_at dksX0_isValid_0 19 rfl rfl)
theorem dX0_isValid_20 : decode cX0_isValid 20 = .ok (.iconst 1, 1) := dk_4 (dk_at dksX0_isValid_0 20 rfl rfl)
theorem dX0_isValid_21 : decode cX0_isValid 21 = .ok (.ireturn, 1) := dk_172 (dk_at dksX0_isValid_0 21 rfl rfl)
theorem dX0_isValid_22 : decode cX0_isValid 22 = .ok (.iconst 0, 1) := dk_3 (dk_at dksX0_isValid_0 22 rfl rfl)
theorem dX0_isValid_23 : decode cX0_isValid 23 = .ok (.ireturn, 1) := dk_172 (dk_at dksX0_isValid_0 23 rfl rfl)
abbrev cX0_decode : ByteArray := method_11_code
def yX0_decode : MethodName := ⟨RX0, "decode", "(LCodeRecovery;II[J)I"⟩
def dkwX0_decode_1 : List UInt8 := [172, 3, 172]
abbrev dktX0_decode_1 : List UInt8 := dkwX0_decode_1 ++ []
def dkwX0_decode_0 : List UInt8 := [45, 3, 42, 27, 28, 182, 0, 43, 133, 80, 167, 0, 15, 58, 4, 4, 172, 58, 4, 5, 172, 58, 4, 6]
abbrev dktX0_decode_0 : List UInt8 := dkwX0_decode_0 ++ dktX0_decode_1
theorem dksX0_decode_0 : cX0_decode.data.toList.drop 0 = dktX0_decode_0 := by decide +kernel
theorem dksX0_decode_1 : cX0_decode.data.toList.drop 24 = dktX0_decode_1 := dk_seg dksX0_decode_0 24 rfl rfl
theorem dX0_decode_0 : decode cX0_decode 0 = .ok (.aload_n 3, 1) := dk_45 (dk_at dksX0_decode_0 0 rfl rfl)
theorem dX0_decode_1 : decode cX0_decode 1 = .ok (.iconst 0, 1) := dk_3 (dk_at dksX0_decode_0 1 rfl rfl)
theorem dX0_decode_2 : decode cX0_decode 2 = .ok (.aload_n 0, 1) := dk_42 (dk_at dksX0_decode_0 2 rfl rfl)
theorem dX0_decode_3 : decode cX0_decode 3 = .ok (.iload_n 1, 1) := dk_27 (dk_at dksX0_decode_0 3 rfl rfl)
theorem dX0_decode_4 : decode cX0_decode 4 = .ok (.iload_n 2, 1) := dk_28 (dk_at dksX0_decode_0 4 rfl rfl)
theorem dX0_decode_5 : decode cX0_decode 5 = .ok (.invokevirtual 43, 3) := dk_182 0 43 (dk_at dksX0_decode_0 5 rfl rfl)
theorem dX0_decode_8 : decode cX0_decode 8 = .ok (.i2l, 1) := dk_133 (dk_at dksX0_decode_0 8 rfl rfl)
theorem dX0_decode_9 : decode cX0_decode 9 = .ok (.lastore, 1) := dk_80 (dk_at dksX0_decode_0 9 rfl rfl)
theorem dX0_decode_10 : decode cX0_decode 10 = .ok (.goto 15, 3) := dk_167 0 15 (dk_at dksX0_decode_0 10 rfl rfl)
theorem dX0_decode_13 : decode cX0_decode 13 = .ok (.astore 4, 2) := dk_58 4 (dk_at dksX0_decode_0 13 rfl rfl)
theorem dX0_decode_15 : decode cX0_decode 15 = .ok (.iconst 1, 1) := dk_4 (dk_at dksX0_decode_0 15 rfl rfl)
theorem dX0_decode_16 : decode cX0_decode 16 = .ok (.ireturn, 1) := dk_172 (dk_at dksX0_decode_0 16 rfl rfl)
theorem dX0_decode_17 : decode cX0_decode 17 = .ok (.astore 4, 2) := dk_58 4 (dk_at dksX0_decode_0 17 rfl rfl)
theorem dX0_decode_19 : decode cX0_decode 19 = .ok (.iconst 2, 1) := dk_5 (dk_at dksX0_decode_0 19 rfl rfl)
theorem dX0_decode_20 : decode cX0_decode 20 = .ok (.ireturn, 1) := dk_172 (dk_at dksX0_decode_0 20 rfl rfl)
theorem dX0_decode_21 : decode cX0_decode 21 = .ok (.astore 4, 2) := dk_58 4 (dk_at dksX0_decode_0 21 rfl rfl)
theorem dX0_decode_23 : decode cX0_decode 23 = .ok (.iconst 3, 1) := dk_6 (dk_at dksX0_decode_0 23 rfl rfl)
theorem dX0_decode_24 : decode cX0_decode 24 = .ok (.ireturn, 1) := dk_172 (dk_at dksX0_decode_1 0 rfl rfl)
theorem dX0_decode_25 : decode cX0_decode 25 = .ok (.iconst 0, 1) := dk_3 (dk_at dksX0_decode_1 1 rfl rfl)
theorem dX0_decode_26 : decode cX0_decode 26 = .ok (.ireturn, 1) := dk_172 (dk_at dksX0_decode_1 2 rfl rfl)
abbrev cX0_accepted : ByteArray := method_12_code
def yX0_accepted : MethodName := ⟨RX0, "accepted", "(LCodeRecovery;[J)I"⟩
def dkwX0_accepted_0 : List UInt8 := [43, 3, 42, 182, 0, 48, 133, 80, 167, 0, 6, 77, 4, 172, 3, 172]
abbrev dktX0_accepted_0 : List UInt8 := dkwX0_accepted_0 ++ []
theorem dksX0_accepted_0 : cX0_accepted.data.toList.drop 0 = dktX0_accepted_0 := by decide +kernel
theorem dX0_accepted_0 : decode cX0_accepted 0 = .ok (.aload_n 1, 1) := dk_43 (dk_at dksX0_accepted_0 0 rfl rfl)
theorem dX0_accepted_1 : decode cX0_accepted 1 = .ok (.iconst 0, 1) := dk_3 (dk_at dksX0_accepted_0 1 rfl rfl)
theorem dX0_accepted_2 : decode cX0_accepted 2 = .ok (.aload_n 0, 1) := dk_42 (dk_at dksX0_accepted_0 2 rfl rfl)
theorem dX0_accepted_3 : decode cX0_accepted 3 = .ok (.invokevirtual 48, 3) := dk_182 0 48 (dk_at dksX0_accepted_0 3 rfl rfl)
theorem dX0_accepted_6 : decode cX0_accepted 6 = .ok (.i2l, 1) := dk_133 (dk_at dksX0_accepted_0 6 rfl rfl)
theorem dX0_accepted_7 : decode cX0_accepted 7 = .ok (.lastore, 1) := dk_80 (dk_at dksX0_accepted_0 7 rfl rfl)
theorem dX0_accepted_8 : decode cX0_accepted 8 = .ok (.goto 6, 3) := dk_167 0 6 (dk_at dksX0_accepted_0 8 rfl rfl)
theorem dX0_accepted_11 : decode cX0_accepted 11 = .ok (.astore_n 2, 1) := dk_77 (dk_at dksX0_accepted_0 11 rfl rfl)
theorem dX0_accepted_12 : decode cX0_accepted 12 = .ok (.iconst 1, 1) := dk_4 (dk_at dksX0_accepted_0 12 rfl rfl)
theorem dX0_accepted_13 : decode cX0_accepted 13 = .ok (.ireturn, 1) := dk_172 (dk_at dksX0_accepted_0 13 rfl rfl)
theorem dX0_accepted_14 : decode cX0_accepted 14 = .ok (.iconst 0, 1) := dk_3 (dk_at dksX0_accepted_0 14 rfl rfl)
theorem dX0_accepted_15 : decode cX0_accepted 15 = .ok (.ireturn, 1) := dk_172 (dk_at dksX0_accepted_0 15 rfl rfl)
abbrev cX0_acceptedAt : ByteArray := method_13_code
def yX0_acceptedAt : MethodName := ⟨RX0, "acceptedAt", "(LCodeRecovery;I[J)I"⟩
def dkwX0_acceptedAt_0 : List UInt8 := [44, 3, 42, 27, 182, 0, 51, 133, 80, 167, 0, 9, 78, 4, 172, 78, 5, 172, 3, 172]
abbrev dktX0_acceptedAt_0 : List UInt8 := dkwX0_acceptedAt_0 ++ []
theorem dksX0_acceptedAt_0 : cX0_acceptedAt.data.toList.drop 0 = dktX0_acceptedAt_0 := by decide +kernel
theorem dX0_acceptedAt_0 : decode cX0_acceptedAt 0 = .ok (.aload_n 2, 1) := dk_44 (dk_at dksX0_acceptedAt_0 0 rfl rfl)
theorem dX0_acceptedAt_1 : decode cX0_acceptedAt 1 = .ok (.iconst 0, 1) := dk_3 (dk_at dksX0_acceptedAt_0 1 rfl rfl)
theorem dX0_acceptedAt_2 : decode cX0_acceptedAt 2 = .ok (.aload_n 0, 1) := dk_42 (dk_at dksX0_acceptedAt_0 2 rfl rfl)
theorem dX0_acceptedAt_3 : decode cX0_acceptedAt 3 = .ok (.iload_n 1, 1) := dk_27 (dk_at dksX0_acceptedAt_0 3 rfl rfl)
theorem dX0_acceptedAt_4 : decode cX0_acceptedAt 4 = .ok (.invokevirtual 51, 3) := dk_182 0 51 (dk_at dksX0_acceptedAt_0 4 rfl rfl)
theorem dX0_acceptedAt_7 : decode cX0_acceptedAt 7 = .ok (.i2l, 1) := dk_133 (dk_at dksX0_acceptedAt_0 7 rfl rfl)
theorem dX0_acceptedAt_8 : decode cX0_acceptedAt 8 = .ok (.lastore, 1) := dk_80 (dk_at dksX0_acceptedAt_0 8 rfl rfl)
theorem dX0_acceptedAt_9 : decode cX0_acceptedAt 9 = .ok (.goto 9, 3) := dk_167 0 9 (dk_at dksX0_acceptedAt_0 9 rfl rfl)
theorem dX0_acceptedAt_12 : decode cX0_acceptedAt 12 = .ok (.astore_n 3, 1) := dk_78 (dk_at dksX0_acceptedAt_0 12 rfl rfl)
theorem dX0_acceptedAt_13 : decode cX0_acceptedAt 13 = .ok (.iconst 1, 1) := dk_4 (dk_at dksX0_acceptedAt_0 13 rfl rfl)
theorem dX0_acceptedAt_14 : decode cX0_acceptedAt 14 = .ok (.ireturn, 1) := dk_172 (dk_at dksX0_acceptedAt_0 14 rfl rfl)
theorem dX0_acceptedAt_15 : decode cX0_acceptedAt 15 = .ok (.astore_n 3, 1) := dk_78 (dk_at dksX0_acceptedAt_0 15 rfl rfl)
theorem dX0_acceptedAt_16 : decode cX0_acceptedAt 16 = .ok (.iconst 2, 1) := dk_5 (dk_at dksX0_acceptedAt_0 16 rfl rfl)
theorem dX0_acceptedAt_17 : decode cX0_acceptedAt 17 = .ok (.ireturn, 1) := dk_172 (dk_at dksX0_acceptedAt_0 17 rfl rfl)
theorem dX0_acceptedAt_18 : decode cX0_acceptedAt 18 = .ok (.iconst 0, 1) := dk_3 (dk_at dksX0_acceptedAt_0 18 rfl rfl)
theorem dX0_acceptedAt_19 : decode cX0_acceptedAt 19 = .ok (.ireturn, 1) := dk_172 (dk_at dksX0_acceptedAt_0 19 rfl rfl)
abbrev cX0_use : ByteArray := method_14_code
def yX0_use : MethodName := ⟨RX0, "use", "(LCodeRecovery;I[J)I"⟩
def dkwX0_use_0 : List UInt8 := [44, 3, 42, 27, 182, 0, 54, 133, 80, 167, 0, 9, 78, 4, 172, 78, 5, 172, 3, 172]
abbrev dktX0_use_0 : List UInt8 := dkwX0_use_0 ++ []
theorem dksX0_use_0 : cX0_use.data.toList.drop 0 = dktX0_use_0 := by decide +kernel
theorem dX0_use_0 : decode cX0_use 0 = .ok (.aload_n 2, 1) := dk_44 (dk_at dksX0_use_0 0 rfl rfl)
theorem dX0_use_1 : decode cX0_use 1 = .ok (.iconst 0, 1) := dk_3 (dk_at dksX0_use_0 1 rfl rfl)
theorem dX0_use_2 : decode cX0_use 2 = .ok (.aload_n 0, 1) := dk_42 (dk_at dksX0_use_0 2 rfl rfl)
theorem dX0_use_3 : decode cX0_use 3 = .ok (.iload_n 1, 1) := dk_27 (dk_at dksX0_use_0 3 rfl rfl)
theorem dX0_use_4 : decode cX0_use 4 = .ok (.invokevirtual 54, 3) := dk_182 0 54 (dk_at dksX0_use_0 4 rfl rfl)
theorem dX0_use_7 : decode cX0_use 7 = .ok (.i2l, 1) := dk_133 (dk_at dksX0_use_0 7 rfl rfl)
theorem dX0_use_8 : decode cX0_use 8 = .ok (.lastore, 1) := dk_80 (dk_at dksX0_use_0 8 rfl rfl)
theorem dX0_use_9 : decode cX0_use 9 = .ok (.goto 9, 3) := dk_167 0 9 (dk_at dksX0_use_0 9 rfl rfl)
theorem dX0_use_12 : decode cX0_use 12 = .ok (.astore_n 3, 1) := dk_78 (dk_at dksX0_use_0 12 rfl rfl)
theorem dX0_use_13 : decode cX0_use 13 = .ok (.iconst 1, 1) := dk_4 (dk_at dksX0_use_0 13 rfl rfl)
theorem dX0_use_14 : decode cX0_use 14 = .ok (.ireturn, 1) := dk_172 (dk_at dksX0_use_0 14 rfl rfl)
theorem dX0_use_15 : decode cX0_use 15 = .ok (.astore_n 3, 1) := dk_78 (dk_at dksX0_use_0 15 rfl rfl)
theorem dX0_use_16 : decode cX0_use 16 = .ok (.iconst 2, 1) := dk_5 (dk_at dksX0_use_0 16 rfl rfl)
theorem dX0_use_17 : decode cX0_use 17 = .ok (.ireturn, 1) := dk_172 (dk_at dksX0_use_0 17 rfl rfl)
theorem dX0_use_18 : decode cX0_use 18 = .ok (.iconst 0, 1) := dk_3 (dk_at dksX0_use_0 18 rfl rfl)
theorem dX0_use_19 : decode cX0_use 19 = .ok (.ireturn, 1) := dk_172 (dk_at dksX0_use_0 19 rfl rfl)
abbrev cX0_conflictCount : ByteArray := method_15_code
def yX0_conflictCount : MethodName := ⟨RX0, "conflictCount", "(LCodeRecovery;[J)I"⟩
def dkwX0_conflictCount_0 : List UInt8 := [43, 3, 42, 182, 0, 57, 133, 80, 167, 0, 6, 77, 4, 172, 3, 172]
abbrev dktX0_conflictCount_0 : List UInt8 := dkwX0_conflictCount_0 ++ []
theorem dksX0_conflictCount_0 : cX0_conflictCount.data.toList.drop 0 = dktX0_conflictCount_0 := by decide +kernel
theorem dX0_conflictCount_0 : decode cX0_conflictCount 0 = .ok (.aload_n 1, 1) := dk_43 (dk_at dksX0_conflictCount_0 0 rfl rfl)
theorem dX0_conflictCount_1 : decode cX0_conflictCount 1 = .ok (.iconst 0, 1) := dk_3 (dk_at dksX0_conflictCount_0 1 rfl rfl)
theorem dX0_conflictCount_2 : decode cX0_conflictCount 2 = .ok (.aload_n 0, 1) := dk_42 (dk_at dksX0_conflictCount_0 2 rfl rfl)
theorem dX0_conflictCount_3 : decode cX0_conflictCount 3 = .ok (.invokevirtual 57, 3) := dk_182 0 57 (dk_at dksX0_conflictCount_0 3 rfl rfl)
theorem dX0_conflictCount_6 : decode cX0_conflictCount 6 = .ok (.i2l, 1) := dk_133 (dk_at dksX0_conflictCount_0 6 rfl rfl)
theorem dX0_conflictCount_7 : decode cX0_conflictCount 7 = .ok (.lastore, 1) := dk_80 (dk_at dksX0_conflictCount_0 7 rfl rfl)
theorem dX0_conflictCount_8 : decode cX0_conflictCount 8 = .ok (.goto 6, 3) := dk_167 0 6 (dk_at dksX0_conflictCount_0 8 rfl rfl)
theorem dX0_conflictCount_11 : decode cX0_conflictCount 11 = .ok (.astore_n 2, 1) := dk_77 (dk_at dksX0_conflictCount_0 11 rfl rfl)
theorem dX0_conflictCount_12 : decode cX0_conflictCount 12 = .ok (.iconst 1, 1) := dk_4 (dk_at dksX0_conflictCount_0 12 rfl rfl)
theorem dX0_conflictCount_13 : decode cX0_conflictCount 13 = .ok (.ireturn, 1) := dk_172 (dk_at dksX0_conflictCount_0 13 rfl rfl)
theorem dX0_conflictCount_14 : decode cX0_conflictCount 14 = .ok (.iconst 0, 1) := dk_3 (dk_at dksX0_conflictCount_0 14 rfl rfl)
theorem dX0_conflictCount_15 : decode cX0_conflictCount 15 = .ok (.ireturn, 1) := dk_172 (dk_at dksX0_conflictCount_0 15 rfl rfl)
abbrev cX0_conflict : ByteArray := method_16_code
def yX0_conflict : MethodName := ⟨RX0, "conflict", "(LCodeRecovery;I[J)I"⟩
def dkwX0_conflict_0 : List UInt8 := [44, 3, 42, 27, 182, 0, 60, 133, 80, 167, 0, 9, 78, 4, 172, 78, 5, 172, 3, 172]
abbrev dktX0_conflict_0 : List UInt8 := dkwX0_conflict_0 ++ []
theorem dksX0_conflict_0 : cX0_conflict.data.toList.drop 0 = dktX0_conflict_0 := by decide +kernel
theorem dX0_conflict_0 : decode cX0_conflict 0 = .ok (.aload_n 2, 1) := dk_44 (dk_at dksX0_conflict_0 0 rfl rfl)
theorem dX0_conflict_1 : decode cX0_conflict 1 = .ok (.iconst 0, 1) := dk_3 (dk_at dksX0_conflict_0 1 rfl rfl)
theorem dX0_conflict_2 : decode cX0_conflict 2 = .ok (.aload_n 0, 1) := dk_42 (dk_at dksX0_conflict_0 2 rfl rfl)
theorem dX0_conflict_3 : decode cX0_conflict 3 = .ok (.iload_n 1, 1) := dk_27 (dk_at dksX0_conflict_0 3 rfl rfl)
theorem dX0_conflict_4 : decode cX0_conflict 4 = .ok (.invokevirtual 60, 3) := dk_182 0 60 (dk_at dksX0_conflict_0 4 rfl rfl)
theorem dX0_conflict_7 : decode cX0_conflict 7 = .ok (.i2l, 1) := dk_133 (dk_at dksX0_conflict_0 7 rfl rfl)
theorem dX0_conflict_8 : decode cX0_conflict 8 = .ok (.lastore, 1) := dk_80 (dk_at dksX0_conflict_0 8 rfl rfl)
theorem dX0_conflict_9 : decode cX0_conflict 9 = .ok (.goto 9, 3) := dk_167 0 9 (dk_at dksX0_conflict_0 9 rfl rfl)
theorem dX0_conflict_12 : decode cX0_conflict 12 = .ok (.astore_n 3, 1) := dk_78 (dk_at dksX0_conflict_0 12 rfl rfl)
theorem dX0_conflict_13 : decode cX0_conflict 13 = .ok (.iconst 1, 1) := dk_4 (dk_at dksX0_conflict_0 13 rfl rfl)
theorem dX0_conflict_14 : decode cX0_conflict 14 = .ok (.ireturn, 1) := dk_172 (dk_at dksX0_conflict_0 14 rfl rfl)
theorem dX0_conflict_15 : decode cX0_conflict 15 = .ok (.astore_n 3, 1) := dk_78 (dk_at dksX0_conflict_0 15 rfl rfl)
theorem dX0_conflict_16 : decode cX0_conflict 16 = .ok (.iconst 2, 1) := dk_5 (dk_at dksX0_conflict_0 16 rfl rfl)
theorem dX0_conflict_17 : decode cX0_conflict 17 = .ok (.ireturn, 1) := dk_172 (dk_at dksX0_conflict_0 17 rfl rfl)
theorem dX0_conflict_18 : decode cX0_conflict 18 = .ok (.iconst 0, 1) := dk_3 (dk_at dksX0_conflict_0 18 rfl rfl)
theorem dX0_conflict_19 : decode cX0_conflict 19 = .ok (.ireturn, 1) := dk_172 (dk_at dksX0_conflict_0 19 rfl rfl)
abbrev cX0_badTargets : ByteArray := method_17_code
def yX0_badTargets : MethodName := ⟨RX0, "badTargets", "(LCodeRecovery;[J)I"⟩
def dkwX0_badTargets_0 : List UInt8 := [43, 3, 42, 182, 0, 63, 133, 80, 167, 0, 6, 77, 4, 172, 3, 172]
abbrev dktX0_badTargets_0 : List UInt8 := dkwX0_badTargets_0 ++ []
theorem dksX0_badTargets_0 : cX0_badTargets.data.toList.drop 0 = dktX0_badTargets_0 := by decide +kernel
theorem dX0_badTargets_0 : decode cX0_badTargets 0 = .ok (.aload_n 1, 1) := dk_43 (dk_at dksX0_badTargets_0 0 rfl rfl)
theorem dX0_badTargets_1 : decode cX0_badTargets 1 = .ok (.iconst 0, 1) := dk_3 (dk_at dksX0_badTargets_0 1 rfl rfl)
theorem dX0_badTargets_2 : decode cX0_badTargets 2 = .ok (.aload_n 0, 1) := dk_42 (dk_at dksX0_badTargets_0 2 rfl rfl)
theorem dX0_badTargets_3 : decode cX0_badTargets 3 = .ok (.invokevirtual 63, 3) := dk_182 0 63 (dk_at dksX0_badTargets_0 3 rfl rfl)
theorem dX0_badTargets_6 : decode cX0_badTargets 6 = .ok (.i2l, 1) := dk_133 (dk_at dksX0_badTargets_0 6 rfl rfl)
theorem dX0_badTargets_7 : decode cX0_badTargets 7 = .ok (.lastore, 1) := dk_80 (dk_at dksX0_badTargets_0 7 rfl rfl)
theorem dX0_badTargets_8 : decode cX0_badTargets 8 = .ok (.goto 6, 3) := dk_167 0 6 (dk_at dksX0_badTargets_0 8 rfl rfl)
theorem dX0_badTargets_11 : decode cX0_badTargets 11 = .ok (.astore_n 2, 1) := dk_77 (dk_at dksX0_badTargets_0 11 rfl rfl)
theorem dX0_badTargets_12 : decode cX0_badTargets 12 = .ok (.iconst 1, 1) := dk_4 (dk_at dksX0_badTargets_0 12 rfl rfl)
theorem dX0_badTargets_13 : decode cX0_badTargets 13 = .ok (.ireturn, 1) := dk_172 (dk_at dksX0_badTargets_0 13 rfl rfl)
theorem dX0_badTargets_14 : decode cX0_badTargets 14 = .ok (.iconst 0, 1) := dk_3 (dk_at dksX0_badTargets_0 14 rfl rfl)
theorem dX0_badTargets_15 : decode cX0_badTargets 15 = .ok (.ireturn, 1) := dk_172 (dk_at dksX0_badTargets_0 15 rfl rfl)
abbrev cX0_tableCount : ByteArray := method_18_code
def yX0_tableCount : MethodName := ⟨RX0, "tableCount", "(LCodeRecovery;[J)I"⟩
def dkwX0_tableCount_0 : List UInt8 := [43, 3, 42, 182, 0, 66, 133, 80, 167, 0, 6, 77, 4, 172, 3, 172]
abbrev dktX0_tableCount_0 : List UInt8 := dkwX0_tableCount_0 ++ []
theorem dksX0_tableCount_0 : cX0_tableCount.data.toList.drop 0 = dktX0_tableCount_0 := by decide +kernel
theorem dX0_tableCount_0 : decode cX0_tableCount 0 = .ok (.aload_n 1, 1) := dk_43 (dk_at dksX0_tableCount_0 0 rfl rfl)
theorem dX0_tableCount_1 : decode cX0_tableCount 1 = .ok (.iconst 0, 1) := dk_3 (dk_at dksX0_tableCount_0 1 rfl rfl)
theorem dX0_tableCount_2 : decode cX0_tableCount 2 = .ok (.aload_n 0, 1) := dk_42 (dk_at dksX0_tableCount_0 2 rfl rfl)
theorem dX0_tableCount_3 : decode cX0_tableCount 3 = .ok (.invokevirtual 66, 3) := dk_182 0 66 (dk_at dksX0_tableCount_0 3 rfl rfl)
theorem dX0_tableCount_6 : decode cX0_tableCount 6 = .ok (.i2l, 1) := dk_133 (dk_at dksX0_tableCount_0 6 rfl rfl)
theorem dX0_tableCount_7 : decode cX0_tableCount 7 = .ok (.lastore, 1) := dk_80 (dk_at dksX0_tableCount_0 7 rfl rfl)
theorem dX0_tableCount_8 : decode cX0_tableCount 8 = .ok (.goto 6, 3) := dk_167 0 6 (dk_at dksX0_tableCount_0 8 rfl rfl)
theorem dX0_tableCount_11 : decode cX0_tableCount 11 = .ok (.astore_n 2, 1) := dk_77 (dk_at dksX0_tableCount_0 11 rfl rfl)
theorem dX0_tableCount_12 : decode cX0_tableCount 12 = .ok (.iconst 1, 1) := dk_4 (dk_at dksX0_tableCount_0 12 rfl rfl)
theorem dX0_tableCount_13 : decode cX0_tableCount 13 = .ok (.ireturn, 1) := dk_172 (dk_at dksX0_tableCount_0 13 rfl rfl)
theorem dX0_tableCount_14 : decode cX0_tableCount 14 = .ok (.iconst 0, 1) := dk_3 (dk_at dksX0_tableCount_0 14 rfl rfl)
theorem dX0_tableCount_15 : decode cX0_tableCount 15 = .ok (.ireturn, 1) := dk_172 (dk_at dksX0_tableCount_0 15 rfl rfl)
abbrev cX0_table : ByteArray := method_19_code
def yX0_table : MethodName := ⟨RX0, "table", "(LCodeRecovery;II[J)I"⟩
def dkwX0_table_1 : List UInt8 := [172, 3, 172]
abbrev dktX0_table_1 : List UInt8 := dkwX0_table_1 ++ []
def dkwX0_table_0 : List UInt8 := [45, 3, 42, 27, 28, 182, 0, 69, 133, 80, 167, 0, 15, 58, 4, 4, 172, 58, 4, 5, 172, 58, 4, 6]
abbrev dktX0_table_0 : List UInt8 := dkwX0_table_0 ++ dktX0_table_1
theorem dksX0_table_0 : cX0_table.data.toList.drop 0 = dktX0_table_0 := by decide +kernel
theorem dksX0_table_1 : cX0_table.data.toList.drop 24 = dktX0_table_1 := dk_seg dksX0_table_0 24 rfl rfl
theorem dX0_table_0 : decode cX0_table 0 = .ok (.aload_n 3, 1) := dk_45 (dk_at dksX0_table_0 0 rfl rfl)
theorem dX0_table_1 : decode cX0_table 1 = .ok (.iconst 0, 1) := dk_3 (dk_at dksX0_table_0 1 rfl rfl)
theorem dX0_table_2 : decode cX0_table 2 = .ok (.aload_n 0, 1) := dk_42 (dk_at dksX0_table_0 2 rfl rfl)
theorem dX0_table_3 : decode cX0_table 3 = .ok (.iload_n 1, 1) := dk_27 (dk_at dksX0_table_0 3 rfl rfl)
theorem dX0_table_4 : decode cX0_table 4 = .ok (.iload_n 2, 1) := dk_28 (dk_at dksX0_table_0 4 rfl rfl)
theorem dX0_table_5 : decode cX0_table 5 = .ok (.invokevirtual 69, 3) := dk_182 0 69 (dk_at dksX0_table_0 5 rfl rfl)
theorem dX0_table_8 : decode cX0_table 8 = .ok (.i2l, 1) := dk_133 (dk_at dksX0_table_0 8 rfl rfl)
theorem dX0_table_9 : decode cX0_table 9 = .ok (.lastore, 1) := dk_80 (dk_at dksX0_table_0 9 rfl rfl)
theorem dX0_table_10 : decode cX0_table 10 = .ok (.goto 15, 3) := dk_167 0 15 (dk_at dksX0_table_0 10 rfl rfl)
theorem dX0_table_13 : decode cX0_table 13 = .ok (.astore 4, 2) := dk_58 4 (dk_at dksX0_table_0 13 rfl rfl)
theorem dX0_table_15 : decode cX0_table 15 = .ok (.iconst 1, 1) := dk_4 (dk_at dksX0_table_0 15 rfl rfl)
theorem dX0_table_16 : decode cX0_table 16 = .ok (.ireturn, 1) := dk_172 (dk_at dksX0_table_0 16 rfl rfl)
theorem dX0_table_17 : decode cX0_table 17 = .ok (.astore 4, 2) := dk_58 4 (dk_at dksX0_table_0 17 rfl rfl)
theorem dX0_table_19 : decode cX0_table 19 = .ok (.iconst 2, 1) := dk_5 (dk_at dksX0_table_0 19 rfl rfl)
theorem dX0_table_20 : decode cX0_table 20 = .ok (.ireturn, 1) := dk_172 (dk_at dksX0_table_0 20 rfl rfl)
theorem dX0_table_21 : decode cX0_table 21 = .ok (.astore 4, 2) := dk_58 4 (dk_at dksX0_table_0 21 rfl rfl)
theorem dX0_table_23 : decode cX0_table 23 = .ok (.iconst 3, 1) := dk_6 (dk_at dksX0_table_0 23 rfl rfl)
theorem dX0_table_24 : decode cX0_table 24 = .ok (.ireturn, 1) := dk_172 (dk_at dksX0_table_1 0 rfl rfl)
theorem dX0_table_25 : decode cX0_table 25 = .ok (.iconst 0, 1) := dk_3 (dk_at dksX0_table_1 1 rfl rfl)
theorem dX0_table_26 : decode cX0_table 26 = .ok (.ireturn, 1) := dk_172 (dk_at dksX0_table_1 2 rfl rfl)
abbrev cX0_tableEntry : ByteArray := method_20_code
def yX0_tableEntry : MethodName := ⟨RX0, "tableEntry", "(LCodeRecovery;II[J)I"⟩
def dkwX0_tableEntry_0 : List UInt8 := [45, 3, 42, 27, 28, 182, 0, 72, 133, 80, 167, 0, 11, 58, 4, 4, 172, 58, 4, 5, 172, 3, 172]
abbrev dktX0_tableEntry_0 : List UInt8 := dkwX0_tableEntry_0 ++ []
theorem dksX0_tableEntry_0 : cX0_tableEntry.data.toList.drop 0 = dktX0_tableEntry_0 := by decide +kernel
theorem dX0_tableEntry_0 : decode cX0_tableEntry 0 = .ok (.aload_n 3, 1) := dk_45 (dk_at dksX0_tableEntry_0 0 rfl rfl)
theorem dX0_tableEntry_1 : decode cX0_tableEntry 1 = .ok (.iconst 0, 1) := dk_3 (dk_at dksX0_tableEntry_0 1 rfl rfl)
theorem dX0_tableEntry_2 : decode cX0_tableEntry 2 = .ok (.aload_n 0, 1) := dk_42 (dk_at dksX0_tableEntry_0 2 rfl rfl)
theorem dX0_tableEntry_3 : decode cX0_tableEntry 3 = .ok (.iload_n 1, 1) := dk_27 (dk_at dksX0_tableEntry_0 3 rfl rfl)
theorem dX0_tableEntry_4 : decode cX0_tableEntry 4 = .ok (.iload_n 2, 1) := dk_28 (dk_at dksX0_tableEntry_0 4 rfl rfl)
theorem dX0_tableEntry_5 : decode cX0_tableEntry 5 = .ok (.invokevirtual 72, 3) := dk_182 0 72 (dk_at dksX0_tableEntry_0 5 rfl rfl)
theorem dX0_tableEntry_8 : decode cX0_tableEntry 8 = .ok (.i2l, 1) := dk_133 (dk_at dksX0_tableEntry_0 8 rfl rfl)
theorem dX0_tableEntry_9 : decode cX0_tableEntry 9 = .ok (.lastore, 1) := dk_80 (dk_at dksX0_tableEntry_0 9 rfl rfl)
theorem dX0_tableEntry_10 : decode cX0_tableEntry 10 = .ok (.goto 11, 3) := dk_167 0 11 (dk_at dksX0_tableEntry_0 10 rfl rfl)
theorem dX0_tableEntry_13 : decode cX0_tableEntry 13 = .ok (.astore 4, 2) := dk_58 4 (dk_at dksX0_tableEntry_0 13 rfl rfl)
theorem dX0_tableEntry_15 : decode cX0_tableEntry 15 = .ok (.iconst 1, 1) := dk_4 (dk_at dksX0_tableEntry_0 15 rfl rfl)
theorem dX0_tableEntry_16 : decode cX0_tableEntry 16 = .ok (.ireturn, 1) := dk_172 (dk_at dksX0_tableEntry_0 16 rfl rfl)
theorem dX0_tableEntry_17 : decode cX0_tableEntry 17 = .ok (.astore 4, 2) := dk_58 4 (dk_at dksX0_tableEntry_0 17 rfl rfl)
theorem dX0_tableEntry_19 : decode cX0_tableEntry 19 = .ok (.iconst 2, 1) := dk_5 (dk_at dksX0_tableEntry_0 19 rfl rfl)
theorem dX0_tableEntry_20 : decode cX0_tableEntry 20 = .ok (.ireturn, 1) := dk_172 (dk_at dksX0_tableEntry_0 20 rfl rfl)
theorem dX0_tableEntry_21 : decode cX0_tableEntry 21 = .ok (.iconst 0, 1) := dk_3 (dk_at dksX0_tableEntry_0 21 rfl rfl)
theorem dX0_tableEntry_22 : decode cX0_tableEntry 22 = .ok (.ireturn, 1) := dk_172 (dk_at dksX0_tableEntry_0 22 rfl rfl)
abbrev cX0_isComplete : ByteArray := method_21_code
def yX0_isComplete : MethodName := ⟨RX0, "isComplete", "(LCodeRecovery;I[J)I"⟩
def dkwX0_isComplete_1 : List UInt8 := [172, 3, 172]
abbrev dktX0_isComplete_1 : List UInt8 := dkwX0_isComplete_1 ++ []
def dkwX0_isComplete_0 : List UInt8 := [44, 3, 42, 27, 182, 0, 75, 153, 0, 7, 10, 167, 0, 4, 9, 80, 167, 0, 9, 78, 4, 172, 78, 5]
abbrev dktX0_isComplete_0 : List UInt8 := dkwX0_isComplete_0 ++ dktX0_isComplete_1
theorem dksX0_isComplete_0 : cX0_isComplete.data.toList.drop 0 = dktX0_isComplete_0 := by decide +kernel
theorem dksX0_isComplete_1 : cX0_isComplete.data.toList.drop 24 = dktX0_isComplete_1 := dk_seg dksX0_isComplete_0 24 rfl rfl
theorem dX0_isComplete_0 : decode cX0_isComplete 0 = .ok (.aload_n 2, 1) := dk_44 (dk_at dksX0_isComplete_0 0 rfl rfl)
theorem dX0_isComplete_1 : decode cX0_isComplete 1 = .ok (.iconst 0, 1) := dk_3 (dk_at dksX0_isComplete_0 1 rfl rfl)
theorem dX0_isComplete_2 : decode cX0_isComplete 2 = .ok (.aload_n 0, 1) := dk_42 (dk_at dksX0_isComplete_0 2 rfl rfl)
theorem dX0_isComplete_3 : decode cX0_isComplete 3 = .ok (.iload_n 1, 1) := dk_27 (dk_at dksX0_isComplete_0 3 rfl rfl)
theorem dX0_isComplete_4 : decode cX0_isComplete 4 = .ok (.invokevirtual 75, 3) := dk_182 0 75 (dk_at dksX0_isComplete_0 4 rfl rfl)
theorem dX0_isComplete_7 : decode cX0_isComplete 7 = .ok (.ifCond .eq 7, 3) := dk_153 0 7 (dk_at dksX0_isComplete_0 7 rfl rfl)
theorem dX0_isComplete_10 : decode cX0_isComplete 10 = .ok (.lconst 1, 1) := dk_10 (dk_at dksX0_isComplete_0 10 rfl rfl)
theorem dX0_isComplete_11 : decode cX0_isComplete 11 = .ok (.goto 4, 3) := dk_167 0 4 (dk_at dksX0_isComplete_0 11 rfl rfl)
theorem dX0_isComplete_14 : decode cX0_isComplete 14 = .ok (.lconst 0, 1) := dk_9 (dk_at dksX0_isComplete_0 14 rfl rfl)
theorem dX0_isComplete_15 : decode cX0_isComplete 15 = .ok (.lastore, 1) := dk_80 (dk_at dksX0_isComplete_0 15 rfl rfl)
theorem dX0_isComplete_16 : decode cX0_isComplete 16 = .ok (.goto 9, 3) := dk_167 0 9 (dk_at dksX0_isComplete_0 16 rfl rfl)
theorem dX0_isComplete_19 : decode cX0_isComplete 19 = .ok (.astore_n 3, 1) := dk_78 (dk_at dksX0_isComplete_0 19 rfl rfl)
theorem dX0_isComplete_20 : decode cX0_isComplete 20 = .ok (.iconst 1, 1) := dk_4 (dk_at dksX0_isComplete_0 20 rfl rfl)
theorem dX0_isComplete_21 : decode cX0_isComplete 21 = .ok (.ireturn, 1) := dk_172 (dk_at dksX0_isComplete_0 21 rfl rfl)
theorem dX0_isComplete_22 : decode cX0_isComplete 22 = .ok (.astore_n 3, 1) := dk_78 (dk_at dksX0_isComplete_0 22 rfl rfl)
theorem dX0_isComplete_23 : decode cX0_isComplete 23 = .ok (.iconst 2, 1) := dk_5 (dk_at dksX0_isComplete_0 23 rfl rfl)
theorem dX0_isComplete_24 : decode cX0_isComplete 24 = .ok (.ireturn, 1) := dk_172 (dk_at dksX0_isComplete_1 0 rfl rfl)
theorem dX0_isComplete_25 : decode cX0_isComplete 25 = .ok (.iconst 0, 1) := dk_3 (dk_at dksX0_isComplete_1 1 rfl rfl)
theorem dX0_isComplete_26 : decode cX0_isComplete 26 = .ok (.ireturn, 1) := dk_172 (dk_at dksX0_isComplete_1 2 rfl rfl)
abbrev cX0_gapCount : ByteArray := method_22_code
def yX0_gapCount : MethodName := ⟨RX0, "gapCount", "(LCodeRecovery;[J)I"⟩
def dkwX0_gapCount_0 : List UInt8 := [43, 3, 42, 182, 0, 78, 133, 80, 167, 0, 6, 77, 4, 172, 3, 172]
abbrev dktX0_gapCount_0 : List UInt8 := dkwX0_gapCount_0 ++ []
theorem dksX0_gapCount_0 : cX0_gapCount.data.toList.drop 0 = dktX0_gapCount_0 := by decide +kernel
theorem dX0_gapCount_0 : decode cX0_gapCount 0 = .ok (.aload_n 1, 1) := dk_43 (dk_at dksX0_gapCount_0 0 rfl rfl)
theorem dX0_gapCount_1 : decode cX0_gapCount 1 = .ok (.iconst 0, 1) := dk_3 (dk_at dksX0_gapCount_0 1 rfl rfl)
theorem dX0_gapCount_2 : decode cX0_gapCount 2 = .ok (.aload_n 0, 1) := dk_42 (dk_at dksX0_gapCount_0 2 rfl rfl)
theorem dX0_gapCount_3 : decode cX0_gapCount 3 = .ok (.invokevirtual 78, 3) := dk_182 0 78 (dk_at dksX0_gapCount_0 3 rfl rfl)
theorem dX0_gapCount_6 : decode cX0_gapCount 6 = .ok (.i2l, 1) := dk_133 (dk_at dksX0_gapCount_0 6 rfl rfl)
theorem dX0_gapCount_7 : decode cX0_gapCount 7 = .ok (.lastore, 1) := dk_80 (dk_at dksX0_gapCount_0 7 rfl rfl)
theorem dX0_gapCount_8 : decode cX0_gapCount 8 = .ok (.goto 6, 3) := dk_167 0 6 (dk_at dksX0_gapCount_0 8 rfl rfl)
theorem dX0_gapCount_11 : decode cX0_gapCount 11 = .ok (.astore_n 2, 1) := dk_77 (dk_at dksX0_gapCount_0 11 rfl rfl)
theorem dX0_gapCount_12 : decode cX0_gapCount 12 = .ok (.iconst 1, 1) := dk_4 (dk_at dksX0_gapCount_0 12 rfl rfl)
theorem dX0_gapCount_13 : decode cX0_gapCount 13 = .ok (.ireturn, 1) := dk_172 (dk_at dksX0_gapCount_0 13 rfl rfl)
theorem dX0_gapCount_14 : decode cX0_gapCount 14 = .ok (.iconst 0, 1) := dk_3 (dk_at dksX0_gapCount_0 14 rfl rfl)
theorem dX0_gapCount_15 : decode cX0_gapCount 15 = .ok (.ireturn, 1) := dk_172 (dk_at dksX0_gapCount_0 15 rfl rfl)
abbrev cX0_gap : ByteArray := method_23_code
def yX0_gap : MethodName := ⟨RX0, "gap", "(LCodeRecovery;II[J)I"⟩
def dkwX0_gap_1 : List UInt8 := [172, 3, 172]
abbrev dktX0_gap_1 : List UInt8 := dkwX0_gap_1 ++ []
def dkwX0_gap_0 : List UInt8 := [45, 3, 42, 27, 28, 182, 0, 81, 133, 80, 167, 0, 15, 58, 4, 4, 172, 58, 4, 5, 172, 58, 4, 6]
abbrev dktX0_gap_0 : List UInt8 := dkwX0_gap_0 ++ dktX0_gap_1
theorem dksX0_gap_0 : cX0_gap.data.toList.drop 0 = dktX0_gap_0 := by decide +kernel
theorem dksX0_gap_1 : cX0_gap.data.toList.drop 24 = dktX0_gap_1 := dk_seg dksX0_gap_0 24 rfl rfl
theorem dX0_gap_0 : decode cX0_gap 0 = .ok (.aload_n 3, 1) := dk_45 (dk_at dksX0_gap_0 0 rfl rfl)
theorem dX0_gap_1 : decode cX0_gap 1 = .ok (.iconst 0, 1) := dk_3 (dk_at dksX0_gap_0 1 rfl rfl)
theorem dX0_gap_2 : decode cX0_gap 2 = .ok (.aload_n 0, 1) := dk_42 (dk_at dksX0_gap_0 2 rfl rfl)
theorem dX0_gap_3 : decode cX0_gap 3 = .ok (.iload_n 1, 1) := dk_27 (dk_at dksX0_gap_0 3 rfl rfl)
theorem dX0_gap_4 : decode cX0_gap 4 = .ok (.iload_n 2, 1) := dk_28 (dk_at dksX0_gap_0 4 rfl rfl)
theorem dX0_gap_5 : decode cX0_gap 5 = .ok (.invokevirtual 81, 3) := dk_182 0 81 (dk_at dksX0_gap_0 5 rfl rfl)
theorem dX0_gap_8 : decode cX0_gap 8 = .ok (.i2l, 1) := dk_133 (dk_at dksX0_gap_0 8 rfl rfl)
theorem dX0_gap_9 : decode cX0_gap 9 = .ok (.lastore, 1) := dk_80 (dk_at dksX0_gap_0 9 rfl rfl)
theorem dX0_gap_10 : decode cX0_gap 10 = .ok (.goto 15, 3) := dk_167 0 15 (dk_at dksX0_gap_0 10 rfl rfl)
theorem dX0_gap_13 : decode cX0_gap 13 = .ok (.astore 4, 2) := dk_58 4 (dk_at dksX0_gap_0 13 rfl rfl)
theorem dX0_gap_15 : decode cX0_gap 15 = .ok (.iconst 1, 1) := dk_4 (dk_at dksX0_gap_0 15 rfl rfl)
theorem dX0_gap_16 : decode cX0_gap 16 = .ok (.ireturn, 1) := dk_172 (dk_at dksX0_gap_0 16 rfl rfl)
theorem dX0_gap_17 : decode cX0_gap 17 = .ok (.astore 4, 2) := dk_58 4 (dk_at dksX0_gap_0 17 rfl rfl)
theorem dX0_gap_19 : decode cX0_gap 19 = .ok (.iconst 2, 1) := dk_5 (dk_at dksX0_gap_0 19 rfl rfl)
theorem dX0_gap_20 : decode cX0_gap 20 = .ok (.ireturn, 1) := dk_172 (dk_at dksX0_gap_0 20 rfl rfl)
theorem dX0_gap_21 : decode cX0_gap 21 = .ok (.astore 4, 2) := dk_58 4 (dk_at dksX0_gap_0 21 rfl rfl)
theorem dX0_gap_23 : decode cX0_gap 23 = .ok (.iconst 3, 1) := dk_6 (dk_at dksX0_gap_0 23 rfl rfl)
theorem dX0_gap_24 : decode cX0_gap 24 = .ok (.ireturn, 1) := dk_172 (dk_at dksX0_gap_1 0 rfl rfl)
theorem dX0_gap_25 : decode cX0_gap 25 = .ok (.iconst 0, 1) := dk_3 (dk_at dksX0_gap_1 1 rfl rfl)
theorem dX0_gap_26 : decode cX0_gap 26 = .ok (.ireturn, 1) := dk_172 (dk_at dksX0_gap_1 2 rfl rfl)
abbrev cX0_speculative : ByteArray := method_24_code
def yX0_speculative : MethodName := ⟨RX0, "speculative", "(LCodeRecovery;[J)I"⟩
def dkwX0_speculative_0 : List UInt8 := [43, 3, 42, 182, 0, 84, 133, 80, 167, 0, 6, 77, 4, 172, 3, 172]
abbrev dktX0_speculative_0 : List UInt8 := dkwX0_speculative_0 ++ []
theorem dksX0_speculative_0 : cX0_speculative.data.toList.drop 0 = dktX0_speculative_0 := by decide +kernel
theorem dX0_speculative_0 : decode cX0_speculative 0 = .ok (.aload_n 1, 1) := dk_43 (dk_at dksX0_speculative_0 0 rfl rfl)
theorem dX0_speculative_1 : decode cX0_speculative 1 = .ok (.iconst 0, 1) := dk_3 (dk_at dksX0_speculative_0 1 rfl rfl)
theorem dX0_speculative_2 : decode cX0_speculative 2 = .ok (.aload_n 0, 1) := dk_42 (dk_at dksX0_speculative_0 2 rfl rfl)
theorem dX0_speculative_3 : decode cX0_speculative 3 = .ok (.invokevirtual 84, 3) := dk_182 0 84 (dk_at dksX0_speculative_0 3 rfl rfl)
theorem dX0_speculative_6 : decode cX0_speculative 6 = .ok (.i2l, 1) := dk_133 (dk_at dksX0_speculative_0 6 rfl rfl)
theorem dX0_speculative_7 : decode cX0_speculative 7 = .ok (.lastore, 1) := dk_80 (dk_at dksX0_speculative_0 7 rfl rfl)
theorem dX0_speculative_8 : decode cX0_speculative 8 = .ok (.goto 6, 3) := dk_167 0 6 (dk_at dksX0_speculative_0 8 rfl rfl)
theorem dX0_speculative_11 : decode cX0_speculative 11 = .ok (.astore_n 2, 1) := dk_77 (dk_at dksX0_speculative_0 11 rfl rfl)
theorem dX0_speculative_12 : decode cX0_speculative 12 = .ok (.iconst 1, 1) := dk_4 (dk_at dksX0_speculative_0 12 rfl rfl)
theorem dX0_speculative_13 : decode cX0_speculative 13 = .ok (.ireturn, 1) := dk_172 (dk_at dksX0_speculative_0 13 rfl rfl)
theorem dX0_speculative_14 : decode cX0_speculative 14 = .ok (.iconst 0, 1) := dk_3 (dk_at dksX0_speculative_0 14 rfl rfl)
theorem dX0_speculative_15 : decode cX0_speculative 15 = .ok (.ireturn, 1) := dk_172 (dk_at dksX0_speculative_0 15 rfl rfl)
abbrev cX0_blockCount : ByteArray := method_25_code
def yX0_blockCount : MethodName := ⟨RX0, "blockCount", "(LCodeRecovery;[J)I"⟩
def dkwX0_blockCount_0 : List UInt8 := [43, 3, 42, 182, 0, 87, 133, 80, 167, 0, 6, 77, 4, 172, 3, 172]
abbrev dktX0_blockCount_0 : List UInt8 := dkwX0_blockCount_0 ++ []
theorem dksX0_blockCount_0 : cX0_blockCount.data.toList.drop 0 = dktX0_blockCount_0 := by decide +kernel
theorem dX0_blockCount_0 : decode cX0_blockCount 0 = .ok (.aload_n 1, 1) := dk_43 (dk_at dksX0_blockCount_0 0 rfl rfl)
theorem dX0_blockCount_1 : decode cX0_blockCount 1 = .ok (.iconst 0, 1) := dk_3 (dk_at dksX0_blockCount_0 1 rfl rfl)
theorem dX0_blockCount_2 : decode cX0_blockCount 2 = .ok (.aload_n 0, 1) := dk_42 (dk_at dksX0_blockCount_0 2 rfl rfl)
theorem dX0_blockCount_3 : decode cX0_blockCount 3 = .ok (.invokevirtual 87, 3) := dk_182 0 87 (dk_at dksX0_blockCount_0 3 rfl rfl)
theorem dX0_blockCount_6 : decode cX0_blockCount 6 = .ok (.i2l, 1) := dk_133 (dk_at dksX0_blockCount_0 6 rfl rfl)
theorem dX0_blockCount_7 : decode cX0_blockCount 7 = .ok (.lastore, 1) := dk_80 (dk_at dksX0_blockCount_0 7 rfl rfl)
theorem dX0_blockCount_8 : decode cX0_blockCount 8 = .ok (.goto 6, 3) := dk_167 0 6 (dk_at dksX0_blockCount_0 8 rfl rfl)
theorem dX0_blockCount_11 : decode cX0_blockCount 11 = .ok (.astore_n 2, 1) := dk_77 (dk_at dksX0_blockCount_0 11 rfl rfl)
theorem dX0_blockCount_12 : decode cX0_blockCount 12 = .ok (.iconst 1, 1) := dk_4 (dk_at dksX0_blockCount_0 12 rfl rfl)
theorem dX0_blockCount_13 : decode cX0_blockCount 13 = .ok (.ireturn, 1) := dk_172 (dk_at dksX0_blockCount_0 13 rfl rfl)
theorem dX0_blockCount_14 : decode cX0_blockCount 14 = .ok (.iconst 0, 1) := dk_3 (dk_at dksX0_blockCount_0 14 rfl rfl)
theorem dX0_blockCount_15 : decode cX0_blockCount 15 = .ok (.ireturn, 1) := dk_172 (dk_at dksX0_blockCount_0 15 rfl rfl)
abbrev cX0_block : ByteArray := method_26_code
def yX0_block : MethodName := ⟨RX0, "block", "(LCodeRecovery;II[J)I"⟩
def dkwX0_block_1 : List UInt8 := [172, 3, 172]
abbrev dktX0_block_1 : List UInt8 := dkwX0_block_1 ++ []
def dkwX0_block_0 : List UInt8 := [45, 3, 42, 27, 28, 182, 0, 90, 133, 80, 167, 0, 15, 58, 4, 4, 172, 58, 4, 5, 172, 58, 4, 6]
abbrev dktX0_block_0 : List UInt8 := dkwX0_block_0 ++ dktX0_block_1
theorem dksX0_block_0 : cX0_block.data.toList.drop 0 = dktX0_block_0 := by decide +kernel
theorem dksX0_block_1 : cX0_block.data.toList.drop 24 = dktX0_block_1 := dk_seg dksX0_block_0 24 rfl rfl
theorem dX0_block_0 : decode cX0_block 0 = .ok (.aload_n 3, 1) := dk_45 (dk_at dksX0_block_0 0 rfl rfl)
theorem dX0_block_1 : decode cX0_block 1 = .ok (.iconst 0, 1) := dk_3 (dk_at dksX0_block_0 1 rfl rfl)
theorem dX0_block_2 : decode cX0_block 2 = .ok (.aload_n 0, 1) := dk_42 (dk_at dksX0_block_0 2 rfl rfl)
theorem dX0_block_3 : decode cX0_block 3 = .ok (.iload_n 1, 1) := dk_27 (dk_at dksX0_block_0 3 rfl rfl)
theorem dX0_block_4 : decode cX0_block 4 = .ok (.iload_n 2, 1) := dk_28 (dk_at dksX0_block_0 4 rfl rfl)
theorem dX0_block_5 : decode cX0_block 5 = .ok (.invokevirtual 90, 3) := dk_182 0 90 (dk_at dksX0_block_0 5 rfl rfl)
theorem dX0_block_8 : decode cX0_block 8 = .ok (.i2l, 1) := dk_133 (dk_at dksX0_block_0 8 rfl rfl)
theorem dX0_block_9 : decode cX0_block 9 = .ok (.lastore, 1) := dk_80 (dk_at dksX0_block_0 9 rfl rfl)
theorem dX0_block_10 : decode cX0_block 10 = .ok (.goto 15, 3) := dk_167 0 15 (dk_at dksX0_block_0 10 rfl rfl)
theorem dX0_block_13 : decode cX0_block 13 = .ok (.astore 4, 2) := dk_58 4 (dk_at dksX0_block_0 13 rfl rfl)
theorem dX0_block_15 : decode cX0_block 15 = .ok (.iconst 1, 1) := dk_4 (dk_at dksX0_block_0 15 rfl rfl)
theorem dX0_block_16 : decode cX0_block 16 = .ok (.ireturn, 1) := dk_172 (dk_at dksX0_block_0 16 rfl rfl)
theorem dX0_block_17 : decode cX0_block 17 = .ok (.astore 4, 2) := dk_58 4 (dk_at dksX0_block_0 17 rfl rfl)
theorem dX0_block_19 : decode cX0_block 19 = .ok (.iconst 2, 1) := dk_5 (dk_at dksX0_block_0 19 rfl rfl)
theorem dX0_block_20 : decode cX0_block 20 = .ok (.ireturn, 1) := dk_172 (dk_at dksX0_block_0 20 rfl rfl)
theorem dX0_block_21 : decode cX0_block 21 = .ok (.astore 4, 2) := dk_58 4 (dk_at dksX0_block_0 21 rfl rfl)
theorem dX0_block_23 : decode cX0_block 23 = .ok (.iconst 3, 1) := dk_6 (dk_at dksX0_block_0 23 rfl rfl)
theorem dX0_block_24 : decode cX0_block 24 = .ok (.ireturn, 1) := dk_172 (dk_at dksX0_block_1 0 rfl rfl)
theorem dX0_block_25 : decode cX0_block 25 = .ok (.iconst 0, 1) := dk_3 (dk_at dksX0_block_1 1 rfl rfl)
theorem dX0_block_26 : decode cX0_block 26 = .ok (.ireturn, 1) := dk_172 (dk_at dksX0_block_1 2 rfl rfl)
abbrev cX0_functionCount : ByteArray := method_27_code
def yX0_functionCount : MethodName := ⟨RX0, "functionCount", "(LCodeRecovery;[J)I"⟩
def dkwX0_functionCount_0 : List UInt8 := [43, 3, 42, 182, 0, 93, 133, 80, 167, 0, 6, 77, 4, 172, 3, 172]
abbrev dktX0_functionCount_0 : List UInt8 := dkwX0_functionCount_0 ++ []
theorem dksX0_functionCount_0 : cX0_functionCount.data.toList.drop 0 = dktX0_functionCount_0 := by decide +kernel
theorem dX0_functionCount_0 : decode cX0_functionCount 0 = .ok (.aload_n 1, 1) := dk_43 (dk_at dksX0_functionCount_0 0 rfl rfl)
theorem dX0_functionCount_1 : decode cX0_functionCount 1 = .ok (.iconst 0, 1) := dk_3 (dk_at dksX0_functionCount_0 1 rfl rfl)
theorem dX0_functionCount_2 : decode cX0_functionCount 2 = .ok (.aload_n 0, 1) := dk_42 (dk_at dksX0_functionCount_0 2 rfl rfl)
theorem dX0_functionCount_3 : decode cX0_functionCount 3 = .ok (.invokevirtual 93, 3) := dk_182 0 93 (dk_at dksX0_functionCount_0 3 rfl rfl)
theorem dX0_functionCount_6 : decode cX0_functionCount 6 = .ok (.i2l, 1) := dk_133 (dk_at dksX0_functionCount_0 6 rfl rfl)
theorem dX0_functionCount_7 : decode cX0_functionCount 7 = .ok (.lastore, 1) := dk_80 (dk_at dksX0_functionCount_0 7 rfl rfl)
theorem dX0_functionCount_8 : decode cX0_functionCount 8 = .ok (.goto 6, 3) := dk_167 0 6 (dk_at dksX0_functionCount_0 8 rfl rfl)
theorem dX0_functionCount_11 : decode cX0_functionCount 11 = .ok (.astore_n 2, 1) := dk_77 (dk_at dksX0_functionCount_0 11 rfl rfl)
theorem dX0_functionCount_12 : decode cX0_functionCount 12 = .ok (.iconst 1, 1) := dk_4 (dk_at dksX0_functionCount_0 12 rfl rfl)
theorem dX0_functionCount_13 : decode cX0_functionCount 13 = .ok (.ireturn, 1) := dk_172 (dk_at dksX0_functionCount_0 13 rfl rfl)
theorem dX0_functionCount_14 : decode cX0_functionCount 14 = .ok (.iconst 0, 1) := dk_3 (dk_at dksX0_functionCount_0 14 rfl rfl)
theorem dX0_functionCount_15 : decode cX0_functionCount 15 = .ok (.ireturn, 1) := dk_172 (dk_at dksX0_functionCount_0 15 rfl rfl)
abbrev cX0_functionSize : ByteArray := method_28_code
def yX0_functionSize : MethodName := ⟨RX0, "functionSize", "(LCodeRecovery;I[J)I"⟩
def dkwX0_functionSize_0 : List UInt8 := [44, 3, 42, 27, 182, 0, 96, 133, 80, 167, 0, 12, 78, 4, 172, 78, 5, 172, 78, 6, 172, 3, 172]
abbrev dktX0_functionSize_0 : List UInt8 := dkwX0_functionSize_0 ++ []
theorem dksX0_functionSize_0 : cX0_functionSize.data.toList.drop 0 = dktX0_functionSize_0 := by decide +kernel
theorem dX0_functionSize_0 : decode cX0_functionSize 0 = .ok (.aload_n 2, 1) := dk_44 (dk_at dksX0_functionSize_0 0 rfl rfl)
theorem dX0_functionSize_1 : decode cX0_functionSize 1 = .ok (.iconst 0, 1) := dk_3 (dk_at dksX0_functionSize_0 1 rfl rfl)
theorem dX0_functionSize_2 : decode cX0_functionSize 2 = .ok (.aload_n 0, 1) := dk_42 (dk_at dksX0_functionSize_0 2 rfl rfl)
theorem dX0_functionSize_3 : decode cX0_functionSize 3 = .ok (.iload_n 1, 1) := dk_27 (dk_at dksX0_functionSize_0 3 rfl rfl)
theorem dX0_functionSize_4 : decode cX0_functionSize 4 = .ok (.invokevirtual 96, 3) := dk_182 0 96 (dk_at dksX0_functionSize_0 4 rfl rfl)
theorem dX0_functionSize_7 : decode cX0_functionSize 7 = .ok (.i2l, 1) := dk_133 (dk_at dksX0_functionSize_0 7 rfl rfl)
theorem dX0_functionSize_8 : decode cX0_functionSize 8 = .ok (.lastore, 1) := dk_80 (dk_at dksX0_functionSize_0 8 rfl rfl)
theorem dX0_functionSize_9 : decode cX0_functionSize 9 = .ok (.goto 12, 3) := dk_167 0 12 (dk_at dksX0_functionSize_0 9 rfl rfl)
theorem dX0_functionSize_12 : decode cX0_functionSize 12 = .ok (.astore_n 3, 1) := dk_78 (dk_at dksX0_functionSize_0 12 rfl rfl)
theorem dX0_functionSize_13 : decode cX0_functionSize 13 = .ok (.iconst 1, 1) := dk_4 (dk_at dksX0_functionSize_0 13 rfl rfl)
theorem dX0_functionSize_14 : decode cX0_functionSize 14 = .ok (.ireturn, 1) := dk_172 (dk_at dksX0_functionSize_0 14 rfl rfl)
theorem dX0_functionSize_15 : decode cX0_functionSize 15 = .ok (.astore_n 3, 1) := dk_78 (dk_at dksX0_functionSize_0 15 rfl rfl)
theorem dX0_functionSize_16 : decode cX0_functionSize 16 = .ok (.iconst 2, 1) := dk_5 (dk_at dksX0_functionSize_0 16 rfl rfl)
theorem dX0_functionSize_17 : decode cX0_functionSize 17 = .ok (.ireturn, 1) := dk_172 (dk_at dksX0_functionSize_0 17 rfl rfl)
theorem dX0_functionSize_18 : decode cX0_functionSize 18 = .ok (.astore_n 3, 1) := dk_78 (dk_at dksX0_functionSize_0 18 rfl rfl)
theorem dX0_functionSize_19 : decode cX0_functionSize 19 = .ok (.iconst 3, 1) := dk_6 (dk_at dksX0_functionSize_0 19 rfl rfl)
theorem dX0_functionSize_20 : decode cX0_functionSize 20 = .ok (.ireturn, 1) := dk_172 (dk_at dksX0_functionSize_0 20 rfl rfl)
theorem dX0_functionSize_21 : decode cX0_functionSize 21 = .ok (.iconst 0, 1) := dk_3 (dk_at dksX0_functionSize_0 21 rfl rfl)
theorem dX0_functionSize_22 : decode cX0_functionSize 22 = .ok (.ireturn, 1) := dk_172 (dk_at dksX0_functionSize_0 22 rfl rfl)
abbrev cX0_run : ByteArray := method_29_code
def yX0_run : MethodName := ⟨RX0, "run", "(LCodeRecovery;I[J)I"⟩
def dkwX0_run_0 : List UInt8 := [44, 3, 42, 27, 182, 0, 101, 133, 80, 167, 0, 6, 78, 4, 172, 3, 172]
abbrev dktX0_run_0 : List UInt8 := dkwX0_run_0 ++ []
theorem dksX0_run_0 : cX0_run.data.toList.drop 0 = dktX0_run_0 := by decide +kernel
theorem dX0_run_0 : decode cX0_run 0 = .ok (.aload_n 2, 1) := dk_44 (dk_at dksX0_run_0 0 rfl rfl)
theorem dX0_run_1 : decode cX0_run 1 = .ok (.iconst 0, 1) := dk_3 (dk_at dksX0_run_0 1 rfl rfl)
theorem dX0_run_2 : decode cX0_run 2 = .ok (.aload_n 0, 1) := dk_42 (dk_at dksX0_run_0 2 rfl rfl)
theorem dX0_run_3 : decode cX0_run 3 = .ok (.iload_n 1, 1) := dk_27 (dk_at dksX0_run_0 3 rfl rfl)
theorem dX0_run_4 : decode cX0_run 4 = .ok (.invokevirtual 101, 3) := dk_182 0 101 (dk_at dksX0_run_0 4 rfl rfl)
theorem dX0_run_7 : decode cX0_run 7 = .ok (.i2l, 1) := dk_133 (dk_at dksX0_run_0 7 rfl rfl)
theorem dX0_run_8 : decode cX0_run 8 = .ok (.lastore, 1) := dk_80 (dk_at dksX0_run_0 8 rfl rfl)
theorem dX0_run_9 : decode cX0_run 9 = .ok (.goto 6, 3) := dk_167 0 6 (dk_at dksX0_run_0 9 rfl rfl)
theorem dX0_run_12 : decode cX0_run 12 = .ok (.astore_n 3, 1) := dk_78 (dk_at dksX0_run_0 12 rfl rfl)
theorem dX0_run_13 : decode cX0_run 13 = .ok (.iconst 1, 1) := dk_4 (dk_at dksX0_run_0 13 rfl rfl)
theorem dX0_run_14 : decode cX0_run 14 = .ok (.ireturn, 1) := dk_172 (dk_at dksX0_run_0 14 rfl rfl)
theorem dX0_run_15 : decode cX0_run 15 = .ok (.iconst 0, 1) := dk_3 (dk_at dksX0_run_0 15 rfl rfl)
theorem dX0_run_16 : decode cX0_run 16 = .ok (.ireturn, 1) := dk_172 (dk_at dksX0_run_0 16 rfl rfl)
abbrev cX0_executedAt : ByteArray := method_30_code
def yX0_executedAt : MethodName := ⟨RX0, "executedAt", "(LCodeRecovery;I[J)I"⟩
def dkwX0_executedAt_0 : List UInt8 := [44, 3, 42, 27, 182, 0, 104, 133, 80, 167, 0, 9, 78, 4, 172, 78, 5, 172, 3, 172]
abbrev dktX0_executedAt_0 : List UInt8 := dkwX0_executedAt_0 ++ []
theorem dksX0_executedAt_0 : cX0_executedAt.data.toList.drop 0 = dktX0_executedAt_0 := by decide +kernel
theorem dX0_executedAt_0 : decode cX0_executedAt 0 = .ok (.aload_n 2, 1) := dk_44 (dk_at dksX0_executedAt_0 0 rfl rfl)
theorem dX0_executedAt_1 : decode cX0_executedAt 1 = .ok (.iconst 0, 1) := dk_3 (dk_at dksX0_executedAt_0 1 rfl rfl)
theorem dX0_executedAt_2 : decode cX0_executedAt 2 = .ok (.aload_n 0, 1) := dk_42 (dk_at dksX0_executedAt_0 2 rfl rfl)
theorem dX0_executedAt_3 : decode cX0_executedAt 3 = .ok (.iload_n 1, 1) := dk_27 (dk_at dksX0_executedAt_0 3 rfl rfl)
theorem dX0_executedAt_4 : decode cX0_executedAt 4 = .ok (.invokevirtual 104, 3) := dk_182 0 104 (dk_at dksX0_executedAt_0 4 rfl rfl)
theorem dX0_executedAt_7 : decode cX0_executedAt 7 = .ok (.i2l, 1) := dk_133 (dk_at dksX0_executedAt_0 7 rfl rfl)
theorem dX0_executedAt_8 : decode cX0_executedAt 8 = .ok (.lastore, 1) := dk_80 (dk_at dksX0_executedAt_0 8 rfl rfl)
theorem dX0_executedAt_9 : decode cX0_executedAt 9 = .ok (.goto 9, 3) := dk_167 0 9 (dk_at dksX0_executedAt_0 9 rfl rfl)
theorem dX0_executedAt_12 : decode cX0_executedAt 12 = .ok (.astore_n 3, 1) := dk_78 (dk_at dksX0_executedAt_0 12 rfl rfl)
theorem dX0_executedAt_13 : decode cX0_executedAt 13 = .ok (.iconst 1, 1) := dk_4 (dk_at dksX0_executedAt_0 13 rfl rfl)
theorem dX0_executedAt_14 : decode cX0_executedAt 14 = .ok (.ireturn, 1) := dk_172 (dk_at dksX0_executedAt_0 14 rfl rfl)
theorem dX0_executedAt_15 : decode cX0_executedAt 15 = .ok (.astore_n 3, 1) := dk_78 (dk_at dksX0_executedAt_0 15 rfl rfl)
theorem dX0_executedAt_16 : decode cX0_executedAt 16 = .ok (.iconst 2, 1) := dk_5 (dk_at dksX0_executedAt_0 16 rfl rfl)
theorem dX0_executedAt_17 : decode cX0_executedAt 17 = .ok (.ireturn, 1) := dk_172 (dk_at dksX0_executedAt_0 17 rfl rfl)
theorem dX0_executedAt_18 : decode cX0_executedAt 18 = .ok (.iconst 0, 1) := dk_3 (dk_at dksX0_executedAt_0 18 rfl rfl)
theorem dX0_executedAt_19 : decode cX0_executedAt 19 = .ok (.ireturn, 1) := dk_172 (dk_at dksX0_executedAt_0 19 rfl rfl)
abbrev cX0_unrecovered : ByteArray := method_31_code
def yX0_unrecovered : MethodName := ⟨RX0, "unrecovered", "(LCodeRecovery;[J)I"⟩
def dkwX0_unrecovered_0 : List UInt8 := [43, 3, 42, 182, 0, 107, 133, 80, 167, 0, 6, 77, 4, 172, 3, 172]
abbrev dktX0_unrecovered_0 : List UInt8 := dkwX0_unrecovered_0 ++ []
theorem dksX0_unrecovered_0 : cX0_unrecovered.data.toList.drop 0 = dktX0_unrecovered_0 := by decide +kernel
theorem dX0_unrecovered_0 : decode cX0_unrecovered 0 = .ok (.aload_n 1, 1) := dk_43 (dk_at dksX0_unrecovered_0 0 rfl rfl)
theorem dX0_unrecovered_1 : decode cX0_unrecovered 1 = .ok (.iconst 0, 1) := dk_3 (dk_at dksX0_unrecovered_0 1 rfl rfl)
theorem dX0_unrecovered_2 : decode cX0_unrecovered 2 = .ok (.aload_n 0, 1) := dk_42 (dk_at dksX0_unrecovered_0 2 rfl rfl)
theorem dX0_unrecovered_3 : decode cX0_unrecovered 3 = .ok (.invokevirtual 107, 3) := dk_182 0 107 (dk_at dksX0_unrecovered_0 3 rfl rfl)
theorem dX0_unrecovered_6 : decode cX0_unrecovered 6 = .ok (.i2l, 1) := dk_133 (dk_at dksX0_unrecovered_0 6 rfl rfl)
theorem dX0_unrecovered_7 : decode cX0_unrecovered 7 = .ok (.lastore, 1) := dk_80 (dk_at dksX0_unrecovered_0 7 rfl rfl)
theorem dX0_unrecovered_8 : decode cX0_unrecovered 8 = .ok (.goto 6, 3) := dk_167 0 6 (dk_at dksX0_unrecovered_0 8 rfl rfl)
theorem dX0_unrecovered_11 : decode cX0_unrecovered 11 = .ok (.astore_n 2, 1) := dk_77 (dk_at dksX0_unrecovered_0 11 rfl rfl)
theorem dX0_unrecovered_12 : decode cX0_unrecovered 12 = .ok (.iconst 1, 1) := dk_4 (dk_at dksX0_unrecovered_0 12 rfl rfl)
theorem dX0_unrecovered_13 : decode cX0_unrecovered 13 = .ok (.ireturn, 1) := dk_172 (dk_at dksX0_unrecovered_0 13 rfl rfl)
theorem dX0_unrecovered_14 : decode cX0_unrecovered 14 = .ok (.iconst 0, 1) := dk_3 (dk_at dksX0_unrecovered_0 14 rfl rfl)
theorem dX0_unrecovered_15 : decode cX0_unrecovered 15 = .ok (.ireturn, 1) := dk_172 (dk_at dksX0_unrecovered_0 15 rfl rfl)
abbrev cX0_register : ByteArray := method_32_code
def yX0_register : MethodName := ⟨RX0, "register", "(LCodeRecovery;I[J)I"⟩
def dkwX0_register_0 : List UInt8 := [44, 3, 42, 27, 182, 0, 110, 133, 80, 167, 0, 9, 78, 4, 172, 78, 5, 172, 3, 172]
abbrev dktX0_register_0 : List UInt8 := dkwX0_register_0 ++ []
theorem dksX0_register_0 : cX0_register.data.toList.drop 0 = dktX0_register_0 := by decide +kernel
theorem dX0_register_0 : decode cX0_register 0 = .ok (.aload_n 2, 1) := dk_44 (dk_at dksX0_register_0 0 rfl rfl)
theorem dX0_register_1 : decode cX0_register 1 = .ok (.iconst 0, 1) := dk_3 (dk_at dksX0_register_0 1 rfl rfl)
theorem dX0_register_2 : decode cX0_register 2 = .ok (.aload_n 0, 1) := dk_42 (dk_at dksX0_register_0 2 rfl rfl)
theorem dX0_register_3 : decode cX0_register 3 = .ok (.iload_n 1, 1) := dk_27 (dk_at dksX0_register_0 3 rfl rfl)
theorem dX0_register_4 : decode cX0_register 4 = .ok (.invokevirtual 110, 3) := dk_182 0 110 (dk_at dksX0_register_0 4 rfl rfl)
theorem dX0_register_7 : decode cX0_register 7 = .ok (.i2l, 1) := dk_133 (dk_at dksX0_register_0 7 rfl rfl)
theorem dX0_register_8 : decode cX0_register 8 = .ok (.lastore, 1) := dk_80 (dk_at dksX0_register_0 8 rfl rfl)
theorem dX0_register_9 : decode cX0_register 9 = .ok (.goto 9, 3) := dk_167 0 9 (dk_at dksX0_register_0 9 rfl rfl)
theorem dX0_register_12 : decode cX0_register 12 = .ok (.astore_n 3, 1) := dk_78 (dk_at dksX0_register_0 12 rfl rfl)
theorem dX0_register_13 : decode cX0_register 13 = .ok (.iconst 1, 1) := dk_4 (dk_at dksX0_register_0 13 rfl rfl)
theorem dX0_register_14 : decode cX0_register 14 = .ok (.ireturn, 1) := dk_172 (dk_at dksX0_register_0 14 rfl rfl)
theorem dX0_register_15 : decode cX0_register 15 = .ok (.astore_n 3, 1) := dk_78 (dk_at dksX0_register_0 15 rfl rfl)
theorem dX0_register_16 : decode cX0_register 16 = .ok (.iconst 2, 1) := dk_5 (dk_at dksX0_register_0 16 rfl rfl)
theorem dX0_register_17 : decode cX0_register 17 = .ok (.ireturn, 1) := dk_172 (dk_at dksX0_register_0 17 rfl rfl)
theorem dX0_register_18 : decode cX0_register 18 = .ok (.iconst 0, 1) := dk_3 (dk_at dksX0_register_0 18 rfl rfl)
theorem dX0_register_19 : decode cX0_register 19 = .ok (.ireturn, 1) := dk_172 (dk_at dksX0_register_0 19 rfl rfl)
abbrev cX0_coverage : ByteArray := method_33_code
def yX0_coverage : MethodName := ⟨RX0, "coverage", "(LCodeRecovery;[D)I"⟩
def dkwX0_coverage_0 : List UInt8 := [43, 3, 42, 182, 0, 113, 82, 167, 0, 9, 77, 4, 172, 77, 5, 172, 3, 172]
abbrev dktX0_coverage_0 : List UInt8 := dkwX0_coverage_0 ++ []
theorem dksX0_coverage_0 : cX0_coverage.data.toList.drop 0 = dktX0_coverage_0 := by decide +kernel
theorem dX0_coverage_0 : decode cX0_coverage 0 = .ok (.aload_n 1, 1) := dk_43 (dk_at dksX0_coverage_0 0 rfl rfl)
theorem dX0_coverage_1 : decode cX0_coverage 1 = .ok (.iconst 0, 1) := dk_3 (dk_at dksX0_coverage_0 1 rfl rfl)
theorem dX0_coverage_2 : decode cX0_coverage 2 = .ok (.aload_n 0, 1) := dk_42 (dk_at dksX0_coverage_0 2 rfl rfl)
theorem dX0_coverage_3 : decode cX0_coverage 3 = .ok (.invokevirtual 113, 3) := dk_182 0 113 (dk_at dksX0_coverage_0 3 rfl rfl)
theorem dX0_coverage_6 : decode cX0_coverage 6 = .ok (.dastore, 1) := dk_82 (dk_at dksX0_coverage_0 6 rfl rfl)
theorem dX0_coverage_7 : decode cX0_coverage 7 = .ok (.goto 9, 3) := dk_167 0 9 (dk_at dksX0_coverage_0 7 rfl rfl)
theorem dX0_coverage_10 : decode cX0_coverage 10 = .ok (.astore_n 2, 1) := dk_77 (dk_at dksX0_coverage_0 10 rfl rfl)
theorem dX0_coverage_11 : decode cX0_coverage 11 = .ok (.iconst 1, 1) := dk_4 (dk_at dksX0_coverage_0 11 rfl rfl)
theorem dX0_coverage_12 : decode cX0_coverage 12 = .ok (.ireturn, 1) := dk_172 (dk_at dksX0_coverage_0 12 rfl rfl)
theorem dX0_coverage_13 : decode cX0_coverage 13 = .ok (.astore_n 2, 1) := dk_77 (dk_at dksX0_coverage_0 13 rfl rfl)
theorem dX0_coverage_14 : decode cX0_coverage 14 = .ok (.iconst 2, 1) := dk_5 (dk_at dksX0_coverage_0 14 rfl rfl)
theorem dX0_coverage_15 : decode cX0_coverage 15 = .ok (.ireturn, 1) := dk_172 (dk_at dksX0_coverage_0 15 rfl rfl)
theorem dX0_coverage_16 : decode cX0_coverage 16 = .ok (.iconst 0, 1) := dk_3 (dk_at dksX0_coverage_0 16 rfl rfl)
theorem dX0_coverage_17 : decode cX0_coverage 17 = .ok (.ireturn, 1) := dk_172 (dk_at dksX0_coverage_0 17 rfl rfl)
abbrev cX0_averageBlock : ByteArray := method_34_code
def yX0_averageBlock : MethodName := ⟨RX0, "averageBlock", "(LCodeRecovery;[D)I"⟩
def dkwX0_averageBlock_0 : List UInt8 := [43, 3, 42, 182, 0, 119, 141, 82, 167, 0, 9, 77, 4, 172, 77, 5, 172, 3, 172]
abbrev dktX0_averageBlock_0 : List UInt8 := dkwX0_averageBlock_0 ++ []
theorem dksX0_averageBlock_0 : cX0_averageBlock.data.toList.drop 0 = dktX0_averageBlock_0 := by decide +kernel
theorem dX0_averageBlock_0 : decode cX0_averageBlock 0 = .ok (.aload_n 1, 1) := dk_43 (dk_at dksX0_averageBlock_0 0 rfl rfl)
theorem dX0_averageBlock_1 : decode cX0_averageBlock 1 = .ok (.iconst 0, 1) := dk_3 (dk_at dksX0_averageBlock_0 1 rfl rfl)
theorem dX0_averageBlock_2 : decode cX0_averageBlock 2 = .ok (.aload_n 0, 1) := dk_42 (dk_at dksX0_averageBlock_0 2 rfl rfl)
theorem dX0_averageBlock_3 : decode cX0_averageBlock 3 = .ok (.invokevirtual 119, 3) := dk_182 0 119 (dk_at dksX0_averageBlock_0 3 rfl rfl)
theorem dX0_averageBlock_6 : decode cX0_averageBlock 6 = .ok (.f2d, 1) := dk_141 (dk_at dksX0_averageBlock_0 6 rfl rfl)
theorem dX0_averageBlock_7 : decode cX0_averageBlock 7 = .ok (.dastore, 1) := dk_82 (dk_at dksX0_averageBlock_0 7 rfl rfl)
theorem dX0_averageBlock_8 : decode cX0_averageBlock 8 = .ok (.goto 9, 3) := dk_167 0 9 (dk_at dksX0_averageBlock_0 8 rfl rfl)
theorem dX0_averageBlock_11 : decode cX0_averageBlock 11 = .ok (.astore_n 2, 1) := dk_77 (dk_at dksX0_averageBlock_0 11 rfl rfl)
theorem dX0_averageBlock_12 : decode cX0_averageBlock 12 = .ok (.iconst 1, 1) := dk_4 (dk_at dksX0_averageBlock_0 12 rfl rfl)
theorem dX0_averageBlock_13 : decode cX0_averageBlock 13 = .ok (.ireturn, 1) := dk_172 (dk_at dksX0_averageBlock_0 13 rfl rfl)
theorem dX0_averageBlock_14 : decode cX0_averageBlock 14 = .ok (.astore_n 2, 1) := dk_77 (dk_at dksX0_averageBlock_0 14 rfl rfl)
theorem dX0_averageBlock_15 : decode cX0_averageBlock 15 = .ok (.iconst 2, 1) := dk_5 (dk_at dksX0_averageBlock_0 15 rfl rfl)
theorem dX0_averageBlock_16 : decode cX0_averageBlock 16 = .ok (.ireturn, 1) := dk_172 (dk_at dksX0_averageBlock_0 16 rfl rfl)
theorem dX0_averageBlock_17 : decode cX0_averageBlock 17 = .ok (.iconst 0, 1) := dk_3 (dk_at dksX0_averageBlock_0 17 rfl rfl)
theorem dX0_averageBlock_18 : decode cX0_averageBlock 18 = .ok (.ireturn, 1) := dk_172 (dk_at dksX0_averageBlock_0 18 rfl rfl)
abbrev cX0_restore : ByteArray := method_35_code
def yX0_restore : MethodName := ⟨RX0, "restore", "(LCodeRecovery;)I"⟩
def dkwX0_restore_0 : List UInt8 := [42, 182, 0, 123, 167, 0, 6, 76, 4, 172, 3, 172]
abbrev dktX0_restore_0 : List UInt8 := dkwX0_restore_0 ++ []
theorem dksX0_restore_0 : cX0_restore.data.toList.drop 0 = dktX0_restore_0 := by decide +kernel
theorem dX0_restore_0 : decode cX0_restore 0 = .ok (.aload_n 0, 1) := dk_42 (dk_at dksX0_restore_0 0 rfl rfl)
theorem dX0_restore_1 : decode cX0_restore 1 = .ok (.invokevirtual 123, 3) := dk_182 0 123 (dk_at dksX0_restore_0 1 rfl rfl)
theorem dX0_restore_4 : decode cX0_restore 4 = .ok (.goto 6, 3) := dk_167 0 6 (dk_at dksX0_restore_0 4 rfl rfl)
theorem dX0_restore_7 : decode cX0_restore 7 = .ok (.astore_n 1, 1) := dk_76 (dk_at dksX0_restore_0 7 rfl rfl)
theorem dX0_restore_8 : decode cX0_restore 8 = .ok (.iconst 1, 1) := dk_4 (dk_at dksX0_restore_0 8 rfl rfl)
theorem dX0_restore_9 : decode cX0_restore 9 = .ok (.ireturn, 1) := dk_172 (dk_at dksX0_restore_0 9 rfl rfl)
theorem dX0_restore_10 : decode cX0_restore 10 = .ok (.iconst 0, 1) := dk_3 (dk_at dksX0_restore_0 10 rfl rfl)
theorem dX0_restore_11 : decode cX0_restore 11 = .ok (.ireturn, 1) := dk_172 (dk_at dksX0_restore_0 11 rfl rfl)
theorem q77 : (Jvm.Cond.initialized "CodeRecoveryLaw") ∈ lw_all := lw_g (lw_at lw_m1 0 rfl) rfl
theorem q118 : (Jvm.Cond.classLink "CodeRecoveryLaw" (8 : Nat) "CodeRecovery") ∈ lw_all := lw_g (lw_at lw_m1 41 rfl) rfl
theorem q120 : (Jvm.Cond.methodLink "CodeRecoveryLaw" (126 : Nat) ({ cls := "CodeRecovery", name := "<init>", desc := "()V" } : Jvm.MethodName)) ∈ lw_all := lw_g (lw_at lw_m1 43 rfl) rfl
theorem q173 : (Jvm.Cond.methodLink "CodeRecoveryLaw" (143 : Nat) ({ cls := "CodeRecovery", name := "faultPosition", desc := "()I" } : Jvm.MethodName)) ∈ lw_all := lw_g (lw_at lw_m1 96 rfl) rfl
theorem q177 : (Jvm.Cond.methodLink "CodeRecoveryLaw" (154 : Nat) ({ cls := "CodeRecovery", name := "clear", desc := "()I" } : Jvm.MethodName)) ∈ lw_all := lw_g (lw_at lw_m1 100 rfl) rfl
theorem q189 : (Jvm.Cond.methodLink "CodeRecoveryLaw" (158 : Nat) ({ cls := "CodeRecovery", name := "size", desc := "()I" } : Jvm.MethodName)) ∈ lw_all := lw_g (lw_at lw_m1 112 rfl) rfl
theorem q193 : (Jvm.Cond.methodLink "CodeRecoveryLaw" (168 : Nat) ({ cls := "CodeRecovery", name := "entryCount", desc := "()I" } : Jvm.MethodName)) ∈ lw_all := lw_g (lw_at lw_m1 116 rfl) rfl
theorem q197 : (Jvm.Cond.methodLink "CodeRecoveryLaw" (181 : Nat) ({ cls := "CodeRecovery", name := "recover", desc := "()I" } : Jvm.MethodName)) ∈ lw_all := lw_g (lw_at lw_m1 120 rfl) rfl
theorem q1131 : (Jvm.Cond.methodLink "CodeRecoveryLaw" (255 : Nat) ({ cls := "CodeRecovery", name := "save", desc := "()V" } : Jvm.MethodName)) ∈ lw_all := lw_g (lw_at lw_m5 94 rfl) rfl
theorem q1135 : (Jvm.Cond.methodLink "CodeRecoveryLaw" (130 : Nat) ({ cls := "CodeRecoveryLaw", name := "appendCharacter", desc := "(LCodeRecovery;I[J)I" } : Jvm.MethodName)) ∈ lw_all := lw_g (lw_at lw_m5 98 rfl) rfl
theorem q1136 : (Jvm.Cond.static ({ cls := "CodeRecoveryLaw", name := "appendCharacter", desc := "(LCodeRecovery;I[J)I" } : Jvm.MethodName)) ∈ lw_all := lw_g (lw_at lw_m5 99 rfl) rfl
theorem q1137 : (Jvm.Cond.codeWith ({ cls := "CodeRecoveryLaw", name := "appendCharacter", desc := "(LCodeRecovery;I[J)I" } : Jvm.MethodName) method_3_code (4 : Nat) (Option.some Jvm.ClassFile.FieldType.int) [((0 : Nat), (9 : Nat), (12 : Nat), (13 : Nat)), ((0 : Nat), (9 : Nat), (15 : Nat), (15 : Nat))]) ∈ lw_all := lw_g (lw_at lw_m5 100 rfl) rfl
theorem q1138 : (Jvm.Cond.classLink "CodeRecoveryLaw" (13 : Nat) "java/lang/IllegalArgumentException") ∈ lw_all := lw_g (lw_at lw_m5 101 rfl) rfl
theorem q1139 : (Jvm.Cond.classLink "CodeRecoveryLaw" (15 : Nat) "java/lang/IllegalStateException") ∈ lw_all := lw_g (lw_at lw_m5 102 rfl) rfl
theorem q1140 : (Jvm.Cond.methodLink "CodeRecoveryLaw" (7 : Nat) ({ cls := "CodeRecovery", name := "appendCharacter", desc := "(I)I" } : Jvm.MethodName)) ∈ lw_all := lw_g (lw_at lw_m5 103 rfl) rfl
theorem q1161 : (Jvm.Cond.methodLink "CodeRecoveryLaw" (139 : Nat) ({ cls := "CodeRecoveryLaw", name := "addBytes", desc := "(LCodeRecovery;[J)I" } : Jvm.MethodName)) ∈ lw_all := lw_g (lw_at lw_m5 124 rfl) rfl
theorem q1162 : (Jvm.Cond.static ({ cls := "CodeRecoveryLaw", name := "addBytes", desc := "(LCodeRecovery;[J)I" } : Jvm.MethodName)) ∈ lw_all := lw_g (lw_at lw_m5 125 rfl) rfl
theorem q1163 : (Jvm.Cond.codeWith ({ cls := "CodeRecoveryLaw", name := "addBytes", desc := "(LCodeRecovery;[J)I" } : Jvm.MethodName) method_4_code (3 : Nat) (Option.some Jvm.ClassFile.FieldType.int) [((0 : Nat), (8 : Nat), (11 : Nat), (13 : Nat)), ((0 : Nat), (8 : Nat), (14 : Nat), (15 : Nat))]) ∈ lw_all := lw_g (lw_at lw_m5 126 rfl) rfl
theorem q1164 : (Jvm.Cond.methodLink "CodeRecoveryLaw" (17 : Nat) ({ cls := "CodeRecovery", name := "addBytes", desc := "()I" } : Jvm.MethodName)) ∈ lw_all := lw_g (lw_at lw_m5 127 rfl) rfl
theorem q1209 : (Jvm.Cond.methodLink "CodeRecoveryLaw" (147 : Nat) ({ cls := "CodeRecoveryLaw", name := "setByte", desc := "(LCodeRecovery;II[J)I" } : Jvm.MethodName)) ∈ lw_all := lw_g (lw_at lw_m5 172 rfl) rfl
theorem q1210 : (Jvm.Cond.static ({ cls := "CodeRecoveryLaw", name := "setByte", desc := "(LCodeRecovery;II[J)I" } : Jvm.MethodName)) ∈ lw_all := lw_g (lw_at lw_m5 173 rfl) rfl
theorem q1211 : (Jvm.Cond.codeWith ({ cls := "CodeRecoveryLaw", name := "setByte", desc := "(LCodeRecovery;II[J)I" } : Jvm.MethodName) method_5_code (5 : Nat) (Option.some Jvm.ClassFile.FieldType.int) [((0 : Nat), (10 : Nat), (13 : Nat), (25 : Nat)), ((0 : Nat), (10 : Nat), (17 : Nat), (13 : Nat))]) ∈ lw_all := lw_g (lw_at lw_m5 174 rfl) rfl
theorem q1212 : (Jvm.Cond.classLink "CodeRecoveryLaw" (25 : Nat) "java/lang/IndexOutOfBoundsException") ∈ lw_all := lw_g (lw_at lw_m5 175 rfl) rfl
theorem q1228 : (Jvm.Cond.methodLink "CodeRecoveryLaw" (21 : Nat) ({ cls := "CodeRecovery", name := "setByte", desc := "(II)I" } : Jvm.MethodName)) ∈ lw_all := lw_g (lw_at lw_m5 191 rfl) rfl
theorem q1250 : (Jvm.Cond.methodLink "CodeRecoveryLaw" (151 : Nat) ({ cls := "CodeRecoveryLaw", name := "byteAt", desc := "(LCodeRecovery;I[J)I" } : Jvm.MethodName)) ∈ lw_all := lw_g (lw_at lw_m5 213 rfl) rfl
theorem q1251 : (Jvm.Cond.static ({ cls := "CodeRecoveryLaw", name := "byteAt", desc := "(LCodeRecovery;I[J)I" } : Jvm.MethodName)) ∈ lw_all := lw_g (lw_at lw_m5 214 rfl) rfl
theorem q1252 : (Jvm.Cond.codeWith ({ cls := "CodeRecoveryLaw", name := "byteAt", desc := "(LCodeRecovery;I[J)I" } : Jvm.MethodName) method_6_code (4 : Nat) (Option.some Jvm.ClassFile.FieldType.int) [((0 : Nat), (9 : Nat), (12 : Nat), (25 : Nat))]) ∈ lw_all := lw_g (lw_at lw_m5 215 rfl) rfl
theorem q1253 : (Jvm.Cond.methodLink "CodeRecoveryLaw" (27 : Nat) ({ cls := "CodeRecovery", name := "byteAt", desc := "(I)I" } : Jvm.MethodName)) ∈ lw_all := lw_g (lw_at lw_m5 216 rfl) rfl
theorem q1257 : (Jvm.Cond.methodLink "CodeRecoveryLaw" (162 : Nat) ({ cls := "CodeRecoveryLaw", name := "addEntry", desc := "(LCodeRecovery;I[J)I" } : Jvm.MethodName)) ∈ lw_all := lw_g (lw_at lw_m5 220 rfl) rfl
theorem q1258 : (Jvm.Cond.static ({ cls := "CodeRecoveryLaw", name := "addEntry", desc := "(LCodeRecovery;I[J)I" } : Jvm.MethodName)) ∈ lw_all := lw_g (lw_at lw_m5 221 rfl) rfl
theorem q1259 : (Jvm.Cond.codeWith ({ cls := "CodeRecoveryLaw", name := "addEntry", desc := "(LCodeRecovery;I[J)I" } : Jvm.MethodName) method_7_code (4 : Nat) (Option.some Jvm.ClassFile.FieldType.int) [((0 : Nat), (9 : Nat), (12 : Nat), (25 : Nat)), ((0 : Nat), (9 : Nat), (15 : Nat), (15 : Nat))]) ∈ lw_all := lw_g (lw_at lw_m5 222 rfl) rfl
theorem q1260 : (Jvm.Cond.methodLink "CodeRecoveryLaw" (30 : Nat) ({ cls := "CodeRecovery", name := "addEntry", desc := "(I)I" } : Jvm.MethodName)) ∈ lw_all := lw_g (lw_at lw_m5 223 rfl) rfl
theorem q1268 : (Jvm.Cond.methodLink "CodeRecoveryLaw" (165 : Nat) ({ cls := "CodeRecoveryLaw", name := "removeEntry", desc := "(LCodeRecovery;I[J)I" } : Jvm.MethodName)) ∈ lw_all := lw_g (lw_at lw_m5 231 rfl) rfl
theorem q1269 : (Jvm.Cond.static ({ cls := "CodeRecoveryLaw", name := "removeEntry", desc := "(LCodeRecovery;I[J)I" } : Jvm.MethodName)) ∈ lw_all := lw_g (lw_at lw_m5 232 rfl) rfl
theorem q1270 : (Jvm.Cond.codeWith ({ cls := "CodeRecoveryLaw", name := "removeEntry", desc := "(LCodeRecovery;I[J)I" } : Jvm.MethodName) method_8_code (4 : Nat) (Option.some Jvm.ClassFile.FieldType.int) [((0 : Nat), (9 : Nat), (12 : Nat), (25 : Nat))]) ∈ lw_all := lw_g (lw_at lw_m5 233 rfl) rfl
theorem q1271 : (Jvm.Cond.methodLink "CodeRecoveryLaw" (33 : Nat) ({ cls := "CodeRecovery", name := "removeEntry", desc := "(I)I" } : Jvm.MethodName)) ∈ lw_all := lw_g (lw_at lw_m5 234 rfl) rfl
theorem q1275 : (Jvm.Cond.methodLink "CodeRecoveryLaw" (172 : Nat) ({ cls := "CodeRecoveryLaw", name := "setThreshold", desc := "(LCodeRecovery;I[J)I" } : Jvm.MethodName)) ∈ lw_all := lw_g (lw_at lw_m5 238 rfl) rfl
theorem q1276 : (Jvm.Cond.static ({ cls := "CodeRecoveryLaw", name := "setThreshold", desc := "(LCodeRecovery;I[J)I" } : Jvm.MethodName)) ∈ lw_all := lw_g (lw_at lw_m5 239 rfl) rfl
theorem q1277 : (Jvm.Cond.codeWith ({ cls := "CodeRecoveryLaw", name := "setThreshold", desc := "(LCodeRecovery;I[J)I" } : Jvm.MethodName) method_9_code (4 : Nat) (Option.some Jvm.ClassFile.FieldType.int) [((0 : Nat), (9 : Nat), (12 : Nat), (13 : Nat))]) ∈ lw_all := lw_g (lw_at lw_m6 0 rfl) rfl
theorem q1278 : (Jvm.Cond.methodLink "CodeRecoveryLaw" (36 : Nat) ({ cls := "CodeRecovery", name := "setThreshold", desc := "(I)I" } : Jvm.MethodName)) ∈ lw_all := lw_g (lw_at lw_m6 1 rfl) rfl
theorem q1282 : (Jvm.Cond.methodLink "CodeRecoveryLaw" (175 : Nat) ({ cls := "CodeRecoveryLaw", name := "isValid", desc := "(LCodeRecovery;I[J)I" } : Jvm.MethodName)) ∈ lw_all := lw_g (lw_at lw_m6 5 rfl) rfl
theorem q1283 : (Jvm.Cond.static ({ cls := "CodeRecoveryLaw", name := "isValid", desc := "(LCodeRecovery;I[J)I" } : Jvm.MethodName)) ∈ lw_all := lw_g (lw_at lw_m6 6 rfl) rfl
theorem q1284 : (Jvm.Cond.codeWith ({ cls := "CodeRecoveryLaw", name := "isValid", desc := "(LCodeRecovery;I[J)I" } : Jvm.MethodName) method_10_code (4 : Nat) (Option.some Jvm.ClassFile.FieldType.int) [((0 : Nat), (16 : Nat), (19 : Nat), (25 : Nat))]) ∈ lw_all := lw_g (lw_at lw_m6 7 rfl) rfl
theorem q1285 : (Jvm.Cond.methodLink "CodeRecoveryLaw" (39 : Nat) ({ cls := "CodeRecovery", name := "isValid", desc := "(I)Z" } : Jvm.MethodName)) ∈ lw_all := lw_g (lw_at lw_m6 8 rfl) rfl
theorem q1290 : (Jvm.Cond.methodLink "CodeRecoveryLaw" (178 : Nat) ({ cls := "CodeRecoveryLaw", name := "decode", desc := "(LCodeRecovery;II[J)I" } : Jvm.MethodName)) ∈ lw_all := lw_g (lw_at lw_m6 13 rfl) rfl
theorem q1291 : (Jvm.Cond.static ({ cls := "CodeRecoveryLaw", name := "decode", desc := "(LCodeRecovery;II[J)I" } : Jvm.MethodName)) ∈ lw_all := lw_g (lw_at lw_m6 14 rfl) rfl
theorem q1292 : (Jvm.Cond.codeWith ({ cls := "CodeRecoveryLaw", name := "decode", desc := "(LCodeRecovery;II[J)I" } : Jvm.MethodName) method_11_code (5 : Nat) (Option.some Jvm.ClassFile.FieldType.int) [((0 : Nat), (10 : Nat), (13 : Nat), (25 : Nat)), ((0 : Nat), (10 : Nat), (17 : Nat), (13 : Nat)), ((0 : Nat), (10 : Nat), (21 : Nat), (46 : Nat))]) ∈ lw_all := lw_g (lw_at lw_m6 15 rfl) rfl
theorem q1293 : (Jvm.Cond.classLink "CodeRecoveryLaw" (46 : Nat) "java/lang/UnsupportedOperationException") ∈ lw_all := lw_g (lw_at lw_m6 16 rfl) rfl
theorem q1294 : (Jvm.Cond.methodLink "CodeRecoveryLaw" (43 : Nat) ({ cls := "CodeRecovery", name := "decode", desc := "(II)I" } : Jvm.MethodName)) ∈ lw_all := lw_g (lw_at lw_m6 17 rfl) rfl
theorem q1327 : (Jvm.Cond.methodLink "CodeRecoveryLaw" (185 : Nat) ({ cls := "CodeRecoveryLaw", name := "accepted", desc := "(LCodeRecovery;[J)I" } : Jvm.MethodName)) ∈ lw_all := lw_g (lw_at lw_m6 50 rfl) rfl
theorem q1328 : (Jvm.Cond.static ({ cls := "CodeRecoveryLaw", name := "accepted", desc := "(LCodeRecovery;[J)I" } : Jvm.MethodName)) ∈ lw_all := lw_g (lw_at lw_m6 51 rfl) rfl
theorem q1329 : (Jvm.Cond.codeWith ({ cls := "CodeRecoveryLaw", name := "accepted", desc := "(LCodeRecovery;[J)I" } : Jvm.MethodName) method_12_code (3 : Nat) (Option.some Jvm.ClassFile.FieldType.int) [((0 : Nat), (8 : Nat), (11 : Nat), (15 : Nat))]) ∈ lw_all := lw_g (lw_at lw_m6 52 rfl) rfl
theorem q1330 : (Jvm.Cond.methodLink "CodeRecoveryLaw" (48 : Nat) ({ cls := "CodeRecovery", name := "accepted", desc := "()I" } : Jvm.MethodName)) ∈ lw_all := lw_g (lw_at lw_m6 53 rfl) rfl
theorem q1338 : (Jvm.Cond.methodLink "CodeRecoveryLaw" (188 : Nat) ({ cls := "CodeRecoveryLaw", name := "acceptedAt", desc := "(LCodeRecovery;I[J)I" } : Jvm.MethodName)) ∈ lw_all := lw_g (lw_at lw_m6 61 rfl) rfl
theorem q1339 : (Jvm.Cond.static ({ cls := "CodeRecoveryLaw", name := "acceptedAt", desc := "(LCodeRecovery;I[J)I" } : Jvm.MethodName)) ∈ lw_all := lw_g (lw_at lw_m6 62 rfl) rfl
theorem q1340 : (Jvm.Cond.codeWith ({ cls := "CodeRecoveryLaw", name := "acceptedAt", desc := "(LCodeRecovery;I[J)I" } : Jvm.MethodName) method_13_code (4 : Nat) (Option.some Jvm.ClassFile.FieldType.int) [((0 : Nat), (9 : Nat), (12 : Nat), (15 : Nat)), ((0 : Nat), (9 : Nat), (15 : Nat), (25 : Nat))]) ∈ lw_all := lw_g (lw_at lw_m6 63 rfl) rfl
theorem q1341 : (Jvm.Cond.methodLink "CodeRecoveryLaw" (51 : Nat) ({ cls := "CodeRecovery", name := "acceptedAt", desc := "(I)I" } : Jvm.MethodName)) ∈ lw_all := lw_g (lw_at lw_m6 64 rfl) rfl
theorem q1346 : (Jvm.Cond.methodLink "CodeRecoveryLaw" (191 : Nat) ({ cls := "CodeRecoveryLaw", name := "use", desc := "(LCodeRecovery;I[J)I" } : Jvm.MethodName)) ∈ lw_all := lw_g (lw_at lw_m6 69 rfl) rfl
theorem q1347 : (Jvm.Cond.static ({ cls := "CodeRecoveryLaw", name := "use", desc := "(LCodeRecovery;I[J)I" } : Jvm.MethodName)) ∈ lw_all := lw_g (lw_at lw_m6 70 rfl) rfl
theorem q1348 : (Jvm.Cond.codeWith ({ cls := "CodeRecoveryLaw", name := "use", desc := "(LCodeRecovery;I[J)I" } : Jvm.MethodName) method_14_code (4 : Nat) (Option.some Jvm.ClassFile.FieldType.int) [((0 : Nat), (9 : Nat), (12 : Nat), (15 : Nat)), ((0 : Nat), (9 : Nat), (15 : Nat), (25 : Nat))]) ∈ lw_all := lw_g (lw_at lw_m6 71 rfl) rfl
theorem q1349 : (Jvm.Cond.methodLink "CodeRecoveryLaw" (54 : Nat) ({ cls := "CodeRecovery", name := "use", desc := "(I)I" } : Jvm.MethodName)) ∈ lw_all := lw_g (lw_at lw_m6 72 rfl) rfl
theorem q1353 : (Jvm.Cond.methodLink "CodeRecoveryLaw" (194 : Nat) ({ cls := "CodeRecoveryLaw", name := "conflictCount", desc := "(LCodeRecovery;[J)I" } : Jvm.MethodName)) ∈ lw_all := lw_g (lw_at lw_m6 76 rfl) rfl
theorem q1354 : (Jvm.Cond.static ({ cls := "CodeRecoveryLaw", name := "conflictCount", desc := "(LCodeRecovery;[J)I" } : Jvm.MethodName)) ∈ lw_all := lw_g (lw_at lw_m6 77 rfl) rfl
theorem q1355 : (Jvm.Cond.codeWith ({ cls := "CodeRecoveryLaw", name := "conflictCount", desc := "(LCodeRecovery;[J)I" } : Jvm.MethodName) method_15_code (3 : Nat) (Option.some Jvm.ClassFile.FieldType.int) [((0 : Nat), (8 : Nat), (11 : Nat), (15 : Nat))]) ∈ lw_all := lw_g (lw_at lw_m6 78 rfl) rfl
theorem q1356 : (Jvm.Cond.methodLink "CodeRecoveryLaw" (57 : Nat) ({ cls := "CodeRecovery", name := "conflictCount", desc := "()I" } : Jvm.MethodName)) ∈ lw_all := lw_g (lw_at lw_m6 79 rfl) rfl
theorem q1365 : (Jvm.Cond.methodLink "CodeRecoveryLaw" (197 : Nat) ({ cls := "CodeRecoveryLaw", name := "conflict", desc := "(LCodeRecovery;I[J)I" } : Jvm.MethodName)) ∈ lw_all := lw_g (lw_at lw_m6 88 rfl) rfl
theorem q1366 : (Jvm.Cond.static ({ cls := "CodeRecoveryLaw", name := "conflict", desc := "(LCodeRecovery;I[J)I" } : Jvm.MethodName)) ∈ lw_all := lw_g (lw_at lw_m6 89 rfl) rfl
theorem q1367 : (Jvm.Cond.codeWith ({ cls := "CodeRecoveryLaw", name := "conflict", desc := "(LCodeRecovery;I[J)I" } : Jvm.MethodName) method_16_code (4 : Nat) (Option.some Jvm.ClassFile.FieldType.int) [((0 : Nat), (9 : Nat), (12 : Nat), (15 : Nat)), ((0 : Nat), (9 : Nat), (15 : Nat), (25 : Nat))]) ∈ lw_all := lw_g (lw_at lw_m6 90 rfl) rfl
theorem q1368 : (Jvm.Cond.methodLink "CodeRecoveryLaw" (60 : Nat) ({ cls := "CodeRecovery", name := "conflict", desc := "(I)I" } : Jvm.MethodName)) ∈ lw_all := lw_g (lw_at lw_m6 91 rfl) rfl
theorem q1379 : (Jvm.Cond.methodLink "CodeRecoveryLaw" (200 : Nat) ({ cls := "CodeRecoveryLaw", name := "badTargets", desc := "(LCodeRecovery;[J)I" } : Jvm.MethodName)) ∈ lw_all := lw_g (lw_at lw_m6 102 rfl) rfl
theorem q1380 : (Jvm.Cond.static ({ cls := "CodeRecoveryLaw", name := "badTargets", desc := "(LCodeRecovery;[J)I" } : Jvm.MethodName)) ∈ lw_all := lw_g (lw_at lw_m6 103 rfl) rfl
theorem q1381 : (Jvm.Cond.codeWith ({ cls := "CodeRecoveryLaw", name := "badTargets", desc := "(LCodeRecovery;[J)I" } : Jvm.MethodName) method_17_code (3 : Nat) (Option.some Jvm.ClassFile.FieldType.int) [((0 : Nat), (8 : Nat), (11 : Nat), (15 : Nat))]) ∈ lw_all := lw_g (lw_at lw_m6 104 rfl) rfl
theorem q1382 : (Jvm.Cond.methodLink "CodeRecoveryLaw" (63 : Nat) ({ cls := "CodeRecovery", name := "badTargets", desc := "()I" } : Jvm.MethodName)) ∈ lw_all := lw_g (lw_at lw_m6 105 rfl) rfl
theorem q1386 : (Jvm.Cond.methodLink "CodeRecoveryLaw" (203 : Nat) ({ cls := "CodeRecoveryLaw", name := "tableCount", desc := "(LCodeRecovery;[J)I" } : Jvm.MethodName)) ∈ lw_all := lw_g (lw_at lw_m6 109 rfl) rfl
theorem q1387 : (Jvm.Cond.static ({ cls := "CodeRecoveryLaw", name := "tableCount", desc := "(LCodeRecovery;[J)I" } : Jvm.MethodName)) ∈ lw_all := lw_g (lw_at lw_m6 110 rfl) rfl
theorem q1388 : (Jvm.Cond.codeWith ({ cls := "CodeRecoveryLaw", name := "tableCount", desc := "(LCodeRecovery;[J)I" } : Jvm.MethodName) method_18_code (3 : Nat) (Option.some Jvm.ClassFile.FieldType.int) [((0 : Nat), (8 : Nat), (11 : Nat), (15 : Nat))]) ∈ lw_all := lw_g (lw_at lw_m6 111 rfl) rfl
theorem q1389 : (Jvm.Cond.methodLink "CodeRecoveryLaw" (66 : Nat) ({ cls := "CodeRecovery", name := "tableCount", desc := "()I" } : Jvm.MethodName)) ∈ lw_all := lw_g (lw_at lw_m6 112 rfl) rfl
theorem q1393 : (Jvm.Cond.methodLink "CodeRecoveryLaw" (206 : Nat) ({ cls := "CodeRecoveryLaw", name := "table", desc := "(LCodeRecovery;II[J)I" } : Jvm.MethodName)) ∈ lw_all := lw_g (lw_at lw_m6 116 rfl) rfl
theorem q1394 : (Jvm.Cond.static ({ cls := "CodeRecoveryLaw", name := "table", desc := "(LCodeRecovery;II[J)I" } : Jvm.MethodName)) ∈ lw_all := lw_g (lw_at lw_m6 117 rfl) rfl
theorem q1395 : (Jvm.Cond.codeWith ({ cls := "CodeRecoveryLaw", name := "table", desc := "(LCodeRecovery;II[J)I" } : Jvm.MethodName) method_19_code (5 : Nat) (Option.some Jvm.ClassFile.FieldType.int) [((0 : Nat), (10 : Nat), (13 : Nat), (15 : Nat)), ((0 : Nat), (10 : Nat), (17 : Nat), (25 : Nat)), ((0 : Nat), (10 : Nat), (21 : Nat), (13 : Nat))]) ∈ lw_all := lw_g (lw_at lw_m6 118 rfl) rfl
theorem q1396 : (Jvm.Cond.methodLink "CodeRecoveryLaw" (69 : Nat) ({ cls := "CodeRecovery", name := "table", desc := "(II)I" } : Jvm.MethodName)) ∈ lw_all := lw_g (lw_at lw_m6 119 rfl) rfl
theorem q1427 : (Jvm.Cond.methodLink "CodeRecoveryLaw" (209 : Nat) ({ cls := "CodeRecoveryLaw", name := "tableEntry", desc := "(LCodeRecovery;II[J)I" } : Jvm.MethodName)) ∈ lw_all := lw_g (lw_at lw_m6 150 rfl) rfl
theorem q1428 : (Jvm.Cond.static ({ cls := "CodeRecoveryLaw", name := "tableEntry", desc := "(LCodeRecovery;II[J)I" } : Jvm.MethodName)) ∈ lw_all := lw_g (lw_at lw_m6 151 rfl) rfl
theorem q1429 : (Jvm.Cond.codeWith ({ cls := "CodeRecoveryLaw", name := "tableEntry", desc := "(LCodeRecovery;II[J)I" } : Jvm.MethodName) method_20_code (5 : Nat) (Option.some Jvm.ClassFile.FieldType.int) [((0 : Nat), (10 : Nat), (13 : Nat), (15 : Nat)), ((0 : Nat), (10 : Nat), (17 : Nat), (25 : Nat))]) ∈ lw_all := lw_g (lw_at lw_m6 152 rfl) rfl
theorem q1430 : (Jvm.Cond.methodLink "CodeRecoveryLaw" (72 : Nat) ({ cls := "CodeRecovery", name := "tableEntry", desc := "(II)I" } : Jvm.MethodName)) ∈ lw_all := lw_g (lw_at lw_m6 153 rfl) rfl
theorem q1439 : (Jvm.Cond.methodLink "CodeRecoveryLaw" (212 : Nat) ({ cls := "CodeRecoveryLaw", name := "isComplete", desc := "(LCodeRecovery;I[J)I" } : Jvm.MethodName)) ∈ lw_all := lw_g (lw_at lw_m6 162 rfl) rfl
theorem q1440 : (Jvm.Cond.static ({ cls := "CodeRecoveryLaw", name := "isComplete", desc := "(LCodeRecovery;I[J)I" } : Jvm.MethodName)) ∈ lw_all := lw_g (lw_at lw_m6 163 rfl) rfl
theorem q1441 : (Jvm.Cond.codeWith ({ cls := "CodeRecoveryLaw", name := "isComplete", desc := "(LCodeRecovery;I[J)I" } : Jvm.MethodName) method_21_code (4 : Nat) (Option.some Jvm.ClassFile.FieldType.int) [((0 : Nat), (16 : Nat), (19 : Nat), (15 : Nat)), ((0 : Nat), (16 : Nat), (22 : Nat), (25 : Nat))]) ∈ lw_all := lw_g (lw_at lw_m6 164 rfl) rfl
theorem q1442 : (Jvm.Cond.methodLink "CodeRecoveryLaw" (75 : Nat) ({ cls := "CodeRecovery", name := "isComplete", desc := "(I)Z" } : Jvm.MethodName)) ∈ lw_all := lw_g (lw_at lw_m6 165 rfl) rfl
theorem q1447 : (Jvm.Cond.methodLink "CodeRecoveryLaw" (215 : Nat) ({ cls := "CodeRecoveryLaw", name := "gapCount", desc := "(LCodeRecovery;[J)I" } : Jvm.MethodName)) ∈ lw_all := lw_g (lw_at lw_m6 170 rfl) rfl
theorem q1448 : (Jvm.Cond.static ({ cls := "CodeRecoveryLaw", name := "gapCount", desc := "(LCodeRecovery;[J)I" } : Jvm.MethodName)) ∈ lw_all := lw_g (lw_at lw_m6 171 rfl) rfl
theorem q1449 : (Jvm.Cond.codeWith ({ cls := "CodeRecoveryLaw", name := "gapCount", desc := "(LCodeRecovery;[J)I" } : Jvm.MethodName) method_22_code (3 : Nat) (Option.some Jvm.ClassFile.FieldType.int) [((0 : Nat), (8 : Nat), (11 : Nat), (15 : Nat))]) ∈ lw_all := lw_g (lw_at lw_m6 172 rfl) rfl
theorem q1450 : (Jvm.Cond.methodLink "CodeRecoveryLaw" (78 : Nat) ({ cls := "CodeRecovery", name := "gapCount", desc := "()I" } : Jvm.MethodName)) ∈ lw_all := lw_g (lw_at lw_m6 173 rfl) rfl
theorem q1454 : (Jvm.Cond.methodLink "CodeRecoveryLaw" (218 : Nat) ({ cls := "CodeRecoveryLaw", name := "gap", desc := "(LCodeRecovery;II[J)I" } : Jvm.MethodName)) ∈ lw_all := lw_g (lw_at lw_m6 177 rfl) rfl
theorem q1455 : (Jvm.Cond.static ({ cls := "CodeRecoveryLaw", name := "gap", desc := "(LCodeRecovery;II[J)I" } : Jvm.MethodName)) ∈ lw_all := lw_g (lw_at lw_m6 178 rfl) rfl
theorem q1456 : (Jvm.Cond.codeWith ({ cls := "CodeRecoveryLaw", name := "gap", desc := "(LCodeRecovery;II[J)I" } : Jvm.MethodName) method_23_code (5 : Nat) (Option.some Jvm.ClassFile.FieldType.int) [((0 : Nat), (10 : Nat), (13 : Nat), (15 : Nat)), ((0 : Nat), (10 : Nat), (17 : Nat), (25 : Nat)), ((0 : Nat), (10 : Nat), (21 : Nat), (13 : Nat))]) ∈ lw_all := lw_g (lw_at lw_m6 179 rfl) rfl
theorem q1457 : (Jvm.Cond.methodLink "CodeRecoveryLaw" (81 : Nat) ({ cls := "CodeRecovery", name := "gap", desc := "(II)I" } : Jvm.MethodName)) ∈ lw_all := lw_g (lw_at lw_m6 180 rfl) rfl
theorem q1461 : (Jvm.Cond.methodLink "CodeRecoveryLaw" (221 : Nat) ({ cls := "CodeRecoveryLaw", name := "speculative", desc := "(LCodeRecovery;[J)I" } : Jvm.MethodName)) ∈ lw_all := lw_g (lw_at lw_m6 184 rfl) rfl
theorem q1462 : (Jvm.Cond.static ({ cls := "CodeRecoveryLaw", name := "speculative", desc := "(LCodeRecovery;[J)I" } : Jvm.MethodName)) ∈ lw_all := lw_g (lw_at lw_m6 185 rfl) rfl
theorem q1463 : (Jvm.Cond.codeWith ({ cls := "CodeRecoveryLaw", name := "speculative", desc := "(LCodeRecovery;[J)I" } : Jvm.MethodName) method_24_code (3 : Nat) (Option.some Jvm.ClassFile.FieldType.int) [((0 : Nat), (8 : Nat), (11 : Nat), (15 : Nat))]) ∈ lw_all := lw_g (lw_at lw_m6 186 rfl) rfl
theorem q1464 : (Jvm.Cond.methodLink "CodeRecoveryLaw" (84 : Nat) ({ cls := "CodeRecovery", name := "speculative", desc := "()I" } : Jvm.MethodName)) ∈ lw_all := lw_g (lw_at lw_m6 187 rfl) rfl
theorem q1472 : (Jvm.Cond.methodLink "CodeRecoveryLaw" (224 : Nat) ({ cls := "CodeRecoveryLaw", name := "blockCount", desc := "(LCodeRecovery;[J)I" } : Jvm.MethodName)) ∈ lw_all := lw_g (lw_at lw_m6 195 rfl) rfl
theorem q1473 : (Jvm.Cond.static ({ cls := "CodeRecoveryLaw", name := "blockCount", desc := "(LCodeRecovery;[J)I" } : Jvm.MethodName)) ∈ lw_all := lw_g (lw_at lw_m6 196 rfl) rfl
theorem q1474 : (Jvm.Cond.codeWith ({ cls := "CodeRecoveryLaw", name := "blockCount", desc := "(LCodeRecovery;[J)I" } : Jvm.MethodName) method_25_code (3 : Nat) (Option.some Jvm.ClassFile.FieldType.int) [((0 : Nat), (8 : Nat), (11 : Nat), (15 : Nat))]) ∈ lw_all := lw_g (lw_at lw_m6 197 rfl) rfl
theorem q1475 : (Jvm.Cond.methodLink "CodeRecoveryLaw" (87 : Nat) ({ cls := "CodeRecovery", name := "blockCount", desc := "()I" } : Jvm.MethodName)) ∈ lw_all := lw_g (lw_at lw_m6 198 rfl) rfl
theorem q1479 : (Jvm.Cond.methodLink "CodeRecoveryLaw" (227 : Nat) ({ cls := "CodeRecoveryLaw", name := "block", desc := "(LCodeRecovery;II[J)I" } : Jvm.MethodName)) ∈ lw_all := lw_g (lw_at lw_m6 202 rfl) rfl
theorem q1480 : (Jvm.Cond.static ({ cls := "CodeRecoveryLaw", name := "block", desc := "(LCodeRecovery;II[J)I" } : Jvm.MethodName)) ∈ lw_all := lw_g (lw_at lw_m6 203 rfl) rfl
theorem q1481 : (Jvm.Cond.codeWith ({ cls := "CodeRecoveryLaw", name := "block", desc := "(LCodeRecovery;II[J)I" } : Jvm.MethodName) method_26_code (5 : Nat) (Option.some Jvm.ClassFile.FieldType.int) [((0 : Nat), (10 : Nat), (13 : Nat), (15 : Nat)), ((0 : Nat), (10 : Nat), (17 : Nat), (25 : Nat)), ((0 : Nat), (10 : Nat), (21 : Nat), (13 : Nat))]) ∈ lw_all := lw_g (lw_at lw_m6 204 rfl) rfl
theorem q1482 : (Jvm.Cond.methodLink "CodeRecoveryLaw" (90 : Nat) ({ cls := "CodeRecovery", name := "block", desc := "(II)I" } : Jvm.MethodName)) ∈ lw_all := lw_g (lw_at lw_m6 205 rfl) rfl
theorem q1486 : (Jvm.Cond.methodLink "CodeRecoveryLaw" (230 : Nat) ({ cls := "CodeRecoveryLaw", name := "functionCount", desc := "(LCodeRecovery;[J)I" } : Jvm.MethodName)) ∈ lw_all := lw_g (lw_at lw_m6 209 rfl) rfl
theorem q1487 : (Jvm.Cond.static ({ cls := "CodeRecoveryLaw", name := "functionCount", desc := "(LCodeRecovery;[J)I" } : Jvm.MethodName)) ∈ lw_all := lw_g (lw_at lw_m6 210 rfl) rfl
theorem q1488 : (Jvm.Cond.codeWith ({ cls := "CodeRecoveryLaw", name := "functionCount", desc := "(LCodeRecovery;[J)I" } : Jvm.MethodName) method_27_code (3 : Nat) (Option.some Jvm.ClassFile.FieldType.int) [((0 : Nat), (8 : Nat), (11 : Nat), (15 : Nat))]) ∈ lw_all := lw_g (lw_at lw_m6 211 rfl) rfl
theorem q1489 : (Jvm.Cond.methodLink "CodeRecoveryLaw" (93 : Nat) ({ cls := "CodeRecovery", name := "functionCount", desc := "()I" } : Jvm.MethodName)) ∈ lw_all := lw_g (lw_at lw_m6 212 rfl) rfl
theorem q1497 : (Jvm.Cond.methodLink "CodeRecoveryLaw" (233 : Nat) ({ cls := "CodeRecoveryLaw", name := "functionSize", desc := "(LCodeRecovery;I[J)I" } : Jvm.MethodName)) ∈ lw_all := lw_g (lw_at lw_m6 220 rfl) rfl
theorem q1498 : (Jvm.Cond.static ({ cls := "CodeRecoveryLaw", name := "functionSize", desc := "(LCodeRecovery;I[J)I" } : Jvm.MethodName)) ∈ lw_all := lw_g (lw_at lw_m6 221 rfl) rfl
theorem q1499 : (Jvm.Cond.codeWith ({ cls := "CodeRecoveryLaw", name := "functionSize", desc := "(LCodeRecovery;I[J)I" } : Jvm.MethodName) method_28_code (4 : Nat) (Option.some Jvm.ClassFile.FieldType.int) [((0 : Nat), (9 : Nat), (12 : Nat), (15 : Nat)), ((0 : Nat), (9 : Nat), (15 : Nat), (25 : Nat)), ((0 : Nat), (9 : Nat), (18 : Nat), (99 : Nat))]) ∈ lw_all := lw_g (lw_at lw_m6 222 rfl) rfl
theorem q1500 : (Jvm.Cond.classLink "CodeRecoveryLaw" (99 : Nat) "java/util/NoSuchElementException") ∈ lw_all := lw_g (lw_at lw_m6 223 rfl) rfl
theorem q1501 : (Jvm.Cond.methodLink "CodeRecoveryLaw" (96 : Nat) ({ cls := "CodeRecovery", name := "functionSize", desc := "(I)I" } : Jvm.MethodName)) ∈ lw_all := lw_g (lw_at lw_m6 224 rfl) rfl
theorem q1517 : (Jvm.Cond.methodLink "CodeRecoveryLaw" (236 : Nat) ({ cls := "CodeRecoveryLaw", name := "run", desc := "(LCodeRecovery;I[J)I" } : Jvm.MethodName)) ∈ lw_all := lw_g (lw_at lw_m7 0 rfl) rfl
theorem q1518 : (Jvm.Cond.static ({ cls := "CodeRecoveryLaw", name := "run", desc := "(LCodeRecovery;I[J)I" } : Jvm.MethodName)) ∈ lw_all := lw_g (lw_at lw_m7 1 rfl) rfl
theorem q1519 : (Jvm.Cond.codeWith ({ cls := "CodeRecoveryLaw", name := "run", desc := "(LCodeRecovery;I[J)I" } : Jvm.MethodName) method_29_code (4 : Nat) (Option.some Jvm.ClassFile.FieldType.int) [((0 : Nat), (9 : Nat), (12 : Nat), (25 : Nat))]) ∈ lw_all := lw_g (lw_at lw_m7 2 rfl) rfl
theorem q1520 : (Jvm.Cond.methodLink "CodeRecoveryLaw" (101 : Nat) ({ cls := "CodeRecovery", name := "run", desc := "(I)I" } : Jvm.MethodName)) ∈ lw_all := lw_g (lw_at lw_m7 3 rfl) rfl
theorem q1602 : (Jvm.Cond.methodLink "CodeRecoveryLaw" (239 : Nat) ({ cls := "CodeRecoveryLaw", name := "executedAt", desc := "(LCodeRecovery;I[J)I" } : Jvm.MethodName)) ∈ lw_all := lw_g (lw_at lw_m7 85 rfl) rfl
theorem q1603 : (Jvm.Cond.static ({ cls := "CodeRecoveryLaw", name := "executedAt", desc := "(LCodeRecovery;I[J)I" } : Jvm.MethodName)) ∈ lw_all := lw_g (lw_at lw_m7 86 rfl) rfl
theorem q1604 : (Jvm.Cond.codeWith ({ cls := "CodeRecoveryLaw", name := "executedAt", desc := "(LCodeRecovery;I[J)I" } : Jvm.MethodName) method_30_code (4 : Nat) (Option.some Jvm.ClassFile.FieldType.int) [((0 : Nat), (9 : Nat), (12 : Nat), (15 : Nat)), ((0 : Nat), (9 : Nat), (15 : Nat), (25 : Nat))]) ∈ lw_all := lw_g (lw_at lw_m7 87 rfl) rfl
theorem q1605 : (Jvm.Cond.methodLink "CodeRecoveryLaw" (104 : Nat) ({ cls := "CodeRecovery", name := "executedAt", desc := "(I)I" } : Jvm.MethodName)) ∈ lw_all := lw_g (lw_at lw_m7 88 rfl) rfl
theorem q1613 : (Jvm.Cond.methodLink "CodeRecoveryLaw" (242 : Nat) ({ cls := "CodeRecoveryLaw", name := "unrecovered", desc := "(LCodeRecovery;[J)I" } : Jvm.MethodName)) ∈ lw_all := lw_g (lw_at lw_m7 96 rfl) rfl
theorem q1614 : (Jvm.Cond.static ({ cls := "CodeRecoveryLaw", name := "unrecovered", desc := "(LCodeRecovery;[J)I" } : Jvm.MethodName)) ∈ lw_all := lw_g (lw_at lw_m7 97 rfl) rfl
theorem q1615 : (Jvm.Cond.codeWith ({ cls := "CodeRecoveryLaw", name := "unrecovered", desc := "(LCodeRecovery;[J)I" } : Jvm.MethodName) method_31_code (3 : Nat) (Option.some Jvm.ClassFile.FieldType.int) [((0 : Nat), (8 : Nat), (11 : Nat), (15 : Nat))]) ∈ lw_all := lw_g (lw_at lw_m7 98 rfl) rfl
theorem q1616 : (Jvm.Cond.methodLink "CodeRecoveryLaw" (107 : Nat) ({ cls := "CodeRecovery", name := "unrecovered", desc := "()I" } : Jvm.MethodName)) ∈ lw_all := lw_g (lw_at lw_m7 99 rfl) rfl
theorem q1620 : (Jvm.Cond.methodLink "CodeRecoveryLaw" (245 : Nat) ({ cls := "CodeRecoveryLaw", name := "register", desc := "(LCodeRecovery;I[J)I" } : Jvm.MethodName)) ∈ lw_all := lw_g (lw_at lw_m7 103 rfl) rfl
theorem q1621 : (Jvm.Cond.static ({ cls := "CodeRecoveryLaw", name := "register", desc := "(LCodeRecovery;I[J)I" } : Jvm.MethodName)) ∈ lw_all := lw_g (lw_at lw_m7 104 rfl) rfl
theorem q1622 : (Jvm.Cond.codeWith ({ cls := "CodeRecoveryLaw", name := "register", desc := "(LCodeRecovery;I[J)I" } : Jvm.MethodName) method_32_code (4 : Nat) (Option.some Jvm.ClassFile.FieldType.int) [((0 : Nat), (9 : Nat), (12 : Nat), (15 : Nat)), ((0 : Nat), (9 : Nat), (15 : Nat), (25 : Nat))]) ∈ lw_all := lw_g (lw_at lw_m7 105 rfl) rfl
theorem q1623 : (Jvm.Cond.methodLink "CodeRecoveryLaw" (110 : Nat) ({ cls := "CodeRecovery", name := "register", desc := "(I)I" } : Jvm.MethodName)) ∈ lw_all := lw_g (lw_at lw_m7 106 rfl) rfl
theorem q1627 : (Jvm.Cond.methodLink "CodeRecoveryLaw" (248 : Nat) ({ cls := "CodeRecoveryLaw", name := "coverage", desc := "(LCodeRecovery;[D)I" } : Jvm.MethodName)) ∈ lw_all := lw_g (lw_at lw_m7 110 rfl) rfl
theorem q1628 : (Jvm.Cond.static ({ cls := "CodeRecoveryLaw", name := "coverage", desc := "(LCodeRecovery;[D)I" } : Jvm.MethodName)) ∈ lw_all := lw_g (lw_at lw_m7 111 rfl) rfl
theorem q1629 : (Jvm.Cond.codeWith ({ cls := "CodeRecoveryLaw", name := "coverage", desc := "(LCodeRecovery;[D)I" } : Jvm.MethodName) method_33_code (3 : Nat) (Option.some Jvm.ClassFile.FieldType.int) [((0 : Nat), (7 : Nat), (10 : Nat), (15 : Nat)), ((0 : Nat), (7 : Nat), (13 : Nat), (117 : Nat))]) ∈ lw_all := lw_g (lw_at lw_m7 112 rfl) rfl
theorem q1630 : (Jvm.Cond.classLink "CodeRecoveryLaw" (117 : Nat) "java/lang/ArithmeticException") ∈ lw_all := lw_g (lw_at lw_m7 113 rfl) rfl
theorem q1644 : (Jvm.Cond.methodLink "CodeRecoveryLaw" (113 : Nat) ({ cls := "CodeRecovery", name := "coverage", desc := "()D" } : Jvm.MethodName)) ∈ lw_all := lw_g (lw_at lw_m7 127 rfl) rfl
theorem q1660 : (Jvm.Cond.methodLink "CodeRecoveryLaw" (252 : Nat) ({ cls := "CodeRecoveryLaw", name := "averageBlock", desc := "(LCodeRecovery;[D)I" } : Jvm.MethodName)) ∈ lw_all := lw_g (lw_at lw_m7 143 rfl) rfl
theorem q1661 : (Jvm.Cond.static ({ cls := "CodeRecoveryLaw", name := "averageBlock", desc := "(LCodeRecovery;[D)I" } : Jvm.MethodName)) ∈ lw_all := lw_g (lw_at lw_m7 144 rfl) rfl
theorem q1662 : (Jvm.Cond.codeWith ({ cls := "CodeRecoveryLaw", name := "averageBlock", desc := "(LCodeRecovery;[D)I" } : Jvm.MethodName) method_34_code (3 : Nat) (Option.some Jvm.ClassFile.FieldType.int) [((0 : Nat), (8 : Nat), (11 : Nat), (15 : Nat)), ((0 : Nat), (8 : Nat), (14 : Nat), (117 : Nat))]) ∈ lw_all := lw_g (lw_at lw_m7 145 rfl) rfl
theorem q1663 : (Jvm.Cond.methodLink "CodeRecoveryLaw" (119 : Nat) ({ cls := "CodeRecovery", name := "averageBlock", desc := "()F" } : Jvm.MethodName)) ∈ lw_all := lw_g (lw_at lw_m7 146 rfl) rfl
theorem q1671 : (Jvm.Cond.methodLink "CodeRecoveryLaw" (259 : Nat) ({ cls := "CodeRecoveryLaw", name := "restore", desc := "(LCodeRecovery;)I" } : Jvm.MethodName)) ∈ lw_all := lw_g (lw_at lw_m7 154 rfl) rfl
theorem q1672 : (Jvm.Cond.static ({ cls := "CodeRecoveryLaw", name := "restore", desc := "(LCodeRecovery;)I" } : Jvm.MethodName)) ∈ lw_all := lw_g (lw_at lw_m7 155 rfl) rfl
theorem q1673 : (Jvm.Cond.codeWith ({ cls := "CodeRecoveryLaw", name := "restore", desc := "(LCodeRecovery;)I" } : Jvm.MethodName) method_35_code (2 : Nat) (Option.some Jvm.ClassFile.FieldType.int) [((0 : Nat), (4 : Nat), (7 : Nat), (15 : Nat))]) ∈ lw_all := lw_g (lw_at lw_m7 156 rfl) rfl
theorem q1674 : (Jvm.Cond.methodLink "CodeRecoveryLaw" (123 : Nat) ({ cls := "CodeRecovery", name := "restore", desc := "()V" } : Jvm.MethodName)) ∈ lw_all := lw_g (lw_at lw_m7 157 rfl) rfl
theorem q1678 : (Jvm.Cond.classLink "CodeRecoveryLaw" (127 : Nat) "CodeRecoveryModel") ∈ lw_all := lw_g (lw_at lw_m7 161 rfl) rfl
theorem q1680 : (Jvm.Cond.methodLink "CodeRecoveryLaw" (129 : Nat) ({ cls := "CodeRecoveryModel", name := "<init>", desc := "()V" } : Jvm.MethodName)) ∈ lw_all := lw_g (lw_at lw_m7 163 rfl) rfl
theorem q1836 : (Jvm.Cond.methodLink "CodeRecoveryLaw" (136 : Nat) ({ cls := "CodeRecoveryModel", name := "thrown", desc := "()I" } : Jvm.MethodName)) ∈ lw_all := lw_g (lw_at lw_m8 79 rfl) rfl
theorem q1840 : (Jvm.Cond.methodLink "CodeRecoveryLaw" (135 : Nat) ({ cls := "CodeRecoveryModel", name := "appendCharacter", desc := "(I)I" } : Jvm.MethodName)) ∈ lw_all := lw_g (lw_at lw_m8 83 rfl) rfl
theorem q1851 : (Jvm.Cond.methodLink "CodeRecoveryLaw" (142 : Nat) ({ cls := "CodeRecoveryModel", name := "addBytes", desc := "()I" } : Jvm.MethodName)) ∈ lw_all := lw_g (lw_at lw_m8 94 rfl) rfl
theorem q1862 : (Jvm.Cond.methodLink "CodeRecoveryLaw" (146 : Nat) ({ cls := "CodeRecoveryModel", name := "faultPosition", desc := "()I" } : Jvm.MethodName)) ∈ lw_all := lw_g (lw_at lw_m8 105 rfl) rfl
theorem q1866 : (Jvm.Cond.methodLink "CodeRecoveryLaw" (150 : Nat) ({ cls := "CodeRecoveryModel", name := "setByte", desc := "(II)I" } : Jvm.MethodName)) ∈ lw_all := lw_g (lw_at lw_m8 109 rfl) rfl
theorem q1874 : (Jvm.Cond.methodLink "CodeRecoveryLaw" (153 : Nat) ({ cls := "CodeRecoveryModel", name := "byteAt", desc := "(I)I" } : Jvm.MethodName)) ∈ lw_all := lw_g (lw_at lw_m8 117 rfl) rfl
theorem q1878 : (Jvm.Cond.methodLink "CodeRecoveryLaw" (157 : Nat) ({ cls := "CodeRecoveryModel", name := "clear", desc := "()I" } : Jvm.MethodName)) ∈ lw_all := lw_g (lw_at lw_m8 121 rfl) rfl
theorem q1882 : (Jvm.Cond.methodLink "CodeRecoveryLaw" (161 : Nat) ({ cls := "CodeRecoveryModel", name := "size", desc := "()I" } : Jvm.MethodName)) ∈ lw_all := lw_g (lw_at lw_m8 125 rfl) rfl
theorem q1886 : (Jvm.Cond.methodLink "CodeRecoveryLaw" (164 : Nat) ({ cls := "CodeRecoveryModel", name := "addEntry", desc := "(I)I" } : Jvm.MethodName)) ∈ lw_all := lw_g (lw_at lw_m8 129 rfl) rfl
theorem q1894 : (Jvm.Cond.methodLink "CodeRecoveryLaw" (167 : Nat) ({ cls := "CodeRecoveryModel", name := "removeEntry", desc := "(I)I" } : Jvm.MethodName)) ∈ lw_all := lw_g (lw_at lw_m8 137 rfl) rfl
theorem q1898 : (Jvm.Cond.methodLink "CodeRecoveryLaw" (171 : Nat) ({ cls := "CodeRecoveryModel", name := "entryCount", desc := "()I" } : Jvm.MethodName)) ∈ lw_all := lw_g (lw_at lw_m8 141 rfl) rfl
theorem q1902 : (Jvm.Cond.methodLink "CodeRecoveryLaw" (174 : Nat) ({ cls := "CodeRecoveryModel", name := "setThreshold", desc := "(I)I" } : Jvm.MethodName)) ∈ lw_all := lw_g (lw_at lw_m8 145 rfl) rfl
theorem q1906 : (Jvm.Cond.methodLink "CodeRecoveryLaw" (177 : Nat) ({ cls := "CodeRecoveryModel", name := "isValid", desc := "(I)Z" } : Jvm.MethodName)) ∈ lw_all := lw_g (lw_at lw_m8 149 rfl) rfl
theorem q1933 : (Jvm.Cond.methodLink "CodeRecoveryLaw" (180 : Nat) ({ cls := "CodeRecoveryModel", name := "decode", desc := "(II)I" } : Jvm.MethodName)) ∈ lw_all := lw_g (lw_at lw_m8 176 rfl) rfl
theorem q1941 : (Jvm.Cond.methodLink "CodeRecoveryLaw" (184 : Nat) ({ cls := "CodeRecoveryModel", name := "recover", desc := "()I" } : Jvm.MethodName)) ∈ lw_all := lw_g (lw_at lw_m8 184 rfl) rfl
theorem q2017 : (Jvm.Cond.methodLink "CodeRecoveryLaw" (187 : Nat) ({ cls := "CodeRecoveryModel", name := "accepted", desc := "()I" } : Jvm.MethodName)) ∈ lw_all := lw_g (lw_at lw_m9 20 rfl) rfl
theorem q2025 : (Jvm.Cond.methodLink "CodeRecoveryLaw" (190 : Nat) ({ cls := "CodeRecoveryModel", name := "acceptedAt", desc := "(I)I" } : Jvm.MethodName)) ∈ lw_all := lw_g (lw_at lw_m9 28 rfl) rfl
theorem q2033 : (Jvm.Cond.methodLink "CodeRecoveryLaw" (193 : Nat) ({ cls := "CodeRecoveryModel", name := "use", desc := "(I)I" } : Jvm.MethodName)) ∈ lw_all := lw_g (lw_at lw_m9 36 rfl) rfl
theorem q2037 : (Jvm.Cond.methodLink "CodeRecoveryLaw" (196 : Nat) ({ cls := "CodeRecoveryModel", name := "conflictCount", desc := "()I" } : Jvm.MethodName)) ∈ lw_all := lw_g (lw_at lw_m9 40 rfl) rfl
theorem q2041 : (Jvm.Cond.methodLink "CodeRecoveryLaw" (199 : Nat) ({ cls := "CodeRecoveryModel", name := "conflict", desc := "(I)I" } : Jvm.MethodName)) ∈ lw_all := lw_g (lw_at lw_m9 44 rfl) rfl
theorem q2045 : (Jvm.Cond.methodLink "CodeRecoveryLaw" (202 : Nat) ({ cls := "CodeRecoveryModel", name := "badTargets", desc := "()I" } : Jvm.MethodName)) ∈ lw_all := lw_g (lw_at lw_m9 48 rfl) rfl
theorem q2049 : (Jvm.Cond.methodLink "CodeRecoveryLaw" (205 : Nat) ({ cls := "CodeRecoveryModel", name := "tableCount", desc := "()I" } : Jvm.MethodName)) ∈ lw_all := lw_g (lw_at lw_m9 52 rfl) rfl
theorem q2053 : (Jvm.Cond.methodLink "CodeRecoveryLaw" (208 : Nat) ({ cls := "CodeRecoveryModel", name := "table", desc := "(II)I" } : Jvm.MethodName)) ∈ lw_all := lw_g (lw_at lw_m9 56 rfl) rfl
theorem q2057 : (Jvm.Cond.methodLink "CodeRecoveryLaw" (211 : Nat) ({ cls := "CodeRecoveryModel", name := "tableEntry", desc := "(II)I" } : Jvm.MethodName)) ∈ lw_all := lw_g (lw_at lw_m9 60 rfl) rfl
theorem q2061 : (Jvm.Cond.methodLink "CodeRecoveryLaw" (214 : Nat) ({ cls := "CodeRecoveryModel", name := "isComplete", desc := "(I)Z" } : Jvm.MethodName)) ∈ lw_all := lw_g (lw_at lw_m9 64 rfl) rfl
theorem q2069 : (Jvm.Cond.methodLink "CodeRecoveryLaw" (217 : Nat) ({ cls := "CodeRecoveryModel", name := "gapCount", desc := "()I" } : Jvm.MethodName)) ∈ lw_all := lw_g (lw_at lw_m9 72 rfl) rfl
theorem q2073 : (Jvm.Cond.methodLink "CodeRecoveryLaw" (220 : Nat) ({ cls := "CodeRecoveryModel", name := "gap", desc := "(II)I" } : Jvm.MethodName)) ∈ lw_all := lw_g (lw_at lw_m9 76 rfl) rfl
theorem q2077 : (Jvm.Cond.methodLink "CodeRecoveryLaw" (223 : Nat) ({ cls := "CodeRecoveryModel", name := "speculative", desc := "()I" } : Jvm.MethodName)) ∈ lw_all := lw_g (lw_at lw_m9 80 rfl) rfl
theorem q2081 : (Jvm.Cond.methodLink "CodeRecoveryLaw" (226 : Nat) ({ cls := "CodeRecoveryModel", name := "blockCount", desc := "()I" } : Jvm.MethodName)) ∈ lw_all := lw_g (lw_at lw_m9 84 rfl) rfl
theorem q2105 : (Jvm.Cond.methodLink "CodeRecoveryLaw" (229 : Nat) ({ cls := "CodeRecoveryModel", name := "block", desc := "(II)I" } : Jvm.MethodName)) ∈ lw_all := lw_g (lw_at lw_m9 108 rfl) rfl
theorem q2113 : (Jvm.Cond.methodLink "CodeRecoveryLaw" (232 : Nat) ({ cls := "CodeRecoveryModel", name := "functionCount", desc := "()I" } : Jvm.MethodName)) ∈ lw_all := lw_g (lw_at lw_m9 116 rfl) rfl
theorem q2121 : (Jvm.Cond.methodLink "CodeRecoveryLaw" (235 : Nat) ({ cls := "CodeRecoveryModel", name := "functionSize", desc := "(I)I" } : Jvm.MethodName)) ∈ lw_all := lw_g (lw_at lw_m9 124 rfl) rfl
theorem q2129 : (Jvm.Cond.methodLink "CodeRecoveryLaw" (238 : Nat) ({ cls := "CodeRecoveryModel", name := "run", desc := "(I)I" } : Jvm.MethodName)) ∈ lw_all := lw_g (lw_at lw_m9 132 rfl) rfl
theorem q2149 : (Jvm.Cond.methodLink "CodeRecoveryLaw" (241 : Nat) ({ cls := "CodeRecoveryModel", name := "executedAt", desc := "(I)I" } : Jvm.MethodName)) ∈ lw_all := lw_g (lw_at lw_m9 152 rfl) rfl
theorem q2153 : (Jvm.Cond.methodLink "CodeRecoveryLaw" (244 : Nat) ({ cls := "CodeRecoveryModel", name := "unrecovered", desc := "()I" } : Jvm.MethodName)) ∈ lw_all := lw_g (lw_at lw_m9 156 rfl) rfl
theorem q2157 : (Jvm.Cond.methodLink "CodeRecoveryLaw" (247 : Nat) ({ cls := "CodeRecoveryModel", name := "register", desc := "(I)I" } : Jvm.MethodName)) ∈ lw_all := lw_g (lw_at lw_m9 160 rfl) rfl
theorem q2161 : (Jvm.Cond.methodLink "CodeRecoveryLaw" (251 : Nat) ({ cls := "CodeRecoveryModel", name := "coverage", desc := "()D" } : Jvm.MethodName)) ∈ lw_all := lw_g (lw_at lw_m9 164 rfl) rfl
theorem q2165 : (Jvm.Cond.methodLink "CodeRecoveryLaw" (254 : Nat) ({ cls := "CodeRecoveryModel", name := "averageBlock", desc := "()F" } : Jvm.MethodName)) ∈ lw_all := lw_g (lw_at lw_m9 168 rfl) rfl
theorem q2169 : (Jvm.Cond.methodLink "CodeRecoveryLaw" (258 : Nat) ({ cls := "CodeRecoveryModel", name := "save", desc := "()V" } : Jvm.MethodName)) ∈ lw_all := lw_g (lw_at lw_m9 172 rfl) rfl
theorem q2173 : (Jvm.Cond.methodLink "CodeRecoveryLaw" (262 : Nat) ({ cls := "CodeRecoveryModel", name := "restore", desc := "()V" } : Jvm.MethodName)) ∈ lw_all := lw_g (lw_at lw_m9 176 rfl) rfl

/-! CodeRecovery -/
set_option maxRecDepth 100000
def RX1 : String := "CodeRecovery"
def TX1 : u_T := fun k => match k with
  | 0 => ("CodeRecovery", "now", "LCodeRecovery$Image;", false)
  | 1 => ("CodeRecovery", "saved", "LCodeRecovery$Image;", false)
  | 2 => ("CodeRecovery", "recovery", "LCodeRecovery$Recovery;", false)
  | 3 => ("CodeRecovery", "latest", "LCodeRecovery$Run;", false)
  | 4 => ("CodeRecovery", "text", "[C", true)
  | 5 => ("CodeRecovery", "textLength", "I", false)
  | _ => ("CodeRecovery", "fault", "I", false)
def tyX1 : Nat → FieldType := fun k => match k with
  | 0 => .object "CodeRecovery$Image"
  | 1 => .object "CodeRecovery$Image"
  | 2 => .object "CodeRecovery$Recovery"
  | 3 => .object "CodeRecovery$Run"
  | 4 => .array .char
  | 5 => .int
  | _ => .int
abbrev wsX10 : List Cond := u_ws RX1 TX1 7
theorem nmX1 : ∀ a, a < 7 → ∀ b, b < 7 → a ≠ b → (TX1 a).2.1 ≠ (TX1 b).2.1 := by decide +kernel
theorem tyX1_ok : ∀ k, k < 7 → parseFieldDescriptor (TX1 k).2.2.1 = some (tyX1 k) := by decide +kernel
abbrev cX1_init : ByteArray := prog_1_method_7_code
def yX1_init : MethodName := ⟨RX1, "<init>", "()V"⟩
def dkwX1_init_1 : List UInt8 := [16, 60, 188, 5, 181, 0, 60, 42, 2, 181, 0, 64, 177]
abbrev dktX1_init_1 : List UInt8 := dkwX1_init_1 ++ []
def dkwX1_init_0 : List UInt8 := [42, 183, 0, 48, 42, 187, 0, 51, 89, 3, 188, 10, 3, 188, 10, 7, 183, 0, 53, 181, 0, 56, 42]
abbrev dktX1_init_0 : List UInt8 := dkwX1_init_0 ++ dktX1_init_1
theorem dksX1_init_0 : cX1_init.data.toList.drop 0 = dktX1_init_0 := by decide +kernel
theorem dksX1_init_1 : cX1_init.data.toList.drop 23 = dktX1_init_1 := dk_seg dksX1_init_0 23 rfl rfl
theorem dX1_init_0 : decode cX1_init 0 = .ok (.aload_n 0, 1) := dk_42 (dk_at dksX1_init_0 0 rfl rfl)
theorem dX1_init_1 : decode cX1_init 1 = .ok (.invokespecial 48, 3) := dk_183 0 48 (dk_at dksX1_init_0 1 rfl rfl)
theorem dX1_init_4 : decode cX1_init 4 = .ok (.aload_n 0, 1) := dk_42 (dk_at dksX1_init_0 4 rfl rfl)
theorem dX1_init_5 : decode cX1_init 5 = .ok (.new 51, 3) := dk_187 0 51 (dk_at dksX1_init_0 5 rfl rfl)
theorem dX1_init_8 : decode cX1_init 8 = .ok (.dup, 1) := dk_89 (dk_at dksX1_init_0 8 rfl rfl)
theorem dX1_init_9 : decode cX1_init 9 = .ok (.iconst 0, 1) := dk_3 (dk_at dksX1_init_0 9 rfl rfl)
theorem dX1_init_10 : decode cX1_init 10 = .ok (.newarray .int, 2) := dk_188_10 (dk_at dksX1_init_0 10 rfl rfl)
theorem dX1_init_12 : decode cX1_init 12 = .ok (.iconst 0, 1) := dk_3 (dk_at dksX1_init_0 12 rfl rfl)
theorem dX1_init_13 : decode cX1_init 13 = .ok (.newarray .int, 2) := dk_188_10 (dk_at dksX1_init_0 13 rfl rfl)
theorem dX1_init_15 : decode cX1_init 15 = .ok (.iconst 4, 1) := dk_7 (dk_at dksX1_init_0 15 rfl rfl)
theorem dX1_init_16 : decode cX1_init 16 = .ok (.invokespecial 53, 3) := dk_183 0 53 (dk_at dksX1_init_0 16 rfl rfl)
theorem dX1_init_19 : decode cX1_init 19 = .ok (.putfield 56, 3) := dk_181 0 56 (dk_at dksX1_init_0 19 rfl rfl)
theorem dX1_init_22 : decode cX1_init 22 = .ok (.aload_n 0, 1) := dk_42 (dk_at dksX1_init_0 22 rfl rfl)
theorem dX1_init_23 : decode cX1_init 23 = .ok (.bipush 60, 2) := dk_16 60 (dk_at dksX1_init_1 0 rfl rfl)
theorem dX1_init_25 : decode cX1_init 25 = .ok (.newarray .char, 2) := dk_188_5 (dk_at dksX1_init_1 2 rfl rfl)
theorem dX1_init_27 : decode cX1_init 27 = .ok (.putfield 60, 3) := dk_181 0 60 (dk_at dksX1_init_1 4 rfl rfl)
theorem dX1_init_30 : decode cX1_init 30 = .ok (.aload_n 0, 1) := dk_42 (dk_at dksX1_init_1 7 rfl rfl)
theorem dX1_init_31 : decode cX1_init 31 = .ok (.iconst (-1), 1) := dk_2 (dk_at dksX1_init_1 8 rfl rfl)
theorem dX1_init_32 : decode cX1_init 32 = .ok (.putfield 64, 3) := dk_181 0 64 (dk_at dksX1_init_1 9 rfl rfl)
theorem dX1_init_35 : decode cX1_init 35 = .ok (.return_, 1) := dk_177 (dk_at dksX1_init_1 12 rfl rfl)
abbrev cX1_faultPosition : ByteArray := prog_1_method_14_code
def yX1_faultPosition : MethodName := ⟨RX1, "faultPosition", "()I"⟩
theorem dX1_faultPosition_0 : decode cX1_faultPosition 0 = .ok (.aload_n 0, 1) := by decide +kernel
theorem dX1_faultPosition_1 : decode cX1_faultPosition 1 = .ok (.getfield 64, 3) := by decide +kernel
theorem dX1_faultPosition_4 : decode cX1_faultPosition 4 = .ok (.ireturn, 1) := by decide +kernel
abbrev cX1_clear : ByteArray := prog_1_method_17_code
def yX1_clear : MethodName := ⟨RX1, "clear", "()I"⟩
def dkwX1_clear_1 : List UInt8 := [180, 0, 133, 183, 0, 53, 4, 182, 0, 136, 27, 172]
abbrev dktX1_clear_1 : List UInt8 := dkwX1_clear_1 ++ []
def dkwX1_clear_0 : List UInt8 := [42, 180, 0, 56, 182, 0, 119, 60, 42, 187, 0, 51, 89, 3, 188, 10, 3, 188, 10, 42, 180, 0, 56]
abbrev dktX1_clear_0 : List UInt8 := dkwX1_clear_0 ++ dktX1_clear_1
theorem dksX1_clear_0 : cX1_clear.data.toList.drop 0 = dktX1_clear_0 := by decide +kernel
theorem dksX1_clear_1 : cX1_clear.data.toList.drop 23 = dktX1_clear_1 := dk_seg dksX1_clear_0 23 rfl rfl
theorem dX1_clear_0 : decode cX1_clear 0 = .ok (.aload_n 0, 1) := dk_42 (dk_at dksX1_clear_0 0 rfl rfl)
theorem dX1_clear_1 : decode cX1_clear 1 = .ok (.getfield 56, 3) := dk_180 0 56 (dk_at dksX1_clear_0 1 rfl rfl)
theorem dX1_clear_4 : decode cX1_clear 4 = .ok (.invokevirtual 119, 3) := dk_182 0 119 (dk_at dksX1_clear_0 4 rfl rfl)
theorem dX1_clear_7 : decode cX1_clear 7 = .ok (.istore_n 1, 1) := dk_60 (dk_at dksX1_clear_0 7 rfl rfl)
theorem dX1_clear_8 : decode cX1_clear 8 = .ok (.aload_n 0, 1) := dk_42 (dk_at dksX1_clear_0 8 rfl rfl)
theorem dX1_clear_9 : decode cX1_clear 9 = .ok (.new 51, 3) := dk_187 0 51 (dk_at dksX1_clear_0 9 rfl rfl)
theorem dX1_clear_12 : decode cX1_clear 12 = .ok (.dup, 1) := dk_89 (dk_at dksX1_clear_0 12 rfl rfl)
theorem dX1_clear_13 : decode cX1_clear 13 = .ok (.iconst 0, 1) := dk_3 (dk_at dksX1_clear_0 13 rfl rfl)
theorem dX1_clear_14 : decode cX1_clear 14 = .ok (.newarray .int, 2) := dk_188_10 (dk_at dksX1_clear_0 14 rfl rfl)
theorem dX1_clear_16 : decode cX1_clear 16 = .ok (.iconst 0, 1) := dk_3 (dk_at dksX1_clear_0 16 rfl rfl)
theorem dX1_clear_17 : decode cX1_clear 17 = .ok (.newarray .int, 2) := dk_188_10 (dk_at dksX1_clear_0 17 rfl rfl)
theorem dX1_clear_19 : decode cX1_clear 19 = .ok (.aload_n 0, 1) := dk_42 (dk_at dksX1_clear_0 19 rfl rfl)
theorem dX1_clear_20 : decode cX1_clear 20 = .ok (.getfield 56, 3) := dk_180 0 56 (dk_at dksX1_clear_0 20 rfl rfl)
theorem dX1_clear_23 : decode cX1_clear 23 = .ok (.getfield 133, 3) := dk_180 0 133 (dk_at dksX1_clear_1 0 rfl rfl)
theorem dX1_clear_26 : decode cX1_clear 26 = .ok (.invokespecial 53, 3) := dk_183 0 53 (dk_at dksX1_clear_1 3 rfl rfl)
theorem dX1_clear_29 : decode cX1_clear 29 = .ok (.iconst 1, 1) := dk_4 (dk_at dksX1_clear_1 6 rfl rfl)
theorem dX1_clear_30 : decode cX1_clear 30 = .ok (.invokevirtual 136, 3) := dk_182 0 136 (dk_at dksX1_clear_1 7 rfl rfl)
theorem dX1_clear_33 : decode cX1_clear 33 = .ok (.iload_n 1, 1) := dk_27 (dk_at dksX1_clear_1 10 rfl rfl)
theorem dX1_clear_34 : decode cX1_clear 34 = .ok (.ireturn, 1) := dk_172 (dk_at dksX1_clear_1 11 rfl rfl)
abbrev cX1_set : ByteArray := prog_1_method_8_code
def yX1_set : MethodName := ⟨RX1, "set", "(LCodeRecovery$Image;Z)V"⟩
def dkwX1_set_1 : List UInt8 := [181, 0, 72, 177]
abbrev dktX1_set_1 : List UInt8 := dkwX1_set_1 ++ []
def dkwX1_set_0 : List UInt8 := [42, 43, 181, 0, 56, 42, 1, 181, 0, 68, 42, 28, 153, 0, 7, 1, 167, 0, 7, 42, 180, 0, 72]
abbrev dktX1_set_0 : List UInt8 := dkwX1_set_0 ++ dktX1_set_1
theorem dksX1_set_0 : cX1_set.data.toList.drop 0 = dktX1_set_0 := by decide +kernel
theorem dksX1_set_1 : cX1_set.data.toList.drop 23 = dktX1_set_1 := dk_seg dksX1_set_0 23 rfl rfl
theorem dX1_set_0 : decode cX1_set 0 = .ok (.aload_n 0, 1) := dk_42 (dk_at dksX1_set_0 0 rfl rfl)
theorem dX1_set_1 : decode cX1_set 1 = .ok (.aload_n 1, 1) := dk_43 (dk_at dksX1_set_0 1 rfl rfl)
theorem dX1_set_2 : decode cX1_set 2 = .ok (.putfield 56, 3) := dk_181 0 56 (dk_at dksX1_set_0 2 rfl rfl)
theorem dX1_set_5 : decode cX1_set 5 = .ok (.aload_n 0, 1) := dk_42 (dk_at dksX1_set_0 5 rfl rfl)
theorem dX1_set_6 : decode cX1_set 6 = .ok (.aconst_null, 1) := dk_1 (dk_at dksX1_set_0 6 rfl rfl)
theorem dX1_set_7 : decode cX1_set 7 = .ok (.putfield 68, 3) := dk_181 0 68 (dk_at dksX1_set_0 7 rfl rfl)
theorem dX1_set_10 : decode cX1_set 10 = .ok (.aload_n 0, 1) := dk_42 (dk_at dksX1_set_0 10 rfl rfl)
theorem dX1_set_11 : decode cX1_set 11 = .ok (.iload_n 2, 1) := dk_28 (dk_at dksX1_set_0 11 rfl rfl)
theorem dX1_set_12 : decode cX1_set 12 = .ok (.ifCond .eq 7, 3) := dk_153 0 7 (dk_at dksX1_set_0 12 rfl rfl)
theorem dX1_set_15 : decode cX1_set 15 = .ok (.aconst_null, 1) := dk_1 (dk_at dksX1_set_0 15 rfl rfl)
theorem dX1_set_16 : decode cX1_set 16 = .ok (.goto 7, 3) := dk_167 0 7 (dk_at dksX1_set_0 16 rfl rfl)
theorem dX1_set_19 : decode cX1_set 19 = .ok (.aload_n 0, 1) := dk_42 (dk_at dksX1_set_0 19 rfl rfl)
theorem dX1_set_20 : decode cX1_set 20 = .ok (.getfield 72, 3) := dk_180 0 72 (dk_at dksX1_set_0 20 rfl rfl)
theorem dX1_set_23 : decode cX1_set 23 = .ok (.putfield 72, 3) := dk_181 0 72 (dk_at dksX1_set_1 0 rfl rfl)
theorem dX1_set_26 : decode cX1_set 26 = .ok (.return_, 1) := dk_177 (dk_at dksX1_set_1 3 rfl rfl)
abbrev cX1_size : ByteArray := prog_1_method_18_code
def yX1_size : MethodName := ⟨RX1, "size", "()I"⟩
def dkwX1_size_0 : List UInt8 := [42, 180, 0, 56, 182, 0, 119, 172]
abbrev dktX1_size_0 : List UInt8 := dkwX1_size_0 ++ []
theorem dksX1_size_0 : cX1_size.data.toList.drop 0 = dktX1_size_0 := by decide +kernel
theorem dX1_size_0 : decode cX1_size 0 = .ok (.aload_n 0, 1) := dk_42 (dk_at dksX1_size_0 0 rfl rfl)
theorem dX1_size_1 : decode cX1_size 1 = .ok (.getfield 56, 3) := dk_180 0 56 (dk_at dksX1_size_0 1 rfl rfl)
theorem dX1_size_4 : decode cX1_size 4 = .ok (.invokevirtual 119, 3) := dk_182 0 119 (dk_at dksX1_size_0 4 rfl rfl)
theorem dX1_size_7 : decode cX1_size 7 = .ok (.ireturn, 1) := dk_172 (dk_at dksX1_size_0 7 rfl rfl)
abbrev cX1_entryCount : ByteArray := prog_1_method_21_code
def yX1_entryCount : MethodName := ⟨RX1, "entryCount", "()I"⟩
def dkwX1_entryCount_0 : List UInt8 := [42, 180, 0, 56, 180, 0, 130, 190, 172]
abbrev dktX1_entryCount_0 : List UInt8 := dkwX1_entryCount_0 ++ []
theorem dksX1_entryCount_0 : cX1_entryCount.data.toList.drop 0 = dktX1_entryCount_0 := by decide +kernel
theorem dX1_entryCount_0 : decode cX1_entryCount 0 = .ok (.aload_n 0, 1) := dk_42 (dk_at dksX1_entryCount_0 0 rfl rfl)
theorem dX1_entryCount_1 : decode cX1_entryCount 1 = .ok (.getfield 56, 3) := dk_180 0 56 (dk_at dksX1_entryCount_0 1 rfl rfl)
theorem dX1_entryCount_4 : decode cX1_entryCount 4 = .ok (.getfield 130, 3) := dk_180 0 130 (dk_at dksX1_entryCount_0 4 rfl rfl)
theorem dX1_entryCount_7 : decode cX1_entryCount 7 = .ok (.arraylength, 1) := dk_190 (dk_at dksX1_entryCount_0 7 rfl rfl)
theorem dX1_entryCount_8 : decode cX1_entryCount 8 = .ok (.ireturn, 1) := dk_172 (dk_at dksX1_entryCount_0 8 rfl rfl)
abbrev cX1_recover : ByteArray := prog_1_method_26_code
def yX1_recover : MethodName := ⟨RX1, "recover", "()I"⟩
def dkwX1_recover_1 : List UInt8 := [182, 0, 193, 172]
abbrev dktX1_recover_1 : List UInt8 := dkwX1_recover_1 ++ []
def dkwX1_recover_0 : List UInt8 := [42, 187, 0, 184, 89, 42, 180, 0, 56, 183, 0, 186, 181, 0, 68, 42, 180, 0, 68, 180, 0, 189]
abbrev dktX1_recover_0 : List UInt8 := dkwX1_recover_0 ++ dktX1_recover_1
theorem dksX1_recover_0 : cX1_recover.data.toList.drop 0 = dktX1_recover_0 := by decide +kernel
theorem dksX1_recover_1 : cX1_recover.data.toList.drop 22 = dktX1_recover_1 := dk_seg dksX1_recover_0 22 rfl rfl
theorem dX1_recover_0 : decode cX1_recover 0 = .ok (.aload_n 0, 1) := dk_42 (dk_at dksX1_recover_0 0 rfl rfl)
theorem dX1_recover_1 : decode cX1_recover 1 = .ok (.new 184, 3) := dk_187 0 184 (dk_at dksX1_recover_0 1 rfl rfl)
theorem dX1_recover_4 : decode cX1_recover 4 = .ok (.dup, 1) := dk_89 (dk_at dksX1_recover_0 4 rfl rfl)
theorem dX1_recover_5 : decode cX1_recover 5 = .ok (.aload_n 0, 1) := dk_42 (dk_at dksX1_recover_0 5 rfl rfl)
theorem dX1_recover_6 : decode cX1_recover 6 = .ok (.getfield 56, 3) := dk_180 0 56 (dk_at dksX1_recover_0 6 rfl rfl)
theorem dX1_recover_9 : decode cX1_recover 9 = .ok (.invokespecial 186, 3) := dk_183 0 186 (dk_at dksX1_recover_0 9 rfl rfl)
theorem dX1_recover_12 : decode cX1_recover 12 = .ok (.putfield 68, 3) := dk_181 0 68 (dk_at dksX1_recover_0 12 rfl rfl)
theorem dX1_recover_15 : decode cX1_recover 15 = .ok (.aload_n 0, 1) := dk_42 (dk_at dksX1_recover_0 15 rfl rfl)
theorem dX1_recover_16 : decode cX1_recover 16 = .ok (.getfield 68, 3) := dk_180 0 68 (dk_at dksX1_recover_0 16 rfl rfl)
theorem dX1_recover_19 : decode cX1_recover 19 = .ok (.getfield 189, 3) := dk_180 0 189 (dk_at dksX1_recover_0 19 rfl rfl)
theorem dX1_recover_22 : decode cX1_recover 22 = .ok (.invokevirtual 193, 3) := dk_182 0 193 (dk_at dksX1_recover_1 0 rfl rfl)
theorem dX1_recover_25 : decode cX1_recover 25 = .ok (.ireturn, 1) := dk_172 (dk_at dksX1_recover_1 3 rfl rfl)
abbrev cX1_isBetween : ByteArray := prog_1_method_1_code
def yX1_isBetween : MethodName := ⟨RX1, "isBetween", "(III)Z"⟩
def dkwX1_isBetween_0 : List UInt8 := [26, 27, 161, 0, 12, 26, 28, 163, 0, 7, 4, 167, 0, 4, 3, 172]
abbrev dktX1_isBetween_0 : List UInt8 := dkwX1_isBetween_0 ++ []
theorem dksX1_isBetween_0 : cX1_isBetween.data.toList.drop 0 = dktX1_isBetween_0 := by decide +kernel
theorem dX1_isBetween_0 : decode cX1_isBetween 0 = .ok (.iload_n 0, 1) := dk_26 (dk_at dksX1_isBetween_0 0 rfl rfl)
theorem dX1_isBetween_1 : decode cX1_isBetween 1 = .ok (.iload_n 1, 1) := dk_27 (dk_at dksX1_isBetween_0 1 rfl rfl)
theorem dX1_isBetween_2 : decode cX1_isBetween 2 = .ok (.if_icmp .lt 12, 3) := dk_161 0 12 (dk_at dksX1_isBetween_0 2 rfl rfl)
theorem dX1_isBetween_5 : decode cX1_isBetween 5 = .ok (.iload_n 0, 1) := dk_26 (dk_at dksX1_isBetween_0 5 rfl rfl)
theorem dX1_isBetween_6 : decode cX1_isBetween 6 = .ok (.iload_n 2, 1) := dk_28 (dk_at dksX1_isBetween_0 6 rfl rfl)
theorem dX1_isBetween_7 : decode cX1_isBetween 7 = .ok (.if_icmp .gt 7, 3) := dk_163 0 7 (dk_at dksX1_isBetween_0 7 rfl rfl)
theorem dX1_isBetween_10 : decode cX1_isBetween 10 = .ok (.iconst 1, 1) := dk_4 (dk_at dksX1_isBetween_0 10 rfl rfl)
theorem dX1_isBetween_11 : decode cX1_isBetween 11 = .ok (.goto 4, 3) := dk_167 0 4 (dk_at dksX1_isBetween_0 11 rfl rfl)
theorem dX1_isBetween_14 : decode cX1_isBetween 14 = .ok (.iconst 0, 1) := dk_3 (dk_at dksX1_isBetween_0 14 rfl rfl)
theorem dX1_isBetween_15 : decode cX1_isBetween 15 = .ok (.ireturn, 1) := dk_172 (dk_at dksX1_isBetween_0 15 rfl rfl)
abbrev cX1_addAll : ByteArray := prog_1_method_6_code
def yX1_addAll : MethodName := ⟨RX1, "addAll", "(Ljava/util/List;Ljava/util/ArrayDeque;)V"⟩
def dkwX1_addAll_1 : List UInt8 := [132, 2, 1, 167, 255, 232, 177]
abbrev dktX1_addAll_1 : List UInt8 := dkwX1_addAll_1 ++ []
def dkwX1_addAll_0 : List UInt8 := [3, 61, 28, 42, 185, 0, 13, 1, 0, 162, 0, 20, 43, 42, 28, 185, 0, 32, 2, 0, 182, 0, 42]
abbrev dktX1_addAll_0 : List UInt8 := dkwX1_addAll_0 ++ dktX1_addAll_1
theorem dksX1_addAll_0 : cX1_addAll.data.toList.drop 0 = dktX1_addAll_0 := by decide +kernel
theorem dksX1_addAll_1 : cX1_addAll.data.toList.drop 23 = dktX1_addAll_1 := dk_seg dksX1_addAll_0 23 rfl rfl
theorem dX1_addAll_0 : decode cX1_addAll 0 = .ok (.iconst 0, 1) := dk_3 (dk_at dksX1_addAll_0 0 rfl rfl)
theorem dX1_addAll_1 : decode cX1_addAll 1 = .ok (.istore_n 2, 1) := dk_61 (dk_at dksX1_addAll_0 1 rfl rfl)
theorem dX1_addAll_2 : decode cX1_addAll 2 = .ok (.iload_n 2, 1) := dk_28 (dk_at dksX1_addAll_0 2 rfl rfl)
theorem dX1_addAll_3 : decode cX1_addAll 3 = .ok (.aload_n 0, 1) := dk_42 (dk_at dksX1_addAll_0 3 rfl rfl)
theorem dX1_addAll_4 : decode cX1_addAll 4 = .ok (.invokeinterface 13 1, 5) := by decide +kernel
theorem dX1_addAll_9 : decode cX1_addAll 9 = .ok (.if_icmp .ge 20, 3) := dk_162 0 20 (dk_at dksX1_addAll_0 9 rfl rfl)
theorem dX1_addAll_12 : decode cX1_addAll 12 = .ok (.aload_n 1, 1) := dk_43 (dk_at dksX1_addAll_0 12 rfl rfl)
theorem dX1_addAll_13 : decode cX1_addAll 13 = .ok (.aload_n 0, 1) := dk_42 (dk_at dksX1_addAll_0 13 rfl rfl)
theorem dX1_addAll_14 : decode cX1_addAll 14 = .ok (.iload_n 2, 1) := dk_28 (dk_at dksX1_addAll_0 14 rfl rfl)
theorem dX1_addAll_15 : decode cX1_addAll 15 = .ok (.invokeinterface 32 2, 5) := by decide +kernel
theorem dX1_addAll_20 : decode cX1_addAll 20 = .ok (.invokevirtual 42, 3) := dk_182 0 42 (dk_at dksX1_addAll_0 20 rfl rfl)
theorem dX1_addAll_23 : decode cX1_addAll 23 = .ok (.iinc 2 1, 3) := dk_132 2 1 (dk_at dksX1_addAll_1 0 rfl rfl)
theorem dX1_addAll_26 : decode cX1_addAll 26 = .ok (.goto (-24), 3) := dk_167 255 232 (dk_at dksX1_addAll_1 3 rfl rfl)
theorem dX1_addAll_29 : decode cX1_addAll 29 = .ok (.return_, 1) := dk_177 (dk_at dksX1_addAll_1 6 rfl rfl)
abbrev cX1_save : ByteArray := prog_1_method_54_code
def yX1_save : MethodName := ⟨RX1, "save", "()V"⟩
def dkwX1_save_0 : List UInt8 := [42, 42, 180, 0, 56, 181, 1, 33, 177]
abbrev dktX1_save_0 : List UInt8 := dkwX1_save_0 ++ []
theorem dksX1_save_0 : cX1_save.data.toList.drop 0 = dktX1_save_0 := by decide +kernel
theorem dX1_save_0 : decode cX1_save 0 = .ok (.aload_n 0, 1) := dk_42 (dk_at dksX1_save_0 0 rfl rfl)
theorem dX1_save_1 : decode cX1_save 1 = .ok (.aload_n 0, 1) := dk_42 (dk_at dksX1_save_0 1 rfl rfl)
theorem dX1_save_2 : decode cX1_save 2 = .ok (.getfield 56, 3) := dk_180 0 56 (dk_at dksX1_save_0 2 rfl rfl)
theorem dX1_save_5 : decode cX1_save 5 = .ok (.putfield 289, 3) := dk_181 1 33 (dk_at dksX1_save_0 5 rfl rfl)
theorem dX1_save_8 : decode cX1_save 8 = .ok (.return_, 1) := dk_177 (dk_at dksX1_save_0 8 rfl rfl)
abbrev cX1_appendCharacter : ByteArray := prog_1_method_10_code
def yX1_appendCharacter : MethodName := ⟨RX1, "appendCharacter", "(I)I"⟩
def dkwX1_appendCharacter_2 : List UInt8 := [181, 0, 80, 42, 180, 0, 80, 172]
abbrev dktX1_appendCharacter_2 : List UInt8 := dkwX1_appendCharacter_2 ++ []
def dkwX1_appendCharacter_1 : List UInt8 := [3, 184, 0, 83, 42, 180, 0, 60, 42, 180, 0, 80, 27, 146, 85, 42, 89, 180, 0, 80, 4, 96]
abbrev dktX1_appendCharacter_1 : List UInt8 := dkwX1_appendCharacter_1 ++ dktX1_appendCharacter_2
def dkwX1_appendCharacter_0 : List UInt8 := [27, 16, 33, 16, 126, 184, 0, 19, 184, 0, 29, 42, 180, 0, 80, 16, 60, 162, 0, 7, 4, 167, 0, 4]
abbrev dktX1_appendCharacter_0 : List UInt8 := dkwX1_appendCharacter_0 ++ dktX1_appendCharacter_1
theorem dksX1_appendCharacter_0 : cX1_appendCharacter.data.toList.drop 0 = dktX1_appendCharacter_0 := by decide +kernel
theorem dksX1_appendCharacter_1 : cX1_appendCharacter.data.toList.drop 24 = dktX1_appendCharacter_1 := dk_seg dksX1_appendCharacter_0 24 rfl rfl
theorem dksX1_appendCharacter_2 : cX1_appendCharacter.data.toList.drop 46 = dktX1_appendCharacter_2 := dk_seg dksX1_appendCharacter_1 22 rfl rfl
theorem dX1_appendCharacter_0 : decode cX1_appendCharacter 0 = .ok (.iload_n 1, 1) := dk_27 (dk_at dksX1_appendCharacter_0 0 rfl rfl)
theorem dX1_appendCharacter_1 : decode cX1_appendCharacter 1 = .ok (.bipush 33, 2) := dk_16 33 (dk_at dksX1_appendCharacter_0 1 rfl rfl)
theorem dX1_appendCharacter_3 : decode cX1_appendCharacter 3 = .ok (.bipush 126, 2) := dk_16 126 (dk_at dksX1_appendCharacter_0 3 rfl rfl)
theorem dX1_appendCharacter_5 : decode cX1_appendCharacter 5 = .ok (.invokestatic 19, 3) := dk_184 0 19 (dk_at dksX1_appendCharacter_0 5 rfl rfl)
theorem dX1_appendCharacter_8 : decode cX1_appendCharacter 8 = .ok (.invokestatic 29, 3) := dk_184 0 29 (dk_at dksX1_appendCharacter_0 8 rfl rfl)
theorem dX1_appendCharacter_11 : decode cX1_appendCharacter 11 = .ok (.aload_n 0, 1) := dk_42 (dk_at dksX1_appendCharacter_0 11 rfl rfl)
theorem dX1_appendCharacter_12 : decode cX1_appendCharacter 12 = .ok (.getfield 80, 3) := dk_180 0 80 (dk_at dksX1_appendCharacter_0 12 rfl rfl)
theorem dX1_appendCharacter_15 : decode cX1_appendCharacter 15 = .ok (.bipush 60, 2) := dk_16 60 (dk_at dksX1_appendCharacter_0 15 rfl rfl)
theorem dX1_appendCharacter_17 : decode cX1_appendCharacter 17 = .ok (.if_icmp .ge 7, 3) := dk_162 0 7 (dk_at dksX1_appendCharacter_0 17 rfl rfl)
theorem dX1_appendCharacter_20 : decode cX1_appendCharacter 20 = .ok (.iconst 1, 1) := dk_4 (dk_at dksX1_appendCharacter_0 20 rfl rfl)
theorem dX1_appendCharacter_21 : decode cX1_appendCharacter 21 = .ok (.goto 4, 3) := dk_167 0 4 (dk_at dksX1_appendCharacter_0 21 rfl rfl)
theorem dX1_appendCharacter_24 : decode cX1_appendCharacter 24 = .ok (.iconst 0, 1) := dk_3 (dk_at dksX1_appendCharacter_1 0 rfl rfl)
theorem dX1_appendCharacter_25 : decode cX1_appendCharacter 25 = .ok (.invokestatic 83, 3) := dk_184 0 83 (dk_at dksX1_appendCharacter_1 1 rfl rfl)
theorem dX1_appendCharacter_28 : decode cX1_appendCharacter 28 = .ok (.aload_n 0, 1) := dk_42 (dk_at dksX1_appendCharacter_1 4 rfl rfl)
theorem dX1_appendCharacter_29 : decode cX1_appendCharacter 29 = .ok (.getfield 60, 3) := dk_180 0 60 (dk_at dksX1_appendCharacter_1 5 rfl rfl)
theorem dX1_appendCharacter_32 : decode cX1_appendCharacter 32 = .ok (.aload_n 0, 1) := dk_42 (dk_at dksX1_appendCharacter_1 8 rfl rfl)
theorem dX1_appendCharacter_33 : decode cX1_appendCharacter 33 = .ok (.getfield 80, 3) := dk_180 0 80 (dk_at dksX1_appendCharacter_1 9 rfl rfl)
theorem dX1_appendCharacter_36 : decode cX1_appendCharacter 36 = .ok (.iload_n 1, 1) := dk_27 (dk_at dksX1_appendCharacter_1 12 rfl rfl)
theorem dX1_appendCharacter_37 : decode cX1_appendCharacter 37 = .ok (.i2c, 1) := dk_146 (dk_at dksX1_appendCharacter_1 13 rfl rfl)
theorem dX1_appendCharacter_38 : decode cX1_appendCharacter 38 = .ok (.castore, 1) := dk_85 (dk_at dksX1_appendCharacter_1 14 rfl rfl)
theorem dX1_appendCharacter_39 : decode cX1_appendCharacter 39 = .ok (.aload_n 0, 1) := dk_42 (dk_at dksX1_appendCharacter_1 15 rfl rfl)
theorem dX1_appendCharacter_40 : decode cX1_appendCharacter 40 = .ok (.dup, 1) := dk_89 (dk_at dksX1_appendCharacter_1 16 rfl rfl)
theorem dX1_appendCharacter_41 : decode cX1_appendCharacter 41 = .ok (.getfield 80, 3) := dk_180 0 80 (dk_at dksX1_appendCharacter_1 17 rfl rfl)
theorem dX1_appendCharacter_44 : decode cX1_appendCharacter 44 = .ok (.iconst 1, 1) := dk_4 (dk_at dksX1_appendCharacter_1 20 rfl rfl)
theorem dX1_appendCharacter_45 : decode cX1_appendCharacter 45 = .ok (.iadd, 1) := dk_96 (dk_at dksX1_appendCharacter_1 21 rfl rfl)
theorem dX1_appendCharacter_46 : decode cX1_appendCharacter 46 = .ok (.putfield 80, 3) := dk_181 0 80 (dk_at dksX1_appendCharacter_2 0 rfl rfl)
theorem dX1_appendCharacter_49 : decode cX1_appendCharacter 49 = .ok (.aload_n 0, 1) := dk_42 (dk_at dksX1_appendCharacter_2 3 rfl rfl)
theorem dX1_appendCharacter_50 : decode cX1_appendCharacter 50 = .ok (.getfield 80, 3) := dk_180 0 80 (dk_at dksX1_appendCharacter_2 4 rfl rfl)
theorem dX1_appendCharacter_53 : decode cX1_appendCharacter 53 = .ok (.ireturn, 1) := dk_172 (dk_at dksX1_appendCharacter_2 7 rfl rfl)
abbrev cX1_requireArgument : ByteArray := prog_1_method_2_code
def yX1_requireArgument : MethodName := ⟨RX1, "requireArgument", "(Z)V"⟩
def dkwX1_requireArgument_0 : List UInt8 := [26, 154, 0, 11, 187, 0, 1, 89, 183, 0, 3, 191, 177]
abbrev dktX1_requireArgument_0 : List UInt8 := dkwX1_requireArgument_0 ++ []
theorem dksX1_requireArgument_0 : cX1_requireArgument.data.toList.drop 0 = dktX1_requireArgument_0 := by decide +kernel
theorem dX1_requireArgument_0 : decode cX1_requireArgument 0 = .ok (.iload_n 0, 1) := dk_26 (dk_at dksX1_requireArgument_0 0 rfl rfl)
theorem dX1_requireArgument_1 : decode cX1_requireArgument 1 = .ok (.ifCond .ne 11, 3) := dk_154 0 11 (dk_at dksX1_requireArgument_0 1 rfl rfl)
theorem dX1_requireArgument_4 : decode cX1_requireArgument 4 = .ok (.new 1, 3) := dk_187 0 1 (dk_at dksX1_requireArgument_0 4 rfl rfl)
theorem dX1_requireArgument_7 : decode cX1_requireArgument 7 = .ok (.dup, 1) := dk_89 (dk_at dksX1_requireArgument_0 7 rfl rfl)
theorem dX1_requireArgument_8 : decode cX1_requireArgument 8 = .ok (.invokespecial 3, 3) := dk_183 0 3 (dk_at dksX1_requireArgument_0 8 rfl rfl)
theorem dX1_requireArgument_11 : decode cX1_requireArgument 11 = .ok (.athrow, 1) := dk_191 (dk_at dksX1_requireArgument_0 11 rfl rfl)
theorem dX1_requireArgument_12 : decode cX1_requireArgument 12 = .ok (.return_, 1) := dk_177 (dk_at dksX1_requireArgument_0 12 rfl rfl)
abbrev cX1_requireState : ByteArray := prog_1_method_3_code
def yX1_requireState : MethodName := ⟨RX1, "requireState", "(Z)V"⟩
def dkwX1_requireState_0 : List UInt8 := [26, 154, 0, 11, 187, 0, 7, 89, 183, 0, 9, 191, 177]
abbrev dktX1_requireState_0 : List UInt8 := dkwX1_requireState_0 ++ []
theorem dksX1_requireState_0 : cX1_requireState.data.toList.drop 0 = dktX1_requireState_0 := by decide +kernel
theorem dX1_requireState_0 : decode cX1_requireState 0 = .ok (.iload_n 0, 1) := dk_26 (dk_at dksX1_requireState_0 0 rfl rfl)
theorem dX1_requireState_1 : decode cX1_requireState 1 = .ok (.ifCond .ne 11, 3) := dk_154 0 11 (dk_at dksX1_requireState_0 1 rfl rfl)
theorem dX1_requireState_4 : decode cX1_requireState 4 = .ok (.new 7, 3) := dk_187 0 7 (dk_at dksX1_requireState_0 4 rfl rfl)
theorem dX1_requireState_7 : decode cX1_requireState 7 = .ok (.dup, 1) := dk_89 (dk_at dksX1_requireState_0 7 rfl rfl)
theorem dX1_requireState_8 : decode cX1_requireState 8 = .ok (.invokespecial 9, 3) := dk_183 0 9 (dk_at dksX1_requireState_0 8 rfl rfl)
theorem dX1_requireState_11 : decode cX1_requireState 11 = .ok (.athrow, 1) := dk_191 (dk_at dksX1_requireState_0 11 rfl rfl)
theorem dX1_requireState_12 : decode cX1_requireState 12 = .ok (.return_, 1) := dk_177 (dk_at dksX1_requireState_0 12 rfl rfl)
abbrev cX1_addBytes : ByteArray := prog_1_method_13_code
def yX1_addBytes : MethodName := ⟨RX1, "addBytes", "()I"⟩
def dkwX1_addBytes_6 : List UInt8 := [182, 0, 136, 44, 190, 172]
abbrev dktX1_addBytes_6 : List UInt8 := dkwX1_addBytes_6 ++ []
def dkwX1_addBytes_5 : List UInt8 := [187, 0, 51, 89, 44, 42, 180, 0, 56, 180, 0, 130, 42, 180, 0, 56, 180, 0, 133, 183, 0, 53, 4]
abbrev dktX1_addBytes_5 : List UInt8 := dkwX1_addBytes_5 ++ dktX1_addBytes_6
def dkwX1_addBytes_4 : List UInt8 := [182, 0, 119, 184, 0, 124, 43, 3, 44, 42, 180, 0, 56, 182, 0, 119, 43, 190, 184, 0, 124, 42]
abbrev dktX1_addBytes_4 : List UInt8 := dkwX1_addBytes_4 ++ dktX1_addBytes_5
def dkwX1_addBytes_3 : List UInt8 := [182, 0, 119, 43, 190, 96, 188, 10, 77, 42, 180, 0, 56, 180, 0, 120, 3, 44, 3, 42, 180, 0, 56]
abbrev dktX1_addBytes_3 : List UInt8 := dkwX1_addBytes_3 ++ dktX1_addBytes_4
def dkwX1_addBytes_2 : List UInt8 := [182, 0, 119, 43, 190, 96, 16, 96, 163, 0, 7, 4, 167, 0, 4, 3, 184, 0, 83, 42, 180, 0, 56]
abbrev dktX1_addBytes_2 : List UInt8 := dkwX1_addBytes_2 ++ dktX1_addBytes_3
def dkwX1_addBytes_1 : List UInt8 := [181, 0, 64, 187, 0, 1, 89, 183, 0, 3, 191, 78, 42, 3, 181, 0, 80, 45, 191, 42, 180, 0, 56]
abbrev dktX1_addBytes_1 : List UInt8 := dkwX1_addBytes_1 ++ dktX1_addBytes_2
def dkwX1_addBytes_0 : List UInt8 := [42, 182, 0, 112, 76, 42, 2, 181, 0, 64, 42, 3, 181, 0, 80, 167, 0, 28, 77, 42, 44, 180, 0, 116]
abbrev dktX1_addBytes_0 : List UInt8 := dkwX1_addBytes_0 ++ dktX1_addBytes_1
theorem dksX1_addBytes_0 : cX1_addBytes.data.toList.drop 0 = dktX1_addBytes_0 := by decide +kernel
theorem dksX1_addBytes_1 : cX1_addBytes.data.toList.drop 24 = dktX1_addBytes_1 := dk_seg dksX1_addBytes_0 24 rfl rfl
theorem dksX1_addBytes_2 : cX1_addBytes.data.toList.drop 47 = dktX1_addBytes_2 := dk_seg dksX1_addBytes_1 23 rfl rfl
theorem dksX1_addBytes_3 : cX1_addBytes.data.toList.drop 70 = dktX1_addBytes_3 := dk_seg dksX1_addBytes_2 23 rfl rfl
theorem dksX1_addBytes_4 : cX1_addBytes.data.toList.drop 93 = dktX1_addBytes_4 := dk_seg dksX1_addBytes_3 23 rfl rfl
theorem dksX1_addBytes_5 : cX1_addBytes.data.toList.drop 115 = dktX1_addBytes_5 := dk_seg dksX1_addBytes_4 22 rfl rfl
theorem dksX1_addBytes_6 : cX1_addBytes.data.toList.drop 138 = dktX1_addBytes_6 := dk_seg dksX1_addBytes_5 23 rfl rfl
theorem dX1_addBytes_0 : decode cX1_addBytes 0 = .ok (.aload_n 0, 1) := dk_42 (dk_at dksX1_addBytes_0 0 rfl rfl)
theorem dX1_addBytes_1 : decode cX1_addBytes 1 = .ok (.invokevirtual 112, 3) := dk_182 0 112 (dk_at dksX1_addBytes_0 1 rfl rfl)
theorem dX1_addBytes_4 : decode cX1_addBytes 4 = .ok (.astore_n 1, 1) := dk_76 (dk_at dksX1_addBytes_0 4 rfl rfl)
theorem dX1_addBytes_5 : decode cX1_addBytes 5 = .ok (.aload_n 0, 1) := dk_42 (dk_at dksX1_addBytes_0 5 rfl rfl)
theorem dX1_addBytes_6 : decode cX1_addBytes 6 = .ok (.iconst (-1), 1) := dk_2 (dk_at dksX1_addBytes_0 6 rfl rfl)
theorem dX1_addBytes_7 : decode cX1_addBytes 7 = .ok (.putfield 64, 3) := dk_181 0 64 (dk_at dksX1_addBytes_0 7 rfl rfl)
theorem dX1_addBytes_10 : decode cX1_addBytes 10 = .ok (.aload_n 0, 1) := dk_42 (dk_at dksX1_addBytes_0 10 rfl rfl)
theorem dX1_addBytes_11 : decode cX1_addBytes 11 = .ok (.iconst 0, 1) := dk_3 (dk_at dksX1_addBytes_0 11 rfl rfl)
theorem dX1_addBytes_12 : decode cX1_addBytes 12 = .ok (.putfield 80, 3) := dk_181 0 80 (dk_at dksX1_addBytes_0 12 rfl rfl)
theorem dX1_addBytes_15 : decode cX1_addBytes 15 = .ok (.goto 28, 3) := dk_167 0 28 (dk_at dksX1_addBytes_0 15 rfl rfl)
theorem dX1_addBytes_18 : decode cX1_addBytes 18 = .ok (.astore_n 2, 1) := dk_77 (dk_at dksX1_addBytes_0 18 rfl rfl)
theorem dX1_addBytes_19 : decode cX1_addBytes 19 = .ok (.aload_n 0, 1) := dk_42 (dk_at dksX1_addBytes_0 19 rfl rfl)
theorem dX1_addBytes_20 : decode cX1_addBytes 20 = .ok (.aload_n 2, 1) := dk_44 (dk_at dksX1_addBytes_0 20 rfl rfl)
theorem dX1_addBytes_21 : decode cX1_addBytes 21 = .ok (.getfield 116, 3) := dk_180 0 116 (dk_at dksX1_addBytes_0 21 rfl rfl)
theorem dX1_addBytes_24 : decode cX1_addBytes 24 = .ok (.putfield 64, 3) := dk_181 0 64 (dk_at dksX1_addBytes_1 0 rfl rfl)
theorem dX1_addBytes_27 : decode cX1_addBytes 27 = .ok (.new 1, 3) := dk_187 0 1 (dk_at dksX1_addBytes_1 3 rfl rfl)
theorem dX1_addBytes_30 : decode cX1_addBytes 30 = .ok (.dup, 1) := dk_89 (dk_at dksX1_addBytes_1 6 rfl rfl)
theorem dX1_addBytes_31 : decode cX1_addBytes 31 = .ok (.invokespecial 3, 3) := dk_183 0 3 (dk_at dksX1_addBytes_1 7 rfl rfl)
theorem dX1_addBytes_34 : decode cX1_addBytes 34 = .ok (.athrow, 1) := dk_191 (dk_at dksX1_addBytes_1 10 rfl rfl)
theorem dX1_addBytes_35 : decode cX1_addBytes 35 = .ok (.astore_n 3, 1) := dk_78 (dk_at dksX1_addBytes_1 11 rfl rfl)
theorem dX1_addBytes_36 : decode cX1_addBytes 36 = .ok (.aload_n 0, 1) := dk_42 (dk_at dksX1_addBytes_1 12 rfl rfl)
theorem dX1_addBytes_37 : decode cX1_addBytes 37 = .ok (.iconst 0, 1) := dk_3 (dk_at dksX1_addBytes_1 13 rfl rfl)
theorem dX1_addBytes_38 : decode cX1_addBytes 38 = .ok (.putfield 80, 3) := dk_181 0 80 (dk_at dksX1_addBytes_1 14 rfl rfl)
theorem dX1_addBytes_41 : decode cX1_addBytes 41 = .ok (.aload_n 3, 1) := dk_45 (dk_at dksX1_addBytes_1 17 rfl rfl)
theorem dX1_addBytes_42 : decode cX1_addBytes 42 = .ok (.athrow, 1) := dk_191 (dk_at dksX1_addBytes_1 18 rfl rfl)
theorem dX1_addBytes_43 : decode cX1_addBytes 43 = .ok (.aload_n 0, 1) := dk_42 (dk_at dksX1_addBytes_1 19 rfl rfl)
theorem dX1_addBytes_44 : decode cX1_addBytes 44 = .ok (.getfield 56, 3) := dk_180 0 56 (dk_at dksX1_addBytes_1 20 rfl rfl)
theorem dX1_addBytes_47 : decode cX1_addBytes 47 = .ok (.invokevirtual 119, 3) := dk_182 0 119 (dk_at dksX1_addBytes_2 0 rfl rfl)
theorem dX1_addBytes_50 : decode cX1_addBytes 50 = .ok (.aload_n 1, 1) := dk_43 (dk_at dksX1_addBytes_2 3 rfl rfl)
theorem dX1_addBytes_51 : decode cX1_addBytes 51 = .ok (.arraylength, 1) := dk_190 (dk_at dksX1_addBytes_2 4 rfl rfl)
theorem dX1_addBytes_52 : decode cX1_addBytes 52 = .ok (.iadd, 1) := dk_96 (dk_at dksX1_addBytes_2 5 rfl rfl)
theorem dX1_addBytes_53 : decode cX1_addBytes 53 = .ok (.bipush 96, 2) := dk_16 96 (dk_at dksX1_addBytes_2 6 rfl rfl)
theorem dX1_addBytes_55 : decode cX1_addBytes 55 = .ok (.if_icmp .gt 7, 3) := dk_163 0 7 (dk_at dksX1_addBytes_2 8 rfl rfl)
theorem dX1_addBytes_58 : decode cX1_addBytes 58 = .ok (.iconst 1, 1) := dk_4 (dk_at dksX1_addBytes_2 11 rfl rfl)
theorem dX1_addBytes_59 : decode cX1_addBytes 59 = .ok (.goto 4, 3) := dk_167 0 4 (dk_at dksX1_addBytes_2 12 rfl rfl)
theorem dX1_addBytes_62 : decode cX1_addBytes 62 = .ok (.iconst 0, 1) := dk_3 (dk_at dksX1_addBytes_2 15 rfl rfl)
theorem dX1_addBytes_63 : decode cX1_addBytes 63 = .ok (.invokestatic 83, 3) := dk_184 0 83 (dk_at dksX1_addBytes_2 16 rfl rfl)
theorem dX1_addBytes_66 : decode cX1_addBytes 66 = .ok (.aload_n 0, 1) := dk_42 (dk_at dksX1_addBytes_2 19 rfl rfl)
theorem dX1_addBytes_67 : decode cX1_addBytes 67 = .ok (.getfield 56, 3) := dk_180 0 56 (dk_at dksX1_addBytes_2 20 rfl rfl)
theorem dX1_addBytes_70 : decode cX1_addBytes 70 = .ok (.invokevirtual 119, 3) := dk_182 0 119 (dk_at dksX1_addBytes_3 0 rfl rfl)
theorem dX1_addBytes_73 : decode cX1_addBytes 73 = .ok (.aload_n 1, 1) := dk_43 (dk_at dksX1_addBytes_3 3 rfl rfl)
theorem dX1_addBytes_74 : decode cX1_addBytes 74 = .ok (.arraylength, 1) := dk_190 (dk_at dksX1_addBytes_3 4 rfl rfl)
theorem dX1_addBytes_75 : decode cX1_addBytes 75 = .ok (.iadd, 1) := dk_96 (dk_at dksX1_addBytes_3 5 rfl rfl)
theorem dX1_addBytes_76 : decode cX1_addBytes 76 = .ok (.newarray .int, 2) := dk_188_10 (dk_at dksX1_addBytes_3 6 rfl rfl)
theorem dX1_addBytes_78 : decode cX1_addBytes 78 = .ok (.astore_n 2, 1) := dk_77 (dk_at dksX1_addBytes_3 8 rfl rfl)
theorem dX1_addBytes_79 : decode cX1_addBytes 79 = .ok (.aload_n 0, 1) := dk_42 (dk_at dksX1_addBytes_3 9 rfl rfl)
theorem dX1_addBytes_80 : decode cX1_addBytes 80 = .ok (.getfield 56, 3) := dk_180 0 56 (dk_at dksX1_addBytes_3 10 rfl rfl)
theorem dX1_addBytes_83 : decode cX1_addBytes 83 = .ok (.getfield 120, 3) := dk_180 0 120 (dk_at dksX1_addBytes_3 13 rfl rfl)
theorem dX1_addBytes_86 : decode cX1_addBytes 86 = .ok (.iconst 0, 1) := dk_3 (dk_at dksX1_addBytes_3 16 rfl rfl)
theorem dX1_addBytes_87 : decode cX1_addBytes 87 = .ok (.aload_n 2, 1) := dk_44 (dk_at dksX1_addBytes_3 17 rfl rfl)
theorem dX1_addBytes_88 : decode cX1_addBytes 88 = .ok (.iconst 0, 1) := dk_3 (dk_at dksX1_addBytes_3 18 rfl rfl)
theorem dX1_addBytes_89 : decode cX1_addBytes 89 = .ok (.aload_n 0, 1) := dk_42 (dk_at dksX1_addBytes_3 19 rfl rfl)
theorem dX1_addBytes_90 : decode cX1_addBytes 90 = .ok (.getfield 56, 3) := dk_180 0 56 (dk_at dksX1_addBytes_3 20 rfl rfl)
theorem dX1_addBytes_93 : decode cX1_addBytes 93 = .ok (.invokevirtual 119, 3) := dk_182 0 119 (dk_at dksX1_addBytes_4 0 rfl rfl)
theorem dX1_addBytes_96 : decode cX1_addBytes 96 = .ok (.invokestatic 124, 3) := dk_184 0 124 (dk_at dksX1_addBytes_4 3 rfl rfl)
theorem dX1_addBytes_99 : decode cX1_addBytes 99 = .ok (.aload_n 1, 1) := dk_43 (dk_at dksX1_addBytes_4 6 rfl rfl)
theorem dX1_addBytes_100 : decode cX1_addBytes 100 = .ok (.iconst 0, 1) := dk_3 (dk_at dksX1_addBytes_4 7 rfl rfl)
theorem dX1_addBytes_101 : decode cX1_addBytes 101 = .ok (.aload_n 2, 1) := dk_44 (dk_at dksX1_addBytes_4 8 rfl rfl)
theorem dX1_addBytes_102 : decode cX1_addBytes 102 = .ok (.aload_n 0, 1) := dk_42 (dk_at dksX1_addBytes_4 9 rfl rfl)
theorem dX1_addBytes_103 : decode cX1_addBytes 103 = .ok (.getfield 56, 3) := dk_180 0 56 (dk_at dksX1_addBytes_4 10 rfl rfl)
theorem dX1_addBytes_106 : decode cX1_addBytes 106 = .ok (.invokevirtual 119, 3) := dk_182 0 119 (dk_at dksX1_addBytes_4 13 rfl rfl)
theorem dX1_addBytes_109 : decode cX1_addBytes 109 = .ok (.aload_n 1, 1) := dk_43 (dk_at dksX1_addBytes_4 16 rfl rfl)
theorem dX1_addBytes_110 : decode cX1_addBytes 110 = .ok (.arraylength, 1) := dk_190 (dk_at dksX1_addBytes_4 17 rfl rfl)
theorem dX1_addBytes_111 : decode cX1_addBytes 111 = .ok (.invokestatic 124, 3) := dk_184 0 124 (dk_at dksX1_addBytes_4 18 rfl rfl)
theorem dX1_addBytes_114 : decode cX1_addBytes 114 = .ok (.aload_n 0, 1) := dk_42 (dk_at dksX1_addBytes_4 21 rfl rfl)
theorem dX1_addBytes_115 : decode cX1_addBytes 115 = .ok (.new 51, 3) := dk_187 0 51 (dk_at dksX1_addBytes_5 0 rfl rfl)
theorem dX1_addBytes_118 : decode cX1_addBytes 118 = .ok (.dup, 1) := dk_89 (dk_at dksX1_addBytes_5 3 rfl rfl)
theorem dX1_addBytes_119 : decode cX1_addBytes 119 = .ok (.aload_n 2, 1) := dk_44 (dk_at dksX1_addBytes_5 4 rfl rfl)
theorem dX1_addBytes_120 : decode cX1_addBytes 120 = .ok (.aload_n 0, 1) := dk_42 (dk_at dksX1_addBytes_5 5 rfl rfl)
theorem dX1_addBytes_121 : decode cX1_addBytes 121 = .ok (.getfield 56, 3) := dk_180 0 56 (dk_at dksX1_addBytes_5 6 rfl rfl)
theorem dX1_addBytes_124 : decode cX1_addBytes 124 = .ok (.getfield 130, 3) := dk_180 0 130 (dk_at dksX1_addBytes_5 9 rfl rfl)
theorem dX1_addBytes_127 : decode cX1_addBytes 127 = .ok (.aload_n 0, 1) := dk_42 (dk_at dksX1_addBytes_5 12 rfl rfl)
theorem dX1_addBytes_128 : decode cX1_addBytes 128 = .ok (.getfield 56, 3) := dk_180 0 56 (dk_at dksX1_addBytes_5 13 rfl rfl)
theorem dX1_addBytes_131 : decode cX1_addBytes 131 = .ok (.getfield 133, 3) := dk_180 0 133 (dk_at dksX1_addBytes_5 16 rfl rfl)
theorem dX1_addBytes_134 : decode cX1_addBytes 134 = .ok (.invokespecial 53, 3) := dk_183 0 53 (dk_at dksX1_addBytes_5 19 rfl rfl)
theorem dX1_addBytes_137 : decode cX1_addBytes 137 = .ok (.iconst 1, 1) := dk_4 (dk_at dksX1_addBytes_5 22 rfl rfl)
theorem dX1_addBytes_138 : decode cX1_addBytes 138 = .ok (.invokevirtual 136, 3) := dk_182 0 136 (dk_at dksX1_addBytes_6 0 rfl rfl)
theorem dX1_addBytes_141 : decode cX1_addBytes 141 = .ok (.aload_n 2, 1) := dk_44 (dk_at dksX1_addBytes_6 3 rfl rfl)
theorem dX1_addBytes_142 : decode cX1_addBytes 142 = .ok (.arraylength, 1) := dk_190 (dk_at dksX1_addBytes_6 4 rfl rfl)
theorem dX1_addBytes_143 : decode cX1_addBytes 143 = .ok (.ireturn, 1) := dk_172 (dk_at dksX1_addBytes_6 5 rfl rfl)
abbrev cX1_readBytes : ByteArray := prog_1_method_12_code
def yX1_readBytes : MethodName := ⟨RX1, "readBytes", "()[I"⟩
def dkwX1_readBytes_3 : List UInt8 := [29, 182, 0, 108, 192, 0, 98, 182, 0, 109, 79, 132, 3, 1, 167, 255, 233, 44, 176]
abbrev dktX1_readBytes_3 : List UInt8 := dkwX1_readBytes_3 ++ []
def dkwX1_readBytes_2 : List UInt8 := [132, 2, 2, 167, 255, 217, 43, 182, 0, 107, 188, 10, 77, 3, 62, 29, 44, 190, 162, 0, 23, 44, 29, 43]
abbrev dktX1_readBytes_2 : List UInt8 := dkwX1_readBytes_2 ++ dktX1_readBytes_3
def dkwX1_readBytes_1 : List UInt8 := [16, 16, 42, 28, 182, 0, 94, 104, 42, 28, 4, 96, 182, 0, 94, 96, 184, 0, 97, 182, 0, 103, 87]
abbrev dktX1_readBytes_1 : List UInt8 := dkwX1_readBytes_1 ++ dktX1_readBytes_2
def dkwX1_readBytes_0 : List UInt8 := [187, 0, 91, 89, 183, 0, 93, 76, 3, 61, 28, 42, 180, 0, 80, 161, 0, 7, 28, 154, 0, 33, 43]
abbrev dktX1_readBytes_0 : List UInt8 := dkwX1_readBytes_0 ++ dktX1_readBytes_1
theorem dksX1_readBytes_0 : cX1_readBytes.data.toList.drop 0 = dktX1_readBytes_0 := by decide +kernel
theorem dksX1_readBytes_1 : cX1_readBytes.data.toList.drop 23 = dktX1_readBytes_1 := dk_seg dksX1_readBytes_0 23 rfl rfl
theorem dksX1_readBytes_2 : cX1_readBytes.data.toList.drop 46 = dktX1_readBytes_2 := dk_seg dksX1_readBytes_1 23 rfl rfl
theorem dksX1_readBytes_3 : cX1_readBytes.data.toList.drop 70 = dktX1_readBytes_3 := dk_seg dksX1_readBytes_2 24 rfl rfl
theorem dX1_readBytes_0 : decode cX1_readBytes 0 = .ok (.new 91, 3) := dk_187 0 91 (dk_at dksX1_readBytes_0 0 rfl rfl)
theorem dX1_readBytes_3 : decode cX1_readBytes 3 = .ok (.dup, 1) := dk_89 (dk_at dksX1_readBytes_0 3 rfl rfl)
theorem dX1_readBytes_4 : decode cX1_readBytes 4 = .ok (.invokespecial 93, 3) := dk_183 0 93 (dk_at dksX1_readBytes_0 4 rfl rfl)
theorem dX1_readBytes_7 : decode cX1_readBytes 7 = .ok (.astore_n 1, 1) := dk_76 (dk_at dksX1_readBytes_0 7 rfl rfl)
theorem dX1_readBytes_8 : decode cX1_readBytes 8 = .ok (.iconst 0, 1) := dk_3 (dk_at dksX1_readBytes_0 8 rfl rfl)
theorem dX1_readBytes_9 : decode cX1_readBytes 9 = .ok (.istore_n 2, 1) := dk_61 (dk_at dksX1_readBytes_0 9 rfl rfl)
theorem dX1_readBytes_10 : decode cX1_readBytes 10 = .ok (.iload_n 2, 1) := dk_28 (dk_at dksX1_readBytes_0 10 rfl rfl)
theorem dX1_readBytes_11 : decode cX1_readBytes 11 = .ok (.aload_n 0, 1) := dk_42 (dk_at dksX1_readBytes_0 11 rfl rfl)
theorem dX1_readBytes_12 : decode cX1_readBytes 12 = .ok (.getfield 80, 3) := dk_180 0 80 (dk_at dksX1_readBytes_0 12 rfl rfl)
theorem dX1_readBytes_15 : decode cX1_readBytes 15 = .ok (.if_icmp .lt 7, 3) := dk_161 0 7 (dk_at dksX1_readBytes_0 15 rfl rfl)
theorem dX1_readBytes_18 : decode cX1_readBytes 18 = .ok (.iload_n 2, 1) := dk_28 (dk_at dksX1_readBytes_0 18 rfl rfl)
theorem dX1_readBytes_19 : decode cX1_readBytes 19 = .ok (.ifCond .ne 33, 3) := dk_154 0 33 (dk_at dksX1_readBytes_0 19 rfl rfl)
theorem dX1_readBytes_22 : decode cX1_readBytes 22 = .ok (.aload_n 1, 1) := dk_43 (dk_at dksX1_readBytes_0 22 rfl rfl)
theorem dX1_readBytes_23 : decode cX1_readBytes 23 = .ok (.bipush 16, 2) := dk_16 16 (dk_at dksX1_readBytes_1 0 rfl rfl)
theorem dX1_readBytes_25 : decode cX1_readBytes 25 = .ok (.aload_n 0, 1) := dk_42 (dk_at dksX1_readBytes_1 2 rfl rfl)
theorem dX1_readBytes_26 : decode cX1_readBytes 26 = .ok (.iload_n 2, 1) := dk_28 (dk_at dksX1_readBytes_1 3 rfl rfl)
theorem dX1_readBytes_27 : decode cX1_readBytes 27 = .ok (.invokevirtual 94, 3) := dk_182 0 94 (dk_at dksX1_readBytes_1 4 rfl rfl)
theorem dX1_readBytes_30 : decode cX1_readBytes 30 = .ok (.imul, 1) := dk_104 (dk_at dksX1_readBytes_1 7 rfl rfl)
theorem dX1_readBytes_31 : decode cX1_readBytes 31 = .ok (.aload_n 0, 1) := dk_42 (dk_at dksX1_readBytes_1 8 rfl rfl)
theorem dX1_readBytes_32 : decode cX1_readBytes 32 = .ok (.iload_n 2, 1) := dk_28 (dk_at dksX1_readBytes_1 9 rfl rfl)
theorem dX1_readBytes_33 : decode cX1_readBytes 33 = .ok (.iconst 1, 1) := dk_4 (dk_at dksX1_readBytes_1 10 rfl rfl)
theorem dX1_readBytes_34 : decode cX1_readBytes 34 = .ok (.iadd, 1) := dk_96 (dk_at dksX1_readBytes_1 11 rfl rfl)
theorem dX1_readBytes_35 : decode cX1_readBytes 35 = .ok (.invokevirtual 94, 3) := dk_182 0 94 (dk_at dksX1_readBytes_1 12 rfl rfl)
theorem dX1_readBytes_38 : decode cX1_readBytes 38 = .ok (.iadd, 1) := dk_96 (dk_at dksX1_readBytes_1 15 rfl rfl)
theorem dX1_readBytes_39 : decode cX1_readBytes 39 = .ok (.invokestatic 97, 3) := dk_184 0 97 (dk_at dksX1_readBytes_1 16 rfl rfl)
theorem dX1_readBytes_42 : decode cX1_readBytes 42 = .ok (.invokevirtual 103, 3) := dk_182 0 103 (dk_at dksX1_readBytes_1 19 rfl rfl)
theorem dX1_readBytes_45 : decode cX1_readBytes 45 = .ok (.pop, 1) := dk_87 (dk_at dksX1_readBytes_1 22 rfl rfl)
theorem dX1_readBytes_46 : decode cX1_readBytes 46 = .ok (.iinc 2 2, 3) := dk_132 2 2 (dk_at dksX1_readBytes_2 0 rfl rfl)
theorem dX1_readBytes_49 : decode cX1_readBytes 49 = .ok (.goto (-39), 3) := dk_167 255 217 (dk_at dksX1_readBytes_2 3 rfl rfl)
theorem dX1_readBytes_52 : decode cX1_readBytes 52 = .ok (.aload_n 1, 1) := dk_43 (dk_at dksX1_readBytes_2 6 rfl rfl)
theorem dX1_readBytes_53 : decode cX1_readBytes 53 = .ok (.invokevirtual 107, 3) := dk_182 0 107 (dk_at dksX1_readBytes_2 7 rfl rfl)
theorem dX1_readBytes_56 : decode cX1_readBytes 56 = .ok (.newarray .int, 2) := dk_188_10 (dk_at dksX1_readBytes_2 10 rfl rfl)
theorem dX1_readBytes_58 : decode cX1_readBytes 58 = .ok (.astore_n 2, 1) := dk_77 (dk_at dksX1_readBytes_2 12 rfl rfl)
theorem dX1_readBytes_59 : decode cX1_readBytes 59 = .ok (.iconst 0, 1) := dk_3 (dk_at dksX1_readBytes_2 13 rfl rfl)
theorem dX1_readBytes_60 : decode cX1_readBytes 60 = .ok (.istore_n 3, 1) := dk_62 (dk_at dksX1_readBytes_2 14 rfl rfl)
theorem dX1_readBytes_61 : decode cX1_readBytes 61 = .ok (.iload_n 3, 1) := dk_29 (dk_at dksX1_readBytes_2 15 rfl rfl)
theorem dX1_readBytes_62 : decode cX1_readBytes 62 = .ok (.aload_n 2, 1) := dk_44 (dk_at dksX1_readBytes_2 16 rfl rfl)
theorem dX1_readBytes_63 : decode cX1_readBytes 63 = .ok (.arraylength, 1) := dk_190 (dk_at dksX1_readBytes_2 17 rfl rfl)
theorem dX1_readBytes_64 : decode cX1_readBytes 64 = .ok (.if_icmp .ge 23, 3) := dk_162 0 23 (dk_at dksX1_readBytes_2 18 rfl rfl)
theorem dX1_readBytes_67 : decode cX1_readBytes 67 = .ok (.aload_n 2, 1) := dk_44 (dk_at dksX1_readBytes_2 21 rfl rfl)
theorem dX1_readBytes_68 : decode cX1_readBytes 68 = .ok (.iload_n 3, 1) := dk_29 (dk_at dksX1_readBytes_2 22 rfl rfl)
theorem dX1_readBytes_69 : decode cX1_readBytes 69 = .ok (.aload_n 1, 1) := dk_43 (dk_at dksX1_readBytes_2 23 rfl rfl)
theorem dX1_readBytes_70 : decode cX1_readBytes 70 = .ok (.iload_n 3, 1) := dk_29 (dk_at dksX1_readBytes_3 0 rfl rfl)
theorem dX1_readBytes_71 : decode cX1_readBytes 71 = .ok (.invokevirtual 108, 3) := dk_182 0 108 (dk_at dksX1_readBytes_3 1 rfl rfl)
theorem dX1_readBytes_74 : decode cX1_readBytes 74 = .ok (.checkcast 98, 3) := dk_192 0 98 (dk_at dksX1_readBytes_3 4 rfl rfl)
theorem dX1_readBytes_77 : decode cX1_readBytes 77 = .ok (.invokevirtual 109, 3) := dk_182 0 109 (dk_at dksX1_readBytes_3 7 rfl rfl)
theorem dX1_readBytes_80 : decode cX1_readBytes 80 = .ok (.iastore, 1) := dk_79 (dk_at dksX1_readBytes_3 10 rfl rfl)
theorem dX1_readBytes_81 : decode cX1_readBytes 81 = .ok (.iinc 3 1, 3) := dk_132 3 1 (dk_at dksX1_readBytes_3 11 rfl rfl)
theorem dX1_readBytes_84 : decode cX1_readBytes 84 = .ok (.goto (-23), 3) := dk_167 255 233 (dk_at dksX1_readBytes_3 14 rfl rfl)
theorem dX1_readBytes_87 : decode cX1_readBytes 87 = .ok (.aload_n 2, 1) := dk_44 (dk_at dksX1_readBytes_3 17 rfl rfl)
theorem dX1_readBytes_88 : decode cX1_readBytes 88 = .ok (.areturn, 1) := dk_176 (dk_at dksX1_readBytes_3 18 rfl rfl)
abbrev cX1_digitAt : ByteArray := prog_1_method_11_code
def yX1_digitAt : MethodName := ⟨RX1, "digitAt", "(I)I"⟩
def dkwX1_digitAt_2 : List UInt8 := [28, 16, 97, 100, 16, 10, 96, 172, 187, 0, 86, 89, 27, 183, 0, 88, 191]
abbrev dktX1_digitAt_2 : List UInt8 := dkwX1_digitAt_2 ++ []
def dkwX1_digitAt_1 : List UInt8 := [16, 57, 184, 0, 19, 153, 0, 8, 28, 16, 48, 100, 172, 28, 16, 97, 16, 102, 184, 0, 19, 153, 0, 11]
abbrev dktX1_digitAt_1 : List UInt8 := dkwX1_digitAt_1 ++ dktX1_digitAt_2
def dkwX1_digitAt_0 : List UInt8 := [27, 42, 180, 0, 80, 162, 0, 12, 42, 180, 0, 60, 27, 52, 167, 0, 5, 16, 32, 61, 28, 16, 48]
abbrev dktX1_digitAt_0 : List UInt8 := dkwX1_digitAt_0 ++ dktX1_digitAt_1
theorem dksX1_digitAt_0 : cX1_digitAt.data.toList.drop 0 = dktX1_digitAt_0 := by decide +kernel
theorem dksX1_digitAt_1 : cX1_digitAt.data.toList.drop 23 = dktX1_digitAt_1 := dk_seg dksX1_digitAt_0 23 rfl rfl
theorem dksX1_digitAt_2 : cX1_digitAt.data.toList.drop 47 = dktX1_digitAt_2 := dk_seg dksX1_digitAt_1 24 rfl rfl
theorem dX1_digitAt_0 : decode cX1_digitAt 0 = .ok (.iload_n 1, 1) := dk_27 (dk_at dksX1_digitAt_0 0 rfl rfl)
theorem dX1_digitAt_1 : decode cX1_digitAt 1 = .ok (.aload_n 0, 1) := dk_42 (dk_at dksX1_digitAt_0 1 rfl rfl)
theorem dX1_digitAt_2 : decode cX1_digitAt 2 = .ok (.getfield 80, 3) := dk_180 0 80 (dk_at dksX1_digitAt_0 2 rfl rfl)
theorem dX1_digitAt_5 : decode cX1_digitAt 5 = .ok (.if_icmp .ge 12, 3) := dk_162 0 12 (dk_at dksX1_digitAt_0 5 rfl rfl)
theorem dX1_digitAt_8 : decode cX1_digitAt 8 = .ok (.aload_n 0, 1) := dk_42 (dk_at dksX1_digitAt_0 8 rfl rfl)
theorem dX1_digitAt_9 : decode cX1_digitAt 9 = .ok (.getfield 60, 3) := dk_180 0 60 (dk_at dksX1_digitAt_0 9 rfl rfl)
theorem dX1_digitAt_12 : decode cX1_digitAt 12 = .ok (.iload_n 1, 1) := dk_27 (dk_at dksX1_digitAt_0 12 rfl rfl)
theorem dX1_digitAt_13 : decode cX1_digitAt 13 = .ok (.caload, 1) := dk_52 (dk_at dksX1_digitAt_0 13 rfl rfl)
theorem dX1_digitAt_14 : decode cX1_digitAt 14 = .ok (.goto 5, 3) := dk_167 0 5 (dk_at dksX1_digitAt_0 14 rfl rfl)
theorem dX1_digitAt_17 : decode cX1_digitAt 17 = .ok (.bipush 32, 2) := dk_16 32 (dk_at dksX1_digitAt_0 17 rfl rfl)
theorem dX1_digitAt_19 : decode cX1_digitAt 19 = .ok (.istore_n 2, 1) := dk_61 (dk_at dksX1_digitAt_0 19 rfl rfl)
theorem dX1_digitAt_20 : decode cX1_digitAt 20 = .ok (.iload_n 2, 1) := dk_28 (dk_at dksX1_digitAt_0 20 rfl rfl)
theorem dX1_digitAt_21 : decode cX1_digitAt 21 = .ok (.bipush 48, 2) := dk_16 48 (dk_at dksX1_digitAt_0 21 rfl rfl)
theorem dX1_digitAt_23 : decode cX1_digitAt 23 = .ok (.bipush 57, 2) := dk_16 57 (dk_at dksX1_digitAt_1 0 rfl rfl)
theorem dX1_digitAt_25 : decode cX1_digitAt 25 = .ok (.invokestatic 19, 3) := dk_184 0 19 (dk_at dksX1_digitAt_1 2 rfl rfl)
theorem dX1_digitAt_28 : decode cX1_digitAt 28 = .ok (.ifCond .eq 8, 3) := dk_153 0 8 (dk_at dksX1_digitAt_1 5 rfl rfl)
theorem dX1_digitAt_31 : decode cX1_digitAt 31 = .ok (.iload_n 2, 1) := dk_28 (dk_at dksX1_digitAt_1 8 rfl rfl)
theorem dX1_digitAt_32 : decode cX1_digitAt 32 = .ok (.bipush 48, 2) := dk_16 48 (dk_at dksX1_digitAt_1 9 rfl rfl)
theorem dX1_digitAt_34 : decode cX1_digitAt 34 = .ok (.isub, 1) := dk_100 (dk_at dksX1_digitAt_1 11 rfl rfl)
theorem dX1_digitAt_35 : decode cX1_digitAt 35 = .ok (.ireturn, 1) := dk_172 (dk_at dksX1_digitAt_1 12 rfl rfl)
theorem dX1_digitAt_36 : decode cX1_digitAt 36 = .ok (.iload_n 2, 1) := dk_28 (dk_at dksX1_digitAt_1 13 rfl rfl)
theorem dX1_digitAt_37 : decode cX1_digitAt 37 = .ok (.bipush 97, 2) := dk_16 97 (dk_at dksX1_digitAt_1 14 rfl rfl)
theorem dX1_digitAt_39 : decode cX1_digitAt 39 = .ok (.bipush 102, 2) := dk_16 102 (dk_at dksX1_digitAt_1 16 rfl rfl)
theorem dX1_digitAt_41 : decode cX1_digitAt 41 = .ok (.invokestatic 19, 3) := dk_184 0 19 (dk_at dksX1_digitAt_1 18 rfl rfl)
theorem dX1_digitAt_44 : decode cX1_digitAt 44 = .ok (.ifCond .eq 11, 3) := dk_153 0 11 (dk_at dksX1_digitAt_1 21 rfl rfl)
theorem dX1_digitAt_47 : decode cX1_digitAt 47 = .ok (.iload_n 2, 1) := dk_28 (dk_at dksX1_digitAt_2 0 rfl rfl)
theorem dX1_digitAt_48 : decode cX1_digitAt 48 = .ok (.bipush 97, 2) := dk_16 97 (dk_at dksX1_digitAt_2 1 rfl rfl)
theorem dX1_digitAt_50 : decode cX1_digitAt 50 = .ok (.isub, 1) := dk_100 (dk_at dksX1_digitAt_2 3 rfl rfl)
theorem dX1_digitAt_51 : decode cX1_digitAt 51 = .ok (.bipush 10, 2) := dk_16 10 (dk_at dksX1_digitAt_2 4 rfl rfl)
theorem dX1_digitAt_53 : decode cX1_digitAt 53 = .ok (.iadd, 1) := dk_96 (dk_at dksX1_digitAt_2 6 rfl rfl)
theorem dX1_digitAt_54 : decode cX1_digitAt 54 = .ok (.ireturn, 1) := dk_172 (dk_at dksX1_digitAt_2 7 rfl rfl)
theorem dX1_digitAt_55 : decode cX1_digitAt 55 = .ok (.new 86, 3) := dk_187 0 86 (dk_at dksX1_digitAt_2 8 rfl rfl)
theorem dX1_digitAt_58 : decode cX1_digitAt 58 = .ok (.dup, 1) := dk_89 (dk_at dksX1_digitAt_2 11 rfl rfl)
theorem dX1_digitAt_59 : decode cX1_digitAt 59 = .ok (.iload_n 1, 1) := dk_27 (dk_at dksX1_digitAt_2 12 rfl rfl)
theorem dX1_digitAt_60 : decode cX1_digitAt 60 = .ok (.invokespecial 88, 3) := dk_183 0 88 (dk_at dksX1_digitAt_2 13 rfl rfl)
theorem dX1_digitAt_63 : decode cX1_digitAt 63 = .ok (.athrow, 1) := dk_191 (dk_at dksX1_digitAt_2 16 rfl rfl)
abbrev cX1_setByte : ByteArray := prog_1_method_15_code
def yX1_setByte : MethodName := ⟨RX1, "setByte", "(II)I"⟩
def dkwX1_setByte_2 : List UInt8 := [180, 0, 56, 180, 0, 130, 42, 180, 0, 56, 180, 0, 133, 183, 0, 53, 4, 182, 0, 136, 21, 4, 172]
abbrev dktX1_setByte_2 : List UInt8 := dkwX1_setByte_2 ++ []
def dkwX1_setByte_1 : List UInt8 := [182, 0, 143, 192, 0, 144, 78, 45, 27, 46, 54, 4, 45, 27, 28, 79, 42, 187, 0, 51, 89, 45, 42]
abbrev dktX1_setByte_1 : List UInt8 := dkwX1_setByte_1 ++ dktX1_setByte_2
def dkwX1_setByte_0 : List UInt8 := [42, 27, 182, 0, 140, 28, 3, 17, 0, 255, 184, 0, 19, 184, 0, 29, 42, 180, 0, 56, 180, 0, 120]
abbrev dktX1_setByte_0 : List UInt8 := dkwX1_setByte_0 ++ dktX1_setByte_1
theorem dksX1_setByte_0 : cX1_setByte.data.toList.drop 0 = dktX1_setByte_0 := by decide +kernel
theorem dksX1_setByte_1 : cX1_setByte.data.toList.drop 23 = dktX1_setByte_1 := dk_seg dksX1_setByte_0 23 rfl rfl
theorem dksX1_setByte_2 : cX1_setByte.data.toList.drop 46 = dktX1_setByte_2 := dk_seg dksX1_setByte_1 23 rfl rfl
theorem dX1_setByte_0 : decode cX1_setByte 0 = .ok (.aload_n 0, 1) := dk_42 (dk_at dksX1_setByte_0 0 rfl rfl)
theorem dX1_setByte_1 : decode cX1_setByte 1 = .ok (.iload_n 1, 1) := dk_27 (dk_at dksX1_setByte_0 1 rfl rfl)
theorem dX1_setByte_2 : decode cX1_setByte 2 = .ok (.invokevirtual 140, 3) := dk_182 0 140 (dk_at dksX1_setByte_0 2 rfl rfl)
theorem dX1_setByte_5 : decode cX1_setByte 5 = .ok (.iload_n 2, 1) := dk_28 (dk_at dksX1_setByte_0 5 rfl rfl)
theorem dX1_setByte_6 : decode cX1_setByte 6 = .ok (.iconst 0, 1) := dk_3 (dk_at dksX1_setByte_0 6 rfl rfl)
theorem dX1_setByte_7 : decode cX1_setByte 7 = .ok (.sipush 255, 3) := dk_17 0 255 (dk_at dksX1_setByte_0 7 rfl rfl)
theorem dX1_setByte_10 : decode cX1_setByte 10 = .ok (.invokestatic 19, 3) := dk_184 0 19 (dk_at dksX1_setByte_0 10 rfl rfl)
theorem dX1_setByte_13 : decode cX1_setByte 13 = .ok (.invokestatic 29, 3) := dk_184 0 29 (dk_at dksX1_setByte_0 13 rfl rfl)
theorem dX1_setByte_16 : decode cX1_setByte 16 = .ok (.aload_n 0, 1) := dk_42 (dk_at dksX1_setByte_0 16 rfl rfl)
theorem dX1_setByte_17 : decode cX1_setByte 17 = .ok (.getfield 56, 3) := dk_180 0 56 (dk_at dksX1_setByte_0 17 rfl rfl)
theorem dX1_setByte_20 : decode cX1_setByte 20 = .ok (.getfield 120, 3) := dk_180 0 120 (dk_at dksX1_setByte_0 20 rfl rfl)
theorem dX1_setByte_23 : decode cX1_setByte 23 = .ok (.invokevirtual 143, 3) := dk_182 0 143 (dk_at dksX1_setByte_1 0 rfl rfl)
theorem dX1_setByte_26 : decode cX1_setByte 26 = .ok (.checkcast 144, 3) := dk_192 0 144 (dk_at dksX1_setByte_1 3 rfl rfl)
theorem dX1_setByte_29 : decode cX1_setByte 29 = .ok (.astore_n 3, 1) := dk_78 (dk_at dksX1_setByte_1 6 rfl rfl)
theorem dX1_setByte_30 : decode cX1_setByte 30 = .ok (.aload_n 3, 1) := dk_45 (dk_at dksX1_setByte_1 7 rfl rfl)
theorem dX1_setByte_31 : decode cX1_setByte 31 = .ok (.iload_n 1, 1) := dk_27 (dk_at dksX1_setByte_1 8 rfl rfl)
theorem dX1_setByte_32 : decode cX1_setByte 32 = .ok (.iaload, 1) := dk_46 (dk_at dksX1_setByte_1 9 rfl rfl)
theorem dX1_setByte_33 : decode cX1_setByte 33 = .ok (.istore 4, 2) := dk_54 4 (dk_at dksX1_setByte_1 10 rfl rfl)
theorem dX1_setByte_35 : decode cX1_setByte 35 = .ok (.aload_n 3, 1) := dk_45 (dk_at dksX1_setByte_1 12 rfl rfl)
theorem dX1_setByte_36 : decode cX1_setByte 36 = .ok (.iload_n 1, 1) := dk_27 (dk_at dksX1_setByte_1 13 rfl rfl)
theorem dX1_setByte_37 : decode cX1_setByte 37 = .ok (.iload_n 2, 1) := dk_28 (dk_at dksX1_setByte_1 14 rfl rfl)
theorem dX1_setByte_38 : decode cX1_setByte 38 = .ok (.iastore, 1) := dk_79 (dk_at dksX1_setByte_1 15 rfl rfl)
theorem dX1_setByte_39 : decode cX1_setByte 39 = .ok (.aload_n 0, 1) := dk_42 (dk_at dksX1_setByte_1 16 rfl rfl)
theorem dX1_setByte_40 : decode cX1_setByte 40 = .ok (.new 51, 3) := dk_187 0 51 (dk_at dksX1_setByte_1 17 rfl rfl)
theorem dX1_setByte_43 : decode cX1_setByte 43 = .ok (.dup, 1) := dk_89 (dk_at dksX1_setByte_1 20 rfl rfl)
theorem dX1_setByte_44 : decode cX1_setByte 44 = .ok (.aload_n 3, 1) := dk_45 (dk_at dksX1_setByte_1 21 rfl rfl)
theorem dX1_setByte_45 : decode cX1_setByte 45 = .ok (.aload_n 0, 1) := dk_42 (dk_at dksX1_setByte_1 22 rfl rfl)
theorem dX1_setByte_46 : decode cX1_setByte 46 = .ok (.getfield 56, 3) := dk_180 0 56 (dk_at dksX1_setByte_2 0 rfl rfl)
theorem dX1_setByte_49 : decode cX1_setByte 49 = .ok (.getfield 130, 3) := dk_180 0 130 (dk_at dksX1_setByte_2 3 rfl rfl)
theorem dX1_setByte_52 : decode cX1_setByte 52 = .ok (.aload_n 0, 1) := dk_42 (dk_at dksX1_setByte_2 6 rfl rfl)
theorem dX1_setByte_53 : decode cX1_setByte 53 = .ok (.getfield 56, 3) := dk_180 0 56 (dk_at dksX1_setByte_2 7 rfl rfl)
theorem dX1_setByte_56 : decode cX1_setByte 56 = .ok (.getfield 133, 3) := dk_180 0 133 (dk_at dksX1_setByte_2 10 rfl rfl)
theorem dX1_setByte_59 : decode cX1_setByte 59 = .ok (.invokespecial 53, 3) := dk_183 0 53 (dk_at dksX1_setByte_2 13 rfl rfl)
theorem dX1_setByte_62 : decode cX1_setByte 62 = .ok (.iconst 1, 1) := dk_4 (dk_at dksX1_setByte_2 16 rfl rfl)
theorem dX1_setByte_63 : decode cX1_setByte 63 = .ok (.invokevirtual 136, 3) := dk_182 0 136 (dk_at dksX1_setByte_2 17 rfl rfl)
theorem dX1_setByte_66 : decode cX1_setByte 66 = .ok (.iload 4, 2) := dk_21 4 (dk_at dksX1_setByte_2 20 rfl rfl)
theorem dX1_setByte_68 : decode cX1_setByte 68 = .ok (.ireturn, 1) := dk_172 (dk_at dksX1_setByte_2 22 rfl rfl)
abbrev cX1_requireAddress : ByteArray := prog_1_method_9_code
def yX1_requireAddress : MethodName := ⟨RX1, "requireAddress", "(I)V"⟩
def dkwX1_requireAddress_0 : List UInt8 := [42, 180, 0, 56, 27, 182, 0, 76, 184, 0, 25, 177]
abbrev dktX1_requireAddress_0 : List UInt8 := dkwX1_requireAddress_0 ++ []
theorem dksX1_requireAddress_0 : cX1_requireAddress.data.toList.drop 0 = dktX1_requireAddress_0 := by decide +kernel
theorem dX1_requireAddress_0 : decode cX1_requireAddress 0 = .ok (.aload_n 0, 1) := dk_42 (dk_at dksX1_requireAddress_0 0 rfl rfl)
theorem dX1_requireAddress_1 : decode cX1_requireAddress 1 = .ok (.getfield 56, 3) := dk_180 0 56 (dk_at dksX1_requireAddress_0 1 rfl rfl)
theorem dX1_requireAddress_4 : decode cX1_requireAddress 4 = .ok (.iload_n 1, 1) := dk_27 (dk_at dksX1_requireAddress_0 4 rfl rfl)
theorem dX1_requireAddress_5 : decode cX1_requireAddress 5 = .ok (.invokevirtual 76, 3) := dk_182 0 76 (dk_at dksX1_requireAddress_0 5 rfl rfl)
theorem dX1_requireAddress_8 : decode cX1_requireAddress 8 = .ok (.invokestatic 25, 3) := dk_184 0 25 (dk_at dksX1_requireAddress_0 8 rfl rfl)
theorem dX1_requireAddress_11 : decode cX1_requireAddress 11 = .ok (.return_, 1) := dk_177 (dk_at dksX1_requireAddress_0 11 rfl rfl)
abbrev cX1_requireIndex : ByteArray := prog_1_method_4_code
def yX1_requireIndex : MethodName := ⟨RX1, "requireIndex", "(Z)V"⟩
def dkwX1_requireIndex_0 : List UInt8 := [26, 154, 0, 11, 187, 0, 10, 89, 183, 0, 12, 191, 177]
abbrev dktX1_requireIndex_0 : List UInt8 := dkwX1_requireIndex_0 ++ []
theorem dksX1_requireIndex_0 : cX1_requireIndex.data.toList.drop 0 = dktX1_requireIndex_0 := by decide +kernel
theorem dX1_requireIndex_0 : decode cX1_requireIndex 0 = .ok (.iload_n 0, 1) := dk_26 (dk_at dksX1_requireIndex_0 0 rfl rfl)
theorem dX1_requireIndex_1 : decode cX1_requireIndex 1 = .ok (.ifCond .ne 11, 3) := dk_154 0 11 (dk_at dksX1_requireIndex_0 1 rfl rfl)
theorem dX1_requireIndex_4 : decode cX1_requireIndex 4 = .ok (.new 10, 3) := dk_187 0 10 (dk_at dksX1_requireIndex_0 4 rfl rfl)
theorem dX1_requireIndex_7 : decode cX1_requireIndex 7 = .ok (.dup, 1) := dk_89 (dk_at dksX1_requireIndex_0 7 rfl rfl)
theorem dX1_requireIndex_8 : decode cX1_requireIndex 8 = .ok (.invokespecial 12, 3) := dk_183 0 12 (dk_at dksX1_requireIndex_0 8 rfl rfl)
theorem dX1_requireIndex_11 : decode cX1_requireIndex 11 = .ok (.athrow, 1) := dk_191 (dk_at dksX1_requireIndex_0 11 rfl rfl)
theorem dX1_requireIndex_12 : decode cX1_requireIndex 12 = .ok (.return_, 1) := dk_177 (dk_at dksX1_requireIndex_0 12 rfl rfl)
abbrev cX1_byteAt : ByteArray := prog_1_method_16_code
def yX1_byteAt : MethodName := ⟨RX1, "byteAt", "(I)I"⟩
def dkwX1_byteAt_0 : List UInt8 := [42, 27, 182, 0, 140, 42, 180, 0, 56, 180, 0, 120, 27, 46, 172]
abbrev dktX1_byteAt_0 : List UInt8 := dkwX1_byteAt_0 ++ []
theorem dksX1_byteAt_0 : cX1_byteAt.data.toList.drop 0 = dktX1_byteAt_0 := by decide +kernel
theorem dX1_byteAt_0 : decode cX1_byteAt 0 = .ok (.aload_n 0, 1) := dk_42 (dk_at dksX1_byteAt_0 0 rfl rfl)
theorem dX1_byteAt_1 : decode cX1_byteAt 1 = .ok (.iload_n 1, 1) := dk_27 (dk_at dksX1_byteAt_0 1 rfl rfl)
theorem dX1_byteAt_2 : decode cX1_byteAt 2 = .ok (.invokevirtual 140, 3) := dk_182 0 140 (dk_at dksX1_byteAt_0 2 rfl rfl)
theorem dX1_byteAt_5 : decode cX1_byteAt 5 = .ok (.aload_n 0, 1) := dk_42 (dk_at dksX1_byteAt_0 5 rfl rfl)
theorem dX1_byteAt_6 : decode cX1_byteAt 6 = .ok (.getfield 56, 3) := dk_180 0 56 (dk_at dksX1_byteAt_0 6 rfl rfl)
theorem dX1_byteAt_9 : decode cX1_byteAt 9 = .ok (.getfield 120, 3) := dk_180 0 120 (dk_at dksX1_byteAt_0 9 rfl rfl)
theorem dX1_byteAt_12 : decode cX1_byteAt 12 = .ok (.iload_n 1, 1) := dk_27 (dk_at dksX1_byteAt_0 12 rfl rfl)
theorem dX1_byteAt_13 : decode cX1_byteAt 13 = .ok (.iaload, 1) := dk_46 (dk_at dksX1_byteAt_0 13 rfl rfl)
theorem dX1_byteAt_14 : decode cX1_byteAt 14 = .ok (.ireturn, 1) := dk_172 (dk_at dksX1_byteAt_0 14 rfl rfl)
abbrev cX1_addEntry : ByteArray := prog_1_method_19_code
def yX1_addEntry : MethodName := ⟨RX1, "addEntry", "(I)I"⟩
def dkwX1_addEntry_4 : List UInt8 := [42, 180, 0, 56, 180, 0, 133, 183, 0, 53, 3, 182, 0, 136, 44, 190, 4, 100, 172]
abbrev dktX1_addEntry_4 : List UInt8 := dkwX1_addEntry_4 ++ []
def dkwX1_addEntry_3 : List UInt8 := [44, 42, 180, 0, 56, 180, 0, 130, 190, 27, 79, 42, 187, 0, 51, 89, 42, 180, 0, 56, 180, 0, 120, 44]
abbrev dktX1_addEntry_3 : List UInt8 := dkwX1_addEntry_3 ++ dktX1_addEntry_4
def dkwX1_addEntry_2 : List UInt8 := [188, 10, 77, 42, 180, 0, 56, 180, 0, 130, 3, 44, 3, 42, 180, 0, 56, 180, 0, 130, 190, 184, 0, 124]
abbrev dktX1_addEntry_2 : List UInt8 := dkwX1_addEntry_2 ++ dktX1_addEntry_3
def dkwX1_addEntry_1 : List UInt8 := [182, 0, 148, 154, 0, 7, 4, 167, 0, 4, 3, 184, 0, 83, 42, 180, 0, 56, 180, 0, 130, 190, 4, 96]
abbrev dktX1_addEntry_1 : List UInt8 := dkwX1_addEntry_1 ++ dktX1_addEntry_2
def dkwX1_addEntry_0 : List UInt8 := [42, 27, 182, 0, 140, 42, 180, 0, 56, 180, 0, 130, 190, 7, 162, 0, 18, 42, 180, 0, 56, 27]
abbrev dktX1_addEntry_0 : List UInt8 := dkwX1_addEntry_0 ++ dktX1_addEntry_1
theorem dksX1_addEntry_0 : cX1_addEntry.data.toList.drop 0 = dktX1_addEntry_0 := by decide +kernel
theorem dksX1_addEntry_1 : cX1_addEntry.data.toList.drop 22 = dktX1_addEntry_1 := dk_seg dksX1_addEntry_0 22 rfl rfl
theorem dksX1_addEntry_2 : cX1_addEntry.data.toList.drop 46 = dktX1_addEntry_2 := dk_seg dksX1_addEntry_1 24 rfl rfl
theorem dksX1_addEntry_3 : cX1_addEntry.data.toList.drop 70 = dktX1_addEntry_3 := dk_seg dksX1_addEntry_2 24 rfl rfl
theorem dksX1_addEntry_4 : cX1_addEntry.data.toList.drop 94 = dktX1_addEntry_4 := dk_seg dksX1_addEntry_3 24 rfl rfl
theorem dX1_addEntry_0 : decode cX1_addEntry 0 = .ok (.aload_n 0, 1) := dk_42 (dk_at dksX1_addEntry_0 0 rfl rfl)
theorem dX1_addEntry_1 : decode cX1_addEntry 1 = .ok (.iload_n 1, 1) := dk_27 (dk_at dksX1_addEntry_0 1 rfl rfl)
theorem dX1_addEntry_2 : decode cX1_addEntry 2 = .ok (.invokevirtual 140, 3) := dk_182 0 140 (dk_at dksX1_addEntry_0 2 rfl rfl)
theorem dX1_addEntry_5 : decode cX1_addEntry 5 = .ok (.aload_n 0, 1) := dk_42 (dk_at dksX1_addEntry_0 5 rfl rfl)
theorem dX1_addEntry_6 : decode cX1_addEntry 6 = .ok (.getfield 56, 3) := dk_180 0 56 (dk_at dksX1_addEntry_0 6 rfl rfl)
theorem dX1_addEntry_9 : decode cX1_addEntry 9 = .ok (.getfield 130, 3) := dk_180 0 130 (dk_at dksX1_addEntry_0 9 rfl rfl)
theorem dX1_addEntry_12 : decode cX1_addEntry 12 = .ok (.arraylength, 1) := dk_190 (dk_at dksX1_addEntry_0 12 rfl rfl)
theorem dX1_addEntry_13 : decode cX1_addEntry 13 = .ok (.iconst 4, 1) := dk_7 (dk_at dksX1_addEntry_0 13 rfl rfl)
theorem dX1_addEntry_14 : decode cX1_addEntry 14 = .ok (.if_icmp .ge 18, 3) := dk_162 0 18 (dk_at dksX1_addEntry_0 14 rfl rfl)
theorem dX1_addEntry_17 : decode cX1_addEntry 17 = .ok (.aload_n 0, 1) := dk_42 (dk_at dksX1_addEntry_0 17 rfl rfl)
theorem dX1_addEntry_18 : decode cX1_addEntry 18 = .ok (.getfield 56, 3) := dk_180 0 56 (dk_at dksX1_addEntry_0 18 rfl rfl)
theorem dX1_addEntry_21 : decode cX1_addEntry 21 = .ok (.iload_n 1, 1) := dk_27 (dk_at dksX1_addEntry_0 21 rfl rfl)
theorem dX1_addEntry_22 : decode cX1_addEntry 22 = .ok (.invokevirtual 148, 3) := dk_182 0 148 (dk_at dksX1_addEntry_1 0 rfl rfl)
theorem dX1_addEntry_25 : decode cX1_addEntry 25 = .ok (.ifCond .ne 7, 3) := dk_154 0 7 (dk_at dksX1_addEntry_1 3 rfl rfl)
theorem dX1_addEntry_28 : decode cX1_addEntry 28 = .ok (.iconst 1, 1) := dk_4 (dk_at dksX1_addEntry_1 6 rfl rfl)
theorem dX1_addEntry_29 : decode cX1_addEntry 29 = .ok (.goto 4, 3) := dk_167 0 4 (dk_at dksX1_addEntry_1 7 rfl rfl)
theorem dX1_addEntry_32 : decode cX1_addEntry 32 = .ok (.iconst 0, 1) := dk_3 (dk_at dksX1_addEntry_1 10 rfl rfl)
theorem dX1_addEntry_33 : decode cX1_addEntry 33 = .ok (.invokestatic 83, 3) := dk_184 0 83 (dk_at dksX1_addEntry_1 11 rfl rfl)
theorem dX1_addEntry_36 : decode cX1_addEntry 36 = .ok (.aload_n 0, 1) := dk_42 (dk_at dksX1_addEntry_1 14 rfl rfl)
theorem dX1_addEntry_37 : decode cX1_addEntry 37 = .ok (.getfield 56, 3) := dk_180 0 56 (dk_at dksX1_addEntry_1 15 rfl rfl)
theorem dX1_addEntry_40 : decode cX1_addEntry 40 = .ok (.getfield 130, 3) := dk_180 0 130 (dk_at dksX1_addEntry_1 18 rfl rfl)
theorem dX1_addEntry_43 : decode cX1_addEntry 43 = .ok (.arraylength, 1) := dk_190 (dk_at dksX1_addEntry_1 21 rfl rfl)
theorem dX1_addEntry_44 : decode cX1_addEntry 44 = .ok (.iconst 1, 1) := dk_4 (dk_at dksX1_addEntry_1 22 rfl rfl)
theorem dX1_addEntry_45 : decode cX1_addEntry 45 = .ok (.iadd, 1) := dk_96 (dk_at dksX1_addEntry_1 23 rfl rfl)
theorem dX1_addEntry_46 : decode cX1_addEntry 46 = .ok (.newarray .int, 2) := dk_188_10 (dk_at dksX1_addEntry_2 0 rfl rfl)
theorem dX1_addEntry_48 : decode cX1_addEntry 48 = .ok (.astore_n 2, 1) := dk_77 (dk_at dksX1_addEntry_2 2 rfl rfl)
theorem dX1_addEntry_49 : decode cX1_addEntry 49 = .ok (.aload_n 0, 1) := dk_42 (dk_at dksX1_addEntry_2 3 rfl rfl)
theorem dX1_addEntry_50 : decode cX1_addEntry 50 = .ok (.getfield 56, 3) := dk_180 0 56 (dk_at dksX1_addEntry_2 4 rfl rfl)
theorem dX1_addEntry_53 : decode cX1_addEntry 53 = .ok (.getfield 130, 3) := dk_180 0 130 (dk_at dksX1_addEntry_2 7 rfl rfl)
theorem dX1_addEntry_56 : decode cX1_addEntry 56 = .ok (.iconst 0, 1) := dk_3 (dk_at dksX1_addEntry_2 10 rfl rfl)
theorem dX1_addEntry_57 : decode cX1_addEntry 57 = .ok (.aload_n 2, 1) := dk_44 (dk_at dksX1_addEntry_2 11 rfl rfl)
theorem dX1_addEntry_58 : decode cX1_addEntry 58 = .ok (.iconst 0, 1) := dk_3 (dk_at dksX1_addEntry_2 12 rfl rfl)
theorem dX1_addEntry_59 : decode cX1_addEntry 59 = .ok (.aload_n 0, 1) := dk_42 (dk_at dksX1_addEntry_2 13 rfl rfl)
theorem dX1_addEntry_60 : decode cX1_addEntry 60 = .ok (.getfield 56, 3) := dk_180 0 56 (dk_at dksX1_addEntry_2 14 rfl rfl)
theorem dX1_addEntry_63 : decode cX1_addEntry 63 = .ok (.getfield 130, 3) := dk_180 0 130 (dk_at dksX1_addEntry_2 17 rfl rfl)
theorem dX1_addEntry_66 : decode cX1_addEntry 66 = .ok (.arraylength, 1) := dk_190 (dk_at dksX1_addEntry_2 20 rfl rfl)
theorem dX1_addEntry_67 : decode cX1_addEntry 67 = .ok (.invokestatic 124, 3) := dk_184 0 124 (dk_at dksX1_addEntry_2 21 rfl rfl)
theorem dX1_addEntry_70 : decode cX1_addEntry 70 = .ok (.aload_n 2, 1) := dk_44 (dk_at dksX1_addEntry_3 0 rfl rfl)
theorem dX1_addEntry_71 : decode cX1_addEntry 71 = .ok (.aload_n 0, 1) := dk_42 (dk_at dksX1_addEntry_3 1 rfl rfl)
theorem dX1_addEntry_72 : decode cX1_addEntry 72 = .ok (.getfield 56, 3) := dk_180 0 56 (dk_at dksX1_addEntry_3 2 rfl rfl)
theorem dX1_addEntry_75 : decode cX1_addEntry 75 = .ok (.getfield 130, 3) := dk_180 0 130 (dk_at dksX1_addEntry_3 5 rfl rfl)
theorem dX1_addEntry_78 : decode cX1_addEntry 78 = .ok (.arraylength, 1) := dk_190 (dk_at dksX1_addEntry_3 8 rfl rfl)
theorem dX1_addEntry_79 : decode cX1_addEntry 79 = .ok (.iload_n 1, 1) := dk_27 (dk_at dksX1_addEntry_3 9 rfl rfl)
theorem dX1_addEntry_80 : decode cX1_addEntry 80 = .ok (.iastore, 1) := dk_79 (dk_at dksX1_addEntry_3 10 rfl rfl)
theorem dX1_addEntry_81 : decode cX1_addEntry 81 = .ok (.aload_n 0, 1) := dk_42 (dk_at dksX1_addEntry_3 11 rfl rfl)
theorem dX1_addEntry_82 : decode cX1_addEntry 82 = .ok (.new 51, 3) := dk_187 0 51 (dk_at dksX1_addEntry_3 12 rfl rfl)
theorem dX1_addEntry_85 : decode cX1_addEntry 85 = .ok (.dup, 1) := dk_89 (dk_at dksX1_addEntry_3 15 rfl rfl)
theorem dX1_addEntry_86 : decode cX1_addEntry 86 = .ok (.aload_n 0, 1) := dk_42 (dk_at dksX1_addEntry_3 16 rfl rfl)
theorem dX1_addEntry_87 : decode cX1_addEntry 87 = .ok (.getfield 56, 3) := dk_180 0 56 (dk_at dksX1_addEntry_3 17 rfl rfl)
theorem dX1_addEntry_90 : decode cX1_addEntry 90 = .ok (.getfield 120, 3) := dk_180 0 120 (dk_at dksX1_addEntry_3 20 rfl rfl)
theorem dX1_addEntry_93 : decode cX1_addEntry 93 = .ok (.aload_n 2, 1) := dk_44 (dk_at dksX1_addEntry_3 23 rfl rfl)
theorem dX1_addEntry_94 : decode cX1_addEntry 94 = .ok (.aload_n 0, 1) := dk_42 (dk_at dksX1_addEntry_4 0 rfl rfl)
theorem dX1_addEntry_95 : decode cX1_addEntry 95 = .ok (.getfield 56, 3) := dk_180 0 56 (dk_at dksX1_addEntry_4 1 rfl rfl)
theorem dX1_addEntry_98 : decode cX1_addEntry 98 = .ok (.getfield 133, 3) := dk_180 0 133 (dk_at dksX1_addEntry_4 4 rfl rfl)
theorem dX1_addEntry_101 : decode cX1_addEntry 101 = .ok (.invokespecial 53, 3) := dk_183 0 53 (dk_at dksX1_addEntry_4 7 rfl rfl)
theorem dX1_addEntry_104 : decode cX1_addEntry 104 = .ok (.iconst 0, 1) := dk_3 (dk_at dksX1_addEntry_4 10 rfl rfl)
theorem dX1_addEntry_105 : decode cX1_addEntry 105 = .ok (.invokevirtual 136, 3) := dk_182 0 136 (dk_at dksX1_addEntry_4 11 rfl rfl)
theorem dX1_addEntry_108 : decode cX1_addEntry 108 = .ok (.aload_n 2, 1) := dk_44 (dk_at dksX1_addEntry_4 14 rfl rfl)
theorem dX1_addEntry_109 : decode cX1_addEntry 109 = .ok (.arraylength, 1) := dk_190 (dk_at dksX1_addEntry_4 15 rfl rfl)
theorem dX1_addEntry_110 : decode cX1_addEntry 110 = .ok (.iconst 1, 1) := dk_4 (dk_at dksX1_addEntry_4 16 rfl rfl)
theorem dX1_addEntry_111 : decode cX1_addEntry 111 = .ok (.isub, 1) := dk_100 (dk_at dksX1_addEntry_4 17 rfl rfl)
theorem dX1_addEntry_112 : decode cX1_addEntry 112 = .ok (.ireturn, 1) := dk_172 (dk_at dksX1_addEntry_4 18 rfl rfl)
abbrev cX1_removeEntry : ByteArray := prog_1_method_20_code
def yX1_removeEntry : MethodName := ⟨RX1, "removeEntry", "(I)I"⟩
def dkwX1_removeEntry_4 : List UInt8 := [180, 0, 133, 183, 0, 53, 3, 182, 0, 136, 28, 172]
abbrev dktX1_removeEntry_4 : List UInt8 := dkwX1_removeEntry_4 ++ []
def dkwX1_removeEntry_3 : List UInt8 := [27, 100, 184, 0, 124, 42, 187, 0, 51, 89, 42, 180, 0, 56, 180, 0, 120, 45, 42, 180, 0, 56]
abbrev dktX1_removeEntry_3 : List UInt8 := dkwX1_removeEntry_3 ++ dktX1_removeEntry_4
def dkwX1_removeEntry_2 : List UInt8 := [180, 0, 130, 3, 45, 3, 27, 184, 0, 124, 42, 180, 0, 56, 180, 0, 130, 27, 4, 96, 45, 27, 45, 190]
abbrev dktX1_removeEntry_2 : List UInt8 := dkwX1_removeEntry_2 ++ dktX1_removeEntry_3
def dkwX1_removeEntry_1 : List UInt8 := [180, 0, 130, 27, 46, 61, 42, 180, 0, 56, 180, 0, 130, 190, 4, 100, 188, 10, 78, 42, 180, 0, 56]
abbrev dktX1_removeEntry_1 : List UInt8 := dkwX1_removeEntry_1 ++ dktX1_removeEntry_2
def dkwX1_removeEntry_0 : List UInt8 := [27, 3, 42, 180, 0, 56, 180, 0, 130, 190, 4, 100, 184, 0, 19, 184, 0, 25, 42, 180, 0, 56]
abbrev dktX1_removeEntry_0 : List UInt8 := dkwX1_removeEntry_0 ++ dktX1_removeEntry_1
theorem dksX1_removeEntry_0 : cX1_removeEntry.data.toList.drop 0 = dktX1_removeEntry_0 := by decide +kernel
theorem dksX1_removeEntry_1 : cX1_removeEntry.data.toList.drop 22 = dktX1_removeEntry_1 := dk_seg dksX1_removeEntry_0 22 rfl rfl
theorem dksX1_removeEntry_2 : cX1_removeEntry.data.toList.drop 45 = dktX1_removeEntry_2 := dk_seg dksX1_removeEntry_1 23 rfl rfl
theorem dksX1_removeEntry_3 : cX1_removeEntry.data.toList.drop 69 = dktX1_removeEntry_3 := dk_seg dksX1_removeEntry_2 24 rfl rfl
theorem dksX1_removeEntry_4 : cX1_removeEntry.data.toList.drop 91 = dktX1_removeEntry_4 := dk_seg dksX1_removeEntry_3 22 rfl rfl
theorem dX1_removeEntry_0 : decode cX1_removeEntry 0 = .ok (.iload_n 1, 1) := dk_27 (dk_at dksX1_removeEntry_0 0 rfl rfl)
theorem dX1_removeEntry_1 : decode cX1_removeEntry 1 = .ok (.iconst 0, 1) := dk_3 (dk_at dksX1_removeEntry_0 1 rfl rfl)
theorem dX1_removeEntry_2 : decode cX1_removeEntry 2 = .ok (.aload_n 0, 1) := dk_42 (dk_at dksX1_removeEntry_0 2 rfl rfl)
theorem dX1_removeEntry_3 : decode cX1_removeEntry 3 = .ok (.getfield 56, 3) := dk_180 0 56 (dk_at dksX1_removeEntry_0 3 rfl rfl)
theorem dX1_removeEntry_6 : decode cX1_removeEntry 6 = .ok (.getfield 130, 3) := dk_180 0 130 (dk_at dksX1_removeEntry_0 6 rfl rfl)
theorem dX1_removeEntry_9 : decode cX1_removeEntry 9 = .ok (.arraylength, 1) := dk_190 (dk_at dksX1_removeEntry_0 9 rfl rfl)
theorem dX1_removeEntry_10 : decode cX1_removeEntry 10 = .ok (.iconst 1, 1) := dk_4 (dk_at dksX1_removeEntry_0 10 rfl rfl)
theorem dX1_removeEntry_11 : decode cX1_removeEntry 11 = .ok (.isub, 1) := dk_100 (dk_at dksX1_removeEntry_0 11 rfl rfl)
theorem dX1_removeEntry_12 : decode cX1_removeEntry 12 = .ok (.invokestatic 19, 3) := dk_184 0 19 (dk_at dksX1_removeEntry_0 12 rfl rfl)
theorem dX1_removeEntry_15 : decode cX1_removeEntry 15 = .ok (.invokestatic 25, 3) := dk_184 0 25 (dk_at dksX1_removeEntry_0 15 rfl rfl)
theorem dX1_removeEntry_18 : decode cX1_removeEntry 18 = .ok (.aload_n 0, 1) := dk_42 (dk_at dksX1_removeEntry_0 18 rfl rfl)
theorem dX1_removeEntry_19 : decode cX1_removeEntry 19 = .ok (.getfield 56, 3) := dk_180 0 56 (dk_at dksX1_removeEntry_0 19 rfl rfl)
theorem dX1_removeEntry_22 : decode cX1_removeEntry 22 = .ok (.getfield 130, 3) := dk_180 0 130 (dk_at dksX1_removeEntry_1 0 rfl rfl)
theorem dX1_removeEntry_25 : decode cX1_removeEntry 25 = .ok (.iload_n 1, 1) := dk_27 (dk_at dksX1_removeEntry_1 3 rfl rfl)
theorem dX1_removeEntry_26 : decode cX1_removeEntry 26 = .ok (.iaload, 1) := dk_46 (dk_at dksX1_removeEntry_1 4 rfl rfl)
theorem dX1_removeEntry_27 : decode cX1_removeEntry 27 = .ok (.istore_n 2, 1) := dk_61 (dk_at dksX1_removeEntry_1 5 rfl rfl)
theorem dX1_removeEntry_28 : decode cX1_removeEntry 28 = .ok (.aload_n 0, 1) := dk_42 (dk_at dksX1_removeEntry_1 6 rfl rfl)
theorem dX1_removeEntry_29 : decode cX1_removeEntry 29 = .ok (.getfield 56, 3) := dk_180 0 56 (dk_at dksX1_removeEntry_1 7 rfl rfl)
theorem dX1_removeEntry_32 : decode cX1_removeEntry 32 = .ok (.getfield 130, 3) := dk_180 0 130 (dk_at dksX1_removeEntry_1 10 rfl rfl)
theorem dX1_removeEntry_35 : decode cX1_removeEntry 35 = .ok (.arraylength, 1) := dk_190 (dk_at dksX1_removeEntry_1 13 rfl rfl)
theorem dX1_removeEntry_36 : decode cX1_removeEntry 36 = .ok (.iconst 1, 1) := dk_4 (dk_at dksX1_removeEntry_1 14 rfl rfl)
theorem dX1_removeEntry_37 : decode cX1_removeEntry 37 = .ok (.isub, 1) := dk_100 (dk_at dksX1_removeEntry_1 15 rfl rfl)
theorem dX1_removeEntry_38 : decode cX1_removeEntry 38 = .ok (.newarray .int, 2) := dk_188_10 (dk_at dksX1_removeEntry_1 16 rfl rfl)
theorem dX1_removeEntry_40 : decode cX1_removeEntry 40 = .ok (.astore_n 3, 1) := dk_78 (dk_at dksX1_removeEntry_1 18 rfl rfl)
theorem dX1_removeEntry_41 : decode cX1_removeEntry 41 = .ok (.aload_n 0, 1) := dk_42 (dk_at dksX1_removeEntry_1 19 rfl rfl)
theorem dX1_removeEntry_42 : decode cX1_removeEntry 42 = .ok (.getfield 56, 3) := dk_180 0 56 (dk_at dksX1_removeEntry_1 20 rfl rfl)
theorem dX1_removeEntry_45 : decode cX1_removeEntry 45 = .ok (.getfield 130, 3) := dk_180 0 130 (dk_at dksX1_removeEntry_2 0 rfl rfl)
theorem dX1_removeEntry_48 : decode cX1_removeEntry 48 = .ok (.iconst 0, 1) := dk_3 (dk_at dksX1_removeEntry_2 3 rfl rfl)
theorem dX1_removeEntry_49 : decode cX1_removeEntry 49 = .ok (.aload_n 3, 1) := dk_45 (dk_at dksX1_removeEntry_2 4 rfl rfl)
theorem dX1_removeEntry_50 : decode cX1_removeEntry 50 = .ok (.iconst 0, 1) := dk_3 (dk_at dksX1_removeEntry_2 5 rfl rfl)
theorem dX1_removeEntry_51 : decode cX1_removeEntry 51 = .ok (.iload_n 1, 1) := dk_27 (dk_at dksX1_removeEntry_2 6 rfl rfl)
theorem dX1_removeEntry_52 : decode cX1_removeEntry 52 = .ok (.invokestatic 124, 3) := dk_184 0 124 (dk_at dksX1_removeEntry_2 7 rfl rfl)
theorem dX1_removeEntry_55 : decode cX1_removeEntry 55 = .ok (.aload_n 0, 1) := dk_42 (dk_at dksX1_removeEntry_2 10 rfl rfl)
theorem dX1_removeEntry_56 : decode cX1_removeEntry 56 = .ok (.getfield 56, 3) := dk_180 0 56 (dk_at dksX1_removeEntry_2 11 rfl rfl)
theorem dX1_removeEntry_59 : decode cX1_removeEntry 59 = .ok (.getfield 130, 3) := dk_180 0 130 (dk_at dksX1_removeEntry_2 14 rfl rfl)
theorem dX1_removeEntry_62 : decode cX1_removeEntry 62 = .ok (.iload_n 1, 1) := dk_27 (dk_at dksX1_removeEntry_2 17 rfl rfl)
theorem dX1_removeEntry_63 : decode cX1_removeEntry 63 = .ok (.iconst 1, 1) := dk_4 (dk_at dksX1_removeEntry_2 18 rfl rfl)
theorem dX1_removeEntry_64 : decode cX1_removeEntry 64 = .ok (.iadd, 1) := dk_96 (dk_at dksX1_removeEntry_2 19 rfl rfl)
theorem dX1_removeEntry_65 : decode cX1_removeEntry 65 = .ok (.aload_n 3, 1) := dk_45 (dk_at dksX1_removeEntry_2 20 rfl rfl)
theorem dX1_removeEntry_66 : decode cX1_removeEntry 66 = .ok (.iload_n 1, 1) := dk_27 (dk_at dksX1_removeEntry_2 21 rfl rfl)
theorem dX1_removeEntry_67 : decode cX1_removeEntry 67 = .ok (.aload_n 3, 1) := dk_45 (dk_at dksX1_removeEntry_2 22 rfl rfl)
theorem dX1_removeEntry_68 : decode cX1_removeEntry 68 = .ok (.arraylength, 1) := dk_190 (dk_at dksX1_removeEntry_2 23 rfl rfl)
theorem dX1_removeEntry_69 : decode cX1_removeEntry 69 = .ok (.iload_n 1, 1) := dk_27 (dk_at dksX1_removeEntry_3 0 rfl rfl)
theorem dX1_removeEntry_70 : decode cX1_removeEntry 70 = .ok (.isub, 1) := dk_100 (dk_at dksX1_removeEntry_3 1 rfl rfl)
theorem dX1_removeEntry_71 : decode cX1_removeEntry 71 = .ok (.invokestatic 124, 3) := dk_184 0 124 (dk_at dksX1_removeEntry_3 2 rfl rfl)
theorem dX1_removeEntry_74 : decode cX1_removeEntry 74 = .ok (.aload_n 0, 1) := dk_42 (dk_at dksX1_removeEntry_3 5 rfl rfl)
theorem dX1_removeEntry_75 : decode cX1_removeEntry 75 = .ok (.new 51, 3) := dk_187 0 51 (dk_at dksX1_removeEntry_3 6 rfl rfl)
theorem dX1_removeEntry_78 : decode cX1_removeEntry 78 = .ok (.dup, 1) := dk_89 (dk_at dksX1_removeEntry_3 9 rfl rfl)
theorem dX1_removeEntry_79 : decode cX1_removeEntry 79 = .ok (.aload_n 0, 1) := dk_42 (dk_at dksX1_removeEntry_3 10 rfl rfl)
theorem dX1_removeEntry_80 : decode cX1_removeEntry 80 = .ok (.getfield 56, 3) := dk_180 0 56 (dk_at dksX1_removeEntry_3 11 rfl rfl)
theorem dX1_removeEntry_83 : decode cX1_removeEntry 83 = .ok (.getfield 120, 3) := dk_180 0 120 (dk_at dksX1_removeEntry_3 14 rfl rfl)
theorem dX1_removeEntry_86 : decode cX1_removeEntry 86 = .ok (.aload_n 3, 1) := dk_45 (dk_at dksX1_removeEntry_3 17 rfl rfl)
theorem dX1_removeEntry_87 : decode cX1_removeEntry 87 = .ok (.aload_n 0, 1) := dk_42 (dk_at dksX1_removeEntry_3 18 rfl rfl)
theorem dX1_removeEntry_88 : decode cX1_removeEntry 88 = .ok (.getfield 56, 3) := dk_180 0 56 (dk_at dksX1_removeEntry_3 19 rfl rfl)
theorem dX1_removeEntry_91 : decode cX1_removeEntry 91 = .ok (.getfield 133, 3) := dk_180 0 133 (dk_at dksX1_removeEntry_4 0 rfl rfl)
theorem dX1_removeEntry_94 : decode cX1_removeEntry 94 = .ok (.invokespecial 53, 3) := dk_183 0 53 (dk_at dksX1_removeEntry_4 3 rfl rfl)
theorem dX1_removeEntry_97 : decode cX1_removeEntry 97 = .ok (.iconst 0, 1) := dk_3 (dk_at dksX1_removeEntry_4 6 rfl rfl)
theorem dX1_removeEntry_98 : decode cX1_removeEntry 98 = .ok (.invokevirtual 136, 3) := dk_182 0 136 (dk_at dksX1_removeEntry_4 7 rfl rfl)
theorem dX1_removeEntry_101 : decode cX1_removeEntry 101 = .ok (.iload_n 2, 1) := dk_28 (dk_at dksX1_removeEntry_4 10 rfl rfl)
theorem dX1_removeEntry_102 : decode cX1_removeEntry 102 = .ok (.ireturn, 1) := dk_172 (dk_at dksX1_removeEntry_4 11 rfl rfl)
abbrev cX1_setThreshold : ByteArray := prog_1_method_22_code
def yX1_setThreshold : MethodName := ⟨RX1, "setThreshold", "(I)I"⟩
def dkwX1_setThreshold_1 : List UInt8 := [180, 0, 56, 180, 0, 120, 42, 180, 0, 56, 180, 0, 130, 27, 183, 0, 53, 3, 182, 0, 136, 28, 172]
abbrev dktX1_setThreshold_1 : List UInt8 := dkwX1_setThreshold_1 ++ []
def dkwX1_setThreshold_0 : List UInt8 := [27, 4, 16, 30, 184, 0, 19, 184, 0, 29, 42, 180, 0, 56, 180, 0, 133, 61, 42, 187, 0, 51, 89, 42]
abbrev dktX1_setThreshold_0 : List UInt8 := dkwX1_setThreshold_0 ++ dktX1_setThreshold_1
theorem dksX1_setThreshold_0 : cX1_setThreshold.data.toList.drop 0 = dktX1_setThreshold_0 := by decide +kernel
theorem dksX1_setThreshold_1 : cX1_setThreshold.data.toList.drop 24 = dktX1_setThreshold_1 := dk_seg dksX1_setThreshold_0 24 rfl rfl
theorem dX1_setThreshold_0 : decode cX1_setThreshold 0 = .ok (.iload_n 1, 1) := dk_27 (dk_at dksX1_setThreshold_0 0 rfl rfl)
theorem dX1_setThreshold_1 : decode cX1_setThreshold 1 = .ok (.iconst 1, 1) := dk_4 (dk_at dksX1_setThreshold_0 1 rfl rfl)
theorem dX1_setThreshold_2 : decode cX1_setThreshold 2 = .ok (.bipush 30, 2) := dk_16 30 (dk_at dksX1_setThreshold_0 2 rfl rfl)
theorem dX1_setThreshold_4 : decode cX1_setThreshold 4 = .ok (.invokestatic 19, 3) := dk_184 0 19 (dk_at dksX1_setThreshold_0 4 rfl rfl)
theorem dX1_setThreshold_7 : decode cX1_setThreshold 7 = .ok (.invokestatic 29, 3) := dk_184 0 29 (dk_at dksX1_setThreshold_0 7 rfl rfl)
theorem dX1_setThreshold_10 : decode cX1_setThreshold 10 = .ok (.aload_n 0, 1) := dk_42 (dk_at dksX1_setThreshold_0 10 rfl rfl)
theorem dX1_setThreshold_11 : decode cX1_setThreshold 11 = .ok (.getfield 56, 3) := dk_180 0 56 (dk_at dksX1_setThreshold_0 11 rfl rfl)
theorem dX1_setThreshold_14 : decode cX1_setThreshold 14 = .ok (.getfield 133, 3) := dk_180 0 133 (dk_at dksX1_setThreshold_0 14 rfl rfl)
theorem dX1_setThreshold_17 : decode cX1_setThreshold 17 = .ok (.istore_n 2, 1) := dk_61 (dk_at dksX1_setThreshold_0 17 rfl rfl)
theorem dX1_setThreshold_18 : decode cX1_setThreshold 18 = .ok (.aload_n 0, 1) := dk_42 (dk_at dksX1_setThreshold_0 18 rfl rfl)
theorem dX1_setThreshold_19 : decode cX1_setThreshold 19 = .ok (.new 51, 3) := dk_187 0 51 (dk_at dksX1_setThreshold_0 19 rfl rfl)
theorem dX1_setThreshold_22 : decode cX1_setThreshold 22 = .ok (.dup, 1) := dk_89 (dk_at dksX1_setThreshold_0 22 rfl rfl)
theorem dX1_setThreshold_23 : decode cX1_setThreshold 23 = .ok (.aload_n 0, 1) := dk_42 (dk_at dksX1_setThreshold_0 23 rfl rfl)
theorem dX1_setThreshold_24 : decode cX1_setThreshold 24 = .ok (.getfield 56, 3) := dk_180 0 56 (dk_at dksX1_setThreshold_1 0 rfl rfl)
theorem dX1_setThreshold_27 : decode cX1_setThreshold 27 = .ok (.getfield 120, 3) := dk_180 0 120 (dk_at dksX1_setThreshold_1 3 rfl rfl)
theorem dX1_setThreshold_30 : decode cX1_setThreshold 30 = .ok (.aload_n 0, 1) := dk_42 (dk_at dksX1_setThreshold_1 6 rfl rfl)
theorem dX1_setThreshold_31 : decode cX1_setThreshold 31 = .ok (.getfield 56, 3) := dk_180 0 56 (dk_at dksX1_setThreshold_1 7 rfl rfl)
theorem dX1_setThreshold_34 : decode cX1_setThreshold 34 = .ok (.getfield 130, 3) := dk_180 0 130 (dk_at dksX1_setThreshold_1 10 rfl rfl)
theorem dX1_setThreshold_37 : decode cX1_setThreshold 37 = .ok (.iload_n 1, 1) := dk_27 (dk_at dksX1_setThreshold_1 13 rfl rfl)
theorem dX1_setThreshold_38 : decode cX1_setThreshold 38 = .ok (.invokespecial 53, 3) := dk_183 0 53 (dk_at dksX1_setThreshold_1 14 rfl rfl)
theorem dX1_setThreshold_41 : decode cX1_setThreshold 41 = .ok (.iconst 0, 1) := dk_3 (dk_at dksX1_setThreshold_1 17 rfl rfl)
theorem dX1_setThreshold_42 : decode cX1_setThreshold 42 = .ok (.invokevirtual 136, 3) := dk_182 0 136 (dk_at dksX1_setThreshold_1 18 rfl rfl)
theorem dX1_setThreshold_45 : decode cX1_setThreshold 45 = .ok (.iload_n 2, 1) := dk_28 (dk_at dksX1_setThreshold_1 21 rfl rfl)
theorem dX1_setThreshold_46 : decode cX1_setThreshold 46 = .ok (.ireturn, 1) := dk_172 (dk_at dksX1_setThreshold_1 22 rfl rfl)
abbrev cX1_isValid : ByteArray := prog_1_method_23_code
def yX1_isValid : MethodName := ⟨RX1, "isValid", "(I)Z"⟩
def dkwX1_isValid_0 : List UInt8 := [42, 27, 182, 0, 140, 42, 180, 0, 56, 27, 182, 0, 151, 172]
abbrev dktX1_isValid_0 : List UInt8 := dkwX1_isValid_0 ++ []
theorem dksX1_isValid_0 : cX1_isValid.data.toList.drop 0 = dktX1_isValid_0 := by decide +kernel
theorem dX1_isValid_0 : decode cX1_isValid 0 = .ok (.aload_n 0, 1) := dk_42 (dk_at dksX1_isValid_0 0 rfl rfl)
theorem dX1_isValid_1 : decode cX1_isValid 1 = .ok (.iload_n 1, 1) := dk_27 (dk_at dksX1_isValid_0 1 rfl rfl)
theorem dX1_isValid_2 : decode cX1_isValid 2 = .ok (.invokevirtual 140, 3) := dk_182 0 140 (dk_at dksX1_isValid_0 2 rfl rfl)
theorem dX1_isValid_5 : decode cX1_isValid 5 = .ok (.aload_n 0, 1) := dk_42 (dk_at dksX1_isValid_0 5 rfl rfl)
theorem dX1_isValid_6 : decode cX1_isValid 6 = .ok (.getfield 56, 3) := dk_180 0 56 (dk_at dksX1_isValid_0 6 rfl rfl)
theorem dX1_isValid_9 : decode cX1_isValid 9 = .ok (.iload_n 1, 1) := dk_27 (dk_at dksX1_isValid_0 9 rfl rfl)
theorem dX1_isValid_10 : decode cX1_isValid 10 = .ok (.invokevirtual 151, 3) := dk_182 0 151 (dk_at dksX1_isValid_0 10 rfl rfl)
theorem dX1_isValid_13 : decode cX1_isValid 13 = .ok (.ireturn, 1) := dk_172 (dk_at dksX1_isValid_0 13 rfl rfl)
abbrev cX1_decode : ByteArray := prog_1_method_25_code
def yX1_decode : MethodName := ⟨RX1, "decode", "(II)I"⟩
def dkwX1_decode_6 : List UInt8 := [27, 182, 0, 181, 172]
abbrev dktX1_decode_6 : List UInt8 := dkwX1_decode_6 ++ []
def dkwX1_decode_5 : List UInt8 := [42, 180, 0, 56, 27, 182, 0, 175, 172, 42, 180, 0, 56, 27, 182, 0, 178, 184, 0, 157, 42, 180, 0, 56]
abbrev dktX1_decode_5 : List UInt8 := dkwX1_decode_5 ++ dktX1_decode_6
def dkwX1_decode_4 : List UInt8 := [182, 0, 166, 172, 42, 180, 0, 56, 27, 182, 0, 169, 172, 42, 180, 0, 56, 27, 182, 0, 172, 184, 0, 157]
abbrev dktX1_decode_4 : List UInt8 := dkwX1_decode_4 ++ dktX1_decode_5
def dkwX1_decode_3 : List UInt8 := [42, 180, 0, 56, 27, 182, 0, 160, 172, 42, 180, 0, 56, 27, 182, 0, 163, 172, 42, 180, 0, 56, 27]
abbrev dktX1_decode_3 : List UInt8 := dkwX1_decode_3 ++ dktX1_decode_4
def dkwX1_decode_2 : List UInt8 := [170, 0, 0, 0, 0, 90, 0, 0, 0, 0, 0, 0, 0, 4, 0, 0, 0, 34, 0, 0, 0, 43, 0, 0, 0, 52, 0, 0, 0, 61, 0, 0, 0, 70]
abbrev dktX1_decode_2 : List UInt8 := dkwX1_decode_2 ++ dktX1_decode_3
def dkwX1_decode_1 : List UInt8 := [184, 0, 157, 28]
abbrev dktX1_decode_1 : List UInt8 := dkwX1_decode_1 ++ dktX1_decode_2
def dkwX1_decode_0 : List UInt8 := [42, 27, 182, 0, 140, 28, 3, 8, 184, 0, 19, 184, 0, 29, 42, 180, 0, 56, 27, 182, 0, 151]
abbrev dktX1_decode_0 : List UInt8 := dkwX1_decode_0 ++ dktX1_decode_1
theorem dksX1_decode_0 : cX1_decode.data.toList.drop 0 = dktX1_decode_0 := by decide +kernel
theorem dksX1_decode_1 : cX1_decode.data.toList.drop 22 = dktX1_decode_1 := dk_seg dksX1_decode_0 22 rfl rfl
theorem dksX1_decode_2 : cX1_decode.data.toList.drop 26 = dktX1_decode_2 := dk_seg dksX1_decode_1 4 rfl rfl
theorem dksX1_decode_3 : cX1_decode.data.toList.drop 60 = dktX1_decode_3 := dk_seg dksX1_decode_2 34 rfl rfl
theorem dksX1_decode_4 : cX1_decode.data.toList.drop 83 = dktX1_decode_4 := dk_seg dksX1_decode_3 23 rfl rfl
theorem dksX1_decode_5 : cX1_decode.data.toList.drop 107 = dktX1_decode_5 := dk_seg dksX1_decode_4 24 rfl rfl
theorem dksX1_decode_6 : cX1_decode.data.toList.drop 131 = dktX1_decode_6 := dk_seg dksX1_decode_5 24 rfl rfl
theorem dX1_decode_0 : decode cX1_decode 0 = .ok (.aload_n 0, 1) := dk_42 (dk_at dksX1_decode_0 0 rfl rfl)
theorem dX1_decode_1 : decode cX1_decode 1 = .ok (.iload_n 1, 1) := dk_27 (dk_at dksX1_decode_0 1 rfl rfl)
theorem dX1_decode_2 : decode cX1_decode 2 = .ok (.invokevirtual 140, 3) := dk_182 0 140 (dk_at dksX1_decode_0 2 rfl rfl)
theorem dX1_decode_5 : decode cX1_decode 5 = .ok (.iload_n 2, 1) := dk_28 (dk_at dksX1_decode_0 5 rfl rfl)
theorem dX1_decode_6 : decode cX1_decode 6 = .ok (.iconst 0, 1) := dk_3 (dk_at dksX1_decode_0 6 rfl rfl)
theorem dX1_decode_7 : decode cX1_decode 7 = .ok (.iconst 5, 1) := dk_8 (dk_at dksX1_decode_0 7 rfl rfl)
theorem dX1_decode_8 : decode cX1_decode 8 = .ok (.invokestatic 19, 3) := dk_184 0 19 (dk_at dksX1_decode_0 8 rfl rfl)
theorem dX1_decode_11 : decode cX1_decode 11 = .ok (.invokestatic 29, 3) := dk_184 0 29 (dk_at dksX1_decode_0 11 rfl rfl)
theorem dX1_decode_14 : decode cX1_decode 14 = .ok (.aload_n 0, 1) := dk_42 (dk_at dksX1_decode_0 14 rfl rfl)
theorem dX1_decode_15 : decode cX1_decode 15 = .ok (.getfield 56, 3) := dk_180 0 56 (dk_at dksX1_decode_0 15 rfl rfl)
theorem dX1_decode_18 : decode cX1_decode 18 = .ok (.iload_n 1, 1) := dk_27 (dk_at dksX1_decode_0 18 rfl rfl)
theorem dX1_decode_19 : decode cX1_decode 19 = .ok (.invokevirtual 151, 3) := dk_182 0 151 (dk_at dksX1_decode_0 19 rfl rfl)
theorem dX1_decode_22 : decode cX1_decode 22 = .ok (.invokestatic 157, 3) := dk_184 0 157 (dk_at dksX1_decode_1 0 rfl rfl)
theorem dX1_decode_25 : decode cX1_decode 25 = .ok (.iload_n 2, 1) := dk_28 (dk_at dksX1_decode_1 3 rfl rfl)
theorem dX1_decode_26 : decode cX1_decode 26 = .ok (.tableswitch 90 0 4 #[34, 43, 52, 61, 70], 34) := by decide +kernel
theorem dX1_decode_60 : decode cX1_decode 60 = .ok (.aload_n 0, 1) := dk_42 (dk_at dksX1_decode_3 0 rfl rfl)
theorem dX1_decode_61 : decode cX1_decode 61 = .ok (.getfield 56, 3) := dk_180 0 56 (dk_at dksX1_decode_3 1 rfl rfl)
theorem dX1_decode_64 : decode cX1_decode 64 = .ok (.iload_n 1, 1) := dk_27 (dk_at dksX1_decode_3 4 rfl rfl)
theorem dX1_decode_65 : decode cX1_decode 65 = .ok (.invokevirtual 160, 3) := dk_182 0 160 (dk_at dksX1_decode_3 5 rfl rfl)
theorem dX1_decode_68 : decode cX1_decode 68 = .ok (.ireturn, 1) := dk_172 (dk_at dksX1_decode_3 8 rfl rfl)
theorem dX1_decode_69 : decode cX1_decode 69 = .ok (.aload_n 0, 1) := dk_42 (dk_at dksX1_decode_3 9 rfl rfl)
theorem dX1_decode_70 : decode cX1_decode 70 = .ok (.getfield 56, 3) := dk_180 0 56 (dk_at dksX1_decode_3 10 rfl rfl)
theorem dX1_decode_73 : decode cX1_decode 73 = .ok (.iload_n 1, 1) := dk_27 (dk_at dksX1_decode_3 13 rfl rfl)
theorem dX1_decode_74 : decode cX1_decode 74 = .ok (.invokevirtual 163, 3) := dk_182 0 163 (dk_at dksX1_decode_3 14 rfl rfl)
theorem dX1_decode_77 : decode cX1_decode 77 = .ok (.ireturn, 1) := dk_172 (dk_at dksX1_decode_3 17 rfl rfl)
theorem dX1_decode_78 : decode cX1_decode 78 = .ok (.aload_n 0, 1) := dk_42 (dk_at dksX1_decode_3 18 rfl rfl)
theorem dX1_decode_79 : decode cX1_decode 79 = .ok (.getfield 56, 3) := dk_180 0 56 (dk_at dksX1_decode_3 19 rfl rfl)
theorem dX1_decode_82 : decode cX1_decode 82 = .ok (.iload_n 1, 1) := dk_27 (dk_at dksX1_decode_3 22 rfl rfl)
theorem dX1_decode_83 : decode cX1_decode 83 = .ok (.invokevirtual 166, 3) := dk_182 0 166 (dk_at dksX1_decode_4 0 rfl rfl)
theorem dX1_decode_86 : decode cX1_decode 86 = .ok (.ireturn, 1) := dk_172 (dk_at dksX1_decode_4 3 rfl rfl)
theorem dX1_decode_87 : decode cX1_decode 87 = .ok (.aload_n 0, 1) := dk_42 (dk_at dksX1_decode_4 4 rfl rfl)
theorem dX1_decode_88 : decode cX1_decode 88 = .ok (.getfield 56, 3) := dk_180 0 56 (dk_at dksX1_decode_4 5 rfl rfl)
theorem dX1_decode_91 : decode cX1_decode 91 = .ok (.iload_n 1, 1) := dk_27 (dk_at dksX1_decode_4 8 rfl rfl)
theorem dX1_decode_92 : decode cX1_decode 92 = .ok (.invokevirtual 169, 3) := dk_182 0 169 (dk_at dksX1_decode_4 9 rfl rfl)
theorem dX1_decode_95 : decode cX1_decode 95 = .ok (.ireturn, 1) := dk_172 (dk_at dksX1_decode_4 12 rfl rfl)
theorem dX1_decode_96 : decode cX1_decode 96 = .ok (.aload_n 0, 1) := dk_42 (dk_at dksX1_decode_4 13 rfl rfl)
theorem dX1_decode_97 : decode cX1_decode 97 = .ok (.getfield 56, 3) := dk_180 0 56 (dk_at dksX1_decode_4 14 rfl rfl)
theorem dX1_decode_100 : decode cX1_decode 100 = .ok (.iload_n 1, 1) := dk_27 (dk_at dksX1_decode_4 17 rfl rfl)
theorem dX1_decode_101 : decode cX1_decode 101 = .ok (.invokevirtual 172, 3) := dk_182 0 172 (dk_at dksX1_decode_4 18 rfl rfl)
theorem dX1_decode_104 : decode cX1_decode 104 = .ok (.invokestatic 157, 3) := dk_184 0 157 (dk_at dksX1_decode_4 21 rfl rfl)
theorem dX1_decode_107 : decode cX1_decode 107 = .ok (.aload_n 0, 1) := dk_42 (dk_at dksX1_decode_5 0 rfl rfl)
theorem dX1_decode_108 : decode cX1_decode 108 = .ok (.getfield 56, 3) := dk_180 0 56 (dk_at dksX1_decode_5 1 rfl rfl)
theorem dX1_decode_111 : decode cX1_decode 111 = .ok (.iload_n 1, 1) := dk_27 (dk_at dksX1_decode_5 4 rfl rfl)
theorem dX1_decode_112 : decode cX1_decode 112 = .ok (.invokevirtual 175, 3) := dk_182 0 175 (dk_at dksX1_decode_5 5 rfl rfl)
theorem dX1_decode_115 : decode cX1_decode 115 = .ok (.ireturn, 1) := dk_172 (dk_at dksX1_decode_5 8 rfl rfl)
theorem dX1_decode_116 : decode cX1_decode 116 = .ok (.aload_n 0, 1) := dk_42 (dk_at dksX1_decode_5 9 rfl rfl)
theorem dX1_decode_117 : decode cX1_decode 117 = .ok (.getfield 56, 3) := dk_180 0 56 (dk_at dksX1_decode_5 10 rfl rfl)
theorem dX1_decode_120 : decode cX1_decode 120 = .ok (.iload_n 1, 1) := dk_27 (dk_at dksX1_decode_5 13 rfl rfl)
theorem dX1_decode_121 : decode cX1_decode 121 = .ok (.invokevirtual 178, 3) := dk_182 0 178 (dk_at dksX1_decode_5 14 rfl rfl)
theorem dX1_decode_124 : decode cX1_decode 124 = .ok (.invokestatic 157, 3) := dk_184 0 157 (dk_at dksX1_decode_5 17 rfl rfl)
theorem dX1_decode_127 : decode cX1_decode 127 = .ok (.aload_n 0, 1) := dk_42 (dk_at dksX1_decode_5 20 rfl rfl)
theorem dX1_decode_128 : decode cX1_decode 128 = .ok (.getfield 56, 3) := dk_180 0 56 (dk_at dksX1_decode_5 21 rfl rfl)
theorem dX1_decode_131 : decode cX1_decode 131 = .ok (.iload_n 1, 1) := dk_27 (dk_at dksX1_decode_6 0 rfl rfl)
theorem dX1_decode_132 : decode cX1_decode 132 = .ok (.invokevirtual 181, 3) := dk_182 0 181 (dk_at dksX1_decode_6 1 rfl rfl)
theorem dX1_decode_135 : decode cX1_decode 135 = .ok (.ireturn, 1) := dk_172 (dk_at dksX1_decode_6 4 rfl rfl)
abbrev cX1_requireSupport : ByteArray := prog_1_method_24_code
def yX1_requireSupport : MethodName := ⟨RX1, "requireSupport", "(Z)V"⟩
def dkwX1_requireSupport_0 : List UInt8 := [26, 154, 0, 11, 187, 0, 154, 89, 183, 0, 156, 191, 177]
abbrev dktX1_requireSupport_0 : List UInt8 := dkwX1_requireSupport_0 ++ []
theorem dksX1_requireSupport_0 : cX1_requireSupport.data.toList.drop 0 = dktX1_requireSupport_0 := by decide +kernel
theorem dX1_requireSupport_0 : decode cX1_requireSupport 0 = .ok (.iload_n 0, 1) := dk_26 (dk_at dksX1_requireSupport_0 0 rfl rfl)
theorem dX1_requireSupport_1 : decode cX1_requireSupport 1 = .ok (.ifCond .ne 11, 3) := dk_154 0 11 (dk_at dksX1_requireSupport_0 1 rfl rfl)
theorem dX1_requireSupport_4 : decode cX1_requireSupport 4 = .ok (.new 154, 3) := dk_187 0 154 (dk_at dksX1_requireSupport_0 4 rfl rfl)
theorem dX1_requireSupport_7 : decode cX1_requireSupport 7 = .ok (.dup, 1) := dk_89 (dk_at dksX1_requireSupport_0 7 rfl rfl)
theorem dX1_requireSupport_8 : decode cX1_requireSupport 8 = .ok (.invokespecial 156, 3) := dk_183 0 156 (dk_at dksX1_requireSupport_0 8 rfl rfl)
theorem dX1_requireSupport_11 : decode cX1_requireSupport 11 = .ok (.athrow, 1) := dk_191 (dk_at dksX1_requireSupport_0 11 rfl rfl)
theorem dX1_requireSupport_12 : decode cX1_requireSupport 12 = .ok (.return_, 1) := dk_177 (dk_at dksX1_requireSupport_0 12 rfl rfl)
abbrev cX1_accepted : ByteArray := prog_1_method_28_code
def yX1_accepted : MethodName := ⟨RX1, "accepted", "()I"⟩
def dkwX1_accepted_0 : List UInt8 := [42, 182, 0, 198, 180, 0, 189, 182, 0, 193, 172]
abbrev dktX1_accepted_0 : List UInt8 := dkwX1_accepted_0 ++ []
theorem dksX1_accepted_0 : cX1_accepted.data.toList.drop 0 = dktX1_accepted_0 := by decide +kernel
theorem dX1_accepted_0 : decode cX1_accepted 0 = .ok (.aload_n 0, 1) := dk_42 (dk_at dksX1_accepted_0 0 rfl rfl)
theorem dX1_accepted_1 : decode cX1_accepted 1 = .ok (.invokevirtual 198, 3) := dk_182 0 198 (dk_at dksX1_accepted_0 1 rfl rfl)
theorem dX1_accepted_4 : decode cX1_accepted 4 = .ok (.getfield 189, 3) := dk_180 0 189 (dk_at dksX1_accepted_0 4 rfl rfl)
theorem dX1_accepted_7 : decode cX1_accepted 7 = .ok (.invokevirtual 193, 3) := dk_182 0 193 (dk_at dksX1_accepted_0 7 rfl rfl)
theorem dX1_accepted_10 : decode cX1_accepted 10 = .ok (.ireturn, 1) := dk_172 (dk_at dksX1_accepted_0 10 rfl rfl)
abbrev cX1_recovered : ByteArray := prog_1_method_27_code
def yX1_recovered : MethodName := ⟨RX1, "recovered", "()LCodeRecovery$Recovery;"⟩
def dkwX1_recovered_0 : List UInt8 := [42, 180, 0, 68, 198, 0, 7, 4, 167, 0, 4, 3, 184, 0, 83, 42, 180, 0, 68, 176]
abbrev dktX1_recovered_0 : List UInt8 := dkwX1_recovered_0 ++ []
theorem dksX1_recovered_0 : cX1_recovered.data.toList.drop 0 = dktX1_recovered_0 := by decide +kernel
theorem dX1_recovered_0 : decode cX1_recovered 0 = .ok (.aload_n 0, 1) := dk_42 (dk_at dksX1_recovered_0 0 rfl rfl)
theorem dX1_recovered_1 : decode cX1_recovered 1 = .ok (.getfield 68, 3) := dk_180 0 68 (dk_at dksX1_recovered_0 1 rfl rfl)
theorem dX1_recovered_4 : decode cX1_recovered 4 = .ok (.ifnull 7, 3) := dk_198 0 7 (dk_at dksX1_recovered_0 4 rfl rfl)
theorem dX1_recovered_7 : decode cX1_recovered 7 = .ok (.iconst 1, 1) := dk_4 (dk_at dksX1_recovered_0 7 rfl rfl)
theorem dX1_recovered_8 : decode cX1_recovered 8 = .ok (.goto 4, 3) := dk_167 0 4 (dk_at dksX1_recovered_0 8 rfl rfl)
theorem dX1_recovered_11 : decode cX1_recovered 11 = .ok (.iconst 0, 1) := dk_3 (dk_at dksX1_recovered_0 11 rfl rfl)
theorem dX1_recovered_12 : decode cX1_recovered 12 = .ok (.invokestatic 83, 3) := dk_184 0 83 (dk_at dksX1_recovered_0 12 rfl rfl)
theorem dX1_recovered_15 : decode cX1_recovered 15 = .ok (.aload_n 0, 1) := dk_42 (dk_at dksX1_recovered_0 15 rfl rfl)
theorem dX1_recovered_16 : decode cX1_recovered 16 = .ok (.getfield 68, 3) := dk_180 0 68 (dk_at dksX1_recovered_0 16 rfl rfl)
theorem dX1_recovered_19 : decode cX1_recovered 19 = .ok (.areturn, 1) := dk_176 (dk_at dksX1_recovered_0 19 rfl rfl)
abbrev cX1_acceptedAt : ByteArray := prog_1_method_29_code
def yX1_acceptedAt : MethodName := ⟨RX1, "acceptedAt", "(I)I"⟩
def dkwX1_acceptedAt_2 : List UInt8 := [167, 255, 239, 29, 172]
abbrev dktX1_acceptedAt_2 : List UInt8 := dkwX1_acceptedAt_2 ++ []
def dkwX1_acceptedAt_1 : List UInt8 := [182, 0, 202, 62, 3, 54, 4, 21, 4, 27, 162, 0, 17, 44, 29, 4, 96, 182, 0, 202, 62, 132, 4, 1]
abbrev dktX1_acceptedAt_1 : List UInt8 := dkwX1_acceptedAt_1 ++ dktX1_acceptedAt_2
def dkwX1_acceptedAt_0 : List UInt8 := [42, 182, 0, 198, 180, 0, 189, 77, 27, 3, 44, 182, 0, 193, 4, 100, 184, 0, 19, 184, 0, 25, 44, 3]
abbrev dktX1_acceptedAt_0 : List UInt8 := dkwX1_acceptedAt_0 ++ dktX1_acceptedAt_1
theorem dksX1_acceptedAt_0 : cX1_acceptedAt.data.toList.drop 0 = dktX1_acceptedAt_0 := by decide +kernel
theorem dksX1_acceptedAt_1 : cX1_acceptedAt.data.toList.drop 24 = dktX1_acceptedAt_1 := dk_seg dksX1_acceptedAt_0 24 rfl rfl
theorem dksX1_acceptedAt_2 : cX1_acceptedAt.data.toList.drop 48 = dktX1_acceptedAt_2 := dk_seg dksX1_acceptedAt_1 24 rfl rfl
theorem dX1_acceptedAt_0 : decode cX1_acceptedAt 0 = .ok (.aload_n 0, 1) := dk_42 (dk_at dksX1_acceptedAt_0 0 rfl rfl)
theorem dX1_acceptedAt_1 : decode cX1_acceptedAt 1 = .ok (.invokevirtual 198, 3) := dk_182 0 198 (dk_at dksX1_acceptedAt_0 1 rfl rfl)
theorem dX1_acceptedAt_4 : decode cX1_acceptedAt 4 = .ok (.getfield 189, 3) := dk_180 0 189 (dk_at dksX1_acceptedAt_0 4 rfl rfl)
theorem dX1_acceptedAt_7 : decode cX1_acceptedAt 7 = .ok (.astore_n 2, 1) := dk_77 (dk_at dksX1_acceptedAt_0 7 rfl rfl)
theorem dX1_acceptedAt_8 : decode cX1_acceptedAt 8 = .ok (.iload_n 1, 1) := dk_27 (dk_at dksX1_acceptedAt_0 8 rfl rfl)
theorem dX1_acceptedAt_9 : decode cX1_acceptedAt 9 = .ok (.iconst 0, 1) := dk_3 (dk_at dksX1_acceptedAt_0 9 rfl rfl)
theorem dX1_acceptedAt_10 : decode cX1_acceptedAt 10 = .ok (.aload_n 2, 1) := dk_44 (dk_at dksX1_acceptedAt_0 10 rfl rfl)
theorem dX1_acceptedAt_11 : decode cX1_acceptedAt 11 = .ok (.invokevirtual 193, 3) := dk_182 0 193 (dk_at dksX1_acceptedAt_0 11 rfl rfl)
theorem dX1_acceptedAt_14 : decode cX1_acceptedAt 14 = .ok (.iconst 1, 1) := dk_4 (dk_at dksX1_acceptedAt_0 14 rfl rfl)
theorem dX1_acceptedAt_15 : decode cX1_acceptedAt 15 = .ok (.isub, 1) := dk_100 (dk_at dksX1_acceptedAt_0 15 rfl rfl)
theorem dX1_acceptedAt_16 : decode cX1_acceptedAt 16 = .ok (.invokestatic 19, 3) := dk_184 0 19 (dk_at dksX1_acceptedAt_0 16 rfl rfl)
theorem dX1_acceptedAt_19 : decode cX1_acceptedAt 19 = .ok (.invokestatic 25, 3) := dk_184 0 25 (dk_at dksX1_acceptedAt_0 19 rfl rfl)
theorem dX1_acceptedAt_22 : decode cX1_acceptedAt 22 = .ok (.aload_n 2, 1) := dk_44 (dk_at dksX1_acceptedAt_0 22 rfl rfl)
theorem dX1_acceptedAt_23 : decode cX1_acceptedAt 23 = .ok (.iconst 0, 1) := dk_3 (dk_at dksX1_acceptedAt_0 23 rfl rfl)
theorem dX1_acceptedAt_24 : decode cX1_acceptedAt 24 = .ok (.invokevirtual 202, 3) := dk_182 0 202 (dk_at dksX1_acceptedAt_1 0 rfl rfl)
theorem dX1_acceptedAt_27 : decode cX1_acceptedAt 27 = .ok (.istore_n 3, 1) := dk_62 (dk_at dksX1_acceptedAt_1 3 rfl rfl)
theorem dX1_acceptedAt_28 : decode cX1_acceptedAt 28 = .ok (.iconst 0, 1) := dk_3 (dk_at dksX1_acceptedAt_1 4 rfl rfl)
theorem dX1_acceptedAt_29 : decode cX1_acceptedAt 29 = .ok (.istore 4, 2) := dk_54 4 (dk_at dksX1_acceptedAt_1 5 rfl rfl)
theorem dX1_acceptedAt_31 : decode cX1_acceptedAt 31 = .ok (.iload 4, 2) := dk_21 4 (dk_at dksX1_acceptedAt_1 7 rfl rfl)
theorem dX1_acceptedAt_33 : decode cX1_acceptedAt 33 = .ok (.iload_n 1, 1) := dk_27 (dk_at dksX1_acceptedAt_1 9 rfl rfl)
theorem dX1_acceptedAt_34 : decode cX1_acceptedAt 34 = .ok (.if_icmp .ge 17, 3) := dk_162 0 17 (dk_at dksX1_acceptedAt_1 10 rfl rfl)
theorem dX1_acceptedAt_37 : decode cX1_acceptedAt 37 = .ok (.aload_n 2, 1) := dk_44 (dk_at dksX1_acceptedAt_1 13 rfl rfl)
theorem dX1_acceptedAt_38 : decode cX1_acceptedAt 38 = .ok (.iload_n 3, 1) := dk_29 (dk_at dksX1_acceptedAt_1 14 rfl rfl)
theorem dX1_acceptedAt_39 : decode cX1_acceptedAt 39 = .ok (.iconst 1, 1) := dk_4 (dk_at dksX1_acceptedAt_1 15 rfl rfl)
theorem dX1_acceptedAt_40 : decode cX1_acceptedAt 40 = .ok (.iadd, 1) := dk_96 (dk_at dksX1_acceptedAt_1 16 rfl rfl)
theorem dX1_acceptedAt_41 : decode cX1_acceptedAt 41 = .ok (.invokevirtual 202, 3) := dk_182 0 202 (dk_at dksX1_acceptedAt_1 17 rfl rfl)
theorem dX1_acceptedAt_44 : decode cX1_acceptedAt 44 = .ok (.istore_n 3, 1) := dk_62 (dk_at dksX1_acceptedAt_1 20 rfl rfl)
theorem dX1_acceptedAt_45 : decode cX1_acceptedAt 45 = .ok (.iinc 4 1, 3) := dk_132 4 1 (dk_at dksX1_acceptedAt_1 21 rfl rfl)
theorem dX1_acceptedAt_48 : decode cX1_acceptedAt 48 = .ok (.goto (-17), 3) := dk_167 255 239 (dk_at dksX1_acceptedAt_2 0 rfl rfl)
theorem dX1_acceptedAt_51 : decode cX1_acceptedAt 51 = .ok (.iload_n 3, 1) := dk_29 (dk_at dksX1_acceptedAt_2 3 rfl rfl)
theorem dX1_acceptedAt_52 : decode cX1_acceptedAt 52 = .ok (.ireturn, 1) := dk_172 (dk_at dksX1_acceptedAt_2 4 rfl rfl)
abbrev cX1_use : ByteArray := prog_1_method_30_code
def yX1_use : MethodName := ⟨RX1, "use", "(I)I"⟩
def dkwX1_use_0 : List UInt8 := [42, 182, 0, 198, 77, 42, 27, 182, 0, 140, 44, 180, 0, 205, 27, 46, 172]
abbrev dktX1_use_0 : List UInt8 := dkwX1_use_0 ++ []
theorem dksX1_use_0 : cX1_use.data.toList.drop 0 = dktX1_use_0 := by decide +kernel
theorem dX1_use_0 : decode cX1_use 0 = .ok (.aload_n 0, 1) := dk_42 (dk_at dksX1_use_0 0 rfl rfl)
theorem dX1_use_1 : decode cX1_use 1 = .ok (.invokevirtual 198, 3) := dk_182 0 198 (dk_at dksX1_use_0 1 rfl rfl)
theorem dX1_use_4 : decode cX1_use 4 = .ok (.astore_n 2, 1) := dk_77 (dk_at dksX1_use_0 4 rfl rfl)
theorem dX1_use_5 : decode cX1_use 5 = .ok (.aload_n 0, 1) := dk_42 (dk_at dksX1_use_0 5 rfl rfl)
theorem dX1_use_6 : decode cX1_use 6 = .ok (.iload_n 1, 1) := dk_27 (dk_at dksX1_use_0 6 rfl rfl)
theorem dX1_use_7 : decode cX1_use 7 = .ok (.invokevirtual 140, 3) := dk_182 0 140 (dk_at dksX1_use_0 7 rfl rfl)
theorem dX1_use_10 : decode cX1_use 10 = .ok (.aload_n 2, 1) := dk_44 (dk_at dksX1_use_0 10 rfl rfl)
theorem dX1_use_11 : decode cX1_use 11 = .ok (.getfield 205, 3) := dk_180 0 205 (dk_at dksX1_use_0 11 rfl rfl)
theorem dX1_use_14 : decode cX1_use 14 = .ok (.iload_n 1, 1) := dk_27 (dk_at dksX1_use_0 14 rfl rfl)
theorem dX1_use_15 : decode cX1_use 15 = .ok (.iaload, 1) := dk_46 (dk_at dksX1_use_0 15 rfl rfl)
theorem dX1_use_16 : decode cX1_use 16 = .ok (.ireturn, 1) := dk_172 (dk_at dksX1_use_0 16 rfl rfl)
abbrev cX1_conflictCount : ByteArray := prog_1_method_31_code
def yX1_conflictCount : MethodName := ⟨RX1, "conflictCount", "()I"⟩
def dkwX1_conflictCount_0 : List UInt8 := [42, 182, 0, 198, 180, 0, 208, 182, 0, 212, 172]
abbrev dktX1_conflictCount_0 : List UInt8 := dkwX1_conflictCount_0 ++ []
theorem dksX1_conflictCount_0 : cX1_conflictCount.data.toList.drop 0 = dktX1_conflictCount_0 := by decide +kernel
theorem dX1_conflictCount_0 : decode cX1_conflictCount 0 = .ok (.aload_n 0, 1) := dk_42 (dk_at dksX1_conflictCount_0 0 rfl rfl)
theorem dX1_conflictCount_1 : decode cX1_conflictCount 1 = .ok (.invokevirtual 198, 3) := dk_182 0 198 (dk_at dksX1_conflictCount_0 1 rfl rfl)
theorem dX1_conflictCount_4 : decode cX1_conflictCount 4 = .ok (.getfield 208, 3) := dk_180 0 208 (dk_at dksX1_conflictCount_0 4 rfl rfl)
theorem dX1_conflictCount_7 : decode cX1_conflictCount 7 = .ok (.invokevirtual 212, 3) := dk_182 0 212 (dk_at dksX1_conflictCount_0 7 rfl rfl)
theorem dX1_conflictCount_10 : decode cX1_conflictCount 10 = .ok (.ireturn, 1) := dk_172 (dk_at dksX1_conflictCount_0 10 rfl rfl)
abbrev cX1_conflict : ByteArray := prog_1_method_32_code
def yX1_conflict : MethodName := ⟨RX1, "conflict", "(I)I"⟩
def dkwX1_conflict_0 : List UInt8 := [42, 182, 0, 198, 180, 0, 208, 27, 182, 0, 215, 192, 0, 98, 182, 0, 109, 172]
abbrev dktX1_conflict_0 : List UInt8 := dkwX1_conflict_0 ++ []
theorem dksX1_conflict_0 : cX1_conflict.data.toList.drop 0 = dktX1_conflict_0 := by decide +kernel
theorem dX1_conflict_0 : decode cX1_conflict 0 = .ok (.aload_n 0, 1) := dk_42 (dk_at dksX1_conflict_0 0 rfl rfl)
theorem dX1_conflict_1 : decode cX1_conflict 1 = .ok (.invokevirtual 198, 3) := dk_182 0 198 (dk_at dksX1_conflict_0 1 rfl rfl)
theorem dX1_conflict_4 : decode cX1_conflict 4 = .ok (.getfield 208, 3) := dk_180 0 208 (dk_at dksX1_conflict_0 4 rfl rfl)
theorem dX1_conflict_7 : decode cX1_conflict 7 = .ok (.iload_n 1, 1) := dk_27 (dk_at dksX1_conflict_0 7 rfl rfl)
theorem dX1_conflict_8 : decode cX1_conflict 8 = .ok (.invokevirtual 215, 3) := dk_182 0 215 (dk_at dksX1_conflict_0 8 rfl rfl)
theorem dX1_conflict_11 : decode cX1_conflict 11 = .ok (.checkcast 98, 3) := dk_192 0 98 (dk_at dksX1_conflict_0 11 rfl rfl)
theorem dX1_conflict_14 : decode cX1_conflict 14 = .ok (.invokevirtual 109, 3) := dk_182 0 109 (dk_at dksX1_conflict_0 14 rfl rfl)
theorem dX1_conflict_17 : decode cX1_conflict 17 = .ok (.ireturn, 1) := dk_172 (dk_at dksX1_conflict_0 17 rfl rfl)
abbrev cX1_badTargets : ByteArray := prog_1_method_33_code
def yX1_badTargets : MethodName := ⟨RX1, "badTargets", "()I"⟩
def dkwX1_badTargets_0 : List UInt8 := [42, 182, 0, 198, 180, 0, 216, 182, 0, 212, 172]
abbrev dktX1_badTargets_0 : List UInt8 := dkwX1_badTargets_0 ++ []
theorem dksX1_badTargets_0 : cX1_badTargets.data.toList.drop 0 = dktX1_badTargets_0 := by decide +kernel
theorem dX1_badTargets_0 : decode cX1_badTargets 0 = .ok (.aload_n 0, 1) := dk_42 (dk_at dksX1_badTargets_0 0 rfl rfl)
theorem dX1_badTargets_1 : decode cX1_badTargets 1 = .ok (.invokevirtual 198, 3) := dk_182 0 198 (dk_at dksX1_badTargets_0 1 rfl rfl)
theorem dX1_badTargets_4 : decode cX1_badTargets 4 = .ok (.getfield 216, 3) := dk_180 0 216 (dk_at dksX1_badTargets_0 4 rfl rfl)
theorem dX1_badTargets_7 : decode cX1_badTargets 7 = .ok (.invokevirtual 212, 3) := dk_182 0 212 (dk_at dksX1_badTargets_0 7 rfl rfl)
theorem dX1_badTargets_10 : decode cX1_badTargets 10 = .ok (.ireturn, 1) := dk_172 (dk_at dksX1_badTargets_0 10 rfl rfl)
abbrev cX1_tableCount : ByteArray := prog_1_method_34_code
def yX1_tableCount : MethodName := ⟨RX1, "tableCount", "()I"⟩
def dkwX1_tableCount_0 : List UInt8 := [42, 182, 0, 198, 180, 0, 219, 182, 0, 107, 172]
abbrev dktX1_tableCount_0 : List UInt8 := dkwX1_tableCount_0 ++ []
theorem dksX1_tableCount_0 : cX1_tableCount.data.toList.drop 0 = dktX1_tableCount_0 := by decide +kernel
theorem dX1_tableCount_0 : decode cX1_tableCount 0 = .ok (.aload_n 0, 1) := dk_42 (dk_at dksX1_tableCount_0 0 rfl rfl)
theorem dX1_tableCount_1 : decode cX1_tableCount 1 = .ok (.invokevirtual 198, 3) := dk_182 0 198 (dk_at dksX1_tableCount_0 1 rfl rfl)
theorem dX1_tableCount_4 : decode cX1_tableCount 4 = .ok (.getfield 219, 3) := dk_180 0 219 (dk_at dksX1_tableCount_0 4 rfl rfl)
theorem dX1_tableCount_7 : decode cX1_tableCount 7 = .ok (.invokevirtual 107, 3) := dk_182 0 107 (dk_at dksX1_tableCount_0 7 rfl rfl)
theorem dX1_tableCount_10 : decode cX1_tableCount 10 = .ok (.ireturn, 1) := dk_172 (dk_at dksX1_tableCount_0 10 rfl rfl)
abbrev cX1_table : ByteArray := prog_1_method_35_code
def yX1_table : MethodName := ⟨RX1, "table", "(II)I"⟩
def dkwX1_table_0 : List UInt8 := [42, 182, 0, 198, 180, 0, 219, 27, 28, 6, 184, 0, 223, 172]
abbrev dktX1_table_0 : List UInt8 := dkwX1_table_0 ++ []
theorem dksX1_table_0 : cX1_table.data.toList.drop 0 = dktX1_table_0 := by decide +kernel
theorem dX1_table_0 : decode cX1_table 0 = .ok (.aload_n 0, 1) := dk_42 (dk_at dksX1_table_0 0 rfl rfl)
theorem dX1_table_1 : decode cX1_table 1 = .ok (.invokevirtual 198, 3) := dk_182 0 198 (dk_at dksX1_table_0 1 rfl rfl)
theorem dX1_table_4 : decode cX1_table 4 = .ok (.getfield 219, 3) := dk_180 0 219 (dk_at dksX1_table_0 4 rfl rfl)
theorem dX1_table_7 : decode cX1_table 7 = .ok (.iload_n 1, 1) := dk_27 (dk_at dksX1_table_0 7 rfl rfl)
theorem dX1_table_8 : decode cX1_table 8 = .ok (.iload_n 2, 1) := dk_28 (dk_at dksX1_table_0 8 rfl rfl)
theorem dX1_table_9 : decode cX1_table 9 = .ok (.iconst 3, 1) := dk_6 (dk_at dksX1_table_0 9 rfl rfl)
theorem dX1_table_10 : decode cX1_table 10 = .ok (.invokestatic 223, 3) := dk_184 0 223 (dk_at dksX1_table_0 10 rfl rfl)
theorem dX1_table_13 : decode cX1_table 13 = .ok (.ireturn, 1) := dk_172 (dk_at dksX1_table_0 13 rfl rfl)
abbrev cX1_partOf : ByteArray := prog_1_method_5_code
def yX1_partOf : MethodName := ⟨RX1, "partOf", "(Ljava/util/List;III)I"⟩
def dkwX1_partOf_1 : List UInt8 := [184, 0, 29, 42, 27, 185, 0, 32, 2, 0, 192, 0, 36, 28, 185, 0, 38, 2, 0, 172]
abbrev dktX1_partOf_1 : List UInt8 := dkwX1_partOf_1 ++ []
def dkwX1_partOf_0 : List UInt8 := [27, 3, 42, 185, 0, 13, 1, 0, 4, 100, 184, 0, 19, 184, 0, 25, 28, 3, 29, 184, 0, 19]
abbrev dktX1_partOf_0 : List UInt8 := dkwX1_partOf_0 ++ dktX1_partOf_1
theorem dksX1_partOf_0 : cX1_partOf.data.toList.drop 0 = dktX1_partOf_0 := by decide +kernel
theorem dksX1_partOf_1 : cX1_partOf.data.toList.drop 22 = dktX1_partOf_1 := dk_seg dksX1_partOf_0 22 rfl rfl
theorem dX1_partOf_0 : decode cX1_partOf 0 = .ok (.iload_n 1, 1) := dk_27 (dk_at dksX1_partOf_0 0 rfl rfl)
theorem dX1_partOf_1 : decode cX1_partOf 1 = .ok (.iconst 0, 1) := dk_3 (dk_at dksX1_partOf_0 1 rfl rfl)
theorem dX1_partOf_2 : decode cX1_partOf 2 = .ok (.aload_n 0, 1) := dk_42 (dk_at dksX1_partOf_0 2 rfl rfl)
theorem dX1_partOf_3 : decode cX1_partOf 3 = .ok (.invokeinterface 13 1, 5) := by decide +kernel
theorem dX1_partOf_8 : decode cX1_partOf 8 = .ok (.iconst 1, 1) := dk_4 (dk_at dksX1_partOf_0 8 rfl rfl)
theorem dX1_partOf_9 : decode cX1_partOf 9 = .ok (.isub, 1) := dk_100 (dk_at dksX1_partOf_0 9 rfl rfl)
theorem dX1_partOf_10 : decode cX1_partOf 10 = .ok (.invokestatic 19, 3) := dk_184 0 19 (dk_at dksX1_partOf_0 10 rfl rfl)
theorem dX1_partOf_13 : decode cX1_partOf 13 = .ok (.invokestatic 25, 3) := dk_184 0 25 (dk_at dksX1_partOf_0 13 rfl rfl)
theorem dX1_partOf_16 : decode cX1_partOf 16 = .ok (.iload_n 2, 1) := dk_28 (dk_at dksX1_partOf_0 16 rfl rfl)
theorem dX1_partOf_17 : decode cX1_partOf 17 = .ok (.iconst 0, 1) := dk_3 (dk_at dksX1_partOf_0 17 rfl rfl)
theorem dX1_partOf_18 : decode cX1_partOf 18 = .ok (.iload_n 3, 1) := dk_29 (dk_at dksX1_partOf_0 18 rfl rfl)
theorem dX1_partOf_19 : decode cX1_partOf 19 = .ok (.invokestatic 19, 3) := dk_184 0 19 (dk_at dksX1_partOf_0 19 rfl rfl)
theorem dX1_partOf_22 : decode cX1_partOf 22 = .ok (.invokestatic 29, 3) := dk_184 0 29 (dk_at dksX1_partOf_1 0 rfl rfl)
theorem dX1_partOf_25 : decode cX1_partOf 25 = .ok (.aload_n 0, 1) := dk_42 (dk_at dksX1_partOf_1 3 rfl rfl)
theorem dX1_partOf_26 : decode cX1_partOf 26 = .ok (.iload_n 1, 1) := dk_27 (dk_at dksX1_partOf_1 4 rfl rfl)
theorem dX1_partOf_27 : decode cX1_partOf 27 = .ok (.invokeinterface 32 2, 5) := by decide +kernel
theorem dX1_partOf_32 : decode cX1_partOf 32 = .ok (.checkcast 36, 3) := dk_192 0 36 (dk_at dksX1_partOf_1 10 rfl rfl)
theorem dX1_partOf_35 : decode cX1_partOf 35 = .ok (.iload_n 2, 1) := dk_28 (dk_at dksX1_partOf_1 13 rfl rfl)
theorem dX1_partOf_36 : decode cX1_partOf 36 = .ok (.invokeinterface 38 2, 5) := by decide +kernel
theorem dX1_partOf_41 : decode cX1_partOf 41 = .ok (.ireturn, 1) := dk_172 (dk_at dksX1_partOf_1 19 rfl rfl)
abbrev cX1_tableEntry : ByteArray := prog_1_method_37_code
def yX1_tableEntry : MethodName := ⟨RX1, "tableEntry", "(II)I"⟩
def dkwX1_tableEntry_1 : List UInt8 := [180, 0, 233, 28, 182, 0, 108, 192, 0, 98, 182, 0, 109, 172]
abbrev dktX1_tableEntry_1 : List UInt8 := dkwX1_tableEntry_1 ++ []
def dkwX1_tableEntry_0 : List UInt8 := [42, 27, 182, 0, 229, 78, 28, 3, 45, 180, 0, 233, 182, 0, 107, 4, 100, 184, 0, 19, 184, 0, 25, 45]
abbrev dktX1_tableEntry_0 : List UInt8 := dkwX1_tableEntry_0 ++ dktX1_tableEntry_1
theorem dksX1_tableEntry_0 : cX1_tableEntry.data.toList.drop 0 = dktX1_tableEntry_0 := by decide +kernel
theorem dksX1_tableEntry_1 : cX1_tableEntry.data.toList.drop 24 = dktX1_tableEntry_1 := dk_seg dksX1_tableEntry_0 24 rfl rfl
theorem dX1_tableEntry_0 : decode cX1_tableEntry 0 = .ok (.aload_n 0, 1) := dk_42 (dk_at dksX1_tableEntry_0 0 rfl rfl)
theorem dX1_tableEntry_1 : decode cX1_tableEntry 1 = .ok (.iload_n 1, 1) := dk_27 (dk_at dksX1_tableEntry_0 1 rfl rfl)
theorem dX1_tableEntry_2 : decode cX1_tableEntry 2 = .ok (.invokevirtual 229, 3) := dk_182 0 229 (dk_at dksX1_tableEntry_0 2 rfl rfl)
theorem dX1_tableEntry_5 : decode cX1_tableEntry 5 = .ok (.astore_n 3, 1) := dk_78 (dk_at dksX1_tableEntry_0 5 rfl rfl)
theorem dX1_tableEntry_6 : decode cX1_tableEntry 6 = .ok (.iload_n 2, 1) := dk_28 (dk_at dksX1_tableEntry_0 6 rfl rfl)
theorem dX1_tableEntry_7 : decode cX1_tableEntry 7 = .ok (.iconst 0, 1) := dk_3 (dk_at dksX1_tableEntry_0 7 rfl rfl)
theorem dX1_tableEntry_8 : decode cX1_tableEntry 8 = .ok (.aload_n 3, 1) := dk_45 (dk_at dksX1_tableEntry_0 8 rfl rfl)
theorem dX1_tableEntry_9 : decode cX1_tableEntry 9 = .ok (.getfield 233, 3) := dk_180 0 233 (dk_at dksX1_tableEntry_0 9 rfl rfl)
theorem dX1_tableEntry_12 : decode cX1_tableEntry 12 = .ok (.invokevirtual 107, 3) := dk_182 0 107 (dk_at dksX1_tableEntry_0 12 rfl rfl)
theorem dX1_tableEntry_15 : decode cX1_tableEntry 15 = .ok (.iconst 1, 1) := dk_4 (dk_at dksX1_tableEntry_0 15 rfl rfl)
theorem dX1_tableEntry_16 : decode cX1_tableEntry 16 = .ok (.isub, 1) := dk_100 (dk_at dksX1_tableEntry_0 16 rfl rfl)
theorem dX1_tableEntry_17 : decode cX1_tableEntry 17 = .ok (.invokestatic 19, 3) := dk_184 0 19 (dk_at dksX1_tableEntry_0 17 rfl rfl)
theorem dX1_tableEntry_20 : decode cX1_tableEntry 20 = .ok (.invokestatic 25, 3) := dk_184 0 25 (dk_at dksX1_tableEntry_0 20 rfl rfl)
theorem dX1_tableEntry_23 : decode cX1_tableEntry 23 = .ok (.aload_n 3, 1) := dk_45 (dk_at dksX1_tableEntry_0 23 rfl rfl)
theorem dX1_tableEntry_24 : decode cX1_tableEntry 24 = .ok (.getfield 233, 3) := dk_180 0 233 (dk_at dksX1_tableEntry_1 0 rfl rfl)
theorem dX1_tableEntry_27 : decode cX1_tableEntry 27 = .ok (.iload_n 2, 1) := dk_28 (dk_at dksX1_tableEntry_1 3 rfl rfl)
theorem dX1_tableEntry_28 : decode cX1_tableEntry 28 = .ok (.invokevirtual 108, 3) := dk_182 0 108 (dk_at dksX1_tableEntry_1 4 rfl rfl)
theorem dX1_tableEntry_31 : decode cX1_tableEntry 31 = .ok (.checkcast 98, 3) := dk_192 0 98 (dk_at dksX1_tableEntry_1 7 rfl rfl)
theorem dX1_tableEntry_34 : decode cX1_tableEntry 34 = .ok (.invokevirtual 109, 3) := dk_182 0 109 (dk_at dksX1_tableEntry_1 10 rfl rfl)
theorem dX1_tableEntry_37 : decode cX1_tableEntry 37 = .ok (.ireturn, 1) := dk_172 (dk_at dksX1_tableEntry_1 13 rfl rfl)
abbrev cX1_requireTable : ByteArray := prog_1_method_36_code
def yX1_requireTable : MethodName := ⟨RX1, "requireTable", "(I)LCodeRecovery$Table;"⟩
def dkwX1_requireTable_1 : List UInt8 := [182, 0, 108, 192, 0, 227, 176]
abbrev dktX1_requireTable_1 : List UInt8 := dkwX1_requireTable_1 ++ []
def dkwX1_requireTable_0 : List UInt8 := [42, 182, 0, 198, 180, 0, 219, 77, 27, 3, 44, 182, 0, 107, 4, 100, 184, 0, 19, 184, 0, 25, 44, 27]
abbrev dktX1_requireTable_0 : List UInt8 := dkwX1_requireTable_0 ++ dktX1_requireTable_1
theorem dksX1_requireTable_0 : cX1_requireTable.data.toList.drop 0 = dktX1_requireTable_0 := by decide +kernel
theorem dksX1_requireTable_1 : cX1_requireTable.data.toList.drop 24 = dktX1_requireTable_1 := dk_seg dksX1_requireTable_0 24 rfl rfl
theorem dX1_requireTable_0 : decode cX1_requireTable 0 = .ok (.aload_n 0, 1) := dk_42 (dk_at dksX1_requireTable_0 0 rfl rfl)
theorem dX1_requireTable_1 : decode cX1_requireTable 1 = .ok (.invokevirtual 198, 3) := dk_182 0 198 (dk_at dksX1_requireTable_0 1 rfl rfl)
theorem dX1_requireTable_4 : decode cX1_requireTable 4 = .ok (.getfield 219, 3) := dk_180 0 219 (dk_at dksX1_requireTable_0 4 rfl rfl)
theorem dX1_requireTable_7 : decode cX1_requireTable 7 = .ok (.astore_n 2, 1) := dk_77 (dk_at dksX1_requireTable_0 7 rfl rfl)
theorem dX1_requireTable_8 : decode cX1_requireTable 8 = .ok (.iload_n 1, 1) := dk_27 (dk_at dksX1_requireTable_0 8 rfl rfl)
theorem dX1_requireTable_9 : decode cX1_requireTable 9 = .ok (.iconst 0, 1) := dk_3 (dk_at dksX1_requireTable_0 9 rfl rfl)
theorem dX1_requireTable_10 : decode cX1_requireTable 10 = .ok (.aload_n 2, 1) := dk_44 (dk_at dksX1_requireTable_0 10 rfl rfl)
theorem dX1_requireTable_11 : decode cX1_requireTable 11 = .ok (.invokevirtual 107, 3) := dk_182 0 107 (dk_at dksX1_requireTable_0 11 rfl rfl)
theorem dX1_requireTable_14 : decode cX1_requireTable 14 = .ok (.iconst 1, 1) := dk_4 (dk_at dksX1_requireTable_0 14 rfl rfl)
theorem dX1_requireTable_15 : decode cX1_requireTable 15 = .ok (.isub, 1) := dk_100 (dk_at dksX1_requireTable_0 15 rfl rfl)
theorem dX1_requireTable_16 : decode cX1_requireTable 16 = .ok (.invokestatic 19, 3) := dk_184 0 19 (dk_at dksX1_requireTable_0 16 rfl rfl)
theorem dX1_requireTable_19 : decode cX1_requireTable 19 = .ok (.invokestatic 25, 3) := dk_184 0 25 (dk_at dksX1_requireTable_0 19 rfl rfl)
theorem dX1_requireTable_22 : decode cX1_requireTable 22 = .ok (.aload_n 2, 1) := dk_44 (dk_at dksX1_requireTable_0 22 rfl rfl)
theorem dX1_requireTable_23 : decode cX1_requireTable 23 = .ok (.iload_n 1, 1) := dk_27 (dk_at dksX1_requireTable_0 23 rfl rfl)
theorem dX1_requireTable_24 : decode cX1_requireTable 24 = .ok (.invokevirtual 108, 3) := dk_182 0 108 (dk_at dksX1_requireTable_1 0 rfl rfl)
theorem dX1_requireTable_27 : decode cX1_requireTable 27 = .ok (.checkcast 227, 3) := dk_192 0 227 (dk_at dksX1_requireTable_1 3 rfl rfl)
theorem dX1_requireTable_30 : decode cX1_requireTable 30 = .ok (.areturn, 1) := dk_176 (dk_at dksX1_requireTable_1 6 rfl rfl)
abbrev cX1_isComplete : ByteArray := prog_1_method_38_code
def yX1_isComplete : MethodName := ⟨RX1, "isComplete", "(I)Z"⟩
def dkwX1_isComplete_2 : List UInt8 := [132, 4, 1, 167, 255, 216, 29, 172]
abbrev dktX1_isComplete_2 : List UInt8 := dkwX1_isComplete_2 ++ []
def dkwX1_isComplete_1 : List UInt8 := [42, 180, 0, 68, 44, 180, 0, 233, 21, 4, 182, 0, 108, 192, 0, 98, 182, 0, 109, 182, 0, 235, 126, 62]
abbrev dktX1_isComplete_1 : List UInt8 := dkwX1_isComplete_1 ++ dktX1_isComplete_2
def dkwX1_isComplete_0 : List UInt8 := [42, 27, 182, 0, 229, 77, 4, 62, 3, 54, 4, 21, 4, 44, 180, 0, 233, 182, 0, 107, 162, 0, 34, 29]
abbrev dktX1_isComplete_0 : List UInt8 := dkwX1_isComplete_0 ++ dktX1_isComplete_1
theorem dksX1_isComplete_0 : cX1_isComplete.data.toList.drop 0 = dktX1_isComplete_0 := by decide +kernel
theorem dksX1_isComplete_1 : cX1_isComplete.data.toList.drop 24 = dktX1_isComplete_1 := dk_seg dksX1_isComplete_0 24 rfl rfl
theorem dksX1_isComplete_2 : cX1_isComplete.data.toList.drop 48 = dktX1_isComplete_2 := dk_seg dksX1_isComplete_1 24 rfl rfl
theorem dX1_isComplete_0 : decode cX1_isComplete 0 = .ok (.aload_n 0, 1) := dk_42 (dk_at dksX1_isComplete_0 0 rfl rfl)
theorem dX1_isComplete_1 : decode cX1_isComplete 1 = .ok (.iload_n 1, 1) := dk_27 (dk_at dksX1_isComplete_0 1 rfl rfl)
theorem dX1_isComplete_2 : decode cX1_isComplete 2 = .ok (.invokevirtual 229, 3) := dk_182 0 229 (dk_at dksX1_isComplete_0 2 rfl rfl)
theorem dX1_isComplete_5 : decode cX1_isComplete 5 = .ok (.astore_n 2, 1) := dk_77 (dk_at dksX1_isComplete_0 5 rfl rfl)
theorem dX1_isComplete_6 : decode cX1_isComplete 6 = .ok (.iconst 1, 1) := dk_4 (dk_at dksX1_isComplete_0 6 rfl rfl)
theorem dX1_isComplete_7 : decode cX1_isComplete 7 = .ok (.istore_n 3, 1) := dk_62 (dk_at dksX1_isComplete_0 7 rfl rfl)
theorem dX1_isComplete_8 : decode cX1_isComplete 8 = .ok (.iconst 0, 1) := dk_3 (dk_at dksX1_isComplete_0 8 rfl rfl)
theorem dX1_isComplete_9 : decode cX1_isComplete 9 = .ok (.istore 4, 2) := dk_54 4 (dk_at dksX1_isComplete_0 9 rfl rfl)
theorem dX1_isComplete_11 : decode cX1_isComplete 11 = .ok (.iload 4, 2) := dk_21 4 (dk_at dksX1_isComplete_0 11 rfl rfl)
theorem dX1_isComplete_13 : decode cX1_isComplete 13 = .ok (.aload_n 2, 1) := dk_44 (dk_at dksX1_isComplete_0 13 rfl rfl)
theorem dX1_isComplete_14 : decode cX1_isComplete 14 = .ok (.getfield 233, 3) := dk_180 0 233 (dk_at dksX1_isComplete_0 14 rfl rfl)
theorem dX1_isComplete_17 : decode cX1_isComplete 17 = .ok (.invokevirtual 107, 3) := dk_182 0 107 (dk_at dksX1_isComplete_0 17 rfl rfl)
theorem dX1_isComplete_20 : decode cX1_isComplete 20 = .ok (.if_icmp .ge 34, 3) := dk_162 0 34 (dk_at dksX1_isComplete_0 20 rfl rfl)
theorem dX1_isComplete_23 : decode cX1_isComplete 23 = .ok (.iload_n 3, 1) := dk_29 (dk_at dksX1_isComplete_0 23 rfl rfl)
theorem dX1_isComplete_24 : decode cX1_isComplete 24 = .ok (.aload_n 0, 1) := dk_42 (dk_at dksX1_isComplete_1 0 rfl rfl)
theorem dX1_isComplete_25 : decode cX1_isComplete 25 = .ok (.getfield 68, 3) := dk_180 0 68 (dk_at dksX1_isComplete_1 1 rfl rfl)
theorem dX1_isComplete_28 : decode cX1_isComplete 28 = .ok (.aload_n 2, 1) := dk_44 (dk_at dksX1_isComplete_1 4 rfl rfl)
theorem dX1_isComplete_29 : decode cX1_isComplete 29 = .ok (.getfield 233, 3) := dk_180 0 233 (dk_at dksX1_isComplete_1 5 rfl rfl)
theorem dX1_isComplete_32 : decode cX1_isComplete 32 = .ok (.iload 4, 2) := dk_21 4 (dk_at dksX1_isComplete_1 8 rfl rfl)
theorem dX1_isComplete_34 : decode cX1_isComplete 34 = .ok (.invokevirtual 108, 3) := dk_182 0 108 (dk_at dksX1_isComplete_1 10 rfl rfl)
theorem dX1_isComplete_37 : decode cX1_isComplete 37 = .ok (.checkcast 98, 3) := dk_192 0 98 (dk_at dksX1_isComplete_1 13 rfl rfl)
theorem dX1_isComplete_40 : decode cX1_isComplete 40 = .ok (.invokevirtual 109, 3) := dk_182 0 109 (dk_at dksX1_isComplete_1 16 rfl rfl)
theorem dX1_isComplete_43 : decode cX1_isComplete 43 = .ok (.invokevirtual 235, 3) := dk_182 0 235 (dk_at dksX1_isComplete_1 19 rfl rfl)
theorem dX1_isComplete_46 : decode cX1_isComplete 46 = .ok (.iand, 1) := dk_126 (dk_at dksX1_isComplete_1 22 rfl rfl)
theorem dX1_isComplete_47 : decode cX1_isComplete 47 = .ok (.istore_n 3, 1) := dk_62 (dk_at dksX1_isComplete_1 23 rfl rfl)
theorem dX1_isComplete_48 : decode cX1_isComplete 48 = .ok (.iinc 4 1, 3) := dk_132 4 1 (dk_at dksX1_isComplete_2 0 rfl rfl)
theorem dX1_isComplete_51 : decode cX1_isComplete 51 = .ok (.goto (-40), 3) := dk_167 255 216 (dk_at dksX1_isComplete_2 3 rfl rfl)
theorem dX1_isComplete_54 : decode cX1_isComplete 54 = .ok (.iload_n 3, 1) := dk_29 (dk_at dksX1_isComplete_2 6 rfl rfl)
theorem dX1_isComplete_55 : decode cX1_isComplete 55 = .ok (.ireturn, 1) := dk_172 (dk_at dksX1_isComplete_2 7 rfl rfl)
abbrev cX1_gapCount : ByteArray := prog_1_method_39_code
def yX1_gapCount : MethodName := ⟨RX1, "gapCount", "()I"⟩
def dkwX1_gapCount_0 : List UInt8 := [42, 182, 0, 198, 180, 0, 238, 182, 0, 107, 172]
abbrev dktX1_gapCount_0 : List UInt8 := dkwX1_gapCount_0 ++ []
theorem dksX1_gapCount_0 : cX1_gapCount.data.toList.drop 0 = dktX1_gapCount_0 := by decide +kernel
theorem dX1_gapCount_0 : decode cX1_gapCount 0 = .ok (.aload_n 0, 1) := dk_42 (dk_at dksX1_gapCount_0 0 rfl rfl)
theorem dX1_gapCount_1 : decode cX1_gapCount 1 = .ok (.invokevirtual 198, 3) := dk_182 0 198 (dk_at dksX1_gapCount_0 1 rfl rfl)
theorem dX1_gapCount_4 : decode cX1_gapCount 4 = .ok (.getfield 238, 3) := dk_180 0 238 (dk_at dksX1_gapCount_0 4 rfl rfl)
theorem dX1_gapCount_7 : decode cX1_gapCount 7 = .ok (.invokevirtual 107, 3) := dk_182 0 107 (dk_at dksX1_gapCount_0 7 rfl rfl)
theorem dX1_gapCount_10 : decode cX1_gapCount 10 = .ok (.ireturn, 1) := dk_172 (dk_at dksX1_gapCount_0 10 rfl rfl)
abbrev cX1_gap : ByteArray := prog_1_method_40_code
def yX1_gap : MethodName := ⟨RX1, "gap", "(II)I"⟩
def dkwX1_gap_0 : List UInt8 := [42, 182, 0, 198, 180, 0, 238, 27, 28, 5, 184, 0, 223, 172]
abbrev dktX1_gap_0 : List UInt8 := dkwX1_gap_0 ++ []
theorem dksX1_gap_0 : cX1_gap.data.toList.drop 0 = dktX1_gap_0 := by decide +kernel
theorem dX1_gap_0 : decode cX1_gap 0 = .ok (.aload_n 0, 1) := dk_42 (dk_at dksX1_gap_0 0 rfl rfl)
theorem dX1_gap_1 : decode cX1_gap 1 = .ok (.invokevirtual 198, 3) := dk_182 0 198 (dk_at dksX1_gap_0 1 rfl rfl)
theorem dX1_gap_4 : decode cX1_gap 4 = .ok (.getfield 238, 3) := dk_180 0 238 (dk_at dksX1_gap_0 4 rfl rfl)
theorem dX1_gap_7 : decode cX1_gap 7 = .ok (.iload_n 1, 1) := dk_27 (dk_at dksX1_gap_0 7 rfl rfl)
theorem dX1_gap_8 : decode cX1_gap 8 = .ok (.iload_n 2, 1) := dk_28 (dk_at dksX1_gap_0 8 rfl rfl)
theorem dX1_gap_9 : decode cX1_gap 9 = .ok (.iconst 2, 1) := dk_5 (dk_at dksX1_gap_0 9 rfl rfl)
theorem dX1_gap_10 : decode cX1_gap 10 = .ok (.invokestatic 223, 3) := dk_184 0 223 (dk_at dksX1_gap_0 10 rfl rfl)
theorem dX1_gap_13 : decode cX1_gap 13 = .ok (.ireturn, 1) := dk_172 (dk_at dksX1_gap_0 13 rfl rfl)
abbrev cX1_speculative : ByteArray := prog_1_method_41_code
def yX1_speculative : MethodName := ⟨RX1, "speculative", "()I"⟩
def dkwX1_speculative_0 : List UInt8 := [42, 182, 0, 198, 182, 0, 241, 172]
abbrev dktX1_speculative_0 : List UInt8 := dkwX1_speculative_0 ++ []
theorem dksX1_speculative_0 : cX1_speculative.data.toList.drop 0 = dktX1_speculative_0 := by decide +kernel
theorem dX1_speculative_0 : decode cX1_speculative 0 = .ok (.aload_n 0, 1) := dk_42 (dk_at dksX1_speculative_0 0 rfl rfl)
theorem dX1_speculative_1 : decode cX1_speculative 1 = .ok (.invokevirtual 198, 3) := dk_182 0 198 (dk_at dksX1_speculative_0 1 rfl rfl)
theorem dX1_speculative_4 : decode cX1_speculative 4 = .ok (.invokevirtual 241, 3) := dk_182 0 241 (dk_at dksX1_speculative_0 4 rfl rfl)
theorem dX1_speculative_7 : decode cX1_speculative 7 = .ok (.ireturn, 1) := dk_172 (dk_at dksX1_speculative_0 7 rfl rfl)
abbrev cX1_blockCount : ByteArray := prog_1_method_42_code
def yX1_blockCount : MethodName := ⟨RX1, "blockCount", "()I"⟩
def dkwX1_blockCount_0 : List UInt8 := [42, 182, 0, 198, 180, 0, 244, 182, 0, 107, 172]
abbrev dktX1_blockCount_0 : List UInt8 := dkwX1_blockCount_0 ++ []
theorem dksX1_blockCount_0 : cX1_blockCount.data.toList.drop 0 = dktX1_blockCount_0 := by decide +kernel
theorem dX1_blockCount_0 : decode cX1_blockCount 0 = .ok (.aload_n 0, 1) := dk_42 (dk_at dksX1_blockCount_0 0 rfl rfl)
theorem dX1_blockCount_1 : decode cX1_blockCount 1 = .ok (.invokevirtual 198, 3) := dk_182 0 198 (dk_at dksX1_blockCount_0 1 rfl rfl)
theorem dX1_blockCount_4 : decode cX1_blockCount 4 = .ok (.getfield 244, 3) := dk_180 0 244 (dk_at dksX1_blockCount_0 4 rfl rfl)
theorem dX1_blockCount_7 : decode cX1_blockCount 7 = .ok (.invokevirtual 107, 3) := dk_182 0 107 (dk_at dksX1_blockCount_0 7 rfl rfl)
theorem dX1_blockCount_10 : decode cX1_blockCount 10 = .ok (.ireturn, 1) := dk_172 (dk_at dksX1_blockCount_0 10 rfl rfl)
abbrev cX1_block : ByteArray := prog_1_method_43_code
def yX1_block : MethodName := ⟨RX1, "block", "(II)I"⟩
def dkwX1_block_0 : List UInt8 := [42, 182, 0, 198, 180, 0, 244, 27, 28, 5, 184, 0, 223, 172]
abbrev dktX1_block_0 : List UInt8 := dkwX1_block_0 ++ []
theorem dksX1_block_0 : cX1_block.data.toList.drop 0 = dktX1_block_0 := by decide +kernel
theorem dX1_block_0 : decode cX1_block 0 = .ok (.aload_n 0, 1) := dk_42 (dk_at dksX1_block_0 0 rfl rfl)
theorem dX1_block_1 : decode cX1_block 1 = .ok (.invokevirtual 198, 3) := dk_182 0 198 (dk_at dksX1_block_0 1 rfl rfl)
theorem dX1_block_4 : decode cX1_block 4 = .ok (.getfield 244, 3) := dk_180 0 244 (dk_at dksX1_block_0 4 rfl rfl)
theorem dX1_block_7 : decode cX1_block 7 = .ok (.iload_n 1, 1) := dk_27 (dk_at dksX1_block_0 7 rfl rfl)
theorem dX1_block_8 : decode cX1_block 8 = .ok (.iload_n 2, 1) := dk_28 (dk_at dksX1_block_0 8 rfl rfl)
theorem dX1_block_9 : decode cX1_block 9 = .ok (.iconst 2, 1) := dk_5 (dk_at dksX1_block_0 9 rfl rfl)
theorem dX1_block_10 : decode cX1_block 10 = .ok (.invokestatic 223, 3) := dk_184 0 223 (dk_at dksX1_block_0 10 rfl rfl)
theorem dX1_block_13 : decode cX1_block 13 = .ok (.ireturn, 1) := dk_172 (dk_at dksX1_block_0 13 rfl rfl)
abbrev cX1_functionCount : ByteArray := prog_1_method_44_code
def yX1_functionCount : MethodName := ⟨RX1, "functionCount", "()I"⟩
def dkwX1_functionCount_0 : List UInt8 := [42, 182, 0, 198, 182, 0, 247, 182, 0, 193, 172]
abbrev dktX1_functionCount_0 : List UInt8 := dkwX1_functionCount_0 ++ []
theorem dksX1_functionCount_0 : cX1_functionCount.data.toList.drop 0 = dktX1_functionCount_0 := by decide +kernel
theorem dX1_functionCount_0 : decode cX1_functionCount 0 = .ok (.aload_n 0, 1) := dk_42 (dk_at dksX1_functionCount_0 0 rfl rfl)
theorem dX1_functionCount_1 : decode cX1_functionCount 1 = .ok (.invokevirtual 198, 3) := dk_182 0 198 (dk_at dksX1_functionCount_0 1 rfl rfl)
theorem dX1_functionCount_4 : decode cX1_functionCount 4 = .ok (.invokevirtual 247, 3) := dk_182 0 247 (dk_at dksX1_functionCount_0 4 rfl rfl)
theorem dX1_functionCount_7 : decode cX1_functionCount 7 = .ok (.invokevirtual 193, 3) := dk_182 0 193 (dk_at dksX1_functionCount_0 7 rfl rfl)
theorem dX1_functionCount_10 : decode cX1_functionCount 10 = .ok (.ireturn, 1) := dk_172 (dk_at dksX1_functionCount_0 10 rfl rfl)
abbrev cX1_functionSize : ByteArray := prog_1_method_45_code
def yX1_functionSize : MethodName := ⟨RX1, "functionSize", "(I)I"⟩
def dkwX1_functionSize_1 : List UInt8 := [89, 183, 0, 255, 191, 44, 27, 182, 1, 0, 172]
abbrev dktX1_functionSize_1 : List UInt8 := dkwX1_functionSize_1 ++ []
def dkwX1_functionSize_0 : List UInt8 := [42, 182, 0, 198, 77, 42, 27, 182, 0, 140, 44, 182, 0, 247, 27, 182, 0, 251, 154, 0, 11, 187, 0, 253]
abbrev dktX1_functionSize_0 : List UInt8 := dkwX1_functionSize_0 ++ dktX1_functionSize_1
theorem dksX1_functionSize_0 : cX1_functionSize.data.toList.drop 0 = dktX1_functionSize_0 := by decide +kernel
theorem dksX1_functionSize_1 : cX1_functionSize.data.toList.drop 24 = dktX1_functionSize_1 := dk_seg dksX1_functionSize_0 24 rfl rfl
theorem dX1_functionSize_0 : decode cX1_functionSize 0 = .ok (.aload_n 0, 1) := dk_42 (dk_at dksX1_functionSize_0 0 rfl rfl)
theorem dX1_functionSize_1 : decode cX1_functionSize 1 = .ok (.invokevirtual 198, 3) := dk_182 0 198 (dk_at dksX1_functionSize_0 1 rfl rfl)
theorem dX1_functionSize_4 : decode cX1_functionSize 4 = .ok (.astore_n 2, 1) := dk_77 (dk_at dksX1_functionSize_0 4 rfl rfl)
theorem dX1_functionSize_5 : decode cX1_functionSize 5 = .ok (.aload_n 0, 1) := dk_42 (dk_at dksX1_functionSize_0 5 rfl rfl)
theorem dX1_functionSize_6 : decode cX1_functionSize 6 = .ok (.iload_n 1, 1) := dk_27 (dk_at dksX1_functionSize_0 6 rfl rfl)
theorem dX1_functionSize_7 : decode cX1_functionSize 7 = .ok (.invokevirtual 140, 3) := dk_182 0 140 (dk_at dksX1_functionSize_0 7 rfl rfl)
theorem dX1_functionSize_10 : decode cX1_functionSize 10 = .ok (.aload_n 2, 1) := dk_44 (dk_at dksX1_functionSize_0 10 rfl rfl)
theorem dX1_functionSize_11 : decode cX1_functionSize 11 = .ok (.invokevirtual 247, 3) := dk_182 0 247 (dk_at dksX1_functionSize_0 11 rfl rfl)
theorem dX1_functionSize_14 : decode cX1_functionSize 14 = .ok (.iload_n 1, 1) := dk_27 (dk_at dksX1_functionSize_0 14 rfl rfl)
theorem dX1_functionSize_15 : decode cX1_functionSize 15 = .ok (.invokevirtual 251, 3) := dk_182 0 251 (dk_at dksX1_functionSize_0 15 rfl rfl)
theorem dX1_functionSize_18 : decode cX1_functionSize 18 = .ok (.ifCond .ne 11, 3) := dk_154 0 11 (dk_at dksX1_functionSize_0 18 rfl rfl)
theorem dX1_functionSize_21 : decode cX1_functionSize 21 = .ok (.new 253, 3) := dk_187 0 253 (dk_at dksX1_functionSize_0 21 rfl rfl)
theorem dX1_functionSize_24 : decode cX1_functionSize 24 = .ok (.dup, 1) := dk_89 (dk_at dksX1_functionSize_1 0 rfl rfl)
theorem dX1_functionSize_25 : decode cX1_functionSize 25 = .ok (.invokespecial 255, 3) := dk_183 0 255 (dk_at dksX1_functionSize_1 1 rfl rfl)
theorem dX1_functionSize_28 : decode cX1_functionSize 28 = .ok (.athrow, 1) := dk_191 (dk_at dksX1_functionSize_1 4 rfl rfl)
theorem dX1_functionSize_29 : decode cX1_functionSize 29 = .ok (.aload_n 2, 1) := dk_44 (dk_at dksX1_functionSize_1 5 rfl rfl)
theorem dX1_functionSize_30 : decode cX1_functionSize 30 = .ok (.iload_n 1, 1) := dk_27 (dk_at dksX1_functionSize_1 6 rfl rfl)
theorem dX1_functionSize_31 : decode cX1_functionSize 31 = .ok (.invokevirtual 256, 3) := dk_182 1 0 (dk_at dksX1_functionSize_1 7 rfl rfl)
theorem dX1_functionSize_34 : decode cX1_functionSize 34 = .ok (.ireturn, 1) := dk_172 (dk_at dksX1_functionSize_1 10 rfl rfl)
abbrev cX1_run : ByteArray := prog_1_method_46_code
def yX1_run : MethodName := ⟨RX1, "run", "(I)I"⟩
def dkwX1_run_1 : List UInt8 := [180, 0, 72, 180, 1, 8, 172]
abbrev dktX1_run_1 : List UInt8 := dkwX1_run_1 ++ []
def dkwX1_run_0 : List UInt8 := [42, 27, 182, 0, 140, 42, 187, 1, 3, 89, 42, 180, 0, 56, 27, 183, 1, 5, 181, 0, 72, 42]
abbrev dktX1_run_0 : List UInt8 := dkwX1_run_0 ++ dktX1_run_1
theorem dksX1_run_0 : cX1_run.data.toList.drop 0 = dktX1_run_0 := by decide +kernel
theorem dksX1_run_1 : cX1_run.data.toList.drop 22 = dktX1_run_1 := dk_seg dksX1_run_0 22 rfl rfl
theorem dX1_run_0 : decode cX1_run 0 = .ok (.aload_n 0, 1) := dk_42 (dk_at dksX1_run_0 0 rfl rfl)
theorem dX1_run_1 : decode cX1_run 1 = .ok (.iload_n 1, 1) := dk_27 (dk_at dksX1_run_0 1 rfl rfl)
theorem dX1_run_2 : decode cX1_run 2 = .ok (.invokevirtual 140, 3) := dk_182 0 140 (dk_at dksX1_run_0 2 rfl rfl)
theorem dX1_run_5 : decode cX1_run 5 = .ok (.aload_n 0, 1) := dk_42 (dk_at dksX1_run_0 5 rfl rfl)
theorem dX1_run_6 : decode cX1_run 6 = .ok (.new 259, 3) := dk_187 1 3 (dk_at dksX1_run_0 6 rfl rfl)
theorem dX1_run_9 : decode cX1_run 9 = .ok (.dup, 1) := dk_89 (dk_at dksX1_run_0 9 rfl rfl)
theorem dX1_run_10 : decode cX1_run 10 = .ok (.aload_n 0, 1) := dk_42 (dk_at dksX1_run_0 10 rfl rfl)
theorem dX1_run_11 : decode cX1_run 11 = .ok (.getfield 56, 3) := dk_180 0 56 (dk_at dksX1_run_0 11 rfl rfl)
theorem dX1_run_14 : decode cX1_run 14 = .ok (.iload_n 1, 1) := dk_27 (dk_at dksX1_run_0 14 rfl rfl)
theorem dX1_run_15 : decode cX1_run 15 = .ok (.invokespecial 261, 3) := dk_183 1 5 (dk_at dksX1_run_0 15 rfl rfl)
theorem dX1_run_18 : decode cX1_run 18 = .ok (.putfield 72, 3) := dk_181 0 72 (dk_at dksX1_run_0 18 rfl rfl)
theorem dX1_run_21 : decode cX1_run 21 = .ok (.aload_n 0, 1) := dk_42 (dk_at dksX1_run_0 21 rfl rfl)
theorem dX1_run_22 : decode cX1_run 22 = .ok (.getfield 72, 3) := dk_180 0 72 (dk_at dksX1_run_1 0 rfl rfl)
theorem dX1_run_25 : decode cX1_run 25 = .ok (.getfield 264, 3) := dk_180 1 8 (dk_at dksX1_run_1 3 rfl rfl)
theorem dX1_run_28 : decode cX1_run 28 = .ok (.ireturn, 1) := dk_172 (dk_at dksX1_run_1 6 rfl rfl)
abbrev cX1_executedAt : ByteArray := prog_1_method_48_code
def yX1_executedAt : MethodName := ⟨RX1, "executedAt", "(I)I"⟩
def dkwX1_executedAt_0 : List UInt8 := [42, 182, 1, 11, 77, 42, 27, 182, 0, 140, 44, 180, 1, 15, 27, 46, 172]
abbrev dktX1_executedAt_0 : List UInt8 := dkwX1_executedAt_0 ++ []
theorem dksX1_executedAt_0 : cX1_executedAt.data.toList.drop 0 = dktX1_executedAt_0 := by decide +kernel
theorem dX1_executedAt_0 : decode cX1_executedAt 0 = .ok (.aload_n 0, 1) := dk_42 (dk_at dksX1_executedAt_0 0 rfl rfl)
theorem dX1_executedAt_1 : decode cX1_executedAt 1 = .ok (.invokevirtual 267, 3) := dk_182 1 11 (dk_at dksX1_executedAt_0 1 rfl rfl)
theorem dX1_executedAt_4 : decode cX1_executedAt 4 = .ok (.astore_n 2, 1) := dk_77 (dk_at dksX1_executedAt_0 4 rfl rfl)
theorem dX1_executedAt_5 : decode cX1_executedAt 5 = .ok (.aload_n 0, 1) := dk_42 (dk_at dksX1_executedAt_0 5 rfl rfl)
theorem dX1_executedAt_6 : decode cX1_executedAt 6 = .ok (.iload_n 1, 1) := dk_27 (dk_at dksX1_executedAt_0 6 rfl rfl)
theorem dX1_executedAt_7 : decode cX1_executedAt 7 = .ok (.invokevirtual 140, 3) := dk_182 0 140 (dk_at dksX1_executedAt_0 7 rfl rfl)
theorem dX1_executedAt_10 : decode cX1_executedAt 10 = .ok (.aload_n 2, 1) := dk_44 (dk_at dksX1_executedAt_0 10 rfl rfl)
theorem dX1_executedAt_11 : decode cX1_executedAt 11 = .ok (.getfield 271, 3) := dk_180 1 15 (dk_at dksX1_executedAt_0 11 rfl rfl)
theorem dX1_executedAt_14 : decode cX1_executedAt 14 = .ok (.iload_n 1, 1) := dk_27 (dk_at dksX1_executedAt_0 14 rfl rfl)
theorem dX1_executedAt_15 : decode cX1_executedAt 15 = .ok (.iaload, 1) := dk_46 (dk_at dksX1_executedAt_0 15 rfl rfl)
theorem dX1_executedAt_16 : decode cX1_executedAt 16 = .ok (.ireturn, 1) := dk_172 (dk_at dksX1_executedAt_0 16 rfl rfl)
abbrev cX1_latestRun : ByteArray := prog_1_method_47_code
def yX1_latestRun : MethodName := ⟨RX1, "latestRun", "()LCodeRecovery$Run;"⟩
def dkwX1_latestRun_0 : List UInt8 := [42, 180, 0, 72, 198, 0, 7, 4, 167, 0, 4, 3, 184, 0, 83, 42, 180, 0, 72, 176]
abbrev dktX1_latestRun_0 : List UInt8 := dkwX1_latestRun_0 ++ []
theorem dksX1_latestRun_0 : cX1_latestRun.data.toList.drop 0 = dktX1_latestRun_0 := by decide +kernel
theorem dX1_latestRun_0 : decode cX1_latestRun 0 = .ok (.aload_n 0, 1) := dk_42 (dk_at dksX1_latestRun_0 0 rfl rfl)
theorem dX1_latestRun_1 : decode cX1_latestRun 1 = .ok (.getfield 72, 3) := dk_180 0 72 (dk_at dksX1_latestRun_0 1 rfl rfl)
theorem dX1_latestRun_4 : decode cX1_latestRun 4 = .ok (.ifnull 7, 3) := dk_198 0 7 (dk_at dksX1_latestRun_0 4 rfl rfl)
theorem dX1_latestRun_7 : decode cX1_latestRun 7 = .ok (.iconst 1, 1) := dk_4 (dk_at dksX1_latestRun_0 7 rfl rfl)
theorem dX1_latestRun_8 : decode cX1_latestRun 8 = .ok (.goto 4, 3) := dk_167 0 4 (dk_at dksX1_latestRun_0 8 rfl rfl)
theorem dX1_latestRun_11 : decode cX1_latestRun 11 = .ok (.iconst 0, 1) := dk_3 (dk_at dksX1_latestRun_0 11 rfl rfl)
theorem dX1_latestRun_12 : decode cX1_latestRun 12 = .ok (.invokestatic 83, 3) := dk_184 0 83 (dk_at dksX1_latestRun_0 12 rfl rfl)
theorem dX1_latestRun_15 : decode cX1_latestRun 15 = .ok (.aload_n 0, 1) := dk_42 (dk_at dksX1_latestRun_0 15 rfl rfl)
theorem dX1_latestRun_16 : decode cX1_latestRun 16 = .ok (.getfield 72, 3) := dk_180 0 72 (dk_at dksX1_latestRun_0 16 rfl rfl)
theorem dX1_latestRun_19 : decode cX1_latestRun 19 = .ok (.areturn, 1) := dk_176 (dk_at dksX1_latestRun_0 19 rfl rfl)
abbrev cX1_unrecovered : ByteArray := prog_1_method_49_code
def yX1_unrecovered : MethodName := ⟨RX1, "unrecovered", "()I"⟩
def dkwX1_unrecovered_2 : List UInt8 := [167, 0, 4, 3, 96, 62, 132, 4, 1, 167, 255, 216, 29, 172]
abbrev dktX1_unrecovered_2 : List UInt8 := dkwX1_unrecovered_2 ++ []
def dkwX1_unrecovered_1 : List UInt8 := [162, 0, 36, 29, 44, 180, 1, 15, 21, 4, 46, 158, 0, 16, 43, 21, 4, 182, 0, 235, 154, 0, 7, 4]
abbrev dktX1_unrecovered_1 : List UInt8 := dkwX1_unrecovered_1 ++ dktX1_unrecovered_2
def dkwX1_unrecovered_0 : List UInt8 := [42, 182, 0, 198, 76, 42, 182, 1, 11, 77, 3, 62, 3, 54, 4, 21, 4, 44, 180, 1, 15, 190]
abbrev dktX1_unrecovered_0 : List UInt8 := dkwX1_unrecovered_0 ++ dktX1_unrecovered_1
theorem dksX1_unrecovered_0 : cX1_unrecovered.data.toList.drop 0 = dktX1_unrecovered_0 := by decide +kernel
theorem dksX1_unrecovered_1 : cX1_unrecovered.data.toList.drop 22 = dktX1_unrecovered_1 := dk_seg dksX1_unrecovered_0 22 rfl rfl
theorem dksX1_unrecovered_2 : cX1_unrecovered.data.toList.drop 46 = dktX1_unrecovered_2 := dk_seg dksX1_unrecovered_1 24 rfl rfl
theorem dX1_unrecovered_0 : decode cX1_unrecovered 0 = .ok (.aload_n 0, 1) := dk_42 (dk_at dksX1_unrecovered_0 0 rfl rfl)
theorem dX1_unrecovered_1 : decode cX1_unrecovered 1 = .ok (.invokevirtual 198, 3) := dk_182 0 198 (dk_at dksX1_unrecovered_0 1 rfl rfl)
theorem dX1_unrecovered_4 : decode cX1_unrecovered 4 = .ok (.astore_n 1, 1) := dk_76 (dk_at dksX1_unrecovered_0 4 rfl rfl)
theorem dX1_unrecovered_5 : decode cX1_unrecovered 5 = .ok (.aload_n 0, 1) := dk_42 (dk_at dksX1_unrecovered_0 5 rfl rfl)
theorem dX1_unrecovered_6 : decode cX1_unrecovered 6 = .ok (.invokevirtual 267, 3) := dk_182 1 11 (dk_at dksX1_unrecovered_0 6 rfl rfl)
theorem dX1_unrecovered_9 : decode cX1_unrecovered 9 = .ok (.astore_n 2, 1) := dk_77 (dk_at dksX1_unrecovered_0 9 rfl rfl)
theorem dX1_unrecovered_10 : decode cX1_unrecovered 10 = .ok (.iconst 0, 1) := dk_3 (dk_at dksX1_unrecovered_0 10 rfl rfl)
theorem dX1_unrecovered_11 : decode cX1_unrecovered 11 = .ok (.istore_n 3, 1) := dk_62 (dk_at dksX1_unrecovered_0 11 rfl rfl)
theorem dX1_unrecovered_12 : decode cX1_unrecovered 12 = .ok (.iconst 0, 1) := dk_3 (dk_at dksX1_unrecovered_0 12 rfl rfl)
theorem dX1_unrecovered_13 : decode cX1_unrecovered 13 = .ok (.istore 4, 2) := dk_54 4 (dk_at dksX1_unrecovered_0 13 rfl rfl)
theorem dX1_unrecovered_15 : decode cX1_unrecovered 15 = .ok (.iload 4, 2) := dk_21 4 (dk_at dksX1_unrecovered_0 15 rfl rfl)
theorem dX1_unrecovered_17 : decode cX1_unrecovered 17 = .ok (.aload_n 2, 1) := dk_44 (dk_at dksX1_unrecovered_0 17 rfl rfl)
theorem dX1_unrecovered_18 : decode cX1_unrecovered 18 = .ok (.getfield 271, 3) := dk_180 1 15 (dk_at dksX1_unrecovered_0 18 rfl rfl)
theorem dX1_unrecovered_21 : decode cX1_unrecovered 21 = .ok (.arraylength, 1) := dk_190 (dk_at dksX1_unrecovered_0 21 rfl rfl)
theorem dX1_unrecovered_22 : decode cX1_unrecovered 22 = .ok (.if_icmp .ge 36, 3) := dk_162 0 36 (dk_at dksX1_unrecovered_1 0 rfl rfl)
theorem dX1_unrecovered_25 : decode cX1_unrecovered 25 = .ok (.iload_n 3, 1) := dk_29 (dk_at dksX1_unrecovered_1 3 rfl rfl)
theorem dX1_unrecovered_26 : decode cX1_unrecovered 26 = .ok (.aload_n 2, 1) := dk_44 (dk_at dksX1_unrecovered_1 4 rfl rfl)
theorem dX1_unrecovered_27 : decode cX1_unrecovered 27 = .ok (.getfield 271, 3) := dk_180 1 15 (dk_at dksX1_unrecovered_1 5 rfl rfl)
theorem dX1_unrecovered_30 : decode cX1_unrecovered 30 = .ok (.iload 4, 2) := dk_21 4 (dk_at dksX1_unrecovered_1 8 rfl rfl)
theorem dX1_unrecovered_32 : decode cX1_unrecovered 32 = .ok (.iaload, 1) := dk_46 (dk_at dksX1_unrecovered_1 10 rfl rfl)
theorem dX1_unrecovered_33 : decode cX1_unrecovered 33 = .ok (.ifCond .le 16, 3) := dk_158 0 16 (dk_at dksX1_unrecovered_1 11 rfl rfl)
theorem dX1_unrecovered_36 : decode cX1_unrecovered 36 = .ok (.aload_n 1, 1) := dk_43 (dk_at dksX1_unrecovered_1 14 rfl rfl)
theorem dX1_unrecovered_37 : decode cX1_unrecovered 37 = .ok (.iload 4, 2) := dk_21 4 (dk_at dksX1_unrecovered_1 15 rfl rfl)
theorem dX1_unrecovered_39 : decode cX1_unrecovered 39 = .ok (.invokevirtual 235, 3) := dk_182 0 235 (dk_at dksX1_unrecovered_1 17 rfl rfl)
theorem dX1_unrecovered_42 : decode cX1_unrecovered 42 = .ok (.ifCond .ne 7, 3) := dk_154 0 7 (dk_at dksX1_unrecovered_1 20 rfl rfl)
theorem dX1_unrecovered_45 : decode cX1_unrecovered 45 = .ok (.iconst 1, 1) := dk_4 (dk_at dksX1_unrecovered_1 23 rfl rfl)
theorem dX1_unrecovered_46 : decode cX1_unrecovered 46 = .ok (.goto 4, 3) := dk_167 0 4 (dk_at dksX1_unrecovered_2 0 rfl rfl)
theorem dX1_unrecovered_49 : decode cX1_unrecovered 49 = .ok (.iconst 0, 1) := dk_3 (dk_at dksX1_unrecovered_2 3 rfl rfl)
theorem dX1_unrecovered_50 : decode cX1_unrecovered 50 = .ok (.iadd, 1) := dk_96 (dk_at dksX1_unrecovered_2 4 rfl rfl)
theorem dX1_unrecovered_51 : decode cX1_unrecovered 51 = .ok (.istore_n 3, 1) := dk_62 (dk_at dksX1_unrecovered_2 5 rfl rfl)
theorem dX1_unrecovered_52 : decode cX1_unrecovered 52 = .ok (.iinc 4 1, 3) := dk_132 4 1 (dk_at dksX1_unrecovered_2 6 rfl rfl)
theorem dX1_unrecovered_55 : decode cX1_unrecovered 55 = .ok (.goto (-40), 3) := dk_167 255 216 (dk_at dksX1_unrecovered_2 9 rfl rfl)
theorem dX1_unrecovered_58 : decode cX1_unrecovered 58 = .ok (.iload_n 3, 1) := dk_29 (dk_at dksX1_unrecovered_2 12 rfl rfl)
theorem dX1_unrecovered_59 : decode cX1_unrecovered 59 = .ok (.ireturn, 1) := dk_172 (dk_at dksX1_unrecovered_2 13 rfl rfl)
abbrev cX1_register : ByteArray := prog_1_method_50_code
def yX1_register : MethodName := ⟨RX1, "register", "(I)I"⟩
def dkwX1_register_0 : List UInt8 := [42, 182, 1, 11, 77, 27, 3, 6, 184, 0, 19, 184, 0, 25, 44, 180, 1, 18, 27, 46, 172]
abbrev dktX1_register_0 : List UInt8 := dkwX1_register_0 ++ []
theorem dksX1_register_0 : cX1_register.data.toList.drop 0 = dktX1_register_0 := by decide +kernel
theorem dX1_register_0 : decode cX1_register 0 = .ok (.aload_n 0, 1) := dk_42 (dk_at dksX1_register_0 0 rfl rfl)
theorem dX1_register_1 : decode cX1_register 1 = .ok (.invokevirtual 267, 3) := dk_182 1 11 (dk_at dksX1_register_0 1 rfl rfl)
theorem dX1_register_4 : decode cX1_register 4 = .ok (.astore_n 2, 1) := dk_77 (dk_at dksX1_register_0 4 rfl rfl)
theorem dX1_register_5 : decode cX1_register 5 = .ok (.iload_n 1, 1) := dk_27 (dk_at dksX1_register_0 5 rfl rfl)
theorem dX1_register_6 : decode cX1_register 6 = .ok (.iconst 0, 1) := dk_3 (dk_at dksX1_register_0 6 rfl rfl)
theorem dX1_register_7 : decode cX1_register 7 = .ok (.iconst 3, 1) := dk_6 (dk_at dksX1_register_0 7 rfl rfl)
theorem dX1_register_8 : decode cX1_register 8 = .ok (.invokestatic 19, 3) := dk_184 0 19 (dk_at dksX1_register_0 8 rfl rfl)
theorem dX1_register_11 : decode cX1_register 11 = .ok (.invokestatic 25, 3) := dk_184 0 25 (dk_at dksX1_register_0 11 rfl rfl)
theorem dX1_register_14 : decode cX1_register 14 = .ok (.aload_n 2, 1) := dk_44 (dk_at dksX1_register_0 14 rfl rfl)
theorem dX1_register_15 : decode cX1_register 15 = .ok (.getfield 274, 3) := dk_180 1 18 (dk_at dksX1_register_0 15 rfl rfl)
theorem dX1_register_18 : decode cX1_register 18 = .ok (.iload_n 1, 1) := dk_27 (dk_at dksX1_register_0 18 rfl rfl)
theorem dX1_register_19 : decode cX1_register 19 = .ok (.iaload, 1) := dk_46 (dk_at dksX1_register_0 19 rfl rfl)
theorem dX1_register_20 : decode cX1_register 20 = .ok (.ireturn, 1) := dk_172 (dk_at dksX1_register_0 20 rfl rfl)
abbrev cX1_coverage : ByteArray := prog_1_method_52_code
def yX1_coverage : MethodName := ⟨RX1, "coverage", "()D"⟩
def dkwX1_coverage_1 : List UInt8 := [182, 0, 119, 135, 111, 175]
abbrev dktX1_coverage_1 : List UInt8 := dkwX1_coverage_1 ++ []
def dkwX1_coverage_0 : List UInt8 := [42, 182, 0, 198, 76, 42, 180, 0, 56, 182, 0, 119, 184, 1, 24, 43, 182, 1, 27, 135, 42, 180, 0, 56]
abbrev dktX1_coverage_0 : List UInt8 := dkwX1_coverage_0 ++ dktX1_coverage_1
theorem dksX1_coverage_0 : cX1_coverage.data.toList.drop 0 = dktX1_coverage_0 := by decide +kernel
theorem dksX1_coverage_1 : cX1_coverage.data.toList.drop 24 = dktX1_coverage_1 := dk_seg dksX1_coverage_0 24 rfl rfl
theorem dX1_coverage_0 : decode cX1_coverage 0 = .ok (.aload_n 0, 1) := dk_42 (dk_at dksX1_coverage_0 0 rfl rfl)
theorem dX1_coverage_1 : decode cX1_coverage 1 = .ok (.invokevirtual 198, 3) := dk_182 0 198 (dk_at dksX1_coverage_0 1 rfl rfl)
theorem dX1_coverage_4 : decode cX1_coverage 4 = .ok (.astore_n 1, 1) := dk_76 (dk_at dksX1_coverage_0 4 rfl rfl)
theorem dX1_coverage_5 : decode cX1_coverage 5 = .ok (.aload_n 0, 1) := dk_42 (dk_at dksX1_coverage_0 5 rfl rfl)
theorem dX1_coverage_6 : decode cX1_coverage 6 = .ok (.getfield 56, 3) := dk_180 0 56 (dk_at dksX1_coverage_0 6 rfl rfl)
theorem dX1_coverage_9 : decode cX1_coverage 9 = .ok (.invokevirtual 119, 3) := dk_182 0 119 (dk_at dksX1_coverage_0 9 rfl rfl)
theorem dX1_coverage_12 : decode cX1_coverage 12 = .ok (.invokestatic 280, 3) := dk_184 1 24 (dk_at dksX1_coverage_0 12 rfl rfl)
theorem dX1_coverage_15 : decode cX1_coverage 15 = .ok (.aload_n 1, 1) := dk_43 (dk_at dksX1_coverage_0 15 rfl rfl)
theorem dX1_coverage_16 : decode cX1_coverage 16 = .ok (.invokevirtual 283, 3) := dk_182 1 27 (dk_at dksX1_coverage_0 16 rfl rfl)
theorem dX1_coverage_19 : decode cX1_coverage 19 = .ok (.i2d, 1) := dk_135 (dk_at dksX1_coverage_0 19 rfl rfl)
theorem dX1_coverage_20 : decode cX1_coverage 20 = .ok (.aload_n 0, 1) := dk_42 (dk_at dksX1_coverage_0 20 rfl rfl)
theorem dX1_coverage_21 : decode cX1_coverage 21 = .ok (.getfield 56, 3) := dk_180 0 56 (dk_at dksX1_coverage_0 21 rfl rfl)
theorem dX1_coverage_24 : decode cX1_coverage 24 = .ok (.invokevirtual 119, 3) := dk_182 0 119 (dk_at dksX1_coverage_1 0 rfl rfl)
theorem dX1_coverage_27 : decode cX1_coverage 27 = .ok (.i2d, 1) := dk_135 (dk_at dksX1_coverage_1 3 rfl rfl)
theorem dX1_coverage_28 : decode cX1_coverage 28 = .ok (.ddiv, 1) := dk_111 (dk_at dksX1_coverage_1 4 rfl rfl)
theorem dX1_coverage_29 : decode cX1_coverage 29 = .ok (.dreturn, 1) := dk_175 (dk_at dksX1_coverage_1 5 rfl rfl)
abbrev cX1_requireDivisor : ByteArray := prog_1_method_51_code
def yX1_requireDivisor : MethodName := ⟨RX1, "requireDivisor", "(I)V"⟩
def dkwX1_requireDivisor_0 : List UInt8 := [26, 154, 0, 11, 187, 1, 21, 89, 183, 1, 23, 191, 177]
abbrev dktX1_requireDivisor_0 : List UInt8 := dkwX1_requireDivisor_0 ++ []
theorem dksX1_requireDivisor_0 : cX1_requireDivisor.data.toList.drop 0 = dktX1_requireDivisor_0 := by decide +kernel
theorem dX1_requireDivisor_0 : decode cX1_requireDivisor 0 = .ok (.iload_n 0, 1) := dk_26 (dk_at dksX1_requireDivisor_0 0 rfl rfl)
theorem dX1_requireDivisor_1 : decode cX1_requireDivisor 1 = .ok (.ifCond .ne 11, 3) := dk_154 0 11 (dk_at dksX1_requireDivisor_0 1 rfl rfl)
theorem dX1_requireDivisor_4 : decode cX1_requireDivisor 4 = .ok (.new 277, 3) := dk_187 1 21 (dk_at dksX1_requireDivisor_0 4 rfl rfl)
theorem dX1_requireDivisor_7 : decode cX1_requireDivisor 7 = .ok (.dup, 1) := dk_89 (dk_at dksX1_requireDivisor_0 7 rfl rfl)
theorem dX1_requireDivisor_8 : decode cX1_requireDivisor 8 = .ok (.invokespecial 279, 3) := dk_183 1 23 (dk_at dksX1_requireDivisor_0 8 rfl rfl)
theorem dX1_requireDivisor_11 : decode cX1_requireDivisor 11 = .ok (.athrow, 1) := dk_191 (dk_at dksX1_requireDivisor_0 11 rfl rfl)
theorem dX1_requireDivisor_12 : decode cX1_requireDivisor 12 = .ok (.return_, 1) := dk_177 (dk_at dksX1_requireDivisor_0 12 rfl rfl)
abbrev cX1_averageBlock : ByteArray := prog_1_method_53_code
def yX1_averageBlock : MethodName := ⟨RX1, "averageBlock", "()F"⟩
def dkwX1_averageBlock_1 : List UInt8 := [182, 0, 107, 134, 110, 174]
abbrev dktX1_averageBlock_1 : List UInt8 := dkwX1_averageBlock_1 ++ []
def dkwX1_averageBlock_0 : List UInt8 := [42, 182, 0, 198, 76, 43, 180, 0, 244, 182, 0, 107, 184, 1, 24, 43, 182, 1, 30, 134, 43, 180, 0, 244]
abbrev dktX1_averageBlock_0 : List UInt8 := dkwX1_averageBlock_0 ++ dktX1_averageBlock_1
theorem dksX1_averageBlock_0 : cX1_averageBlock.data.toList.drop 0 = dktX1_averageBlock_0 := by decide +kernel
theorem dksX1_averageBlock_1 : cX1_averageBlock.data.toList.drop 24 = dktX1_averageBlock_1 := dk_seg dksX1_averageBlock_0 24 rfl rfl
theorem dX1_averageBlock_0 : decode cX1_averageBlock 0 = .ok (.aload_n 0, 1) := dk_42 (dk_at dksX1_averageBlock_0 0 rfl rfl)
theorem dX1_averageBlock_1 : decode cX1_averageBlock 1 = .ok (.invokevirtual 198, 3) := dk_182 0 198 (dk_at dksX1_averageBlock_0 1 rfl rfl)
theorem dX1_averageBlock_4 : decode cX1_averageBlock 4 = .ok (.astore_n 1, 1) := dk_76 (dk_at dksX1_averageBlock_0 4 rfl rfl)
theorem dX1_averageBlock_5 : decode cX1_averageBlock 5 = .ok (.aload_n 1, 1) := dk_43 (dk_at dksX1_averageBlock_0 5 rfl rfl)
theorem dX1_averageBlock_6 : decode cX1_averageBlock 6 = .ok (.getfield 244, 3) := dk_180 0 244 (dk_at dksX1_averageBlock_0 6 rfl rfl)
theorem dX1_averageBlock_9 : decode cX1_averageBlock 9 = .ok (.invokevirtual 107, 3) := dk_182 0 107 (dk_at dksX1_averageBlock_0 9 rfl rfl)
theorem dX1_averageBlock_12 : decode cX1_averageBlock 12 = .ok (.invokestatic 280, 3) := dk_184 1 24 (dk_at dksX1_averageBlock_0 12 rfl rfl)
theorem dX1_averageBlock_15 : decode cX1_averageBlock 15 = .ok (.aload_n 1, 1) := dk_43 (dk_at dksX1_averageBlock_0 15 rfl rfl)
theorem dX1_averageBlock_16 : decode cX1_averageBlock 16 = .ok (.invokevirtual 286, 3) := dk_182 1 30 (dk_at dksX1_averageBlock_0 16 rfl rfl)
theorem dX1_averageBlock_19 : decode cX1_averageBlock 19 = .ok (.i2f, 1) := dk_134 (dk_at dksX1_averageBlock_0 19 rfl rfl)
theorem dX1_averageBlock_20 : decode cX1_averageBlock 20 = .ok (.aload_n 1, 1) := dk_43 (dk_at dksX1_averageBlock_0 20 rfl rfl)
theorem dX1_averageBlock_21 : decode cX1_averageBlock 21 = .ok (.getfield 244, 3) := dk_180 0 244 (dk_at dksX1_averageBlock_0 21 rfl rfl)
theorem dX1_averageBlock_24 : decode cX1_averageBlock 24 = .ok (.invokevirtual 107, 3) := dk_182 0 107 (dk_at dksX1_averageBlock_1 0 rfl rfl)
theorem dX1_averageBlock_27 : decode cX1_averageBlock 27 = .ok (.i2f, 1) := dk_134 (dk_at dksX1_averageBlock_1 3 rfl rfl)
theorem dX1_averageBlock_28 : decode cX1_averageBlock 28 = .ok (.fdiv, 1) := dk_110 (dk_at dksX1_averageBlock_1 4 rfl rfl)
theorem dX1_averageBlock_29 : decode cX1_averageBlock 29 = .ok (.freturn, 1) := dk_174 (dk_at dksX1_averageBlock_1 5 rfl rfl)
abbrev cX1_restore : ByteArray := prog_1_method_55_code
def yX1_restore : MethodName := ⟨RX1, "restore", "()V"⟩
def dkwX1_restore_1 : List UInt8 := [177]
abbrev dktX1_restore_1 : List UInt8 := dkwX1_restore_1 ++ []
def dkwX1_restore_0 : List UInt8 := [42, 180, 1, 33, 198, 0, 7, 4, 167, 0, 4, 3, 184, 0, 83, 42, 42, 180, 1, 33, 4, 182, 0, 136]
abbrev dktX1_restore_0 : List UInt8 := dkwX1_restore_0 ++ dktX1_restore_1
theorem dksX1_restore_0 : cX1_restore.data.toList.drop 0 = dktX1_restore_0 := by decide +kernel
theorem dksX1_restore_1 : cX1_restore.data.toList.drop 24 = dktX1_restore_1 := dk_seg dksX1_restore_0 24 rfl rfl
theorem dX1_restore_0 : decode cX1_restore 0 = .ok (.aload_n 0, 1) := dk_42 (dk_at dksX1_restore_0 0 rfl rfl)
theorem dX1_restore_1 : decode cX1_restore 1 = .ok (.getfield 289, 3) := dk_180 1 33 (dk_at dksX1_restore_0 1 rfl rfl)
theorem dX1_restore_4 : decode cX1_restore 4 = .ok (.ifnull 7, 3) := dk_198 0 7 (dk_at dksX1_restore_0 4 rfl rfl)
theorem dX1_restore_7 : decode cX1_restore 7 = .ok (.iconst 1, 1) := dk_4 (dk_at dksX1_restore_0 7 rfl rfl)
theorem dX1_restore_8 : decode cX1_restore 8 = .ok (.goto 4, 3) := dk_167 0 4 (dk_at dksX1_restore_0 8 rfl rfl)
theorem dX1_restore_11 : decode cX1_restore 11 = .ok (.iconst 0, 1) := dk_3 (dk_at dksX1_restore_0 11 rfl rfl)
theorem dX1_restore_12 : decode cX1_restore 12 = .ok (.invokestatic 83, 3) := dk_184 0 83 (dk_at dksX1_restore_0 12 rfl rfl)
theorem dX1_restore_15 : decode cX1_restore 15 = .ok (.aload_n 0, 1) := dk_42 (dk_at dksX1_restore_0 15 rfl rfl)
theorem dX1_restore_16 : decode cX1_restore 16 = .ok (.aload_n 0, 1) := dk_42 (dk_at dksX1_restore_0 16 rfl rfl)
theorem dX1_restore_17 : decode cX1_restore 17 = .ok (.getfield 289, 3) := dk_180 1 33 (dk_at dksX1_restore_0 17 rfl rfl)
theorem dX1_restore_20 : decode cX1_restore 20 = .ok (.iconst 1, 1) := dk_4 (dk_at dksX1_restore_0 20 rfl rfl)
theorem dX1_restore_21 : decode cX1_restore 21 = .ok (.invokevirtual 136, 3) := dk_182 0 136 (dk_at dksX1_restore_0 21 rfl rfl)
theorem dX1_restore_24 : decode cX1_restore 24 = .ok (.return_, 1) := dk_177 (dk_at dksX1_restore_1 0 rfl rfl)
theorem q78 : (Jvm.Cond.initialized "CodeRecovery") ∈ lw_all := lw_g (lw_at lw_m1 1 rfl) rfl
theorem q119 : (Jvm.Cond.instantiable "CodeRecovery" (7 : Nat)) ∈ lw_all := lw_g (lw_at lw_m1 42 rfl) rfl
theorem q121 : (Jvm.Cond.instanceMethod ({ cls := "CodeRecovery", name := "<init>", desc := "()V" } : Jvm.MethodName)) ∈ lw_all := lw_g (lw_at lw_m1 44 rfl) rfl
theorem q122 : (Jvm.Cond.code ({ cls := "CodeRecovery", name := "<init>", desc := "()V" } : Jvm.MethodName) prog_1_method_7_code (1 : Nat) (Option.none : Option Jvm.ClassFile.FieldType)) ∈ lw_all := lw_g (lw_at lw_m1 45 rfl) rfl
theorem q123 : (Jvm.Cond.methodLink "CodeRecovery" (48 : Nat) ({ cls := "java/lang/Object", name := "<init>", desc := "()V" } : Jvm.MethodName)) ∈ lw_all := lw_g (lw_at lw_m1 46 rfl) rfl
theorem q126 : (Jvm.Cond.classLink "CodeRecovery" (51 : Nat) "CodeRecovery$Image") ∈ lw_all := lw_g (lw_at lw_m1 49 rfl) rfl
theorem q128 : (Jvm.Cond.methodLink "CodeRecovery" (53 : Nat) ({ cls := "CodeRecovery$Image", name := "<init>", desc := "([I[II)V" } : Jvm.MethodName)) ∈ lw_all := lw_g (lw_at lw_m1 51 rfl) rfl
theorem q135 : (Jvm.Cond.fieldLinkNest "CodeRecovery" (120 : Nat) "CodeRecovery$Image" "bytes" "[I" "CodeRecovery") ∈ lw_tbl := lw_at lw_m1 58 rfl
theorem q138 : (Jvm.Cond.fieldLinkNest "CodeRecovery" (130 : Nat) "CodeRecovery$Image" "entries" "[I" "CodeRecovery") ∈ lw_tbl := lw_at lw_m1 61 rfl
theorem q141 : (Jvm.Cond.fieldLinkNest "CodeRecovery" (133 : Nat) "CodeRecovery$Image" "threshold" "I" "CodeRecovery") ∈ lw_tbl := lw_at lw_m1 64 rfl
theorem q150 : (Jvm.Cond.fieldLink "CodeRecovery" (56 : Nat) "CodeRecovery" "now" "LCodeRecovery$Image;") ∈ lw_all := lw_g (lw_at lw_m1 73 rfl) rfl
theorem q151 : (Jvm.Cond.fieldLink "CodeRecovery" (289 : Nat) "CodeRecovery" "saved" "LCodeRecovery$Image;") ∈ lw_all := lw_g (lw_at lw_m1 74 rfl) rfl
theorem q152 : (Jvm.Cond.fieldLink "CodeRecovery" (68 : Nat) "CodeRecovery" "recovery" "LCodeRecovery$Recovery;") ∈ lw_all := lw_g (lw_at lw_m1 75 rfl) rfl
theorem q153 : (Jvm.Cond.fieldLink "CodeRecovery" (72 : Nat) "CodeRecovery" "latest" "LCodeRecovery$Run;") ∈ lw_all := lw_g (lw_at lw_m1 76 rfl) rfl
theorem q154 : (Jvm.Cond.fieldLink "CodeRecovery" (60 : Nat) "CodeRecovery" "text" "[C") ∈ lw_all := lw_g (lw_at lw_m1 77 rfl) rfl
theorem q155 : (Jvm.Cond.fieldLink "CodeRecovery" (80 : Nat) "CodeRecovery" "textLength" "I") ∈ lw_all := lw_g (lw_at lw_m1 78 rfl) rfl
theorem q156 : (Jvm.Cond.fieldLink "CodeRecovery" (64 : Nat) "CodeRecovery" "fault" "I") ∈ lw_all := lw_g (lw_at lw_m1 79 rfl) rfl
theorem q157 : (Jvm.Cond.lays "CodeRecovery" "CodeRecovery" "now" "LCodeRecovery$Image;") ∈ lw_all := lw_g (lw_at lw_m1 80 rfl) rfl
theorem q158 : (Jvm.Cond.soleField "CodeRecovery" "now") ∈ lw_all := lw_g (lw_at lw_m1 81 rfl) rfl
theorem q159 : (Jvm.Cond.lays "CodeRecovery" "CodeRecovery" "saved" "LCodeRecovery$Image;") ∈ lw_all := lw_g (lw_at lw_m1 82 rfl) rfl
theorem q160 : (Jvm.Cond.soleField "CodeRecovery" "saved") ∈ lw_all := lw_g (lw_at lw_m1 83 rfl) rfl
theorem q161 : (Jvm.Cond.lays "CodeRecovery" "CodeRecovery" "recovery" "LCodeRecovery$Recovery;") ∈ lw_all := lw_g (lw_at lw_m1 84 rfl) rfl
theorem q162 : (Jvm.Cond.soleField "CodeRecovery" "recovery") ∈ lw_all := lw_g (lw_at lw_m1 85 rfl) rfl
theorem q163 : (Jvm.Cond.lays "CodeRecovery" "CodeRecovery" "latest" "LCodeRecovery$Run;") ∈ lw_all := lw_g (lw_at lw_m1 86 rfl) rfl
theorem q164 : (Jvm.Cond.soleField "CodeRecovery" "latest") ∈ lw_all := lw_g (lw_at lw_m1 87 rfl) rfl
theorem q165 : (Jvm.Cond.laysFinal "CodeRecovery" "CodeRecovery" "text" "[C") ∈ lw_all := lw_g (lw_at lw_m1 88 rfl) rfl
theorem q166 : (Jvm.Cond.soleField "CodeRecovery" "text") ∈ lw_all := lw_g (lw_at lw_m1 89 rfl) rfl
theorem q167 : (Jvm.Cond.lays "CodeRecovery" "CodeRecovery" "textLength" "I") ∈ lw_all := lw_g (lw_at lw_m1 90 rfl) rfl
theorem q168 : (Jvm.Cond.soleField "CodeRecovery" "textLength") ∈ lw_all := lw_g (lw_at lw_m1 91 rfl) rfl
theorem q169 : (Jvm.Cond.lays "CodeRecovery" "CodeRecovery" "fault" "I") ∈ lw_all := lw_g (lw_at lw_m1 92 rfl) rfl
theorem q170 : (Jvm.Cond.soleField "CodeRecovery" "fault") ∈ lw_all := lw_g (lw_at lw_m1 93 rfl) rfl
theorem q171 : (Jvm.Cond.superclass "CodeRecovery" "java/lang/Object") ∈ lw_all := lw_g (lw_at lw_m1 94 rfl) rfl
theorem q174 : (Jvm.Cond.instanceMethod ({ cls := "CodeRecovery", name := "faultPosition", desc := "()I" } : Jvm.MethodName)) ∈ lw_all := lw_g (lw_at lw_m1 97 rfl) rfl
theorem q175 : (Jvm.Cond.selects "CodeRecovery" ({ cls := "CodeRecovery", name := "faultPosition", desc := "()I" } : Jvm.MethodName) ({ cls := "CodeRecovery", name := "faultPosition", desc := "()I" } : Jvm.MethodName)) ∈ lw_all := lw_g (lw_at lw_m1 98 rfl) rfl
theorem q176 : (Jvm.Cond.code ({ cls := "CodeRecovery", name := "faultPosition", desc := "()I" } : Jvm.MethodName) prog_1_method_14_code (1 : Nat) (Option.some Jvm.ClassFile.FieldType.int)) ∈ lw_all := lw_g (lw_at lw_m1 99 rfl) rfl
theorem q178 : (Jvm.Cond.instanceMethod ({ cls := "CodeRecovery", name := "clear", desc := "()I" } : Jvm.MethodName)) ∈ lw_all := lw_g (lw_at lw_m1 101 rfl) rfl
theorem q179 : (Jvm.Cond.selects "CodeRecovery" ({ cls := "CodeRecovery", name := "clear", desc := "()I" } : Jvm.MethodName) ({ cls := "CodeRecovery", name := "clear", desc := "()I" } : Jvm.MethodName)) ∈ lw_all := lw_g (lw_at lw_m1 102 rfl) rfl
theorem q180 : (Jvm.Cond.code ({ cls := "CodeRecovery", name := "clear", desc := "()I" } : Jvm.MethodName) prog_1_method_17_code (2 : Nat) (Option.some Jvm.ClassFile.FieldType.int)) ∈ lw_all := lw_g (lw_at lw_m1 103 rfl) rfl
theorem q181 : (Jvm.Cond.methodLink "CodeRecovery" (119 : Nat) ({ cls := "CodeRecovery$Image", name := "size", desc := "()I" } : Jvm.MethodName)) ∈ lw_all := lw_g (lw_at lw_m1 104 rfl) rfl
theorem q185 : (Jvm.Cond.methodLink "CodeRecovery" (136 : Nat) ({ cls := "CodeRecovery", name := "set", desc := "(LCodeRecovery$Image;Z)V" } : Jvm.MethodName)) ∈ lw_all := lw_g (lw_at lw_m1 108 rfl) rfl
theorem q186 : (Jvm.Cond.privateMethod ({ cls := "CodeRecovery", name := "set", desc := "(LCodeRecovery$Image;Z)V" } : Jvm.MethodName)) ∈ lw_tbl := lw_at lw_m1 109 rfl
theorem q187 : (Jvm.Cond.instanceMethod ({ cls := "CodeRecovery", name := "set", desc := "(LCodeRecovery$Image;Z)V" } : Jvm.MethodName)) ∈ lw_all := lw_g (lw_at lw_m1 110 rfl) rfl
theorem q188 : (Jvm.Cond.code ({ cls := "CodeRecovery", name := "set", desc := "(LCodeRecovery$Image;Z)V" } : Jvm.MethodName) prog_1_method_8_code (3 : Nat) (Option.none : Option Jvm.ClassFile.FieldType)) ∈ lw_all := lw_g (lw_at lw_m1 111 rfl) rfl
theorem q190 : (Jvm.Cond.instanceMethod ({ cls := "CodeRecovery", name := "size", desc := "()I" } : Jvm.MethodName)) ∈ lw_all := lw_g (lw_at lw_m1 113 rfl) rfl
theorem q191 : (Jvm.Cond.selects "CodeRecovery" ({ cls := "CodeRecovery", name := "size", desc := "()I" } : Jvm.MethodName) ({ cls := "CodeRecovery", name := "size", desc := "()I" } : Jvm.MethodName)) ∈ lw_all := lw_g (lw_at lw_m1 114 rfl) rfl
theorem q192 : (Jvm.Cond.code ({ cls := "CodeRecovery", name := "size", desc := "()I" } : Jvm.MethodName) prog_1_method_18_code (1 : Nat) (Option.some Jvm.ClassFile.FieldType.int)) ∈ lw_all := lw_g (lw_at lw_m1 115 rfl) rfl
theorem q194 : (Jvm.Cond.instanceMethod ({ cls := "CodeRecovery", name := "entryCount", desc := "()I" } : Jvm.MethodName)) ∈ lw_all := lw_g (lw_at lw_m1 117 rfl) rfl
theorem q195 : (Jvm.Cond.selects "CodeRecovery" ({ cls := "CodeRecovery", name := "entryCount", desc := "()I" } : Jvm.MethodName) ({ cls := "CodeRecovery", name := "entryCount", desc := "()I" } : Jvm.MethodName)) ∈ lw_all := lw_g (lw_at lw_m1 118 rfl) rfl
theorem q196 : (Jvm.Cond.code ({ cls := "CodeRecovery", name := "entryCount", desc := "()I" } : Jvm.MethodName) prog_1_method_21_code (1 : Nat) (Option.some Jvm.ClassFile.FieldType.int)) ∈ lw_all := lw_g (lw_at lw_m1 119 rfl) rfl
theorem q198 : (Jvm.Cond.instanceMethod ({ cls := "CodeRecovery", name := "recover", desc := "()I" } : Jvm.MethodName)) ∈ lw_all := lw_g (lw_at lw_m1 121 rfl) rfl
theorem q199 : (Jvm.Cond.selects "CodeRecovery" ({ cls := "CodeRecovery", name := "recover", desc := "()I" } : Jvm.MethodName) ({ cls := "CodeRecovery", name := "recover", desc := "()I" } : Jvm.MethodName)) ∈ lw_all := lw_g (lw_at lw_m1 122 rfl) rfl
theorem q200 : (Jvm.Cond.code ({ cls := "CodeRecovery", name := "recover", desc := "()I" } : Jvm.MethodName) prog_1_method_26_code (1 : Nat) (Option.some Jvm.ClassFile.FieldType.int)) ∈ lw_all := lw_g (lw_at lw_m1 123 rfl) rfl
theorem q201 : (Jvm.Cond.classLink "CodeRecovery" (184 : Nat) "CodeRecovery$Recovery") ∈ lw_all := lw_g (lw_at lw_m1 124 rfl) rfl
theorem q203 : (Jvm.Cond.methodLink "CodeRecovery" (186 : Nat) ({ cls := "CodeRecovery$Recovery", name := "<init>", desc := "(LCodeRecovery$Image;)V" } : Jvm.MethodName)) ∈ lw_all := lw_g (lw_at lw_m1 126 rfl) rfl
theorem q404 : (Jvm.Cond.selects "CodeRecovery" ({ cls := "java/lang/Object", name := "getClass", desc := "()Ljava/lang/Class;" } : Jvm.MethodName) ({ cls := "java/lang/Object", name := "getClass", desc := "()Ljava/lang/Class;" } : Jvm.MethodName)) ∈ lw_all := lw_g (lw_at lw_m2 87 rfl) rfl
theorem q775 : (Jvm.Cond.static ({ cls := "CodeRecovery", name := "isBetween", desc := "(III)Z" } : Jvm.MethodName)) ∈ lw_all := lw_g (lw_at lw_m3 218 rfl) rfl
theorem q776 : (Jvm.Cond.code ({ cls := "CodeRecovery", name := "isBetween", desc := "(III)Z" } : Jvm.MethodName) prog_1_method_1_code (3 : Nat) (Option.some Jvm.ClassFile.FieldType.boolean)) ∈ lw_all := lw_g (lw_at lw_m3 219 rfl) rfl
theorem q821 : (Jvm.Cond.selects "CodeRecovery" ({ cls := "java/lang/Object", name := "equals", desc := "(Ljava/lang/Object;)Z" } : Jvm.MethodName) ({ cls := "java/lang/Object", name := "equals", desc := "(Ljava/lang/Object;)Z" } : Jvm.MethodName)) ∈ lw_all := lw_g (lw_at lw_m4 24 rfl) rfl
theorem q940 : (Jvm.Cond.fieldLinkNest "CodeRecovery" (233 : Nat) "CodeRecovery$Table" "entries" "Ljava/util/ArrayList;" "CodeRecovery") ∈ lw_tbl := lw_at lw_m4 143 rfl
theorem q963 : (Jvm.Cond.static ({ cls := "CodeRecovery", name := "addAll", desc := "(Ljava/util/List;Ljava/util/ArrayDeque;)V" } : Jvm.MethodName)) ∈ lw_all := lw_g (lw_at lw_m4 166 rfl) rfl
theorem q964 : (Jvm.Cond.code ({ cls := "CodeRecovery", name := "addAll", desc := "(Ljava/util/List;Ljava/util/ArrayDeque;)V" } : Jvm.MethodName) prog_1_method_6_code (3 : Nat) (Option.none : Option Jvm.ClassFile.FieldType)) ∈ lw_all := lw_g (lw_at lw_m4 167 rfl) rfl
theorem q965 : (Jvm.Cond.interfaceEntry "CodeRecovery" (13 : Nat)) ∈ lw_tbl := lw_at lw_m4 168 rfl
theorem q966 : (Jvm.Cond.methodLink "CodeRecovery" (13 : Nat) ({ cls := "java/util/List", name := "size", desc := "()I" } : Jvm.MethodName)) ∈ lw_all := lw_g (lw_at lw_m4 169 rfl) rfl
theorem q975 : (Jvm.Cond.interfaceEntry "CodeRecovery" (32 : Nat)) ∈ lw_tbl := lw_at lw_m4 178 rfl
theorem q976 : (Jvm.Cond.methodLink "CodeRecovery" (32 : Nat) ({ cls := "java/util/List", name := "get", desc := "(I)Ljava/lang/Object;" } : Jvm.MethodName)) ∈ lw_all := lw_g (lw_at lw_m4 179 rfl) rfl
theorem q994 : (Jvm.Cond.methodLink "CodeRecovery" (42 : Nat) ({ cls := "java/util/ArrayDeque", name := "addLast", desc := "(Ljava/lang/Object;)V" } : Jvm.MethodName)) ∈ lw_all := lw_g (lw_at lw_m4 197 rfl) rfl
theorem q1088 : (Jvm.Cond.fieldLinkNest "CodeRecovery" (205 : Nat) "CodeRecovery$Recovery" "uses" "[I" "CodeRecovery") ∈ lw_tbl := lw_at lw_m5 51 rfl
theorem q1091 : (Jvm.Cond.fieldLinkNest "CodeRecovery" (208 : Nat) "CodeRecovery$Recovery" "conflicts" "LCodeRecovery$Distinct;" "CodeRecovery") ∈ lw_tbl := lw_at lw_m5 54 rfl
theorem q1093 : (Jvm.Cond.fieldLinkNest "CodeRecovery" (216 : Nat) "CodeRecovery$Recovery" "badTargets" "LCodeRecovery$Distinct;" "CodeRecovery") ∈ lw_tbl := lw_at lw_m5 56 rfl
theorem q1095 : (Jvm.Cond.fieldLinkNest "CodeRecovery" (219 : Nat) "CodeRecovery$Recovery" "tables" "Ljava/util/ArrayList;" "CodeRecovery") ∈ lw_tbl := lw_at lw_m5 58 rfl
theorem q1097 : (Jvm.Cond.fieldLinkNest "CodeRecovery" (238 : Nat) "CodeRecovery$Recovery" "gaps" "Ljava/util/ArrayList;" "CodeRecovery") ∈ lw_tbl := lw_at lw_m5 60 rfl
theorem q1099 : (Jvm.Cond.fieldLinkNest "CodeRecovery" (244 : Nat) "CodeRecovery$Recovery" "blocks" "Ljava/util/ArrayList;" "CodeRecovery") ∈ lw_tbl := lw_at lw_m5 62 rfl
theorem q1101 : (Jvm.Cond.fieldLinkNest "CodeRecovery" (189 : Nat) "CodeRecovery$Recovery" "accepted" "Ljava/util/BitSet;" "CodeRecovery") ∈ lw_tbl := lw_at lw_m5 64 rfl
theorem q1121 : (Jvm.Cond.methodLink "CodeRecovery" (193 : Nat) ({ cls := "java/util/BitSet", name := "cardinality", desc := "()I" } : Jvm.MethodName)) ∈ lw_all := lw_g (lw_at lw_m5 84 rfl) rfl
theorem q1132 : (Jvm.Cond.instanceMethod ({ cls := "CodeRecovery", name := "save", desc := "()V" } : Jvm.MethodName)) ∈ lw_all := lw_g (lw_at lw_m5 95 rfl) rfl
theorem q1133 : (Jvm.Cond.selects "CodeRecovery" ({ cls := "CodeRecovery", name := "save", desc := "()V" } : Jvm.MethodName) ({ cls := "CodeRecovery", name := "save", desc := "()V" } : Jvm.MethodName)) ∈ lw_all := lw_g (lw_at lw_m5 96 rfl) rfl
theorem q1134 : (Jvm.Cond.code ({ cls := "CodeRecovery", name := "save", desc := "()V" } : Jvm.MethodName) prog_1_method_54_code (1 : Nat) (Option.none : Option Jvm.ClassFile.FieldType)) ∈ lw_all := lw_g (lw_at lw_m5 97 rfl) rfl
theorem q1141 : (Jvm.Cond.instanceMethod ({ cls := "CodeRecovery", name := "appendCharacter", desc := "(I)I" } : Jvm.MethodName)) ∈ lw_all := lw_g (lw_at lw_m5 104 rfl) rfl
theorem q1142 : (Jvm.Cond.selects "CodeRecovery" ({ cls := "CodeRecovery", name := "appendCharacter", desc := "(I)I" } : Jvm.MethodName) ({ cls := "CodeRecovery", name := "appendCharacter", desc := "(I)I" } : Jvm.MethodName)) ∈ lw_all := lw_g (lw_at lw_m5 105 rfl) rfl
theorem q1143 : (Jvm.Cond.code ({ cls := "CodeRecovery", name := "appendCharacter", desc := "(I)I" } : Jvm.MethodName) prog_1_method_10_code (2 : Nat) (Option.some Jvm.ClassFile.FieldType.int)) ∈ lw_all := lw_g (lw_at lw_m5 106 rfl) rfl
theorem q1144 : (Jvm.Cond.methodLink "CodeRecovery" (19 : Nat) ({ cls := "CodeRecovery", name := "isBetween", desc := "(III)Z" } : Jvm.MethodName)) ∈ lw_all := lw_g (lw_at lw_m5 107 rfl) rfl
theorem q1145 : (Jvm.Cond.methodLink "CodeRecovery" (29 : Nat) ({ cls := "CodeRecovery", name := "requireArgument", desc := "(Z)V" } : Jvm.MethodName)) ∈ lw_all := lw_g (lw_at lw_m5 108 rfl) rfl
theorem q1146 : (Jvm.Cond.static ({ cls := "CodeRecovery", name := "requireArgument", desc := "(Z)V" } : Jvm.MethodName)) ∈ lw_all := lw_g (lw_at lw_m5 109 rfl) rfl
theorem q1147 : (Jvm.Cond.code ({ cls := "CodeRecovery", name := "requireArgument", desc := "(Z)V" } : Jvm.MethodName) prog_1_method_2_code (1 : Nat) (Option.none : Option Jvm.ClassFile.FieldType)) ∈ lw_all := lw_g (lw_at lw_m5 110 rfl) rfl
theorem q1148 : (Jvm.Cond.classLink "CodeRecovery" (1 : Nat) "java/lang/IllegalArgumentException") ∈ lw_all := lw_g (lw_at lw_m5 111 rfl) rfl
theorem q1149 : (Jvm.Cond.methodLink "CodeRecovery" (3 : Nat) ({ cls := "java/lang/IllegalArgumentException", name := "<init>", desc := "()V" } : Jvm.MethodName)) ∈ lw_all := lw_g (lw_at lw_m5 112 rfl) rfl
theorem q1153 : (Jvm.Cond.methodLink "CodeRecovery" (83 : Nat) ({ cls := "CodeRecovery", name := "requireState", desc := "(Z)V" } : Jvm.MethodName)) ∈ lw_all := lw_g (lw_at lw_m5 116 rfl) rfl
theorem q1154 : (Jvm.Cond.static ({ cls := "CodeRecovery", name := "requireState", desc := "(Z)V" } : Jvm.MethodName)) ∈ lw_all := lw_g (lw_at lw_m5 117 rfl) rfl
theorem q1155 : (Jvm.Cond.code ({ cls := "CodeRecovery", name := "requireState", desc := "(Z)V" } : Jvm.MethodName) prog_1_method_3_code (1 : Nat) (Option.none : Option Jvm.ClassFile.FieldType)) ∈ lw_all := lw_g (lw_at lw_m5 118 rfl) rfl
theorem q1156 : (Jvm.Cond.classLink "CodeRecovery" (7 : Nat) "java/lang/IllegalStateException") ∈ lw_all := lw_g (lw_at lw_m5 119 rfl) rfl
theorem q1157 : (Jvm.Cond.methodLink "CodeRecovery" (9 : Nat) ({ cls := "java/lang/IllegalStateException", name := "<init>", desc := "()V" } : Jvm.MethodName)) ∈ lw_all := lw_g (lw_at lw_m5 120 rfl) rfl
theorem q1165 : (Jvm.Cond.instanceMethod ({ cls := "CodeRecovery", name := "addBytes", desc := "()I" } : Jvm.MethodName)) ∈ lw_all := lw_g (lw_at lw_m5 128 rfl) rfl
theorem q1166 : (Jvm.Cond.selects "CodeRecovery" ({ cls := "CodeRecovery", name := "addBytes", desc := "()I" } : Jvm.MethodName) ({ cls := "CodeRecovery", name := "addBytes", desc := "()I" } : Jvm.MethodName)) ∈ lw_all := lw_g (lw_at lw_m5 129 rfl) rfl
theorem q1167 : (Jvm.Cond.codeWith ({ cls := "CodeRecovery", name := "addBytes", desc := "()I" } : Jvm.MethodName) prog_1_method_13_code (4 : Nat) (Option.some Jvm.ClassFile.FieldType.int) [((0 : Nat), (10 : Nat), (18 : Nat), (86 : Nat)), ((0 : Nat), (10 : Nat), (35 : Nat), (0 : Nat)), ((18 : Nat), (36 : Nat), (35 : Nat), (0 : Nat))]) ∈ lw_all := lw_g (lw_at lw_m5 130 rfl) rfl
theorem q1168 : (Jvm.Cond.classLink "CodeRecovery" (86 : Nat) "CodeRecovery$FaultException") ∈ lw_all := lw_g (lw_at lw_m5 131 rfl) rfl
theorem q1169 : (Jvm.Cond.methodLink "CodeRecovery" (112 : Nat) ({ cls := "CodeRecovery", name := "readBytes", desc := "()[I" } : Jvm.MethodName)) ∈ lw_all := lw_g (lw_at lw_m5 132 rfl) rfl
theorem q1170 : (Jvm.Cond.privateMethod ({ cls := "CodeRecovery", name := "readBytes", desc := "()[I" } : Jvm.MethodName)) ∈ lw_tbl := lw_at lw_m5 133 rfl
theorem q1171 : (Jvm.Cond.instanceMethod ({ cls := "CodeRecovery", name := "readBytes", desc := "()[I" } : Jvm.MethodName)) ∈ lw_all := lw_g (lw_at lw_m5 134 rfl) rfl
theorem q1172 : (Jvm.Cond.code ({ cls := "CodeRecovery", name := "readBytes", desc := "()[I" } : Jvm.MethodName) prog_1_method_12_code (4 : Nat) (Option.some (Jvm.ClassFile.FieldType.array Jvm.ClassFile.FieldType.int))) ∈ lw_all := lw_g (lw_at lw_m5 135 rfl) rfl
theorem q1173 : (Jvm.Cond.classLink "CodeRecovery" (91 : Nat) "java/util/ArrayList") ∈ lw_all := lw_g (lw_at lw_m5 136 rfl) rfl
theorem q1174 : (Jvm.Cond.methodLink "CodeRecovery" (93 : Nat) ({ cls := "java/util/ArrayList", name := "<init>", desc := "()V" } : Jvm.MethodName)) ∈ lw_all := lw_g (lw_at lw_m5 137 rfl) rfl
theorem q1175 : (Jvm.Cond.methodLink "CodeRecovery" (94 : Nat) ({ cls := "CodeRecovery", name := "digitAt", desc := "(I)I" } : Jvm.MethodName)) ∈ lw_all := lw_g (lw_at lw_m5 138 rfl) rfl
theorem q1176 : (Jvm.Cond.privateMethod ({ cls := "CodeRecovery", name := "digitAt", desc := "(I)I" } : Jvm.MethodName)) ∈ lw_tbl := lw_at lw_m5 139 rfl
theorem q1177 : (Jvm.Cond.instanceMethod ({ cls := "CodeRecovery", name := "digitAt", desc := "(I)I" } : Jvm.MethodName)) ∈ lw_all := lw_g (lw_at lw_m5 140 rfl) rfl
theorem q1178 : (Jvm.Cond.code ({ cls := "CodeRecovery", name := "digitAt", desc := "(I)I" } : Jvm.MethodName) prog_1_method_11_code (3 : Nat) (Option.some Jvm.ClassFile.FieldType.int)) ∈ lw_all := lw_g (lw_at lw_m5 141 rfl) rfl
theorem q1187 : (Jvm.Cond.methodLink "CodeRecovery" (88 : Nat) ({ cls := "CodeRecovery$FaultException", name := "<init>", desc := "(I)V" } : Jvm.MethodName)) ∈ lw_all := lw_g (lw_at lw_m5 150 rfl) rfl
theorem q1197 : (Jvm.Cond.fieldLinkNest "CodeRecovery" (116 : Nat) "CodeRecovery$FaultException" "position" "I" "CodeRecovery") ∈ lw_tbl := lw_at lw_m5 160 rfl
theorem q1202 : (Jvm.Cond.methodLink "CodeRecovery" (97 : Nat) ({ cls := "java/lang/Integer", name := "valueOf", desc := "(I)Ljava/lang/Integer;" } : Jvm.MethodName)) ∈ lw_all := lw_g (lw_at lw_m5 165 rfl) rfl
theorem q1203 : (Jvm.Cond.methodLink "CodeRecovery" (103 : Nat) ({ cls := "java/util/ArrayList", name := "add", desc := "(Ljava/lang/Object;)Z" } : Jvm.MethodName)) ∈ lw_all := lw_g (lw_at lw_m5 166 rfl) rfl
theorem q1204 : (Jvm.Cond.methodLink "CodeRecovery" (107 : Nat) ({ cls := "java/util/ArrayList", name := "size", desc := "()I" } : Jvm.MethodName)) ∈ lw_all := lw_g (lw_at lw_m5 167 rfl) rfl
theorem q1205 : (Jvm.Cond.methodLink "CodeRecovery" (108 : Nat) ({ cls := "java/util/ArrayList", name := "get", desc := "(I)Ljava/lang/Object;" } : Jvm.MethodName)) ∈ lw_all := lw_g (lw_at lw_m5 168 rfl) rfl
theorem q1206 : (Jvm.Cond.classLink "CodeRecovery" (98 : Nat) "java/lang/Integer") ∈ lw_all := lw_g (lw_at lw_m5 169 rfl) rfl
theorem q1207 : (Jvm.Cond.methodLink "CodeRecovery" (109 : Nat) ({ cls := "java/lang/Integer", name := "intValue", desc := "()I" } : Jvm.MethodName)) ∈ lw_all := lw_g (lw_at lw_m5 170 rfl) rfl
theorem q1208 : (Jvm.Cond.methodLink "CodeRecovery" (124 : Nat) ({ cls := "java/lang/System", name := "arraycopy", desc := "(Ljava/lang/Object;ILjava/lang/Object;II)V" } : Jvm.MethodName)) ∈ lw_all := lw_g (lw_at lw_m5 171 rfl) rfl
theorem q1229 : (Jvm.Cond.instanceMethod ({ cls := "CodeRecovery", name := "setByte", desc := "(II)I" } : Jvm.MethodName)) ∈ lw_all := lw_g (lw_at lw_m5 192 rfl) rfl
theorem q1230 : (Jvm.Cond.selects "CodeRecovery" ({ cls := "CodeRecovery", name := "setByte", desc := "(II)I" } : Jvm.MethodName) ({ cls := "CodeRecovery", name := "setByte", desc := "(II)I" } : Jvm.MethodName)) ∈ lw_all := lw_g (lw_at lw_m5 193 rfl) rfl
theorem q1231 : (Jvm.Cond.code ({ cls := "CodeRecovery", name := "setByte", desc := "(II)I" } : Jvm.MethodName) prog_1_method_15_code (5 : Nat) (Option.some Jvm.ClassFile.FieldType.int)) ∈ lw_all := lw_g (lw_at lw_m5 194 rfl) rfl
theorem q1232 : (Jvm.Cond.methodLink "CodeRecovery" (140 : Nat) ({ cls := "CodeRecovery", name := "requireAddress", desc := "(I)V" } : Jvm.MethodName)) ∈ lw_all := lw_g (lw_at lw_m5 195 rfl) rfl
theorem q1233 : (Jvm.Cond.privateMethod ({ cls := "CodeRecovery", name := "requireAddress", desc := "(I)V" } : Jvm.MethodName)) ∈ lw_tbl := lw_at lw_m5 196 rfl
theorem q1234 : (Jvm.Cond.instanceMethod ({ cls := "CodeRecovery", name := "requireAddress", desc := "(I)V" } : Jvm.MethodName)) ∈ lw_all := lw_g (lw_at lw_m5 197 rfl) rfl
theorem q1235 : (Jvm.Cond.code ({ cls := "CodeRecovery", name := "requireAddress", desc := "(I)V" } : Jvm.MethodName) prog_1_method_9_code (2 : Nat) (Option.none : Option Jvm.ClassFile.FieldType)) ∈ lw_all := lw_g (lw_at lw_m5 198 rfl) rfl
theorem q1236 : (Jvm.Cond.methodLink "CodeRecovery" (76 : Nat) ({ cls := "CodeRecovery$Image", name := "contains", desc := "(I)Z" } : Jvm.MethodName)) ∈ lw_all := lw_g (lw_at lw_m5 199 rfl) rfl
theorem q1237 : (Jvm.Cond.methodLink "CodeRecovery" (25 : Nat) ({ cls := "CodeRecovery", name := "requireIndex", desc := "(Z)V" } : Jvm.MethodName)) ∈ lw_all := lw_g (lw_at lw_m5 200 rfl) rfl
theorem q1238 : (Jvm.Cond.static ({ cls := "CodeRecovery", name := "requireIndex", desc := "(Z)V" } : Jvm.MethodName)) ∈ lw_all := lw_g (lw_at lw_m5 201 rfl) rfl
theorem q1239 : (Jvm.Cond.code ({ cls := "CodeRecovery", name := "requireIndex", desc := "(Z)V" } : Jvm.MethodName) prog_1_method_4_code (1 : Nat) (Option.none : Option Jvm.ClassFile.FieldType)) ∈ lw_all := lw_g (lw_at lw_m5 202 rfl) rfl
theorem q1240 : (Jvm.Cond.classLink "CodeRecovery" (10 : Nat) "java/lang/IndexOutOfBoundsException") ∈ lw_all := lw_g (lw_at lw_m5 203 rfl) rfl
theorem q1241 : (Jvm.Cond.methodLink "CodeRecovery" (12 : Nat) ({ cls := "java/lang/IndexOutOfBoundsException", name := "<init>", desc := "()V" } : Jvm.MethodName)) ∈ lw_all := lw_g (lw_at lw_m5 204 rfl) rfl
theorem q1245 : (Jvm.Cond.methodLink "CodeRecovery" (143 : Nat) ({ cls := "[I", name := "clone", desc := "()Ljava/lang/Object;" } : Jvm.MethodName)) ∈ lw_all := lw_g (lw_at lw_m5 208 rfl) rfl
theorem q1249 : (Jvm.Cond.classLink "CodeRecovery" (144 : Nat) "[I") ∈ lw_all := lw_g (lw_at lw_m5 212 rfl) rfl
theorem q1254 : (Jvm.Cond.instanceMethod ({ cls := "CodeRecovery", name := "byteAt", desc := "(I)I" } : Jvm.MethodName)) ∈ lw_all := lw_g (lw_at lw_m5 217 rfl) rfl
theorem q1255 : (Jvm.Cond.selects "CodeRecovery" ({ cls := "CodeRecovery", name := "byteAt", desc := "(I)I" } : Jvm.MethodName) ({ cls := "CodeRecovery", name := "byteAt", desc := "(I)I" } : Jvm.MethodName)) ∈ lw_all := lw_g (lw_at lw_m5 218 rfl) rfl
theorem q1256 : (Jvm.Cond.code ({ cls := "CodeRecovery", name := "byteAt", desc := "(I)I" } : Jvm.MethodName) prog_1_method_16_code (2 : Nat) (Option.some Jvm.ClassFile.FieldType.int)) ∈ lw_all := lw_g (lw_at lw_m5 219 rfl) rfl
theorem q1261 : (Jvm.Cond.instanceMethod ({ cls := "CodeRecovery", name := "addEntry", desc := "(I)I" } : Jvm.MethodName)) ∈ lw_all := lw_g (lw_at lw_m5 224 rfl) rfl
theorem q1262 : (Jvm.Cond.selects "CodeRecovery" ({ cls := "CodeRecovery", name := "addEntry", desc := "(I)I" } : Jvm.MethodName) ({ cls := "CodeRecovery", name := "addEntry", desc := "(I)I" } : Jvm.MethodName)) ∈ lw_all := lw_g (lw_at lw_m5 225 rfl) rfl
theorem q1263 : (Jvm.Cond.code ({ cls := "CodeRecovery", name := "addEntry", desc := "(I)I" } : Jvm.MethodName) prog_1_method_19_code (3 : Nat) (Option.some Jvm.ClassFile.FieldType.int)) ∈ lw_all := lw_g (lw_at lw_m5 226 rfl) rfl
theorem q1264 : (Jvm.Cond.methodLink "CodeRecovery" (148 : Nat) ({ cls := "CodeRecovery$Image", name := "isEntry", desc := "(I)Z" } : Jvm.MethodName)) ∈ lw_all := lw_g (lw_at lw_m5 227 rfl) rfl
theorem q1272 : (Jvm.Cond.instanceMethod ({ cls := "CodeRecovery", name := "removeEntry", desc := "(I)I" } : Jvm.MethodName)) ∈ lw_all := lw_g (lw_at lw_m5 235 rfl) rfl
theorem q1273 : (Jvm.Cond.selects "CodeRecovery" ({ cls := "CodeRecovery", name := "removeEntry", desc := "(I)I" } : Jvm.MethodName) ({ cls := "CodeRecovery", name := "removeEntry", desc := "(I)I" } : Jvm.MethodName)) ∈ lw_all := lw_g (lw_at lw_m5 236 rfl) rfl
theorem q1274 : (Jvm.Cond.code ({ cls := "CodeRecovery", name := "removeEntry", desc := "(I)I" } : Jvm.MethodName) prog_1_method_20_code (4 : Nat) (Option.some Jvm.ClassFile.FieldType.int)) ∈ lw_all := lw_g (lw_at lw_m5 237 rfl) rfl
theorem q1279 : (Jvm.Cond.instanceMethod ({ cls := "CodeRecovery", name := "setThreshold", desc := "(I)I" } : Jvm.MethodName)) ∈ lw_all := lw_g (lw_at lw_m6 2 rfl) rfl
theorem q1280 : (Jvm.Cond.selects "CodeRecovery" ({ cls := "CodeRecovery", name := "setThreshold", desc := "(I)I" } : Jvm.MethodName) ({ cls := "CodeRecovery", name := "setThreshold", desc := "(I)I" } : Jvm.MethodName)) ∈ lw_all := lw_g (lw_at lw_m6 3 rfl) rfl
theorem q1281 : (Jvm.Cond.code ({ cls := "CodeRecovery", name := "setThreshold", desc := "(I)I" } : Jvm.MethodName) prog_1_method_22_code (3 : Nat) (Option.some Jvm.ClassFile.FieldType.int)) ∈ lw_all := lw_g (lw_at lw_m6 4 rfl) rfl
theorem q1286 : (Jvm.Cond.instanceMethod ({ cls := "CodeRecovery", name := "isValid", desc := "(I)Z" } : Jvm.MethodName)) ∈ lw_all := lw_g (lw_at lw_m6 9 rfl) rfl
theorem q1287 : (Jvm.Cond.selects "CodeRecovery" ({ cls := "CodeRecovery", name := "isValid", desc := "(I)Z" } : Jvm.MethodName) ({ cls := "CodeRecovery", name := "isValid", desc := "(I)Z" } : Jvm.MethodName)) ∈ lw_all := lw_g (lw_at lw_m6 10 rfl) rfl
theorem q1288 : (Jvm.Cond.code ({ cls := "CodeRecovery", name := "isValid", desc := "(I)Z" } : Jvm.MethodName) prog_1_method_23_code (2 : Nat) (Option.some Jvm.ClassFile.FieldType.boolean)) ∈ lw_all := lw_g (lw_at lw_m6 11 rfl) rfl
theorem q1289 : (Jvm.Cond.methodLink "CodeRecovery" (151 : Nat) ({ cls := "CodeRecovery$Image", name := "isValid", desc := "(I)Z" } : Jvm.MethodName)) ∈ lw_all := lw_g (lw_at lw_m6 12 rfl) rfl
theorem q1295 : (Jvm.Cond.instanceMethod ({ cls := "CodeRecovery", name := "decode", desc := "(II)I" } : Jvm.MethodName)) ∈ lw_all := lw_g (lw_at lw_m6 18 rfl) rfl
theorem q1296 : (Jvm.Cond.selects "CodeRecovery" ({ cls := "CodeRecovery", name := "decode", desc := "(II)I" } : Jvm.MethodName) ({ cls := "CodeRecovery", name := "decode", desc := "(II)I" } : Jvm.MethodName)) ∈ lw_all := lw_g (lw_at lw_m6 19 rfl) rfl
theorem q1297 : (Jvm.Cond.code ({ cls := "CodeRecovery", name := "decode", desc := "(II)I" } : Jvm.MethodName) prog_1_method_25_code (3 : Nat) (Option.some Jvm.ClassFile.FieldType.int)) ∈ lw_all := lw_g (lw_at lw_m6 20 rfl) rfl
theorem q1298 : (Jvm.Cond.methodLink "CodeRecovery" (157 : Nat) ({ cls := "CodeRecovery", name := "requireSupport", desc := "(Z)V" } : Jvm.MethodName)) ∈ lw_all := lw_g (lw_at lw_m6 21 rfl) rfl
theorem q1299 : (Jvm.Cond.static ({ cls := "CodeRecovery", name := "requireSupport", desc := "(Z)V" } : Jvm.MethodName)) ∈ lw_all := lw_g (lw_at lw_m6 22 rfl) rfl
theorem q1300 : (Jvm.Cond.code ({ cls := "CodeRecovery", name := "requireSupport", desc := "(Z)V" } : Jvm.MethodName) prog_1_method_24_code (1 : Nat) (Option.none : Option Jvm.ClassFile.FieldType)) ∈ lw_all := lw_g (lw_at lw_m6 23 rfl) rfl
theorem q1301 : (Jvm.Cond.classLink "CodeRecovery" (154 : Nat) "java/lang/UnsupportedOperationException") ∈ lw_all := lw_g (lw_at lw_m6 24 rfl) rfl
theorem q1310 : (Jvm.Cond.methodLink "CodeRecovery" (156 : Nat) ({ cls := "java/lang/UnsupportedOperationException", name := "<init>", desc := "()V" } : Jvm.MethodName)) ∈ lw_all := lw_g (lw_at lw_m6 33 rfl) rfl
theorem q1316 : (Jvm.Cond.methodLink "CodeRecovery" (160 : Nat) ({ cls := "CodeRecovery$Image", name := "kind", desc := "(I)I" } : Jvm.MethodName)) ∈ lw_all := lw_g (lw_at lw_m6 39 rfl) rfl
theorem q1317 : (Jvm.Cond.methodLink "CodeRecovery" (163 : Nat) ({ cls := "CodeRecovery$Image", name := "length", desc := "(I)I" } : Jvm.MethodName)) ∈ lw_all := lw_g (lw_at lw_m6 40 rfl) rfl
theorem q1318 : (Jvm.Cond.methodLink "CodeRecovery" (166 : Nat) ({ cls := "CodeRecovery$Image", name := "first", desc := "(I)I" } : Jvm.MethodName)) ∈ lw_all := lw_g (lw_at lw_m6 41 rfl) rfl
theorem q1319 : (Jvm.Cond.methodLink "CodeRecovery" (169 : Nat) ({ cls := "CodeRecovery$Image", name := "second", desc := "(I)I" } : Jvm.MethodName)) ∈ lw_all := lw_g (lw_at lw_m6 42 rfl) rfl
theorem q1323 : (Jvm.Cond.methodLink "CodeRecovery" (172 : Nat) ({ cls := "CodeRecovery$Image", name := "hasOperand", desc := "(I)Z" } : Jvm.MethodName)) ∈ lw_all := lw_g (lw_at lw_m6 46 rfl) rfl
theorem q1324 : (Jvm.Cond.methodLink "CodeRecovery" (175 : Nat) ({ cls := "CodeRecovery$Image", name := "operand", desc := "(I)I" } : Jvm.MethodName)) ∈ lw_all := lw_g (lw_at lw_m6 47 rfl) rfl
theorem q1325 : (Jvm.Cond.methodLink "CodeRecovery" (178 : Nat) ({ cls := "CodeRecovery$Image", name := "hasTarget", desc := "(I)Z" } : Jvm.MethodName)) ∈ lw_all := lw_g (lw_at lw_m6 48 rfl) rfl
theorem q1326 : (Jvm.Cond.methodLink "CodeRecovery" (181 : Nat) ({ cls := "CodeRecovery$Image", name := "target", desc := "(I)I" } : Jvm.MethodName)) ∈ lw_all := lw_g (lw_at lw_m6 49 rfl) rfl
theorem q1331 : (Jvm.Cond.instanceMethod ({ cls := "CodeRecovery", name := "accepted", desc := "()I" } : Jvm.MethodName)) ∈ lw_all := lw_g (lw_at lw_m6 54 rfl) rfl
theorem q1332 : (Jvm.Cond.selects "CodeRecovery" ({ cls := "CodeRecovery", name := "accepted", desc := "()I" } : Jvm.MethodName) ({ cls := "CodeRecovery", name := "accepted", desc := "()I" } : Jvm.MethodName)) ∈ lw_all := lw_g (lw_at lw_m6 55 rfl) rfl
theorem q1333 : (Jvm.Cond.code ({ cls := "CodeRecovery", name := "accepted", desc := "()I" } : Jvm.MethodName) prog_1_method_28_code (1 : Nat) (Option.some Jvm.ClassFile.FieldType.int)) ∈ lw_all := lw_g (lw_at lw_m6 56 rfl) rfl
theorem q1334 : (Jvm.Cond.methodLink "CodeRecovery" (198 : Nat) ({ cls := "CodeRecovery", name := "recovered", desc := "()LCodeRecovery$Recovery;" } : Jvm.MethodName)) ∈ lw_all := lw_g (lw_at lw_m6 57 rfl) rfl
theorem q1335 : (Jvm.Cond.privateMethod ({ cls := "CodeRecovery", name := "recovered", desc := "()LCodeRecovery$Recovery;" } : Jvm.MethodName)) ∈ lw_tbl := lw_at lw_m6 58 rfl
theorem q1336 : (Jvm.Cond.instanceMethod ({ cls := "CodeRecovery", name := "recovered", desc := "()LCodeRecovery$Recovery;" } : Jvm.MethodName)) ∈ lw_all := lw_g (lw_at lw_m6 59 rfl) rfl
theorem q1337 : (Jvm.Cond.code ({ cls := "CodeRecovery", name := "recovered", desc := "()LCodeRecovery$Recovery;" } : Jvm.MethodName) prog_1_method_27_code (1 : Nat) (Option.some (Jvm.ClassFile.FieldType.object "CodeRecovery$Recovery"))) ∈ lw_all := lw_g (lw_at lw_m6 60 rfl) rfl
theorem q1342 : (Jvm.Cond.instanceMethod ({ cls := "CodeRecovery", name := "acceptedAt", desc := "(I)I" } : Jvm.MethodName)) ∈ lw_all := lw_g (lw_at lw_m6 65 rfl) rfl
theorem q1343 : (Jvm.Cond.selects "CodeRecovery" ({ cls := "CodeRecovery", name := "acceptedAt", desc := "(I)I" } : Jvm.MethodName) ({ cls := "CodeRecovery", name := "acceptedAt", desc := "(I)I" } : Jvm.MethodName)) ∈ lw_all := lw_g (lw_at lw_m6 66 rfl) rfl
theorem q1344 : (Jvm.Cond.code ({ cls := "CodeRecovery", name := "acceptedAt", desc := "(I)I" } : Jvm.MethodName) prog_1_method_29_code (5 : Nat) (Option.some Jvm.ClassFile.FieldType.int)) ∈ lw_all := lw_g (lw_at lw_m6 67 rfl) rfl
theorem q1345 : (Jvm.Cond.methodLink "CodeRecovery" (202 : Nat) ({ cls := "java/util/BitSet", name := "nextSetBit", desc := "(I)I" } : Jvm.MethodName)) ∈ lw_all := lw_g (lw_at lw_m6 68 rfl) rfl
theorem q1350 : (Jvm.Cond.instanceMethod ({ cls := "CodeRecovery", name := "use", desc := "(I)I" } : Jvm.MethodName)) ∈ lw_all := lw_g (lw_at lw_m6 73 rfl) rfl
theorem q1351 : (Jvm.Cond.selects "CodeRecovery" ({ cls := "CodeRecovery", name := "use", desc := "(I)I" } : Jvm.MethodName) ({ cls := "CodeRecovery", name := "use", desc := "(I)I" } : Jvm.MethodName)) ∈ lw_all := lw_g (lw_at lw_m6 74 rfl) rfl
theorem q1352 : (Jvm.Cond.code ({ cls := "CodeRecovery", name := "use", desc := "(I)I" } : Jvm.MethodName) prog_1_method_30_code (3 : Nat) (Option.some Jvm.ClassFile.FieldType.int)) ∈ lw_all := lw_g (lw_at lw_m6 75 rfl) rfl
theorem q1357 : (Jvm.Cond.instanceMethod ({ cls := "CodeRecovery", name := "conflictCount", desc := "()I" } : Jvm.MethodName)) ∈ lw_all := lw_g (lw_at lw_m6 80 rfl) rfl
theorem q1358 : (Jvm.Cond.selects "CodeRecovery" ({ cls := "CodeRecovery", name := "conflictCount", desc := "()I" } : Jvm.MethodName) ({ cls := "CodeRecovery", name := "conflictCount", desc := "()I" } : Jvm.MethodName)) ∈ lw_all := lw_g (lw_at lw_m6 81 rfl) rfl
theorem q1359 : (Jvm.Cond.code ({ cls := "CodeRecovery", name := "conflictCount", desc := "()I" } : Jvm.MethodName) prog_1_method_31_code (1 : Nat) (Option.some Jvm.ClassFile.FieldType.int)) ∈ lw_all := lw_g (lw_at lw_m6 82 rfl) rfl
theorem q1360 : (Jvm.Cond.methodLink "CodeRecovery" (212 : Nat) ({ cls := "CodeRecovery$Distinct", name := "size", desc := "()I" } : Jvm.MethodName)) ∈ lw_all := lw_g (lw_at lw_m6 83 rfl) rfl
theorem q1369 : (Jvm.Cond.instanceMethod ({ cls := "CodeRecovery", name := "conflict", desc := "(I)I" } : Jvm.MethodName)) ∈ lw_all := lw_g (lw_at lw_m6 92 rfl) rfl
theorem q1370 : (Jvm.Cond.selects "CodeRecovery" ({ cls := "CodeRecovery", name := "conflict", desc := "(I)I" } : Jvm.MethodName) ({ cls := "CodeRecovery", name := "conflict", desc := "(I)I" } : Jvm.MethodName)) ∈ lw_all := lw_g (lw_at lw_m6 93 rfl) rfl
theorem q1371 : (Jvm.Cond.code ({ cls := "CodeRecovery", name := "conflict", desc := "(I)I" } : Jvm.MethodName) prog_1_method_32_code (2 : Nat) (Option.some Jvm.ClassFile.FieldType.int)) ∈ lw_all := lw_g (lw_at lw_m6 94 rfl) rfl
theorem q1372 : (Jvm.Cond.methodLink "CodeRecovery" (215 : Nat) ({ cls := "CodeRecovery$Distinct", name := "get", desc := "(I)Ljava/lang/Object;" } : Jvm.MethodName)) ∈ lw_all := lw_g (lw_at lw_m6 95 rfl) rfl
theorem q1383 : (Jvm.Cond.instanceMethod ({ cls := "CodeRecovery", name := "badTargets", desc := "()I" } : Jvm.MethodName)) ∈ lw_all := lw_g (lw_at lw_m6 106 rfl) rfl
theorem q1384 : (Jvm.Cond.selects "CodeRecovery" ({ cls := "CodeRecovery", name := "badTargets", desc := "()I" } : Jvm.MethodName) ({ cls := "CodeRecovery", name := "badTargets", desc := "()I" } : Jvm.MethodName)) ∈ lw_all := lw_g (lw_at lw_m6 107 rfl) rfl
theorem q1385 : (Jvm.Cond.code ({ cls := "CodeRecovery", name := "badTargets", desc := "()I" } : Jvm.MethodName) prog_1_method_33_code (1 : Nat) (Option.some Jvm.ClassFile.FieldType.int)) ∈ lw_all := lw_g (lw_at lw_m6 108 rfl) rfl
theorem q1390 : (Jvm.Cond.instanceMethod ({ cls := "CodeRecovery", name := "tableCount", desc := "()I" } : Jvm.MethodName)) ∈ lw_all := lw_g (lw_at lw_m6 113 rfl) rfl
theorem q1391 : (Jvm.Cond.selects "CodeRecovery" ({ cls := "CodeRecovery", name := "tableCount", desc := "()I" } : Jvm.MethodName) ({ cls := "CodeRecovery", name := "tableCount", desc := "()I" } : Jvm.MethodName)) ∈ lw_all := lw_g (lw_at lw_m6 114 rfl) rfl
theorem q1392 : (Jvm.Cond.code ({ cls := "CodeRecovery", name := "tableCount", desc := "()I" } : Jvm.MethodName) prog_1_method_34_code (1 : Nat) (Option.some Jvm.ClassFile.FieldType.int)) ∈ lw_all := lw_g (lw_at lw_m6 115 rfl) rfl
theorem q1397 : (Jvm.Cond.instanceMethod ({ cls := "CodeRecovery", name := "table", desc := "(II)I" } : Jvm.MethodName)) ∈ lw_all := lw_g (lw_at lw_m6 120 rfl) rfl
theorem q1398 : (Jvm.Cond.selects "CodeRecovery" ({ cls := "CodeRecovery", name := "table", desc := "(II)I" } : Jvm.MethodName) ({ cls := "CodeRecovery", name := "table", desc := "(II)I" } : Jvm.MethodName)) ∈ lw_all := lw_g (lw_at lw_m6 121 rfl) rfl
theorem q1399 : (Jvm.Cond.code ({ cls := "CodeRecovery", name := "table", desc := "(II)I" } : Jvm.MethodName) prog_1_method_35_code (3 : Nat) (Option.some Jvm.ClassFile.FieldType.int)) ∈ lw_all := lw_g (lw_at lw_m6 122 rfl) rfl
theorem q1400 : (Jvm.Cond.methodLink "CodeRecovery" (223 : Nat) ({ cls := "CodeRecovery", name := "partOf", desc := "(Ljava/util/List;III)I" } : Jvm.MethodName)) ∈ lw_all := lw_g (lw_at lw_m6 123 rfl) rfl
theorem q1401 : (Jvm.Cond.static ({ cls := "CodeRecovery", name := "partOf", desc := "(Ljava/util/List;III)I" } : Jvm.MethodName)) ∈ lw_all := lw_g (lw_at lw_m6 124 rfl) rfl
theorem q1402 : (Jvm.Cond.code ({ cls := "CodeRecovery", name := "partOf", desc := "(Ljava/util/List;III)I" } : Jvm.MethodName) prog_1_method_5_code (4 : Nat) (Option.some Jvm.ClassFile.FieldType.int)) ∈ lw_all := lw_g (lw_at lw_m6 125 rfl) rfl
theorem q1403 : (Jvm.Cond.classLink "CodeRecovery" (36 : Nat) "CodeRecovery$Parts") ∈ lw_all := lw_g (lw_at lw_m6 126 rfl) rfl
theorem q1404 : (Jvm.Cond.interfaceEntry "CodeRecovery" (38 : Nat)) ∈ lw_tbl := lw_at lw_m6 127 rfl
theorem q1405 : (Jvm.Cond.methodLink "CodeRecovery" (38 : Nat) ({ cls := "CodeRecovery$Parts", name := "part", desc := "(I)I" } : Jvm.MethodName)) ∈ lw_all := lw_g (lw_at lw_m6 128 rfl) rfl
theorem q1431 : (Jvm.Cond.instanceMethod ({ cls := "CodeRecovery", name := "tableEntry", desc := "(II)I" } : Jvm.MethodName)) ∈ lw_all := lw_g (lw_at lw_m6 154 rfl) rfl
theorem q1432 : (Jvm.Cond.selects "CodeRecovery" ({ cls := "CodeRecovery", name := "tableEntry", desc := "(II)I" } : Jvm.MethodName) ({ cls := "CodeRecovery", name := "tableEntry", desc := "(II)I" } : Jvm.MethodName)) ∈ lw_all := lw_g (lw_at lw_m6 155 rfl) rfl
theorem q1433 : (Jvm.Cond.code ({ cls := "CodeRecovery", name := "tableEntry", desc := "(II)I" } : Jvm.MethodName) prog_1_method_37_code (4 : Nat) (Option.some Jvm.ClassFile.FieldType.int)) ∈ lw_all := lw_g (lw_at lw_m6 156 rfl) rfl
theorem q1434 : (Jvm.Cond.methodLink "CodeRecovery" (229 : Nat) ({ cls := "CodeRecovery", name := "requireTable", desc := "(I)LCodeRecovery$Table;" } : Jvm.MethodName)) ∈ lw_all := lw_g (lw_at lw_m6 157 rfl) rfl
theorem q1435 : (Jvm.Cond.privateMethod ({ cls := "CodeRecovery", name := "requireTable", desc := "(I)LCodeRecovery$Table;" } : Jvm.MethodName)) ∈ lw_tbl := lw_at lw_m6 158 rfl
theorem q1436 : (Jvm.Cond.instanceMethod ({ cls := "CodeRecovery", name := "requireTable", desc := "(I)LCodeRecovery$Table;" } : Jvm.MethodName)) ∈ lw_all := lw_g (lw_at lw_m6 159 rfl) rfl
theorem q1437 : (Jvm.Cond.code ({ cls := "CodeRecovery", name := "requireTable", desc := "(I)LCodeRecovery$Table;" } : Jvm.MethodName) prog_1_method_36_code (3 : Nat) (Option.some (Jvm.ClassFile.FieldType.object "CodeRecovery$Table"))) ∈ lw_all := lw_g (lw_at lw_m6 160 rfl) rfl
theorem q1438 : (Jvm.Cond.classLink "CodeRecovery" (227 : Nat) "CodeRecovery$Table") ∈ lw_all := lw_g (lw_at lw_m6 161 rfl) rfl
theorem q1443 : (Jvm.Cond.instanceMethod ({ cls := "CodeRecovery", name := "isComplete", desc := "(I)Z" } : Jvm.MethodName)) ∈ lw_all := lw_g (lw_at lw_m6 166 rfl) rfl
theorem q1444 : (Jvm.Cond.selects "CodeRecovery" ({ cls := "CodeRecovery", name := "isComplete", desc := "(I)Z" } : Jvm.MethodName) ({ cls := "CodeRecovery", name := "isComplete", desc := "(I)Z" } : Jvm.MethodName)) ∈ lw_all := lw_g (lw_at lw_m6 167 rfl) rfl
theorem q1445 : (Jvm.Cond.code ({ cls := "CodeRecovery", name := "isComplete", desc := "(I)Z" } : Jvm.MethodName) prog_1_method_38_code (5 : Nat) (Option.some Jvm.ClassFile.FieldType.boolean)) ∈ lw_all := lw_g (lw_at lw_m6 168 rfl) rfl
theorem q1446 : (Jvm.Cond.methodLink "CodeRecovery" (235 : Nat) ({ cls := "CodeRecovery$Recovery", name := "isAccepted", desc := "(I)Z" } : Jvm.MethodName)) ∈ lw_all := lw_g (lw_at lw_m6 169 rfl) rfl
theorem q1451 : (Jvm.Cond.instanceMethod ({ cls := "CodeRecovery", name := "gapCount", desc := "()I" } : Jvm.MethodName)) ∈ lw_all := lw_g (lw_at lw_m6 174 rfl) rfl
theorem q1452 : (Jvm.Cond.selects "CodeRecovery" ({ cls := "CodeRecovery", name := "gapCount", desc := "()I" } : Jvm.MethodName) ({ cls := "CodeRecovery", name := "gapCount", desc := "()I" } : Jvm.MethodName)) ∈ lw_all := lw_g (lw_at lw_m6 175 rfl) rfl
theorem q1453 : (Jvm.Cond.code ({ cls := "CodeRecovery", name := "gapCount", desc := "()I" } : Jvm.MethodName) prog_1_method_39_code (1 : Nat) (Option.some Jvm.ClassFile.FieldType.int)) ∈ lw_all := lw_g (lw_at lw_m6 176 rfl) rfl
theorem q1458 : (Jvm.Cond.instanceMethod ({ cls := "CodeRecovery", name := "gap", desc := "(II)I" } : Jvm.MethodName)) ∈ lw_all := lw_g (lw_at lw_m6 181 rfl) rfl
theorem q1459 : (Jvm.Cond.selects "CodeRecovery" ({ cls := "CodeRecovery", name := "gap", desc := "(II)I" } : Jvm.MethodName) ({ cls := "CodeRecovery", name := "gap", desc := "(II)I" } : Jvm.MethodName)) ∈ lw_all := lw_g (lw_at lw_m6 182 rfl) rfl
theorem q1460 : (Jvm.Cond.code ({ cls := "CodeRecovery", name := "gap", desc := "(II)I" } : Jvm.MethodName) prog_1_method_40_code (3 : Nat) (Option.some Jvm.ClassFile.FieldType.int)) ∈ lw_all := lw_g (lw_at lw_m6 183 rfl) rfl
theorem q1465 : (Jvm.Cond.instanceMethod ({ cls := "CodeRecovery", name := "speculative", desc := "()I" } : Jvm.MethodName)) ∈ lw_all := lw_g (lw_at lw_m6 188 rfl) rfl
theorem q1466 : (Jvm.Cond.selects "CodeRecovery" ({ cls := "CodeRecovery", name := "speculative", desc := "()I" } : Jvm.MethodName) ({ cls := "CodeRecovery", name := "speculative", desc := "()I" } : Jvm.MethodName)) ∈ lw_all := lw_g (lw_at lw_m6 189 rfl) rfl
theorem q1467 : (Jvm.Cond.code ({ cls := "CodeRecovery", name := "speculative", desc := "()I" } : Jvm.MethodName) prog_1_method_41_code (1 : Nat) (Option.some Jvm.ClassFile.FieldType.int)) ∈ lw_all := lw_g (lw_at lw_m6 190 rfl) rfl
theorem q1468 : (Jvm.Cond.methodLink "CodeRecovery" (241 : Nat) ({ cls := "CodeRecovery$Recovery", name := "countSpeculative", desc := "()I" } : Jvm.MethodName)) ∈ lw_all := lw_g (lw_at lw_m6 191 rfl) rfl
theorem q1476 : (Jvm.Cond.instanceMethod ({ cls := "CodeRecovery", name := "blockCount", desc := "()I" } : Jvm.MethodName)) ∈ lw_all := lw_g (lw_at lw_m6 199 rfl) rfl
theorem q1477 : (Jvm.Cond.selects "CodeRecovery" ({ cls := "CodeRecovery", name := "blockCount", desc := "()I" } : Jvm.MethodName) ({ cls := "CodeRecovery", name := "blockCount", desc := "()I" } : Jvm.MethodName)) ∈ lw_all := lw_g (lw_at lw_m6 200 rfl) rfl
theorem q1478 : (Jvm.Cond.code ({ cls := "CodeRecovery", name := "blockCount", desc := "()I" } : Jvm.MethodName) prog_1_method_42_code (1 : Nat) (Option.some Jvm.ClassFile.FieldType.int)) ∈ lw_all := lw_g (lw_at lw_m6 201 rfl) rfl
theorem q1483 : (Jvm.Cond.instanceMethod ({ cls := "CodeRecovery", name := "block", desc := "(II)I" } : Jvm.MethodName)) ∈ lw_all := lw_g (lw_at lw_m6 206 rfl) rfl
theorem q1484 : (Jvm.Cond.selects "CodeRecovery" ({ cls := "CodeRecovery", name := "block", desc := "(II)I" } : Jvm.MethodName) ({ cls := "CodeRecovery", name := "block", desc := "(II)I" } : Jvm.MethodName)) ∈ lw_all := lw_g (lw_at lw_m6 207 rfl) rfl
theorem q1485 : (Jvm.Cond.code ({ cls := "CodeRecovery", name := "block", desc := "(II)I" } : Jvm.MethodName) prog_1_method_43_code (3 : Nat) (Option.some Jvm.ClassFile.FieldType.int)) ∈ lw_all := lw_g (lw_at lw_m6 208 rfl) rfl
theorem q1490 : (Jvm.Cond.instanceMethod ({ cls := "CodeRecovery", name := "functionCount", desc := "()I" } : Jvm.MethodName)) ∈ lw_all := lw_g (lw_at lw_m6 213 rfl) rfl
theorem q1491 : (Jvm.Cond.selects "CodeRecovery" ({ cls := "CodeRecovery", name := "functionCount", desc := "()I" } : Jvm.MethodName) ({ cls := "CodeRecovery", name := "functionCount", desc := "()I" } : Jvm.MethodName)) ∈ lw_all := lw_g (lw_at lw_m6 214 rfl) rfl
theorem q1492 : (Jvm.Cond.code ({ cls := "CodeRecovery", name := "functionCount", desc := "()I" } : Jvm.MethodName) prog_1_method_44_code (1 : Nat) (Option.some Jvm.ClassFile.FieldType.int)) ∈ lw_all := lw_g (lw_at lw_m6 215 rfl) rfl
theorem q1493 : (Jvm.Cond.methodLink "CodeRecovery" (247 : Nat) ({ cls := "CodeRecovery$Recovery", name := "findHeads", desc := "()Ljava/util/BitSet;" } : Jvm.MethodName)) ∈ lw_all := lw_g (lw_at lw_m6 216 rfl) rfl
theorem q1502 : (Jvm.Cond.instanceMethod ({ cls := "CodeRecovery", name := "functionSize", desc := "(I)I" } : Jvm.MethodName)) ∈ lw_all := lw_g (lw_at lw_m6 225 rfl) rfl
theorem q1503 : (Jvm.Cond.selects "CodeRecovery" ({ cls := "CodeRecovery", name := "functionSize", desc := "(I)I" } : Jvm.MethodName) ({ cls := "CodeRecovery", name := "functionSize", desc := "(I)I" } : Jvm.MethodName)) ∈ lw_all := lw_g (lw_at lw_m6 226 rfl) rfl
theorem q1504 : (Jvm.Cond.code ({ cls := "CodeRecovery", name := "functionSize", desc := "(I)I" } : Jvm.MethodName) prog_1_method_45_code (3 : Nat) (Option.some Jvm.ClassFile.FieldType.int)) ∈ lw_all := lw_g (lw_at lw_m6 227 rfl) rfl
theorem q1505 : (Jvm.Cond.methodLink "CodeRecovery" (251 : Nat) ({ cls := "java/util/BitSet", name := "get", desc := "(I)Z" } : Jvm.MethodName)) ∈ lw_all := lw_g (lw_at lw_m6 228 rfl) rfl
theorem q1506 : (Jvm.Cond.classLink "CodeRecovery" (253 : Nat) "java/util/NoSuchElementException") ∈ lw_all := lw_g (lw_at lw_m6 229 rfl) rfl
theorem q1507 : (Jvm.Cond.methodLink "CodeRecovery" (255 : Nat) ({ cls := "java/util/NoSuchElementException", name := "<init>", desc := "()V" } : Jvm.MethodName)) ∈ lw_all := lw_g (lw_at lw_m6 230 rfl) rfl
theorem q1508 : (Jvm.Cond.methodLink "CodeRecovery" (256 : Nat) ({ cls := "CodeRecovery$Recovery", name := "countReached", desc := "(I)I" } : Jvm.MethodName)) ∈ lw_all := lw_g (lw_at lw_m6 231 rfl) rfl
theorem q1521 : (Jvm.Cond.instanceMethod ({ cls := "CodeRecovery", name := "run", desc := "(I)I" } : Jvm.MethodName)) ∈ lw_all := lw_g (lw_at lw_m7 4 rfl) rfl
theorem q1522 : (Jvm.Cond.selects "CodeRecovery" ({ cls := "CodeRecovery", name := "run", desc := "(I)I" } : Jvm.MethodName) ({ cls := "CodeRecovery", name := "run", desc := "(I)I" } : Jvm.MethodName)) ∈ lw_all := lw_g (lw_at lw_m7 5 rfl) rfl
theorem q1523 : (Jvm.Cond.code ({ cls := "CodeRecovery", name := "run", desc := "(I)I" } : Jvm.MethodName) prog_1_method_46_code (2 : Nat) (Option.some Jvm.ClassFile.FieldType.int)) ∈ lw_all := lw_g (lw_at lw_m7 6 rfl) rfl
theorem q1524 : (Jvm.Cond.classLink "CodeRecovery" (259 : Nat) "CodeRecovery$Run") ∈ lw_all := lw_g (lw_at lw_m7 7 rfl) rfl
theorem q1526 : (Jvm.Cond.methodLink "CodeRecovery" (261 : Nat) ({ cls := "CodeRecovery$Run", name := "<init>", desc := "(LCodeRecovery$Image;I)V" } : Jvm.MethodName)) ∈ lw_all := lw_g (lw_at lw_m7 9 rfl) rfl
theorem q1582 : (Jvm.Cond.fieldLinkNest "CodeRecovery" (274 : Nat) "CodeRecovery$Run" "registers" "[I" "CodeRecovery") ∈ lw_tbl := lw_at lw_m7 65 rfl
theorem q1584 : (Jvm.Cond.fieldLinkNest "CodeRecovery" (271 : Nat) "CodeRecovery$Run" "executions" "[I" "CodeRecovery") ∈ lw_tbl := lw_at lw_m7 67 rfl
theorem q1588 : (Jvm.Cond.fieldLinkNest "CodeRecovery" (264 : Nat) "CodeRecovery$Run" "executed" "I" "CodeRecovery") ∈ lw_tbl := lw_at lw_m7 71 rfl
theorem q1606 : (Jvm.Cond.instanceMethod ({ cls := "CodeRecovery", name := "executedAt", desc := "(I)I" } : Jvm.MethodName)) ∈ lw_all := lw_g (lw_at lw_m7 89 rfl) rfl
theorem q1607 : (Jvm.Cond.selects "CodeRecovery" ({ cls := "CodeRecovery", name := "executedAt", desc := "(I)I" } : Jvm.MethodName) ({ cls := "CodeRecovery", name := "executedAt", desc := "(I)I" } : Jvm.MethodName)) ∈ lw_all := lw_g (lw_at lw_m7 90 rfl) rfl
theorem q1608 : (Jvm.Cond.code ({ cls := "CodeRecovery", name := "executedAt", desc := "(I)I" } : Jvm.MethodName) prog_1_method_48_code (3 : Nat) (Option.some Jvm.ClassFile.FieldType.int)) ∈ lw_all := lw_g (lw_at lw_m7 91 rfl) rfl
theorem q1609 : (Jvm.Cond.methodLink "CodeRecovery" (267 : Nat) ({ cls := "CodeRecovery", name := "latestRun", desc := "()LCodeRecovery$Run;" } : Jvm.MethodName)) ∈ lw_all := lw_g (lw_at lw_m7 92 rfl) rfl
theorem q1610 : (Jvm.Cond.privateMethod ({ cls := "CodeRecovery", name := "latestRun", desc := "()LCodeRecovery$Run;" } : Jvm.MethodName)) ∈ lw_tbl := lw_at lw_m7 93 rfl
theorem q1611 : (Jvm.Cond.instanceMethod ({ cls := "CodeRecovery", name := "latestRun", desc := "()LCodeRecovery$Run;" } : Jvm.MethodName)) ∈ lw_all := lw_g (lw_at lw_m7 94 rfl) rfl
theorem q1612 : (Jvm.Cond.code ({ cls := "CodeRecovery", name := "latestRun", desc := "()LCodeRecovery$Run;" } : Jvm.MethodName) prog_1_method_47_code (1 : Nat) (Option.some (Jvm.ClassFile.FieldType.object "CodeRecovery$Run"))) ∈ lw_all := lw_g (lw_at lw_m7 95 rfl) rfl
theorem q1617 : (Jvm.Cond.instanceMethod ({ cls := "CodeRecovery", name := "unrecovered", desc := "()I" } : Jvm.MethodName)) ∈ lw_all := lw_g (lw_at lw_m7 100 rfl) rfl
theorem q1618 : (Jvm.Cond.selects "CodeRecovery" ({ cls := "CodeRecovery", name := "unrecovered", desc := "()I" } : Jvm.MethodName) ({ cls := "CodeRecovery", name := "unrecovered", desc := "()I" } : Jvm.MethodName)) ∈ lw_all := lw_g (lw_at lw_m7 101 rfl) rfl
theorem q1619 : (Jvm.Cond.code ({ cls := "CodeRecovery", name := "unrecovered", desc := "()I" } : Jvm.MethodName) prog_1_method_49_code (5 : Nat) (Option.some Jvm.ClassFile.FieldType.int)) ∈ lw_all := lw_g (lw_at lw_m7 102 rfl) rfl
theorem q1624 : (Jvm.Cond.instanceMethod ({ cls := "CodeRecovery", name := "register", desc := "(I)I" } : Jvm.MethodName)) ∈ lw_all := lw_g (lw_at lw_m7 107 rfl) rfl
theorem q1625 : (Jvm.Cond.selects "CodeRecovery" ({ cls := "CodeRecovery", name := "register", desc := "(I)I" } : Jvm.MethodName) ({ cls := "CodeRecovery", name := "register", desc := "(I)I" } : Jvm.MethodName)) ∈ lw_all := lw_g (lw_at lw_m7 108 rfl) rfl
theorem q1626 : (Jvm.Cond.code ({ cls := "CodeRecovery", name := "register", desc := "(I)I" } : Jvm.MethodName) prog_1_method_50_code (3 : Nat) (Option.some Jvm.ClassFile.FieldType.int)) ∈ lw_all := lw_g (lw_at lw_m7 109 rfl) rfl
theorem q1645 : (Jvm.Cond.instanceMethod ({ cls := "CodeRecovery", name := "coverage", desc := "()D" } : Jvm.MethodName)) ∈ lw_all := lw_g (lw_at lw_m7 128 rfl) rfl
theorem q1646 : (Jvm.Cond.selects "CodeRecovery" ({ cls := "CodeRecovery", name := "coverage", desc := "()D" } : Jvm.MethodName) ({ cls := "CodeRecovery", name := "coverage", desc := "()D" } : Jvm.MethodName)) ∈ lw_all := lw_g (lw_at lw_m7 129 rfl) rfl
theorem q1647 : (Jvm.Cond.code ({ cls := "CodeRecovery", name := "coverage", desc := "()D" } : Jvm.MethodName) prog_1_method_52_code (2 : Nat) (Option.some Jvm.ClassFile.FieldType.double)) ∈ lw_all := lw_g (lw_at lw_m7 130 rfl) rfl
theorem q1648 : (Jvm.Cond.methodLink "CodeRecovery" (280 : Nat) ({ cls := "CodeRecovery", name := "requireDivisor", desc := "(I)V" } : Jvm.MethodName)) ∈ lw_all := lw_g (lw_at lw_m7 131 rfl) rfl
theorem q1649 : (Jvm.Cond.static ({ cls := "CodeRecovery", name := "requireDivisor", desc := "(I)V" } : Jvm.MethodName)) ∈ lw_all := lw_g (lw_at lw_m7 132 rfl) rfl
theorem q1650 : (Jvm.Cond.code ({ cls := "CodeRecovery", name := "requireDivisor", desc := "(I)V" } : Jvm.MethodName) prog_1_method_51_code (1 : Nat) (Option.none : Option Jvm.ClassFile.FieldType)) ∈ lw_all := lw_g (lw_at lw_m7 133 rfl) rfl
theorem q1651 : (Jvm.Cond.classLink "CodeRecovery" (277 : Nat) "java/lang/ArithmeticException") ∈ lw_all := lw_g (lw_at lw_m7 134 rfl) rfl
theorem q1652 : (Jvm.Cond.methodLink "CodeRecovery" (279 : Nat) ({ cls := "java/lang/ArithmeticException", name := "<init>", desc := "()V" } : Jvm.MethodName)) ∈ lw_all := lw_g (lw_at lw_m7 135 rfl) rfl
theorem q1656 : (Jvm.Cond.methodLink "CodeRecovery" (283 : Nat) ({ cls := "CodeRecovery$Recovery", name := "countBytes", desc := "()I" } : Jvm.MethodName)) ∈ lw_all := lw_g (lw_at lw_m7 139 rfl) rfl
theorem q1664 : (Jvm.Cond.instanceMethod ({ cls := "CodeRecovery", name := "averageBlock", desc := "()F" } : Jvm.MethodName)) ∈ lw_all := lw_g (lw_at lw_m7 147 rfl) rfl
theorem q1665 : (Jvm.Cond.selects "CodeRecovery" ({ cls := "CodeRecovery", name := "averageBlock", desc := "()F" } : Jvm.MethodName) ({ cls := "CodeRecovery", name := "averageBlock", desc := "()F" } : Jvm.MethodName)) ∈ lw_all := lw_g (lw_at lw_m7 148 rfl) rfl
theorem q1666 : (Jvm.Cond.code ({ cls := "CodeRecovery", name := "averageBlock", desc := "()F" } : Jvm.MethodName) prog_1_method_53_code (2 : Nat) (Option.some Jvm.ClassFile.FieldType.float)) ∈ lw_all := lw_g (lw_at lw_m7 149 rfl) rfl
theorem q1667 : (Jvm.Cond.methodLink "CodeRecovery" (286 : Nat) ({ cls := "CodeRecovery$Recovery", name := "countInBlocks", desc := "()I" } : Jvm.MethodName)) ∈ lw_all := lw_g (lw_at lw_m7 150 rfl) rfl
theorem q1675 : (Jvm.Cond.instanceMethod ({ cls := "CodeRecovery", name := "restore", desc := "()V" } : Jvm.MethodName)) ∈ lw_all := lw_g (lw_at lw_m7 158 rfl) rfl
theorem q1676 : (Jvm.Cond.selects "CodeRecovery" ({ cls := "CodeRecovery", name := "restore", desc := "()V" } : Jvm.MethodName) ({ cls := "CodeRecovery", name := "restore", desc := "()V" } : Jvm.MethodName)) ∈ lw_all := lw_g (lw_at lw_m7 159 rfl) rfl
theorem q1677 : (Jvm.Cond.code ({ cls := "CodeRecovery", name := "restore", desc := "()V" } : Jvm.MethodName) prog_1_method_55_code (1 : Nat) (Option.none : Option Jvm.ClassFile.FieldType)) ∈ lw_all := lw_g (lw_at lw_m7 160 rfl) rfl
theorem q2190 : (Jvm.Cond.castable "CodeRecovery" "java/lang/Object") ∈ lw_tbl := lw_at lw_m9 193 rfl
theorem in_X1 : ∀ w ∈ wsX10, w ∈ lw_all := lw_in wsX10 [157, 159, 161, 163, 165, 167, 169] (by decide +kernel) (by decide +kernel)

/-! CodeRecovery$Image -/
set_option maxRecDepth 100000
def RX2 : String := "CodeRecovery$Image"
def TX2 : u_T := fun k => match k with
  | 0 => ("CodeRecovery$Image", "bytes", "[I", true)
  | 1 => ("CodeRecovery$Image", "entries", "[I", true)
  | _ => ("CodeRecovery$Image", "threshold", "I", true)
def tyX2 : Nat → FieldType := fun k => match k with
  | 0 => .array .int
  | 1 => .array .int
  | _ => .int
abbrev wsX20 : List Cond := u_ws RX2 TX2 3
theorem nmX2 : ∀ a, a < 3 → ∀ b, b < 3 → a ≠ b → (TX2 a).2.1 ≠ (TX2 b).2.1 := by decide +kernel
theorem tyX2_ok : ∀ k, k < 3 → parseFieldDescriptor (TX2 k).2.2.1 = some (tyX2 k) := by decide +kernel
abbrev cX2_init : ByteArray := prog_6_method_1_code
def yX2_init : MethodName := ⟨RX2, "<init>", "([I[II)V"⟩
def dkwX2_init_0 : List UInt8 := [42, 183, 0, 3, 42, 43, 181, 0, 9, 42, 44, 181, 0, 15, 42, 29, 181, 0, 18, 177]
abbrev dktX2_init_0 : List UInt8 := dkwX2_init_0 ++ []
theorem dksX2_init_0 : cX2_init.data.toList.drop 0 = dktX2_init_0 := by decide +kernel
theorem dX2_init_0 : decode cX2_init 0 = .ok (.aload_n 0, 1) := dk_42 (dk_at dksX2_init_0 0 rfl rfl)
theorem dX2_init_1 : decode cX2_init 1 = .ok (.invokespecial 3, 3) := dk_183 0 3 (dk_at dksX2_init_0 1 rfl rfl)
theorem dX2_init_4 : decode cX2_init 4 = .ok (.aload_n 0, 1) := dk_42 (dk_at dksX2_init_0 4 rfl rfl)
theorem dX2_init_5 : decode cX2_init 5 = .ok (.aload_n 1, 1) := dk_43 (dk_at dksX2_init_0 5 rfl rfl)
theorem dX2_init_6 : decode cX2_init 6 = .ok (.putfield 9, 3) := dk_181 0 9 (dk_at dksX2_init_0 6 rfl rfl)
theorem dX2_init_9 : decode cX2_init 9 = .ok (.aload_n 0, 1) := dk_42 (dk_at dksX2_init_0 9 rfl rfl)
theorem dX2_init_10 : decode cX2_init 10 = .ok (.aload_n 2, 1) := dk_44 (dk_at dksX2_init_0 10 rfl rfl)
theorem dX2_init_11 : decode cX2_init 11 = .ok (.putfield 15, 3) := dk_181 0 15 (dk_at dksX2_init_0 11 rfl rfl)
theorem dX2_init_14 : decode cX2_init 14 = .ok (.aload_n 0, 1) := dk_42 (dk_at dksX2_init_0 14 rfl rfl)
theorem dX2_init_15 : decode cX2_init 15 = .ok (.iload_n 3, 1) := dk_29 (dk_at dksX2_init_0 15 rfl rfl)
theorem dX2_init_16 : decode cX2_init 16 = .ok (.putfield 18, 3) := dk_181 0 18 (dk_at dksX2_init_0 16 rfl rfl)
theorem dX2_init_19 : decode cX2_init 19 = .ok (.return_, 1) := dk_177 (dk_at dksX2_init_0 19 rfl rfl)
abbrev cX2_size : ByteArray := prog_6_method_2_code
def yX2_size : MethodName := ⟨RX2, "size", "()I"⟩
def dkwX2_size_0 : List UInt8 := [42, 180, 0, 9, 190, 172]
abbrev dktX2_size_0 : List UInt8 := dkwX2_size_0 ++ []
theorem dksX2_size_0 : cX2_size.data.toList.drop 0 = dktX2_size_0 := by decide +kernel
theorem dX2_size_0 : decode cX2_size 0 = .ok (.aload_n 0, 1) := dk_42 (dk_at dksX2_size_0 0 rfl rfl)
theorem dX2_size_1 : decode cX2_size 1 = .ok (.getfield 9, 3) := dk_180 0 9 (dk_at dksX2_size_0 1 rfl rfl)
theorem dX2_size_4 : decode cX2_size 4 = .ok (.arraylength, 1) := dk_190 (dk_at dksX2_size_0 4 rfl rfl)
theorem dX2_size_5 : decode cX2_size 5 = .ok (.ireturn, 1) := dk_172 (dk_at dksX2_size_0 5 rfl rfl)
abbrev cX2_isValid : ByteArray := prog_6_method_13_code
def yX2_isValid : MethodName := ⟨RX2, "isValid", "(I)Z"⟩
def dkwX2_isValid_2 : List UInt8 := [182, 0, 46, 182, 0, 37, 153, 0, 7, 4, 167, 0, 4, 3, 172]
abbrev dktX2_isValid_2 : List UInt8 := dkwX2_isValid_2 ++ []
def dkwX2_isValid_1 : List UInt8 := [96, 42, 180, 0, 9, 190, 164, 0, 5, 3, 172, 42, 27, 182, 0, 43, 153, 0, 15, 42, 42, 27]
abbrev dktX2_isValid_1 : List UInt8 := dkwX2_isValid_1 ++ dktX2_isValid_2
def dkwX2_isValid_0 : List UInt8 := [42, 27, 182, 0, 37, 153, 0, 28, 42, 27, 182, 0, 26, 16, 13, 163, 0, 18, 27, 42, 27, 182, 0, 40]
abbrev dktX2_isValid_0 : List UInt8 := dkwX2_isValid_0 ++ dktX2_isValid_1
theorem dksX2_isValid_0 : cX2_isValid.data.toList.drop 0 = dktX2_isValid_0 := by decide +kernel
theorem dksX2_isValid_1 : cX2_isValid.data.toList.drop 24 = dktX2_isValid_1 := dk_seg dksX2_isValid_0 24 rfl rfl
theorem dksX2_isValid_2 : cX2_isValid.data.toList.drop 46 = dktX2_isValid_2 := dk_seg dksX2_isValid_1 22 rfl rfl
theorem dX2_isValid_0 : decode cX2_isValid 0 = .ok (.aload_n 0, 1) := dk_42 (dk_at dksX2_isValid_0 0 rfl rfl)
theorem dX2_isValid_1 : decode cX2_isValid 1 = .ok (.iload_n 1, 1) := dk_27 (dk_at dksX2_isValid_0 1 rfl rfl)
theorem dX2_isValid_2 : decode cX2_isValid 2 = .ok (.invokevirtual 37, 3) := dk_182 0 37 (dk_at dksX2_isValid_0 2 rfl rfl)
theorem dX2_isValid_5 : decode cX2_isValid 5 = .ok (.ifCond .eq 28, 3) := dk_153 0 28 (dk_at dksX2_isValid_0 5 rfl rfl)
theorem dX2_isValid_8 : decode cX2_isValid 8 = .ok (.aload_n 0, 1) := dk_42 (dk_at dksX2_isValid_0 8 rfl rfl)
theorem dX2_isValid_9 : decode cX2_isValid 9 = .ok (.iload_n 1, 1) := dk_27 (dk_at dksX2_isValid_0 9 rfl rfl)
theorem dX2_isValid_10 : decode cX2_isValid 10 = .ok (.invokevirtual 26, 3) := dk_182 0 26 (dk_at dksX2_isValid_0 10 rfl rfl)
theorem dX2_isValid_13 : decode cX2_isValid 13 = .ok (.bipush 13, 2) := dk_16 13 (dk_at dksX2_isValid_0 13 rfl rfl)
theorem dX2_isValid_15 : decode cX2_isValid 15 = .ok (.if_icmp .gt 18, 3) := dk_163 0 18 (dk_at dksX2_isValid_0 15 rfl rfl)
theorem dX2_isValid_18 : decode cX2_isValid 18 = .ok (.iload_n 1, 1) := dk_27 (dk_at dksX2_isValid_0 18 rfl rfl)
theorem dX2_isValid_19 : decode cX2_isValid 19 = .ok (.aload_n 0, 1) := dk_42 (dk_at dksX2_isValid_0 19 rfl rfl)
theorem dX2_isValid_20 : decode cX2_isValid 20 = .ok (.iload_n 1, 1) := dk_27 (dk_at dksX2_isValid_0 20 rfl rfl)
theorem dX2_isValid_21 : decode cX2_isValid 21 = .ok (.invokevirtual 40, 3) := dk_182 0 40 (dk_at dksX2_isValid_0 21 rfl rfl)
theorem dX2_isValid_24 : decode cX2_isValid 24 = .ok (.iadd, 1) := dk_96 (dk_at dksX2_isValid_1 0 rfl rfl)
theorem dX2_isValid_25 : decode cX2_isValid 25 = .ok (.aload_n 0, 1) := dk_42 (dk_at dksX2_isValid_1 1 rfl rfl)
theorem dX2_isValid_26 : decode cX2_isValid 26 = .ok (.getfield 9, 3) := dk_180 0 9 (dk_at dksX2_isValid_1 2 rfl rfl)
theorem dX2_isValid_29 : decode cX2_isValid 29 = .ok (.arraylength, 1) := dk_190 (dk_at dksX2_isValid_1 5 rfl rfl)
theorem dX2_isValid_30 : decode cX2_isValid 30 = .ok (.if_icmp .le 5, 3) := dk_164 0 5 (dk_at dksX2_isValid_1 6 rfl rfl)
theorem dX2_isValid_33 : decode cX2_isValid 33 = .ok (.iconst 0, 1) := dk_3 (dk_at dksX2_isValid_1 9 rfl rfl)
theorem dX2_isValid_34 : decode cX2_isValid 34 = .ok (.ireturn, 1) := dk_172 (dk_at dksX2_isValid_1 10 rfl rfl)
theorem dX2_isValid_35 : decode cX2_isValid 35 = .ok (.aload_n 0, 1) := dk_42 (dk_at dksX2_isValid_1 11 rfl rfl)
theorem dX2_isValid_36 : decode cX2_isValid 36 = .ok (.iload_n 1, 1) := dk_27 (dk_at dksX2_isValid_1 12 rfl rfl)
theorem dX2_isValid_37 : decode cX2_isValid 37 = .ok (.invokevirtual 43, 3) := dk_182 0 43 (dk_at dksX2_isValid_1 13 rfl rfl)
theorem dX2_isValid_40 : decode cX2_isValid 40 = .ok (.ifCond .eq 15, 3) := dk_153 0 15 (dk_at dksX2_isValid_1 16 rfl rfl)
theorem dX2_isValid_43 : decode cX2_isValid 43 = .ok (.aload_n 0, 1) := dk_42 (dk_at dksX2_isValid_1 19 rfl rfl)
theorem dX2_isValid_44 : decode cX2_isValid 44 = .ok (.aload_n 0, 1) := dk_42 (dk_at dksX2_isValid_1 20 rfl rfl)
theorem dX2_isValid_45 : decode cX2_isValid 45 = .ok (.iload_n 1, 1) := dk_27 (dk_at dksX2_isValid_1 21 rfl rfl)
theorem dX2_isValid_46 : decode cX2_isValid 46 = .ok (.invokevirtual 46, 3) := dk_182 0 46 (dk_at dksX2_isValid_2 0 rfl rfl)
theorem dX2_isValid_49 : decode cX2_isValid 49 = .ok (.invokevirtual 37, 3) := dk_182 0 37 (dk_at dksX2_isValid_2 3 rfl rfl)
theorem dX2_isValid_52 : decode cX2_isValid 52 = .ok (.ifCond .eq 7, 3) := dk_153 0 7 (dk_at dksX2_isValid_2 6 rfl rfl)
theorem dX2_isValid_55 : decode cX2_isValid 55 = .ok (.iconst 1, 1) := dk_4 (dk_at dksX2_isValid_2 9 rfl rfl)
theorem dX2_isValid_56 : decode cX2_isValid 56 = .ok (.goto 4, 3) := dk_167 0 4 (dk_at dksX2_isValid_2 10 rfl rfl)
theorem dX2_isValid_59 : decode cX2_isValid 59 = .ok (.iconst 0, 1) := dk_3 (dk_at dksX2_isValid_2 13 rfl rfl)
theorem dX2_isValid_60 : decode cX2_isValid 60 = .ok (.ireturn, 1) := dk_172 (dk_at dksX2_isValid_2 14 rfl rfl)
abbrev cX2_contains : ByteArray := prog_6_method_3_code
def yX2_contains : MethodName := ⟨RX2, "contains", "(I)Z"⟩
def dkwX2_contains_0 : List UInt8 := [27, 3, 42, 180, 0, 9, 190, 4, 100, 184, 0, 22, 172]
abbrev dktX2_contains_0 : List UInt8 := dkwX2_contains_0 ++ []
theorem dksX2_contains_0 : cX2_contains.data.toList.drop 0 = dktX2_contains_0 := by decide +kernel
theorem dX2_contains_0 : decode cX2_contains 0 = .ok (.iload_n 1, 1) := dk_27 (dk_at dksX2_contains_0 0 rfl rfl)
theorem dX2_contains_1 : decode cX2_contains 1 = .ok (.iconst 0, 1) := dk_3 (dk_at dksX2_contains_0 1 rfl rfl)
theorem dX2_contains_2 : decode cX2_contains 2 = .ok (.aload_n 0, 1) := dk_42 (dk_at dksX2_contains_0 2 rfl rfl)
theorem dX2_contains_3 : decode cX2_contains 3 = .ok (.getfield 9, 3) := dk_180 0 9 (dk_at dksX2_contains_0 3 rfl rfl)
theorem dX2_contains_6 : decode cX2_contains 6 = .ok (.arraylength, 1) := dk_190 (dk_at dksX2_contains_0 6 rfl rfl)
theorem dX2_contains_7 : decode cX2_contains 7 = .ok (.iconst 1, 1) := dk_4 (dk_at dksX2_contains_0 7 rfl rfl)
theorem dX2_contains_8 : decode cX2_contains 8 = .ok (.isub, 1) := dk_100 (dk_at dksX2_contains_0 8 rfl rfl)
theorem dX2_contains_9 : decode cX2_contains 9 = .ok (.invokestatic 22, 3) := dk_184 0 22 (dk_at dksX2_contains_0 9 rfl rfl)
theorem dX2_contains_12 : decode cX2_contains 12 = .ok (.ireturn, 1) := dk_172 (dk_at dksX2_contains_0 12 rfl rfl)
abbrev cX2_kind : ByteArray := prog_6_method_5_code
def yX2_kind : MethodName := ⟨RX2, "kind", "(I)I"⟩
def dkwX2_kind_0 : List UInt8 := [42, 180, 0, 9, 27, 46, 16, 16, 108, 172]
abbrev dktX2_kind_0 : List UInt8 := dkwX2_kind_0 ++ []
theorem dksX2_kind_0 : cX2_kind.data.toList.drop 0 = dktX2_kind_0 := by decide +kernel
theorem dX2_kind_0 : decode cX2_kind 0 = .ok (.aload_n 0, 1) := dk_42 (dk_at dksX2_kind_0 0 rfl rfl)
theorem dX2_kind_1 : decode cX2_kind 1 = .ok (.getfield 9, 3) := dk_180 0 9 (dk_at dksX2_kind_0 1 rfl rfl)
theorem dX2_kind_4 : decode cX2_kind 4 = .ok (.iload_n 1, 1) := dk_27 (dk_at dksX2_kind_0 4 rfl rfl)
theorem dX2_kind_5 : decode cX2_kind 5 = .ok (.iaload, 1) := dk_46 (dk_at dksX2_kind_0 5 rfl rfl)
theorem dX2_kind_6 : decode cX2_kind 6 = .ok (.bipush 16, 2) := dk_16 16 (dk_at dksX2_kind_0 6 rfl rfl)
theorem dX2_kind_8 : decode cX2_kind 8 = .ok (.idiv, 1) := dk_108 (dk_at dksX2_kind_0 8 rfl rfl)
theorem dX2_kind_9 : decode cX2_kind 9 = .ok (.ireturn, 1) := dk_172 (dk_at dksX2_kind_0 9 rfl rfl)
abbrev cX2_length : ByteArray := prog_6_method_9_code
def yX2_length : MethodName := ⟨RX2, "length", "(I)I"⟩
def dkwX2_length_0 : List UInt8 := [42, 27, 182, 0, 30, 153, 0, 7, 5, 167, 0, 4, 4, 172]
abbrev dktX2_length_0 : List UInt8 := dkwX2_length_0 ++ []
theorem dksX2_length_0 : cX2_length.data.toList.drop 0 = dktX2_length_0 := by decide +kernel
theorem dX2_length_0 : decode cX2_length 0 = .ok (.aload_n 0, 1) := dk_42 (dk_at dksX2_length_0 0 rfl rfl)
theorem dX2_length_1 : decode cX2_length 1 = .ok (.iload_n 1, 1) := dk_27 (dk_at dksX2_length_0 1 rfl rfl)
theorem dX2_length_2 : decode cX2_length 2 = .ok (.invokevirtual 30, 3) := dk_182 0 30 (dk_at dksX2_length_0 2 rfl rfl)
theorem dX2_length_5 : decode cX2_length 5 = .ok (.ifCond .eq 7, 3) := dk_153 0 7 (dk_at dksX2_length_0 5 rfl rfl)
theorem dX2_length_8 : decode cX2_length 8 = .ok (.iconst 2, 1) := dk_5 (dk_at dksX2_length_0 8 rfl rfl)
theorem dX2_length_9 : decode cX2_length 9 = .ok (.goto 4, 3) := dk_167 0 4 (dk_at dksX2_length_0 9 rfl rfl)
theorem dX2_length_12 : decode cX2_length 12 = .ok (.iconst 1, 1) := dk_4 (dk_at dksX2_length_0 12 rfl rfl)
theorem dX2_length_13 : decode cX2_length 13 = .ok (.ireturn, 1) := dk_172 (dk_at dksX2_length_0 13 rfl rfl)
abbrev cX2_hasOperand : ByteArray := prog_6_method_8_code
def yX2_hasOperand : MethodName := ⟨RX2, "hasOperand", "(I)Z"⟩
def dkwX2_hasOperand_1 : List UInt8 := [159, 0, 15, 28, 16, 10, 159, 0, 9, 28, 16, 12, 160, 0, 7, 4, 167, 0, 4, 3, 172]
abbrev dktX2_hasOperand_1 : List UInt8 := dkwX2_hasOperand_1 ++ []
def dkwX2_hasOperand_0 : List UInt8 := [42, 27, 182, 0, 26, 61, 28, 4, 159, 0, 31, 28, 6, 16, 7, 184, 0, 22, 154, 0, 21, 28, 16, 9]
abbrev dktX2_hasOperand_0 : List UInt8 := dkwX2_hasOperand_0 ++ dktX2_hasOperand_1
theorem dksX2_hasOperand_0 : cX2_hasOperand.data.toList.drop 0 = dktX2_hasOperand_0 := by decide +kernel
theorem dksX2_hasOperand_1 : cX2_hasOperand.data.toList.drop 24 = dktX2_hasOperand_1 := dk_seg dksX2_hasOperand_0 24 rfl rfl
theorem dX2_hasOperand_0 : decode cX2_hasOperand 0 = .ok (.aload_n 0, 1) := dk_42 (dk_at dksX2_hasOperand_0 0 rfl rfl)
theorem dX2_hasOperand_1 : decode cX2_hasOperand 1 = .ok (.iload_n 1, 1) := dk_27 (dk_at dksX2_hasOperand_0 1 rfl rfl)
theorem dX2_hasOperand_2 : decode cX2_hasOperand 2 = .ok (.invokevirtual 26, 3) := dk_182 0 26 (dk_at dksX2_hasOperand_0 2 rfl rfl)
theorem dX2_hasOperand_5 : decode cX2_hasOperand 5 = .ok (.istore_n 2, 1) := dk_61 (dk_at dksX2_hasOperand_0 5 rfl rfl)
theorem dX2_hasOperand_6 : decode cX2_hasOperand 6 = .ok (.iload_n 2, 1) := dk_28 (dk_at dksX2_hasOperand_0 6 rfl rfl)
theorem dX2_hasOperand_7 : decode cX2_hasOperand 7 = .ok (.iconst 1, 1) := dk_4 (dk_at dksX2_hasOperand_0 7 rfl rfl)
theorem dX2_hasOperand_8 : decode cX2_hasOperand 8 = .ok (.if_icmp .eq 31, 3) := dk_159 0 31 (dk_at dksX2_hasOperand_0 8 rfl rfl)
theorem dX2_hasOperand_11 : decode cX2_hasOperand 11 = .ok (.iload_n 2, 1) := dk_28 (dk_at dksX2_hasOperand_0 11 rfl rfl)
theorem dX2_hasOperand_12 : decode cX2_hasOperand 12 = .ok (.iconst 3, 1) := dk_6 (dk_at dksX2_hasOperand_0 12 rfl rfl)
theorem dX2_hasOperand_13 : decode cX2_hasOperand 13 = .ok (.bipush 7, 2) := dk_16 7 (dk_at dksX2_hasOperand_0 13 rfl rfl)
theorem dX2_hasOperand_15 : decode cX2_hasOperand 15 = .ok (.invokestatic 22, 3) := dk_184 0 22 (dk_at dksX2_hasOperand_0 15 rfl rfl)
theorem dX2_hasOperand_18 : decode cX2_hasOperand 18 = .ok (.ifCond .ne 21, 3) := dk_154 0 21 (dk_at dksX2_hasOperand_0 18 rfl rfl)
theorem dX2_hasOperand_21 : decode cX2_hasOperand 21 = .ok (.iload_n 2, 1) := dk_28 (dk_at dksX2_hasOperand_0 21 rfl rfl)
theorem dX2_hasOperand_22 : decode cX2_hasOperand 22 = .ok (.bipush 9, 2) := dk_16 9 (dk_at dksX2_hasOperand_0 22 rfl rfl)
theorem dX2_hasOperand_24 : decode cX2_hasOperand 24 = .ok (.if_icmp .eq 15, 3) := dk_159 0 15 (dk_at dksX2_hasOperand_1 0 rfl rfl)
theorem dX2_hasOperand_27 : decode cX2_hasOperand 27 = .ok (.iload_n 2, 1) := dk_28 (dk_at dksX2_hasOperand_1 3 rfl rfl)
theorem dX2_hasOperand_28 : decode cX2_hasOperand 28 = .ok (.bipush 10, 2) := dk_16 10 (dk_at dksX2_hasOperand_1 4 rfl rfl)
theorem dX2_hasOperand_30 : decode cX2_hasOperand 30 = .ok (.if_icmp .eq 9, 3) := dk_159 0 9 (dk_at dksX2_hasOperand_1 6 rfl rfl)
theorem dX2_hasOperand_33 : decode cX2_hasOperand 33 = .ok (.iload_n 2, 1) := dk_28 (dk_at dksX2_hasOperand_1 9 rfl rfl)
theorem dX2_hasOperand_34 : decode cX2_hasOperand 34 = .ok (.bipush 12, 2) := dk_16 12 (dk_at dksX2_hasOperand_1 10 rfl rfl)
theorem dX2_hasOperand_36 : decode cX2_hasOperand 36 = .ok (.if_icmp .ne 7, 3) := dk_160 0 7 (dk_at dksX2_hasOperand_1 12 rfl rfl)
theorem dX2_hasOperand_39 : decode cX2_hasOperand 39 = .ok (.iconst 1, 1) := dk_4 (dk_at dksX2_hasOperand_1 15 rfl rfl)
theorem dX2_hasOperand_40 : decode cX2_hasOperand 40 = .ok (.goto 4, 3) := dk_167 0 4 (dk_at dksX2_hasOperand_1 16 rfl rfl)
theorem dX2_hasOperand_43 : decode cX2_hasOperand 43 = .ok (.iconst 0, 1) := dk_3 (dk_at dksX2_hasOperand_1 19 rfl rfl)
theorem dX2_hasOperand_44 : decode cX2_hasOperand 44 = .ok (.ireturn, 1) := dk_172 (dk_at dksX2_hasOperand_1 20 rfl rfl)
abbrev cX2_hasTarget : ByteArray := prog_6_method_11_code
def yX2_hasTarget : MethodName := ⟨RX2, "hasTarget", "(I)Z"⟩
def dkwX2_hasTarget_0 : List UInt8 := [42, 27, 182, 0, 26, 7, 16, 7, 184, 0, 22, 172]
abbrev dktX2_hasTarget_0 : List UInt8 := dkwX2_hasTarget_0 ++ []
theorem dksX2_hasTarget_0 : cX2_hasTarget.data.toList.drop 0 = dktX2_hasTarget_0 := by decide +kernel
theorem dX2_hasTarget_0 : decode cX2_hasTarget 0 = .ok (.aload_n 0, 1) := dk_42 (dk_at dksX2_hasTarget_0 0 rfl rfl)
theorem dX2_hasTarget_1 : decode cX2_hasTarget 1 = .ok (.iload_n 1, 1) := dk_27 (dk_at dksX2_hasTarget_0 1 rfl rfl)
theorem dX2_hasTarget_2 : decode cX2_hasTarget 2 = .ok (.invokevirtual 26, 3) := dk_182 0 26 (dk_at dksX2_hasTarget_0 2 rfl rfl)
theorem dX2_hasTarget_5 : decode cX2_hasTarget 5 = .ok (.iconst 4, 1) := dk_7 (dk_at dksX2_hasTarget_0 5 rfl rfl)
theorem dX2_hasTarget_6 : decode cX2_hasTarget 6 = .ok (.bipush 7, 2) := dk_16 7 (dk_at dksX2_hasTarget_0 6 rfl rfl)
theorem dX2_hasTarget_8 : decode cX2_hasTarget 8 = .ok (.invokestatic 22, 3) := dk_184 0 22 (dk_at dksX2_hasTarget_0 8 rfl rfl)
theorem dX2_hasTarget_11 : decode cX2_hasTarget 11 = .ok (.ireturn, 1) := dk_172 (dk_at dksX2_hasTarget_0 11 rfl rfl)
abbrev cX2_target : ByteArray := prog_6_method_12_code
def yX2_target : MethodName := ⟨RX2, "target", "(I)I"⟩
def dkwX2_target_1 : List UInt8 := [100, 96, 172]
abbrev dktX2_target_1 : List UInt8 := dkwX2_target_1 ++ []
def dkwX2_target_0 : List UInt8 := [42, 27, 182, 0, 34, 61, 27, 5, 96, 28, 17, 0, 128, 162, 0, 7, 28, 167, 0, 8, 28, 17, 1, 0]
abbrev dktX2_target_0 : List UInt8 := dkwX2_target_0 ++ dktX2_target_1
theorem dksX2_target_0 : cX2_target.data.toList.drop 0 = dktX2_target_0 := by decide +kernel
theorem dksX2_target_1 : cX2_target.data.toList.drop 24 = dktX2_target_1 := dk_seg dksX2_target_0 24 rfl rfl
theorem dX2_target_0 : decode cX2_target 0 = .ok (.aload_n 0, 1) := dk_42 (dk_at dksX2_target_0 0 rfl rfl)
theorem dX2_target_1 : decode cX2_target 1 = .ok (.iload_n 1, 1) := dk_27 (dk_at dksX2_target_0 1 rfl rfl)
theorem dX2_target_2 : decode cX2_target 2 = .ok (.invokevirtual 34, 3) := dk_182 0 34 (dk_at dksX2_target_0 2 rfl rfl)
theorem dX2_target_5 : decode cX2_target 5 = .ok (.istore_n 2, 1) := dk_61 (dk_at dksX2_target_0 5 rfl rfl)
theorem dX2_target_6 : decode cX2_target 6 = .ok (.iload_n 1, 1) := dk_27 (dk_at dksX2_target_0 6 rfl rfl)
theorem dX2_target_7 : decode cX2_target 7 = .ok (.iconst 2, 1) := dk_5 (dk_at dksX2_target_0 7 rfl rfl)
theorem dX2_target_8 : decode cX2_target 8 = .ok (.iadd, 1) := dk_96 (dk_at dksX2_target_0 8 rfl rfl)
theorem dX2_target_9 : decode cX2_target 9 = .ok (.iload_n 2, 1) := dk_28 (dk_at dksX2_target_0 9 rfl rfl)
theorem dX2_target_10 : decode cX2_target 10 = .ok (.sipush 128, 3) := dk_17 0 128 (dk_at dksX2_target_0 10 rfl rfl)
theorem dX2_target_13 : decode cX2_target 13 = .ok (.if_icmp .ge 7, 3) := dk_162 0 7 (dk_at dksX2_target_0 13 rfl rfl)
theorem dX2_target_16 : decode cX2_target 16 = .ok (.iload_n 2, 1) := dk_28 (dk_at dksX2_target_0 16 rfl rfl)
theorem dX2_target_17 : decode cX2_target 17 = .ok (.goto 8, 3) := dk_167 0 8 (dk_at dksX2_target_0 17 rfl rfl)
theorem dX2_target_20 : decode cX2_target 20 = .ok (.iload_n 2, 1) := dk_28 (dk_at dksX2_target_0 20 rfl rfl)
theorem dX2_target_21 : decode cX2_target 21 = .ok (.sipush 256, 3) := dk_17 1 0 (dk_at dksX2_target_0 21 rfl rfl)
theorem dX2_target_24 : decode cX2_target 24 = .ok (.isub, 1) := dk_100 (dk_at dksX2_target_1 0 rfl rfl)
theorem dX2_target_25 : decode cX2_target 25 = .ok (.iadd, 1) := dk_96 (dk_at dksX2_target_1 1 rfl rfl)
theorem dX2_target_26 : decode cX2_target 26 = .ok (.ireturn, 1) := dk_172 (dk_at dksX2_target_1 2 rfl rfl)
abbrev cX2_operand : ByteArray := prog_6_method_10_code
def yX2_operand : MethodName := ⟨RX2, "operand", "(I)I"⟩
def dkwX2_operand_0 : List UInt8 := [42, 180, 0, 9, 27, 4, 96, 46, 172]
abbrev dktX2_operand_0 : List UInt8 := dkwX2_operand_0 ++ []
theorem dksX2_operand_0 : cX2_operand.data.toList.drop 0 = dktX2_operand_0 := by decide +kernel
theorem dX2_operand_0 : decode cX2_operand 0 = .ok (.aload_n 0, 1) := dk_42 (dk_at dksX2_operand_0 0 rfl rfl)
theorem dX2_operand_1 : decode cX2_operand 1 = .ok (.getfield 9, 3) := dk_180 0 9 (dk_at dksX2_operand_0 1 rfl rfl)
theorem dX2_operand_4 : decode cX2_operand 4 = .ok (.iload_n 1, 1) := dk_27 (dk_at dksX2_operand_0 4 rfl rfl)
theorem dX2_operand_5 : decode cX2_operand 5 = .ok (.iconst 1, 1) := dk_4 (dk_at dksX2_operand_0 5 rfl rfl)
theorem dX2_operand_6 : decode cX2_operand 6 = .ok (.iadd, 1) := dk_96 (dk_at dksX2_operand_0 6 rfl rfl)
theorem dX2_operand_7 : decode cX2_operand 7 = .ok (.iaload, 1) := dk_46 (dk_at dksX2_operand_0 7 rfl rfl)
theorem dX2_operand_8 : decode cX2_operand 8 = .ok (.ireturn, 1) := dk_172 (dk_at dksX2_operand_0 8 rfl rfl)
abbrev cX2_first : ByteArray := prog_6_method_6_code
def yX2_first : MethodName := ⟨RX2, "first", "(I)I"⟩
def dkwX2_first_0 : List UInt8 := [42, 180, 0, 9, 27, 46, 7, 108, 7, 112, 172]
abbrev dktX2_first_0 : List UInt8 := dkwX2_first_0 ++ []
theorem dksX2_first_0 : cX2_first.data.toList.drop 0 = dktX2_first_0 := by decide +kernel
theorem dX2_first_0 : decode cX2_first 0 = .ok (.aload_n 0, 1) := dk_42 (dk_at dksX2_first_0 0 rfl rfl)
theorem dX2_first_1 : decode cX2_first 1 = .ok (.getfield 9, 3) := dk_180 0 9 (dk_at dksX2_first_0 1 rfl rfl)
theorem dX2_first_4 : decode cX2_first 4 = .ok (.iload_n 1, 1) := dk_27 (dk_at dksX2_first_0 4 rfl rfl)
theorem dX2_first_5 : decode cX2_first 5 = .ok (.iaload, 1) := dk_46 (dk_at dksX2_first_0 5 rfl rfl)
theorem dX2_first_6 : decode cX2_first 6 = .ok (.iconst 4, 1) := dk_7 (dk_at dksX2_first_0 6 rfl rfl)
theorem dX2_first_7 : decode cX2_first 7 = .ok (.idiv, 1) := dk_108 (dk_at dksX2_first_0 7 rfl rfl)
theorem dX2_first_8 : decode cX2_first 8 = .ok (.iconst 4, 1) := dk_7 (dk_at dksX2_first_0 8 rfl rfl)
theorem dX2_first_9 : decode cX2_first 9 = .ok (.irem, 1) := dk_112 (dk_at dksX2_first_0 9 rfl rfl)
theorem dX2_first_10 : decode cX2_first 10 = .ok (.ireturn, 1) := dk_172 (dk_at dksX2_first_0 10 rfl rfl)
abbrev cX2_endsFlow : ByteArray := prog_6_method_14_code
def yX2_endsFlow : MethodName := ⟨RX2, "endsFlow", "(I)Z"⟩
def dkwX2_endsFlow_1 : List UInt8 := [16, 13, 160, 0, 7, 4, 167, 0, 4, 3, 172]
abbrev dktX2_endsFlow_1 : List UInt8 := dkwX2_endsFlow_1 ++ []
def dkwX2_endsFlow_0 : List UInt8 := [42, 27, 182, 0, 26, 61, 28, 7, 159, 0, 21, 28, 16, 8, 159, 0, 15, 28, 16, 9, 159, 0, 9, 28]
abbrev dktX2_endsFlow_0 : List UInt8 := dkwX2_endsFlow_0 ++ dktX2_endsFlow_1
theorem dksX2_endsFlow_0 : cX2_endsFlow.data.toList.drop 0 = dktX2_endsFlow_0 := by decide +kernel
theorem dksX2_endsFlow_1 : cX2_endsFlow.data.toList.drop 24 = dktX2_endsFlow_1 := dk_seg dksX2_endsFlow_0 24 rfl rfl
theorem dX2_endsFlow_0 : decode cX2_endsFlow 0 = .ok (.aload_n 0, 1) := dk_42 (dk_at dksX2_endsFlow_0 0 rfl rfl)
theorem dX2_endsFlow_1 : decode cX2_endsFlow 1 = .ok (.iload_n 1, 1) := dk_27 (dk_at dksX2_endsFlow_0 1 rfl rfl)
theorem dX2_endsFlow_2 : decode cX2_endsFlow 2 = .ok (.invokevirtual 26, 3) := dk_182 0 26 (dk_at dksX2_endsFlow_0 2 rfl rfl)
theorem dX2_endsFlow_5 : decode cX2_endsFlow 5 = .ok (.istore_n 2, 1) := dk_61 (dk_at dksX2_endsFlow_0 5 rfl rfl)
theorem dX2_endsFlow_6 : decode cX2_endsFlow 6 = .ok (.iload_n 2, 1) := dk_28 (dk_at dksX2_endsFlow_0 6 rfl rfl)
theorem dX2_endsFlow_7 : decode cX2_endsFlow 7 = .ok (.iconst 4, 1) := dk_7 (dk_at dksX2_endsFlow_0 7 rfl rfl)
theorem dX2_endsFlow_8 : decode cX2_endsFlow 8 = .ok (.if_icmp .eq 21, 3) := dk_159 0 21 (dk_at dksX2_endsFlow_0 8 rfl rfl)
theorem dX2_endsFlow_11 : decode cX2_endsFlow 11 = .ok (.iload_n 2, 1) := dk_28 (dk_at dksX2_endsFlow_0 11 rfl rfl)
theorem dX2_endsFlow_12 : decode cX2_endsFlow 12 = .ok (.bipush 8, 2) := dk_16 8 (dk_at dksX2_endsFlow_0 12 rfl rfl)
theorem dX2_endsFlow_14 : decode cX2_endsFlow 14 = .ok (.if_icmp .eq 15, 3) := dk_159 0 15 (dk_at dksX2_endsFlow_0 14 rfl rfl)
theorem dX2_endsFlow_17 : decode cX2_endsFlow 17 = .ok (.iload_n 2, 1) := dk_28 (dk_at dksX2_endsFlow_0 17 rfl rfl)
theorem dX2_endsFlow_18 : decode cX2_endsFlow 18 = .ok (.bipush 9, 2) := dk_16 9 (dk_at dksX2_endsFlow_0 18 rfl rfl)
theorem dX2_endsFlow_20 : decode cX2_endsFlow 20 = .ok (.if_icmp .eq 9, 3) := dk_159 0 9 (dk_at dksX2_endsFlow_0 20 rfl rfl)
theorem dX2_endsFlow_23 : decode cX2_endsFlow 23 = .ok (.iload_n 2, 1) := dk_28 (dk_at dksX2_endsFlow_0 23 rfl rfl)
theorem dX2_endsFlow_24 : decode cX2_endsFlow 24 = .ok (.bipush 13, 2) := dk_16 13 (dk_at dksX2_endsFlow_1 0 rfl rfl)
theorem dX2_endsFlow_26 : decode cX2_endsFlow 26 = .ok (.if_icmp .ne 7, 3) := dk_160 0 7 (dk_at dksX2_endsFlow_1 2 rfl rfl)
theorem dX2_endsFlow_29 : decode cX2_endsFlow 29 = .ok (.iconst 1, 1) := dk_4 (dk_at dksX2_endsFlow_1 5 rfl rfl)
theorem dX2_endsFlow_30 : decode cX2_endsFlow 30 = .ok (.goto 4, 3) := dk_167 0 4 (dk_at dksX2_endsFlow_1 6 rfl rfl)
theorem dX2_endsFlow_33 : decode cX2_endsFlow 33 = .ok (.iconst 0, 1) := dk_3 (dk_at dksX2_endsFlow_1 9 rfl rfl)
theorem dX2_endsFlow_34 : decode cX2_endsFlow 34 = .ok (.ireturn, 1) := dk_172 (dk_at dksX2_endsFlow_1 10 rfl rfl)
abbrev cX2_changes : ByteArray := prog_6_method_16_code
def yX2_changes : MethodName := ⟨RX2, "changes", "(II)Z"⟩
def dkwX2_changes_2 : List UInt8 := [27, 182, 0, 52, 28, 160, 0, 7, 4, 167, 0, 4, 3, 172]
abbrev dktX2_changes_2 : List UInt8 := dkwX2_changes_2 ++ []
def dkwX2_changes_1 : List UInt8 := [16, 11, 159, 0, 9, 29, 16, 12, 160, 0, 7, 4, 167, 0, 4, 3, 54, 4, 21, 4, 153, 0, 16, 42]
abbrev dktX2_changes_1 : List UInt8 := dkwX2_changes_1 ++ dktX2_changes_2
def dkwX2_changes_0 : List UInt8 := [42, 27, 182, 0, 26, 62, 29, 4, 159, 0, 26, 29, 5, 159, 0, 21, 29, 16, 10, 159, 0, 15, 29]
abbrev dktX2_changes_0 : List UInt8 := dkwX2_changes_0 ++ dktX2_changes_1
theorem dksX2_changes_0 : cX2_changes.data.toList.drop 0 = dktX2_changes_0 := by decide +kernel
theorem dksX2_changes_1 : cX2_changes.data.toList.drop 23 = dktX2_changes_1 := dk_seg dksX2_changes_0 23 rfl rfl
theorem dksX2_changes_2 : cX2_changes.data.toList.drop 47 = dktX2_changes_2 := dk_seg dksX2_changes_1 24 rfl rfl
theorem dX2_changes_0 : decode cX2_changes 0 = .ok (.aload_n 0, 1) := dk_42 (dk_at dksX2_changes_0 0 rfl rfl)
theorem dX2_changes_1 : decode cX2_changes 1 = .ok (.iload_n 1, 1) := dk_27 (dk_at dksX2_changes_0 1 rfl rfl)
theorem dX2_changes_2 : decode cX2_changes 2 = .ok (.invokevirtual 26, 3) := dk_182 0 26 (dk_at dksX2_changes_0 2 rfl rfl)
theorem dX2_changes_5 : decode cX2_changes 5 = .ok (.istore_n 3, 1) := dk_62 (dk_at dksX2_changes_0 5 rfl rfl)
theorem dX2_changes_6 : decode cX2_changes 6 = .ok (.iload_n 3, 1) := dk_29 (dk_at dksX2_changes_0 6 rfl rfl)
theorem dX2_changes_7 : decode cX2_changes 7 = .ok (.iconst 1, 1) := dk_4 (dk_at dksX2_changes_0 7 rfl rfl)
theorem dX2_changes_8 : decode cX2_changes 8 = .ok (.if_icmp .eq 26, 3) := dk_159 0 26 (dk_at dksX2_changes_0 8 rfl rfl)
theorem dX2_changes_11 : decode cX2_changes 11 = .ok (.iload_n 3, 1) := dk_29 (dk_at dksX2_changes_0 11 rfl rfl)
theorem dX2_changes_12 : decode cX2_changes 12 = .ok (.iconst 2, 1) := dk_5 (dk_at dksX2_changes_0 12 rfl rfl)
theorem dX2_changes_13 : decode cX2_changes 13 = .ok (.if_icmp .eq 21, 3) := dk_159 0 21 (dk_at dksX2_changes_0 13 rfl rfl)
theorem dX2_changes_16 : decode cX2_changes 16 = .ok (.iload_n 3, 1) := dk_29 (dk_at dksX2_changes_0 16 rfl rfl)
theorem dX2_changes_17 : decode cX2_changes 17 = .ok (.bipush 10, 2) := dk_16 10 (dk_at dksX2_changes_0 17 rfl rfl)
theorem dX2_changes_19 : decode cX2_changes 19 = .ok (.if_icmp .eq 15, 3) := dk_159 0 15 (dk_at dksX2_changes_0 19 rfl rfl)
theorem dX2_changes_22 : decode cX2_changes 22 = .ok (.iload_n 3, 1) := dk_29 (dk_at dksX2_changes_0 22 rfl rfl)
theorem dX2_changes_23 : decode cX2_changes 23 = .ok (.bipush 11, 2) := dk_16 11 (dk_at dksX2_changes_1 0 rfl rfl)
theorem dX2_changes_25 : decode cX2_changes 25 = .ok (.if_icmp .eq 9, 3) := dk_159 0 9 (dk_at dksX2_changes_1 2 rfl rfl)
theorem dX2_changes_28 : decode cX2_changes 28 = .ok (.iload_n 3, 1) := dk_29 (dk_at dksX2_changes_1 5 rfl rfl)
theorem dX2_changes_29 : decode cX2_changes 29 = .ok (.bipush 12, 2) := dk_16 12 (dk_at dksX2_changes_1 6 rfl rfl)
theorem dX2_changes_31 : decode cX2_changes 31 = .ok (.if_icmp .ne 7, 3) := dk_160 0 7 (dk_at dksX2_changes_1 8 rfl rfl)
theorem dX2_changes_34 : decode cX2_changes 34 = .ok (.iconst 1, 1) := dk_4 (dk_at dksX2_changes_1 11 rfl rfl)
theorem dX2_changes_35 : decode cX2_changes 35 = .ok (.goto 4, 3) := dk_167 0 4 (dk_at dksX2_changes_1 12 rfl rfl)
theorem dX2_changes_38 : decode cX2_changes 38 = .ok (.iconst 0, 1) := dk_3 (dk_at dksX2_changes_1 15 rfl rfl)
theorem dX2_changes_39 : decode cX2_changes 39 = .ok (.istore 4, 2) := dk_54 4 (dk_at dksX2_changes_1 16 rfl rfl)
theorem dX2_changes_41 : decode cX2_changes 41 = .ok (.iload 4, 2) := dk_21 4 (dk_at dksX2_changes_1 18 rfl rfl)
theorem dX2_changes_43 : decode cX2_changes 43 = .ok (.ifCond .eq 16, 3) := dk_153 0 16 (dk_at dksX2_changes_1 20 rfl rfl)
theorem dX2_changes_46 : decode cX2_changes 46 = .ok (.aload_n 0, 1) := dk_42 (dk_at dksX2_changes_1 23 rfl rfl)
theorem dX2_changes_47 : decode cX2_changes 47 = .ok (.iload_n 1, 1) := dk_27 (dk_at dksX2_changes_2 0 rfl rfl)
theorem dX2_changes_48 : decode cX2_changes 48 = .ok (.invokevirtual 52, 3) := dk_182 0 52 (dk_at dksX2_changes_2 1 rfl rfl)
theorem dX2_changes_51 : decode cX2_changes 51 = .ok (.iload_n 2, 1) := dk_28 (dk_at dksX2_changes_2 4 rfl rfl)
theorem dX2_changes_52 : decode cX2_changes 52 = .ok (.if_icmp .ne 7, 3) := dk_160 0 7 (dk_at dksX2_changes_2 5 rfl rfl)
theorem dX2_changes_55 : decode cX2_changes 55 = .ok (.iconst 1, 1) := dk_4 (dk_at dksX2_changes_2 8 rfl rfl)
theorem dX2_changes_56 : decode cX2_changes 56 = .ok (.goto 4, 3) := dk_167 0 4 (dk_at dksX2_changes_2 9 rfl rfl)
theorem dX2_changes_59 : decode cX2_changes 59 = .ok (.iconst 0, 1) := dk_3 (dk_at dksX2_changes_2 12 rfl rfl)
theorem dX2_changes_60 : decode cX2_changes 60 = .ok (.ireturn, 1) := dk_172 (dk_at dksX2_changes_2 13 rfl rfl)
abbrev cX2_endsBlock : ByteArray := prog_6_method_15_code
def yX2_endsBlock : MethodName := ⟨RX2, "endsBlock", "(I)Z"⟩
def dkwX2_endsBlock_1 : List UInt8 := [160, 0, 7, 4, 167, 0, 4, 3, 172]
abbrev dktX2_endsBlock_1 : List UInt8 := dkwX2_endsBlock_1 ++ []
def dkwX2_endsBlock_0 : List UInt8 := [42, 27, 182, 0, 49, 154, 0, 22, 42, 27, 182, 0, 26, 8, 159, 0, 13, 42, 27, 182, 0, 26, 16, 6]
abbrev dktX2_endsBlock_0 : List UInt8 := dkwX2_endsBlock_0 ++ dktX2_endsBlock_1
theorem dksX2_endsBlock_0 : cX2_endsBlock.data.toList.drop 0 = dktX2_endsBlock_0 := by decide +kernel
theorem dksX2_endsBlock_1 : cX2_endsBlock.data.toList.drop 24 = dktX2_endsBlock_1 := dk_seg dksX2_endsBlock_0 24 rfl rfl
theorem dX2_endsBlock_0 : decode cX2_endsBlock 0 = .ok (.aload_n 0, 1) := dk_42 (dk_at dksX2_endsBlock_0 0 rfl rfl)
theorem dX2_endsBlock_1 : decode cX2_endsBlock 1 = .ok (.iload_n 1, 1) := dk_27 (dk_at dksX2_endsBlock_0 1 rfl rfl)
theorem dX2_endsBlock_2 : decode cX2_endsBlock 2 = .ok (.invokevirtual 49, 3) := dk_182 0 49 (dk_at dksX2_endsBlock_0 2 rfl rfl)
theorem dX2_endsBlock_5 : decode cX2_endsBlock 5 = .ok (.ifCond .ne 22, 3) := dk_154 0 22 (dk_at dksX2_endsBlock_0 5 rfl rfl)
theorem dX2_endsBlock_8 : decode cX2_endsBlock 8 = .ok (.aload_n 0, 1) := dk_42 (dk_at dksX2_endsBlock_0 8 rfl rfl)
theorem dX2_endsBlock_9 : decode cX2_endsBlock 9 = .ok (.iload_n 1, 1) := dk_27 (dk_at dksX2_endsBlock_0 9 rfl rfl)
theorem dX2_endsBlock_10 : decode cX2_endsBlock 10 = .ok (.invokevirtual 26, 3) := dk_182 0 26 (dk_at dksX2_endsBlock_0 10 rfl rfl)
theorem dX2_endsBlock_13 : decode cX2_endsBlock 13 = .ok (.iconst 5, 1) := dk_8 (dk_at dksX2_endsBlock_0 13 rfl rfl)
theorem dX2_endsBlock_14 : decode cX2_endsBlock 14 = .ok (.if_icmp .eq 13, 3) := dk_159 0 13 (dk_at dksX2_endsBlock_0 14 rfl rfl)
theorem dX2_endsBlock_17 : decode cX2_endsBlock 17 = .ok (.aload_n 0, 1) := dk_42 (dk_at dksX2_endsBlock_0 17 rfl rfl)
theorem dX2_endsBlock_18 : decode cX2_endsBlock 18 = .ok (.iload_n 1, 1) := dk_27 (dk_at dksX2_endsBlock_0 18 rfl rfl)
theorem dX2_endsBlock_19 : decode cX2_endsBlock 19 = .ok (.invokevirtual 26, 3) := dk_182 0 26 (dk_at dksX2_endsBlock_0 19 rfl rfl)
theorem dX2_endsBlock_22 : decode cX2_endsBlock 22 = .ok (.bipush 6, 2) := dk_16 6 (dk_at dksX2_endsBlock_0 22 rfl rfl)
theorem dX2_endsBlock_24 : decode cX2_endsBlock 24 = .ok (.if_icmp .ne 7, 3) := dk_160 0 7 (dk_at dksX2_endsBlock_1 0 rfl rfl)
theorem dX2_endsBlock_27 : decode cX2_endsBlock 27 = .ok (.iconst 1, 1) := dk_4 (dk_at dksX2_endsBlock_1 3 rfl rfl)
theorem dX2_endsBlock_28 : decode cX2_endsBlock 28 = .ok (.goto 4, 3) := dk_167 0 4 (dk_at dksX2_endsBlock_1 4 rfl rfl)
theorem dX2_endsBlock_31 : decode cX2_endsBlock 31 = .ok (.iconst 0, 1) := dk_3 (dk_at dksX2_endsBlock_1 7 rfl rfl)
theorem dX2_endsBlock_32 : decode cX2_endsBlock 32 = .ok (.ireturn, 1) := dk_172 (dk_at dksX2_endsBlock_1 8 rfl rfl)
abbrev cX2_isEntry : ByteArray := prog_6_method_4_code
def yX2_isEntry : MethodName := ⟨RX2, "isEntry", "(I)Z"⟩
def dkwX2_isEntry_1 : List UInt8 := [4, 167, 0, 4, 3, 128, 61, 132, 3, 1, 167, 255, 226, 28, 172]
abbrev dktX2_isEntry_1 : List UInt8 := dkwX2_isEntry_1 ++ []
def dkwX2_isEntry_0 : List UInt8 := [3, 61, 3, 62, 29, 42, 180, 0, 15, 190, 162, 0, 27, 28, 42, 180, 0, 15, 29, 46, 27, 160, 0, 7]
abbrev dktX2_isEntry_0 : List UInt8 := dkwX2_isEntry_0 ++ dktX2_isEntry_1
theorem dksX2_isEntry_0 : cX2_isEntry.data.toList.drop 0 = dktX2_isEntry_0 := by decide +kernel
theorem dksX2_isEntry_1 : cX2_isEntry.data.toList.drop 24 = dktX2_isEntry_1 := dk_seg dksX2_isEntry_0 24 rfl rfl
theorem dX2_isEntry_0 : decode cX2_isEntry 0 = .ok (.iconst 0, 1) := dk_3 (dk_at dksX2_isEntry_0 0 rfl rfl)
theorem dX2_isEntry_1 : decode cX2_isEntry 1 = .ok (.istore_n 2, 1) := dk_61 (dk_at dksX2_isEntry_0 1 rfl rfl)
theorem dX2_isEntry_2 : decode cX2_isEntry 2 = .ok (.iconst 0, 1) := dk_3 (dk_at dksX2_isEntry_0 2 rfl rfl)
theorem dX2_isEntry_3 : decode cX2_isEntry 3 = .ok (.istore_n 3, 1) := dk_62 (dk_at dksX2_isEntry_0 3 rfl rfl)
theorem dX2_isEntry_4 : decode cX2_isEntry 4 = .ok (.iload_n 3, 1) := dk_29 (dk_at dksX2_isEntry_0 4 rfl rfl)
theorem dX2_isEntry_5 : decode cX2_isEntry 5 = .ok (.aload_n 0, 1) := dk_42 (dk_at dksX2_isEntry_0 5 rfl rfl)
theorem dX2_isEntry_6 : decode cX2_isEntry 6 = .ok (.getfield 15, 3) := dk_180 0 15 (dk_at dksX2_isEntry_0 6 rfl rfl)
theorem dX2_isEntry_9 : decode cX2_isEntry 9 = .ok (.arraylength, 1) := dk_190 (dk_at dksX2_isEntry_0 9 rfl rfl)
theorem dX2_isEntry_10 : decode cX2_isEntry 10 = .ok (.if_icmp .ge 27, 3) := dk_162 0 27 (dk_at dksX2_isEntry_0 10 rfl rfl)
theorem dX2_isEntry_13 : decode cX2_isEntry 13 = .ok (.iload_n 2, 1) := dk_28 (dk_at dksX2_isEntry_0 13 rfl rfl)
theorem dX2_isEntry_14 : decode cX2_isEntry 14 = .ok (.aload_n 0, 1) := dk_42 (dk_at dksX2_isEntry_0 14 rfl rfl)
theorem dX2_isEntry_15 : decode cX2_isEntry 15 = .ok (.getfield 15, 3) := dk_180 0 15 (dk_at dksX2_isEntry_0 15 rfl rfl)
theorem dX2_isEntry_18 : decode cX2_isEntry 18 = .ok (.iload_n 3, 1) := dk_29 (dk_at dksX2_isEntry_0 18 rfl rfl)
theorem dX2_isEntry_19 : decode cX2_isEntry 19 = .ok (.iaload, 1) := dk_46 (dk_at dksX2_isEntry_0 19 rfl rfl)
theorem dX2_isEntry_20 : decode cX2_isEntry 20 = .ok (.iload_n 1, 1) := dk_27 (dk_at dksX2_isEntry_0 20 rfl rfl)
theorem dX2_isEntry_21 : decode cX2_isEntry 21 = .ok (.if_icmp .ne 7, 3) := dk_160 0 7 (dk_at dksX2_isEntry_0 21 rfl rfl)
theorem dX2_isEntry_24 : decode cX2_isEntry 24 = .ok (.iconst 1, 1) := dk_4 (dk_at dksX2_isEntry_1 0 rfl rfl)
theorem dX2_isEntry_25 : decode cX2_isEntry 25 = .ok (.goto 4, 3) := dk_167 0 4 (dk_at dksX2_isEntry_1 1 rfl rfl)
theorem dX2_isEntry_28 : decode cX2_isEntry 28 = .ok (.iconst 0, 1) := dk_3 (dk_at dksX2_isEntry_1 4 rfl rfl)
theorem dX2_isEntry_29 : decode cX2_isEntry 29 = .ok (.ior, 1) := dk_128 (dk_at dksX2_isEntry_1 5 rfl rfl)
theorem dX2_isEntry_30 : decode cX2_isEntry 30 = .ok (.istore_n 2, 1) := dk_61 (dk_at dksX2_isEntry_1 6 rfl rfl)
theorem dX2_isEntry_31 : decode cX2_isEntry 31 = .ok (.iinc 3 1, 3) := dk_132 3 1 (dk_at dksX2_isEntry_1 7 rfl rfl)
theorem dX2_isEntry_34 : decode cX2_isEntry 34 = .ok (.goto (-30), 3) := dk_167 255 226 (dk_at dksX2_isEntry_1 10 rfl rfl)
theorem dX2_isEntry_37 : decode cX2_isEntry 37 = .ok (.iload_n 2, 1) := dk_28 (dk_at dksX2_isEntry_1 13 rfl rfl)
theorem dX2_isEntry_38 : decode cX2_isEntry 38 = .ok (.ireturn, 1) := dk_172 (dk_at dksX2_isEntry_1 14 rfl rfl)
abbrev cX2_second : ByteArray := prog_6_method_7_code
def yX2_second : MethodName := ⟨RX2, "second", "(I)I"⟩
def dkwX2_second_0 : List UInt8 := [42, 180, 0, 9, 27, 46, 7, 112, 172]
abbrev dktX2_second_0 : List UInt8 := dkwX2_second_0 ++ []
theorem dksX2_second_0 : cX2_second.data.toList.drop 0 = dktX2_second_0 := by decide +kernel
theorem dX2_second_0 : decode cX2_second 0 = .ok (.aload_n 0, 1) := dk_42 (dk_at dksX2_second_0 0 rfl rfl)
theorem dX2_second_1 : decode cX2_second 1 = .ok (.getfield 9, 3) := dk_180 0 9 (dk_at dksX2_second_0 1 rfl rfl)
theorem dX2_second_4 : decode cX2_second 4 = .ok (.iload_n 1, 1) := dk_27 (dk_at dksX2_second_0 4 rfl rfl)
theorem dX2_second_5 : decode cX2_second 5 = .ok (.iaload, 1) := dk_46 (dk_at dksX2_second_0 5 rfl rfl)
theorem dX2_second_6 : decode cX2_second 6 = .ok (.iconst 4, 1) := dk_7 (dk_at dksX2_second_0 6 rfl rfl)
theorem dX2_second_7 : decode cX2_second 7 = .ok (.irem, 1) := dk_112 (dk_at dksX2_second_0 7 rfl rfl)
theorem dX2_second_8 : decode cX2_second 8 = .ok (.ireturn, 1) := dk_172 (dk_at dksX2_second_0 8 rfl rfl)
theorem q79 : (Jvm.Cond.initialized "CodeRecovery$Image") ∈ lw_all := lw_g (lw_at lw_m1 2 rfl) rfl
theorem q127 : (Jvm.Cond.instantiable "CodeRecovery$Image" (3 : Nat)) ∈ lw_all := lw_g (lw_at lw_m1 50 rfl) rfl
theorem q129 : (Jvm.Cond.instanceMethod ({ cls := "CodeRecovery$Image", name := "<init>", desc := "([I[II)V" } : Jvm.MethodName)) ∈ lw_all := lw_g (lw_at lw_m1 52 rfl) rfl
theorem q130 : (Jvm.Cond.code ({ cls := "CodeRecovery$Image", name := "<init>", desc := "([I[II)V" } : Jvm.MethodName) prog_6_method_1_code (4 : Nat) (Option.none : Option Jvm.ClassFile.FieldType)) ∈ lw_all := lw_g (lw_at lw_m1 53 rfl) rfl
theorem q131 : (Jvm.Cond.methodLink "CodeRecovery$Image" (3 : Nat) ({ cls := "java/lang/Object", name := "<init>", desc := "()V" } : Jvm.MethodName)) ∈ lw_all := lw_g (lw_at lw_m1 54 rfl) rfl
theorem q132 : (Jvm.Cond.fieldLink "CodeRecovery$Image" (9 : Nat) "CodeRecovery$Image" "bytes" "[I") ∈ lw_all := lw_g (lw_at lw_m1 55 rfl) rfl
theorem q136 : (Jvm.Cond.fieldLink "CodeRecovery$Image" (15 : Nat) "CodeRecovery$Image" "entries" "[I") ∈ lw_all := lw_g (lw_at lw_m1 59 rfl) rfl
theorem q139 : (Jvm.Cond.fieldLink "CodeRecovery$Image" (18 : Nat) "CodeRecovery$Image" "threshold" "I") ∈ lw_all := lw_g (lw_at lw_m1 62 rfl) rfl
theorem q142 : (Jvm.Cond.laysFinal "CodeRecovery$Image" "CodeRecovery$Image" "bytes" "[I") ∈ lw_all := lw_g (lw_at lw_m1 65 rfl) rfl
theorem q143 : (Jvm.Cond.soleField "CodeRecovery$Image" "bytes") ∈ lw_all := lw_g (lw_at lw_m1 66 rfl) rfl
theorem q144 : (Jvm.Cond.laysFinal "CodeRecovery$Image" "CodeRecovery$Image" "entries" "[I") ∈ lw_all := lw_g (lw_at lw_m1 67 rfl) rfl
theorem q145 : (Jvm.Cond.soleField "CodeRecovery$Image" "entries") ∈ lw_all := lw_g (lw_at lw_m1 68 rfl) rfl
theorem q146 : (Jvm.Cond.laysFinal "CodeRecovery$Image" "CodeRecovery$Image" "threshold" "I") ∈ lw_all := lw_g (lw_at lw_m1 69 rfl) rfl
theorem q147 : (Jvm.Cond.soleField "CodeRecovery$Image" "threshold") ∈ lw_all := lw_g (lw_at lw_m1 70 rfl) rfl
theorem q148 : (Jvm.Cond.superclass "CodeRecovery$Image" "java/lang/Object") ∈ lw_all := lw_g (lw_at lw_m1 71 rfl) rfl
theorem q182 : (Jvm.Cond.instanceMethod ({ cls := "CodeRecovery$Image", name := "size", desc := "()I" } : Jvm.MethodName)) ∈ lw_all := lw_g (lw_at lw_m1 105 rfl) rfl
theorem q183 : (Jvm.Cond.selects "CodeRecovery$Image" ({ cls := "CodeRecovery$Image", name := "size", desc := "()I" } : Jvm.MethodName) ({ cls := "CodeRecovery$Image", name := "size", desc := "()I" } : Jvm.MethodName)) ∈ lw_all := lw_g (lw_at lw_m1 106 rfl) rfl
theorem q184 : (Jvm.Cond.code ({ cls := "CodeRecovery$Image", name := "size", desc := "()I" } : Jvm.MethodName) prog_6_method_2_code (1 : Nat) (Option.some Jvm.ClassFile.FieldType.int)) ∈ lw_all := lw_g (lw_at lw_m1 107 rfl) rfl
theorem q409 : (Jvm.Cond.selects "CodeRecovery$Image" ({ cls := "java/lang/Object", name := "getClass", desc := "()Ljava/lang/Class;" } : Jvm.MethodName) ({ cls := "java/lang/Object", name := "getClass", desc := "()Ljava/lang/Class;" } : Jvm.MethodName)) ∈ lw_all := lw_g (lw_at lw_m2 92 rfl) rfl
theorem q767 : (Jvm.Cond.instanceMethod ({ cls := "CodeRecovery$Image", name := "isValid", desc := "(I)Z" } : Jvm.MethodName)) ∈ lw_all := lw_g (lw_at lw_m3 210 rfl) rfl
theorem q768 : (Jvm.Cond.selects "CodeRecovery$Image" ({ cls := "CodeRecovery$Image", name := "isValid", desc := "(I)Z" } : Jvm.MethodName) ({ cls := "CodeRecovery$Image", name := "isValid", desc := "(I)Z" } : Jvm.MethodName)) ∈ lw_all := lw_g (lw_at lw_m3 211 rfl) rfl
theorem q769 : (Jvm.Cond.code ({ cls := "CodeRecovery$Image", name := "isValid", desc := "(I)Z" } : Jvm.MethodName) prog_6_method_13_code (2 : Nat) (Option.some Jvm.ClassFile.FieldType.boolean)) ∈ lw_all := lw_g (lw_at lw_m3 212 rfl) rfl
theorem q770 : (Jvm.Cond.methodLink "CodeRecovery$Image" (37 : Nat) ({ cls := "CodeRecovery$Image", name := "contains", desc := "(I)Z" } : Jvm.MethodName)) ∈ lw_all := lw_g (lw_at lw_m3 213 rfl) rfl
theorem q771 : (Jvm.Cond.instanceMethod ({ cls := "CodeRecovery$Image", name := "contains", desc := "(I)Z" } : Jvm.MethodName)) ∈ lw_all := lw_g (lw_at lw_m3 214 rfl) rfl
theorem q772 : (Jvm.Cond.selects "CodeRecovery$Image" ({ cls := "CodeRecovery$Image", name := "contains", desc := "(I)Z" } : Jvm.MethodName) ({ cls := "CodeRecovery$Image", name := "contains", desc := "(I)Z" } : Jvm.MethodName)) ∈ lw_all := lw_g (lw_at lw_m3 215 rfl) rfl
theorem q773 : (Jvm.Cond.code ({ cls := "CodeRecovery$Image", name := "contains", desc := "(I)Z" } : Jvm.MethodName) prog_6_method_3_code (2 : Nat) (Option.some Jvm.ClassFile.FieldType.boolean)) ∈ lw_all := lw_g (lw_at lw_m3 216 rfl) rfl
theorem q774 : (Jvm.Cond.methodLinkNest "CodeRecovery$Image" (22 : Nat) ({ cls := "CodeRecovery", name := "isBetween", desc := "(III)Z" } : Jvm.MethodName) "CodeRecovery") ∈ lw_tbl := lw_at lw_m3 217 rfl
theorem q777 : (Jvm.Cond.methodLink "CodeRecovery$Image" (26 : Nat) ({ cls := "CodeRecovery$Image", name := "kind", desc := "(I)I" } : Jvm.MethodName)) ∈ lw_all := lw_g (lw_at lw_m3 220 rfl) rfl
theorem q778 : (Jvm.Cond.instanceMethod ({ cls := "CodeRecovery$Image", name := "kind", desc := "(I)I" } : Jvm.MethodName)) ∈ lw_all := lw_g (lw_at lw_m3 221 rfl) rfl
theorem q779 : (Jvm.Cond.selects "CodeRecovery$Image" ({ cls := "CodeRecovery$Image", name := "kind", desc := "(I)I" } : Jvm.MethodName) ({ cls := "CodeRecovery$Image", name := "kind", desc := "(I)I" } : Jvm.MethodName)) ∈ lw_all := lw_g (lw_at lw_m3 222 rfl) rfl
theorem q780 : (Jvm.Cond.code ({ cls := "CodeRecovery$Image", name := "kind", desc := "(I)I" } : Jvm.MethodName) prog_6_method_5_code (2 : Nat) (Option.some Jvm.ClassFile.FieldType.int)) ∈ lw_all := lw_g (lw_at lw_m3 223 rfl) rfl
theorem q781 : (Jvm.Cond.methodLink "CodeRecovery$Image" (40 : Nat) ({ cls := "CodeRecovery$Image", name := "length", desc := "(I)I" } : Jvm.MethodName)) ∈ lw_all := lw_g (lw_at lw_m3 224 rfl) rfl
theorem q782 : (Jvm.Cond.instanceMethod ({ cls := "CodeRecovery$Image", name := "length", desc := "(I)I" } : Jvm.MethodName)) ∈ lw_all := lw_g (lw_at lw_m3 225 rfl) rfl
theorem q783 : (Jvm.Cond.selects "CodeRecovery$Image" ({ cls := "CodeRecovery$Image", name := "length", desc := "(I)I" } : Jvm.MethodName) ({ cls := "CodeRecovery$Image", name := "length", desc := "(I)I" } : Jvm.MethodName)) ∈ lw_all := lw_g (lw_at lw_m3 226 rfl) rfl
theorem q784 : (Jvm.Cond.code ({ cls := "CodeRecovery$Image", name := "length", desc := "(I)I" } : Jvm.MethodName) prog_6_method_9_code (2 : Nat) (Option.some Jvm.ClassFile.FieldType.int)) ∈ lw_all := lw_g (lw_at lw_m3 227 rfl) rfl
theorem q785 : (Jvm.Cond.methodLink "CodeRecovery$Image" (30 : Nat) ({ cls := "CodeRecovery$Image", name := "hasOperand", desc := "(I)Z" } : Jvm.MethodName)) ∈ lw_all := lw_g (lw_at lw_m3 228 rfl) rfl
theorem q786 : (Jvm.Cond.instanceMethod ({ cls := "CodeRecovery$Image", name := "hasOperand", desc := "(I)Z" } : Jvm.MethodName)) ∈ lw_all := lw_g (lw_at lw_m3 229 rfl) rfl
theorem q787 : (Jvm.Cond.selects "CodeRecovery$Image" ({ cls := "CodeRecovery$Image", name := "hasOperand", desc := "(I)Z" } : Jvm.MethodName) ({ cls := "CodeRecovery$Image", name := "hasOperand", desc := "(I)Z" } : Jvm.MethodName)) ∈ lw_all := lw_g (lw_at lw_m3 230 rfl) rfl
theorem q788 : (Jvm.Cond.code ({ cls := "CodeRecovery$Image", name := "hasOperand", desc := "(I)Z" } : Jvm.MethodName) prog_6_method_8_code (3 : Nat) (Option.some Jvm.ClassFile.FieldType.boolean)) ∈ lw_all := lw_g (lw_at lw_m3 231 rfl) rfl
theorem q789 : (Jvm.Cond.methodLink "CodeRecovery$Image" (43 : Nat) ({ cls := "CodeRecovery$Image", name := "hasTarget", desc := "(I)Z" } : Jvm.MethodName)) ∈ lw_all := lw_g (lw_at lw_m3 232 rfl) rfl
theorem q790 : (Jvm.Cond.instanceMethod ({ cls := "CodeRecovery$Image", name := "hasTarget", desc := "(I)Z" } : Jvm.MethodName)) ∈ lw_all := lw_g (lw_at lw_m3 233 rfl) rfl
theorem q791 : (Jvm.Cond.selects "CodeRecovery$Image" ({ cls := "CodeRecovery$Image", name := "hasTarget", desc := "(I)Z" } : Jvm.MethodName) ({ cls := "CodeRecovery$Image", name := "hasTarget", desc := "(I)Z" } : Jvm.MethodName)) ∈ lw_all := lw_g (lw_at lw_m3 234 rfl) rfl
theorem q792 : (Jvm.Cond.code ({ cls := "CodeRecovery$Image", name := "hasTarget", desc := "(I)Z" } : Jvm.MethodName) prog_6_method_11_code (2 : Nat) (Option.some Jvm.ClassFile.FieldType.boolean)) ∈ lw_all := lw_g (lw_at lw_m3 235 rfl) rfl
theorem q793 : (Jvm.Cond.methodLink "CodeRecovery$Image" (46 : Nat) ({ cls := "CodeRecovery$Image", name := "target", desc := "(I)I" } : Jvm.MethodName)) ∈ lw_all := lw_g (lw_at lw_m3 236 rfl) rfl
theorem q794 : (Jvm.Cond.instanceMethod ({ cls := "CodeRecovery$Image", name := "target", desc := "(I)I" } : Jvm.MethodName)) ∈ lw_all := lw_g (lw_at lw_m3 237 rfl) rfl
theorem q795 : (Jvm.Cond.selects "CodeRecovery$Image" ({ cls := "CodeRecovery$Image", name := "target", desc := "(I)I" } : Jvm.MethodName) ({ cls := "CodeRecovery$Image", name := "target", desc := "(I)I" } : Jvm.MethodName)) ∈ lw_all := lw_g (lw_at lw_m3 238 rfl) rfl
theorem q796 : (Jvm.Cond.code ({ cls := "CodeRecovery$Image", name := "target", desc := "(I)I" } : Jvm.MethodName) prog_6_method_12_code (3 : Nat) (Option.some Jvm.ClassFile.FieldType.int)) ∈ lw_all := lw_g (lw_at lw_m3 239 rfl) rfl
theorem q797 : (Jvm.Cond.methodLink "CodeRecovery$Image" (34 : Nat) ({ cls := "CodeRecovery$Image", name := "operand", desc := "(I)I" } : Jvm.MethodName)) ∈ lw_all := lw_g (lw_at lw_m4 0 rfl) rfl
theorem q798 : (Jvm.Cond.instanceMethod ({ cls := "CodeRecovery$Image", name := "operand", desc := "(I)I" } : Jvm.MethodName)) ∈ lw_all := lw_g (lw_at lw_m4 1 rfl) rfl
theorem q799 : (Jvm.Cond.selects "CodeRecovery$Image" ({ cls := "CodeRecovery$Image", name := "operand", desc := "(I)I" } : Jvm.MethodName) ({ cls := "CodeRecovery$Image", name := "operand", desc := "(I)I" } : Jvm.MethodName)) ∈ lw_all := lw_g (lw_at lw_m4 2 rfl) rfl
theorem q800 : (Jvm.Cond.code ({ cls := "CodeRecovery$Image", name := "operand", desc := "(I)I" } : Jvm.MethodName) prog_6_method_10_code (2 : Nat) (Option.some Jvm.ClassFile.FieldType.int)) ∈ lw_all := lw_g (lw_at lw_m4 3 rfl) rfl
theorem q826 : (Jvm.Cond.selects "CodeRecovery$Image" ({ cls := "java/lang/Object", name := "equals", desc := "(Ljava/lang/Object;)Z" } : Jvm.MethodName) ({ cls := "java/lang/Object", name := "equals", desc := "(Ljava/lang/Object;)Z" } : Jvm.MethodName)) ∈ lw_all := lw_g (lw_at lw_m4 29 rfl) rfl
theorem q904 : (Jvm.Cond.instanceMethod ({ cls := "CodeRecovery$Image", name := "first", desc := "(I)I" } : Jvm.MethodName)) ∈ lw_all := lw_g (lw_at lw_m4 107 rfl) rfl
theorem q905 : (Jvm.Cond.selects "CodeRecovery$Image" ({ cls := "CodeRecovery$Image", name := "first", desc := "(I)I" } : Jvm.MethodName) ({ cls := "CodeRecovery$Image", name := "first", desc := "(I)I" } : Jvm.MethodName)) ∈ lw_all := lw_g (lw_at lw_m4 108 rfl) rfl
theorem q906 : (Jvm.Cond.code ({ cls := "CodeRecovery$Image", name := "first", desc := "(I)I" } : Jvm.MethodName) prog_6_method_6_code (2 : Nat) (Option.some Jvm.ClassFile.FieldType.int)) ∈ lw_all := lw_g (lw_at lw_m4 109 rfl) rfl
theorem q912 : (Jvm.Cond.instanceMethod ({ cls := "CodeRecovery$Image", name := "endsFlow", desc := "(I)Z" } : Jvm.MethodName)) ∈ lw_all := lw_g (lw_at lw_m4 115 rfl) rfl
theorem q913 : (Jvm.Cond.selects "CodeRecovery$Image" ({ cls := "CodeRecovery$Image", name := "endsFlow", desc := "(I)Z" } : Jvm.MethodName) ({ cls := "CodeRecovery$Image", name := "endsFlow", desc := "(I)Z" } : Jvm.MethodName)) ∈ lw_all := lw_g (lw_at lw_m4 116 rfl) rfl
theorem q914 : (Jvm.Cond.code ({ cls := "CodeRecovery$Image", name := "endsFlow", desc := "(I)Z" } : Jvm.MethodName) prog_6_method_14_code (3 : Nat) (Option.some Jvm.ClassFile.FieldType.boolean)) ∈ lw_all := lw_g (lw_at lw_m4 117 rfl) rfl
theorem q917 : (Jvm.Cond.instanceMethod ({ cls := "CodeRecovery$Image", name := "changes", desc := "(II)Z" } : Jvm.MethodName)) ∈ lw_all := lw_g (lw_at lw_m4 120 rfl) rfl
theorem q918 : (Jvm.Cond.selects "CodeRecovery$Image" ({ cls := "CodeRecovery$Image", name := "changes", desc := "(II)Z" } : Jvm.MethodName) ({ cls := "CodeRecovery$Image", name := "changes", desc := "(II)Z" } : Jvm.MethodName)) ∈ lw_all := lw_g (lw_at lw_m4 121 rfl) rfl
theorem q919 : (Jvm.Cond.code ({ cls := "CodeRecovery$Image", name := "changes", desc := "(II)Z" } : Jvm.MethodName) prog_6_method_16_code (5 : Nat) (Option.some Jvm.ClassFile.FieldType.boolean)) ∈ lw_all := lw_g (lw_at lw_m4 122 rfl) rfl
theorem q920 : (Jvm.Cond.methodLink "CodeRecovery$Image" (52 : Nat) ({ cls := "CodeRecovery$Image", name := "first", desc := "(I)I" } : Jvm.MethodName)) ∈ lw_all := lw_g (lw_at lw_m4 123 rfl) rfl
theorem q1056 : (Jvm.Cond.instanceMethod ({ cls := "CodeRecovery$Image", name := "endsBlock", desc := "(I)Z" } : Jvm.MethodName)) ∈ lw_all := lw_g (lw_at lw_m5 19 rfl) rfl
theorem q1057 : (Jvm.Cond.selects "CodeRecovery$Image" ({ cls := "CodeRecovery$Image", name := "endsBlock", desc := "(I)Z" } : Jvm.MethodName) ({ cls := "CodeRecovery$Image", name := "endsBlock", desc := "(I)Z" } : Jvm.MethodName)) ∈ lw_all := lw_g (lw_at lw_m5 20 rfl) rfl
theorem q1058 : (Jvm.Cond.code ({ cls := "CodeRecovery$Image", name := "endsBlock", desc := "(I)Z" } : Jvm.MethodName) prog_6_method_15_code (2 : Nat) (Option.some Jvm.ClassFile.FieldType.boolean)) ∈ lw_all := lw_g (lw_at lw_m5 21 rfl) rfl
theorem q1059 : (Jvm.Cond.methodLink "CodeRecovery$Image" (49 : Nat) ({ cls := "CodeRecovery$Image", name := "endsFlow", desc := "(I)Z" } : Jvm.MethodName)) ∈ lw_all := lw_g (lw_at lw_m5 22 rfl) rfl
theorem q1265 : (Jvm.Cond.instanceMethod ({ cls := "CodeRecovery$Image", name := "isEntry", desc := "(I)Z" } : Jvm.MethodName)) ∈ lw_all := lw_g (lw_at lw_m5 228 rfl) rfl
theorem q1266 : (Jvm.Cond.selects "CodeRecovery$Image" ({ cls := "CodeRecovery$Image", name := "isEntry", desc := "(I)Z" } : Jvm.MethodName) ({ cls := "CodeRecovery$Image", name := "isEntry", desc := "(I)Z" } : Jvm.MethodName)) ∈ lw_all := lw_g (lw_at lw_m5 229 rfl) rfl
theorem q1267 : (Jvm.Cond.code ({ cls := "CodeRecovery$Image", name := "isEntry", desc := "(I)Z" } : Jvm.MethodName) prog_6_method_4_code (4 : Nat) (Option.some Jvm.ClassFile.FieldType.boolean)) ∈ lw_all := lw_g (lw_at lw_m5 230 rfl) rfl
theorem q1320 : (Jvm.Cond.instanceMethod ({ cls := "CodeRecovery$Image", name := "second", desc := "(I)I" } : Jvm.MethodName)) ∈ lw_all := lw_g (lw_at lw_m6 43 rfl) rfl
theorem q1321 : (Jvm.Cond.selects "CodeRecovery$Image" ({ cls := "CodeRecovery$Image", name := "second", desc := "(I)I" } : Jvm.MethodName) ({ cls := "CodeRecovery$Image", name := "second", desc := "(I)I" } : Jvm.MethodName)) ∈ lw_all := lw_g (lw_at lw_m6 44 rfl) rfl
theorem q1322 : (Jvm.Cond.code ({ cls := "CodeRecovery$Image", name := "second", desc := "(I)I" } : Jvm.MethodName) prog_6_method_7_code (2 : Nat) (Option.some Jvm.ClassFile.FieldType.int)) ∈ lw_all := lw_g (lw_at lw_m6 45 rfl) rfl
theorem q2191 : (Jvm.Cond.castable "CodeRecovery$Image" "java/lang/Object") ∈ lw_tbl := lw_at lw_m9 194 rfl
theorem in_X2 : ∀ w ∈ wsX20, w ∈ lw_all := lw_in wsX20 [142, 144, 146] (by decide +kernel) (by decide +kernel)

/-! CodeRecovery$FaultException -/
set_option maxRecDepth 100000
def RX4 : String := "CodeRecovery$FaultException"
def TX4 : u_T := fun k => match k with
  | 0 => ("java/lang/Throwable", "cause", "Ljava/lang/Throwable;", false)
  | 1 => ("java/lang/Throwable", "stackTrace", "[Ljava/lang/StackTraceElement;", false)
  | 2 => ("java/lang/Throwable", "suppressedExceptions", "Ljava/util/List;", false)
  | 3 => ("java/lang/Throwable", "detailMessage", "Ljava/lang/String;", false)
  | 4 => ("java/lang/Throwable", "backtrace", "Ljava/lang/Object;", false)
  | 5 => ("java/lang/Throwable", "depth", "I", false)
  | _ => ("CodeRecovery$FaultException", "position", "I", true)
def tyX4 : Nat → FieldType := fun k => match k with
  | 0 => .object "java/lang/Throwable"
  | 1 => .array (.object "java/lang/StackTraceElement")
  | 2 => .object "java/util/List"
  | 3 => .object "java/lang/String"
  | 4 => .object "java/lang/Object"
  | 5 => .int
  | _ => .int
abbrev wsX40 : List Cond := u_ws RX4 TX4 7
theorem nmX4 : ∀ a, a < 7 → ∀ b, b < 7 → a ≠ b → (TX4 a).2.1 ≠ (TX4 b).2.1 := by decide +kernel
theorem tyX4_ok : ∀ k, k < 7 → parseFieldDescriptor (TX4 k).2.2.1 = some (tyX4 k) := by decide +kernel
abbrev cX4_init : ByteArray := prog_4_method_1_code
def yX4_init : MethodName := ⟨RX4, "<init>", "(I)V"⟩
def dkwX4_init_0 : List UInt8 := [42, 1, 1, 3, 3, 183, 0, 1, 42, 27, 181, 0, 7, 177]
abbrev dktX4_init_0 : List UInt8 := dkwX4_init_0 ++ []
theorem dksX4_init_0 : cX4_init.data.toList.drop 0 = dktX4_init_0 := by decide +kernel
theorem dX4_init_0 : decode cX4_init 0 = .ok (.aload_n 0, 1) := dk_42 (dk_at dksX4_init_0 0 rfl rfl)
theorem dX4_init_1 : decode cX4_init 1 = .ok (.aconst_null, 1) := dk_1 (dk_at dksX4_init_0 1 rfl rfl)
theorem dX4_init_2 : decode cX4_init 2 = .ok (.aconst_null, 1) := dk_1 (dk_at dksX4_init_0 2 rfl rfl)
theorem dX4_init_3 : decode cX4_init 3 = .ok (.iconst 0, 1) := dk_3 (dk_at dksX4_init_0 3 rfl rfl)
theorem dX4_init_4 : decode cX4_init 4 = .ok (.iconst 0, 1) := dk_3 (dk_at dksX4_init_0 4 rfl rfl)
theorem dX4_init_5 : decode cX4_init 5 = .ok (.invokespecial 1, 3) := dk_183 0 1 (dk_at dksX4_init_0 5 rfl rfl)
theorem dX4_init_8 : decode cX4_init 8 = .ok (.aload_n 0, 1) := dk_42 (dk_at dksX4_init_0 8 rfl rfl)
theorem dX4_init_9 : decode cX4_init 9 = .ok (.iload_n 1, 1) := dk_27 (dk_at dksX4_init_0 9 rfl rfl)
theorem dX4_init_10 : decode cX4_init 10 = .ok (.putfield 7, 3) := dk_181 0 7 (dk_at dksX4_init_0 10 rfl rfl)
theorem dX4_init_13 : decode cX4_init 13 = .ok (.return_, 1) := dk_177 (dk_at dksX4_init_0 13 rfl rfl)
theorem q89 : (Jvm.Cond.initialized "CodeRecovery$FaultException") ∈ lw_all := lw_g (lw_at lw_m1 12 rfl) rfl
theorem q357 : (Jvm.Cond.selects "CodeRecovery$FaultException" ({ cls := "java/lang/Throwable", name := "fillInStackTrace", desc := "()Ljava/lang/Throwable;" } : Jvm.MethodName) ({ cls := "java/lang/Throwable", name := "fillInStackTrace", desc := "()Ljava/lang/Throwable;" } : Jvm.MethodName)) ∈ lw_all := lw_g (lw_at lw_m2 40 rfl) rfl
theorem q407 : (Jvm.Cond.selects "CodeRecovery$FaultException" ({ cls := "java/lang/Object", name := "getClass", desc := "()Ljava/lang/Class;" } : Jvm.MethodName) ({ cls := "java/lang/Object", name := "getClass", desc := "()Ljava/lang/Class;" } : Jvm.MethodName)) ∈ lw_all := lw_g (lw_at lw_m2 90 rfl) rfl
theorem q824 : (Jvm.Cond.selects "CodeRecovery$FaultException" ({ cls := "java/lang/Object", name := "equals", desc := "(Ljava/lang/Object;)Z" } : Jvm.MethodName) ({ cls := "java/lang/Object", name := "equals", desc := "(Ljava/lang/Object;)Z" } : Jvm.MethodName)) ∈ lw_all := lw_g (lw_at lw_m4 27 rfl) rfl
theorem q1179 : (Jvm.Cond.instantiable "CodeRecovery$FaultException" (7 : Nat)) ∈ lw_all := lw_g (lw_at lw_m5 142 rfl) rfl
theorem q1180 : (Jvm.Cond.castable "CodeRecovery$FaultException" "CodeRecovery$FaultException") ∈ lw_tbl := lw_at lw_m5 143 rfl
theorem q1181 : (Jvm.Cond.selects "CodeRecovery$FaultException" ({ cls := "java/lang/Throwable", name := "fillInStackTrace", desc := "(I)Ljava/lang/Throwable;" } : Jvm.MethodName) ({ cls := "java/lang/Throwable", name := "fillInStackTrace", desc := "(I)Ljava/lang/Throwable;" } : Jvm.MethodName)) ∈ lw_all := lw_g (lw_at lw_m5 144 rfl) rfl
theorem q1182 : (Jvm.Cond.lays "CodeRecovery$FaultException" "java/lang/Throwable" "cause" "Ljava/lang/Throwable;") ∈ lw_all := lw_g (lw_at lw_m5 145 rfl) rfl
theorem q1183 : (Jvm.Cond.lays "CodeRecovery$FaultException" "java/lang/Throwable" "stackTrace" "[Ljava/lang/StackTraceElement;") ∈ lw_all := lw_g (lw_at lw_m5 146 rfl) rfl
theorem q1184 : (Jvm.Cond.lays "CodeRecovery$FaultException" "java/lang/Throwable" "suppressedExceptions" "Ljava/util/List;") ∈ lw_all := lw_g (lw_at lw_m5 147 rfl) rfl
theorem q1185 : (Jvm.Cond.lays "CodeRecovery$FaultException" "java/lang/Throwable" "detailMessage" "Ljava/lang/String;") ∈ lw_all := lw_g (lw_at lw_m5 148 rfl) rfl
theorem q1186 : (Jvm.Cond.lays "CodeRecovery$FaultException" "java/lang/Throwable" "backtrace" "Ljava/lang/Object;") ∈ lw_all := lw_g (lw_at lw_m5 149 rfl) rfl
theorem q1188 : (Jvm.Cond.instanceMethod ({ cls := "CodeRecovery$FaultException", name := "<init>", desc := "(I)V" } : Jvm.MethodName)) ∈ lw_all := lw_g (lw_at lw_m5 151 rfl) rfl
theorem q1189 : (Jvm.Cond.code ({ cls := "CodeRecovery$FaultException", name := "<init>", desc := "(I)V" } : Jvm.MethodName) prog_4_method_1_code (2 : Nat) (Option.none : Option Jvm.ClassFile.FieldType)) ∈ lw_all := lw_g (lw_at lw_m5 152 rfl) rfl
theorem q1190 : (Jvm.Cond.methodLink "CodeRecovery$FaultException" (1 : Nat) ({ cls := "java/lang/Exception", name := "<init>", desc := "(Ljava/lang/String;Ljava/lang/Throwable;ZZ)V" } : Jvm.MethodName)) ∈ lw_all := lw_g (lw_at lw_m5 153 rfl) rfl
theorem q1196 : (Jvm.Cond.fieldLink "CodeRecovery$FaultException" (7 : Nat) "CodeRecovery$FaultException" "position" "I") ∈ lw_all := lw_g (lw_at lw_m5 159 rfl) rfl
theorem q1198 : (Jvm.Cond.laysFinal "CodeRecovery$FaultException" "CodeRecovery$FaultException" "position" "I") ∈ lw_all := lw_g (lw_at lw_m5 161 rfl) rfl
theorem q1199 : (Jvm.Cond.soleField "CodeRecovery$FaultException" "position") ∈ lw_all := lw_g (lw_at lw_m5 162 rfl) rfl
theorem q1200 : (Jvm.Cond.lays "CodeRecovery$FaultException" "java/lang/Throwable" "depth" "I") ∈ lw_all := lw_g (lw_at lw_m5 163 rfl) rfl
theorem q1201 : (Jvm.Cond.superclass "CodeRecovery$FaultException" "java/lang/Exception") ∈ lw_all := lw_g (lw_at lw_m5 164 rfl) rfl
theorem q2196 : (Jvm.Cond.castable "CodeRecovery$FaultException" "java/lang/Object") ∈ lw_tbl := lw_at lw_m9 199 rfl
theorem in_X4 : ∀ w ∈ wsX40, w ∈ lw_all := lw_in wsX40 [1182, 1183, 1184, 1185, 1186, 1200, 1198] (by decide +kernel) (by decide +kernel)

/-! CodeRecovery$Recovery -/
set_option maxRecDepth 100000
def RX5 : String := "CodeRecovery$Recovery"
def TX5 : u_T := fun k => match k with
  | 0 => ("CodeRecovery$Recovery", "image", "LCodeRecovery$Image;", true)
  | 1 => ("CodeRecovery$Recovery", "uses", "[I", true)
  | 2 => ("CodeRecovery$Recovery", "list", "Ljava/util/ArrayDeque;", true)
  | 3 => ("CodeRecovery$Recovery", "conflicts", "LCodeRecovery$Distinct;", true)
  | 4 => ("CodeRecovery$Recovery", "badTargets", "LCodeRecovery$Distinct;", true)
  | 5 => ("CodeRecovery$Recovery", "tables", "Ljava/util/ArrayList;", true)
  | 6 => ("CodeRecovery$Recovery", "gaps", "Ljava/util/ArrayList;", true)
  | 7 => ("CodeRecovery$Recovery", "blocks", "Ljava/util/ArrayList;", true)
  | _ => ("CodeRecovery$Recovery", "accepted", "Ljava/util/BitSet;", true)
def tyX5 : Nat → FieldType := fun k => match k with
  | 0 => .object "CodeRecovery$Image"
  | 1 => .array .int
  | 2 => .object "java/util/ArrayDeque"
  | 3 => .object "CodeRecovery$Distinct"
  | 4 => .object "CodeRecovery$Distinct"
  | 5 => .object "java/util/ArrayList"
  | 6 => .object "java/util/ArrayList"
  | 7 => .object "java/util/ArrayList"
  | _ => .object "java/util/BitSet"
abbrev wsX50 : List Cond := u_ws RX5 TX5 9
theorem nmX5 : ∀ a, a < 9 → ∀ b, b < 9 → a ≠ b → (TX5 a).2.1 ≠ (TX5 b).2.1 := by decide +kernel
theorem tyX5_ok : ∀ k, k < 9 → parseFieldDescriptor (TX5 k).2.2.1 = some (tyX5 k) := by decide +kernel
abbrev cX5_init : ByteArray := prog_8_method_1_code
def yX5_init : MethodName := ⟨RX5, "<init>", "(LCodeRecovery$Image;)V"⟩
def dkwX5_init_9 : List UInt8 := [192, 0, 98, 182, 0, 104, 132, 2, 1, 167, 255, 212, 42, 182, 0, 107, 177]
abbrev dktX5_init_9 : List UInt8 := dkwX5_init_9 ++ []
def dkwX5_init_8 : List UInt8 := [42, 180, 0, 35, 28, 182, 0, 94, 192, 0, 98, 182, 0, 100, 42, 42, 180, 0, 35, 28, 182, 0, 94]
abbrev dktX5_init_8 : List UInt8 := dkwX5_init_8 ++ dktX5_init_9
def dkwX5_init_7 : List UInt8 := [167, 255, 246, 167, 255, 219, 42, 182, 0, 90, 3, 61, 28, 42, 180, 0, 35, 182, 0, 93, 162, 0, 39, 42]
abbrev dktX5_init_7 : List UInt8 := dkwX5_init_7 ++ dktX5_init_8
def dkwX5_init_6 : List UInt8 := [42, 180, 0, 12, 182, 0, 79, 192, 0, 66, 182, 0, 83, 61, 28, 155, 0, 12, 42, 28, 182, 0, 86, 61]
abbrev dktX5_init_6 : List UInt8 := dkwX5_init_6 ++ dktX5_init_7
def dkwX5_init_5 : List UInt8 := [28, 46, 184, 0, 65, 182, 0, 71, 132, 2, 1, 167, 255, 228, 42, 180, 0, 12, 182, 0, 75, 154, 0, 33]
abbrev dktX5_init_5 : List UInt8 := dkwX5_init_5 ++ dktX5_init_6
def dkwX5_init_4 : List UInt8 := [188, 10, 181, 0, 58, 3, 61, 28, 43, 180, 0, 62, 190, 162, 0, 25, 42, 180, 0, 12, 43, 180, 0, 62]
abbrev dktX5_init_4 : List UInt8 := dkwX5_init_4 ++ dktX5_init_5
def dkwX5_init_3 : List UInt8 := [181, 0, 38, 42, 187, 0, 41, 89, 183, 0, 43, 181, 0, 44, 42, 43, 181, 0, 48, 42, 43, 182, 0, 52]
abbrev dktX5_init_3 : List UInt8 := dkwX5_init_3 ++ dktX5_init_4
def dkwX5_init_2 : List UInt8 := [181, 0, 31, 42, 187, 0, 28, 89, 183, 0, 30, 181, 0, 35, 42, 187, 0, 28, 89, 183, 0, 30]
abbrev dktX5_init_2 : List UInt8 := dkwX5_init_2 ++ dktX5_init_3
def dkwX5_init_1 : List UInt8 := [181, 0, 21, 42, 187, 0, 18, 89, 183, 0, 20, 181, 0, 25, 42, 187, 0, 28, 89, 183, 0, 30]
abbrev dktX5_init_1 : List UInt8 := dkwX5_init_1 ++ dktX5_init_2
def dkwX5_init_0 : List UInt8 := [42, 183, 0, 3, 42, 187, 0, 9, 89, 183, 0, 11, 181, 0, 12, 42, 187, 0, 18, 89, 183, 0, 20]
abbrev dktX5_init_0 : List UInt8 := dkwX5_init_0 ++ dktX5_init_1
theorem dksX5_init_0 : cX5_init.data.toList.drop 0 = dktX5_init_0 := by decide +kernel
theorem dksX5_init_1 : cX5_init.data.toList.drop 23 = dktX5_init_1 := dk_seg dksX5_init_0 23 rfl rfl
theorem dksX5_init_2 : cX5_init.data.toList.drop 45 = dktX5_init_2 := dk_seg dksX5_init_1 22 rfl rfl
theorem dksX5_init_3 : cX5_init.data.toList.drop 67 = dktX5_init_3 := dk_seg dksX5_init_2 22 rfl rfl
theorem dksX5_init_4 : cX5_init.data.toList.drop 91 = dktX5_init_4 := dk_seg dksX5_init_3 24 rfl rfl
theorem dksX5_init_5 : cX5_init.data.toList.drop 115 = dktX5_init_5 := dk_seg dksX5_init_4 24 rfl rfl
theorem dksX5_init_6 : cX5_init.data.toList.drop 139 = dktX5_init_6 := dk_seg dksX5_init_5 24 rfl rfl
theorem dksX5_init_7 : cX5_init.data.toList.drop 163 = dktX5_init_7 := dk_seg dksX5_init_6 24 rfl rfl
theorem dksX5_init_8 : cX5_init.data.toList.drop 187 = dktX5_init_8 := dk_seg dksX5_init_7 24 rfl rfl
theorem dksX5_init_9 : cX5_init.data.toList.drop 210 = dktX5_init_9 := dk_seg dksX5_init_8 23 rfl rfl
theorem dX5_init_0 : decode cX5_init 0 = .ok (.aload_n 0, 1) := dk_42 (dk_at dksX5_init_0 0 rfl rfl)
theorem dX5_init_1 : decode cX5_init 1 = .ok (.invokespecial 3, 3) := dk_183 0 3 (dk_at dksX5_init_0 1 rfl rfl)
theorem dX5_init_4 : decode cX5_init 4 = .ok (.aload_n 0, 1) := dk_42 (dk_at dksX5_init_0 4 rfl rfl)
theorem dX5_init_5 : decode cX5_init 5 = .ok (.new 9, 3) := dk_187 0 9 (dk_at dksX5_init_0 5 rfl rfl)
theorem dX5_init_8 : decode cX5_init 8 = .ok (.dup, 1) := dk_89 (dk_at dksX5_init_0 8 rfl rfl)
theorem dX5_init_9 : decode cX5_init 9 = .ok (.invokespecial 11, 3) := dk_183 0 11 (dk_at dksX5_init_0 9 rfl rfl)
theorem dX5_init_12 : decode cX5_init 12 = .ok (.putfield 12, 3) := dk_181 0 12 (dk_at dksX5_init_0 12 rfl rfl)
theorem dX5_init_15 : decode cX5_init 15 = .ok (.aload_n 0, 1) := dk_42 (dk_at dksX5_init_0 15 rfl rfl)
theorem dX5_init_16 : decode cX5_init 16 = .ok (.new 18, 3) := dk_187 0 18 (dk_at dksX5_init_0 16 rfl rfl)
theorem dX5_init_19 : decode cX5_init 19 = .ok (.dup, 1) := dk_89 (dk_at dksX5_init_0 19 rfl rfl)
theorem dX5_init_20 : decode cX5_init 20 = .ok (.invokespecial 20, 3) := dk_183 0 20 (dk_at dksX5_init_0 20 rfl rfl)
theorem dX5_init_23 : decode cX5_init 23 = .ok (.putfield 21, 3) := dk_181 0 21 (dk_at dksX5_init_1 0 rfl rfl)
theorem dX5_init_26 : decode cX5_init 26 = .ok (.aload_n 0, 1) := dk_42 (dk_at dksX5_init_1 3 rfl rfl)
theorem dX5_init_27 : decode cX5_init 27 = .ok (.new 18, 3) := dk_187 0 18 (dk_at dksX5_init_1 4 rfl rfl)
theorem dX5_init_30 : decode cX5_init 30 = .ok (.dup, 1) := dk_89 (dk_at dksX5_init_1 7 rfl rfl)
theorem dX5_init_31 : decode cX5_init 31 = .ok (.invokespecial 20, 3) := dk_183 0 20 (dk_at dksX5_init_1 8 rfl rfl)
theorem dX5_init_34 : decode cX5_init 34 = .ok (.putfield 25, 3) := dk_181 0 25 (dk_at dksX5_init_1 11 rfl rfl)
theorem dX5_init_37 : decode cX5_init 37 = .ok (.aload_n 0, 1) := dk_42 (dk_at dksX5_init_1 14 rfl rfl)
theorem dX5_init_38 : decode cX5_init 38 = .ok (.new 28, 3) := dk_187 0 28 (dk_at dksX5_init_1 15 rfl rfl)
theorem dX5_init_41 : decode cX5_init 41 = .ok (.dup, 1) := dk_89 (dk_at dksX5_init_1 18 rfl rfl)
theorem dX5_init_42 : decode cX5_init 42 = .ok (.invokespecial 30, 3) := dk_183 0 30 (dk_at dksX5_init_1 19 rfl rfl)
theorem dX5_init_45 : decode cX5_init 45 = .ok (.putfield 31, 3) := dk_181 0 31 (dk_at dksX5_init_2 0 rfl rfl)
theorem dX5_init_48 : decode cX5_init 48 = .ok (.aload_n 0, 1) := dk_42 (dk_at dksX5_init_2 3 rfl rfl)
theorem dX5_init_49 : decode cX5_init 49 = .ok (.new 28, 3) := dk_187 0 28 (dk_at dksX5_init_2 4 rfl rfl)
theorem dX5_init_52 : decode cX5_init 52 = .ok (.dup, 1) := dk_89 (dk_at dksX5_init_2 7 rfl rfl)
theorem dX5_init_53 : decode cX5_init 53 = .ok (.invokespecial 30, 3) := dk_183 0 30 (dk_at dksX5_init_2 8 rfl rfl)
theorem dX5_init_56 : decode cX5_init 56 = .ok (.putfield 35, 3) := dk_181 0 35 (dk_at dksX5_init_2 11 rfl rfl)
theorem dX5_init_59 : decode cX5_init 59 = .ok (.aload_n 0, 1) := dk_42 (dk_at dksX5_init_2 14 rfl rfl)
theorem dX5_init_60 : decode cX5_init 60 = .ok (.new 28, 3) := dk_187 0 28 (dk_at dksX5_init_2 15 rfl rfl)
theorem dX5_init_63 : decode cX5_init 63 = .ok (.dup, 1) := dk_89 (dk_at dksX5_init_2 18 rfl rfl)
theorem dX5_init_64 : decode cX5_init 64 = .ok (.invokespecial 30, 3) := dk_183 0 30 (dk_at dksX5_init_2 19 rfl rfl)
theorem dX5_init_67 : decode cX5_init 67 = .ok (.putfield 38, 3) := dk_181 0 38 (dk_at dksX5_init_3 0 rfl rfl)
theorem dX5_init_70 : decode cX5_init 70 = .ok (.aload_n 0, 1) := dk_42 (dk_at dksX5_init_3 3 rfl rfl)
theorem dX5_init_71 : decode cX5_init 71 = .ok (.new 41, 3) := dk_187 0 41 (dk_at dksX5_init_3 4 rfl rfl)
theorem dX5_init_74 : decode cX5_init 74 = .ok (.dup, 1) := dk_89 (dk_at dksX5_init_3 7 rfl rfl)
theorem dX5_init_75 : decode cX5_init 75 = .ok (.invokespecial 43, 3) := dk_183 0 43 (dk_at dksX5_init_3 8 rfl rfl)
theorem dX5_init_78 : decode cX5_init 78 = .ok (.putfield 44, 3) := dk_181 0 44 (dk_at dksX5_init_3 11 rfl rfl)
theorem dX5_init_81 : decode cX5_init 81 = .ok (.aload_n 0, 1) := dk_42 (dk_at dksX5_init_3 14 rfl rfl)
theorem dX5_init_82 : decode cX5_init 82 = .ok (.aload_n 1, 1) := dk_43 (dk_at dksX5_init_3 15 rfl rfl)
theorem dX5_init_83 : decode cX5_init 83 = .ok (.putfield 48, 3) := dk_181 0 48 (dk_at dksX5_init_3 16 rfl rfl)
theorem dX5_init_86 : decode cX5_init 86 = .ok (.aload_n 0, 1) := dk_42 (dk_at dksX5_init_3 19 rfl rfl)
theorem dX5_init_87 : decode cX5_init 87 = .ok (.aload_n 1, 1) := dk_43 (dk_at dksX5_init_3 20 rfl rfl)
theorem dX5_init_88 : decode cX5_init 88 = .ok (.invokevirtual 52, 3) := dk_182 0 52 (dk_at dksX5_init_3 21 rfl rfl)
theorem dX5_init_91 : decode cX5_init 91 = .ok (.newarray .int, 2) := dk_188_10 (dk_at dksX5_init_4 0 rfl rfl)
theorem dX5_init_93 : decode cX5_init 93 = .ok (.putfield 58, 3) := dk_181 0 58 (dk_at dksX5_init_4 2 rfl rfl)
theorem dX5_init_96 : decode cX5_init 96 = .ok (.iconst 0, 1) := dk_3 (dk_at dksX5_init_4 5 rfl rfl)
theorem dX5_init_97 : decode cX5_init 97 = .ok (.istore_n 2, 1) := dk_61 (dk_at dksX5_init_4 6 rfl rfl)
theorem dX5_init_98 : decode cX5_init 98 = .ok (.iload_n 2, 1) := dk_28 (dk_at dksX5_init_4 7 rfl rfl)
theorem dX5_init_99 : decode cX5_init 99 = .ok (.aload_n 1, 1) := dk_43 (dk_at dksX5_init_4 8 rfl rfl)
theorem dX5_init_100 : decode cX5_init 100 = .ok (.getfield 62, 3) := dk_180 0 62 (dk_at dksX5_init_4 9 rfl rfl)
theorem dX5_init_103 : decode cX5_init 103 = .ok (.arraylength, 1) := dk_190 (dk_at dksX5_init_4 12 rfl rfl)
theorem dX5_init_104 : decode cX5_init 104 = .ok (.if_icmp .ge 25, 3) := dk_162 0 25 (dk_at dksX5_init_4 13 rfl rfl)
theorem dX5_init_107 : decode cX5_init 107 = .ok (.aload_n 0, 1) := dk_42 (dk_at dksX5_init_4 16 rfl rfl)
theorem dX5_init_108 : decode cX5_init 108 = .ok (.getfield 12, 3) := dk_180 0 12 (dk_at dksX5_init_4 17 rfl rfl)
theorem dX5_init_111 : decode cX5_init 111 = .ok (.aload_n 1, 1) := dk_43 (dk_at dksX5_init_4 20 rfl rfl)
theorem dX5_init_112 : decode cX5_init 112 = .ok (.getfield 62, 3) := dk_180 0 62 (dk_at dksX5_init_4 21 rfl rfl)
theorem dX5_init_115 : decode cX5_init 115 = .ok (.iload_n 2, 1) := dk_28 (dk_at dksX5_init_5 0 rfl rfl)
theorem dX5_init_116 : decode cX5_init 116 = .ok (.iaload, 1) := dk_46 (dk_at dksX5_init_5 1 rfl rfl)
theorem dX5_init_117 : decode cX5_init 117 = .ok (.invokestatic 65, 3) := dk_184 0 65 (dk_at dksX5_init_5 2 rfl rfl)
theorem dX5_init_120 : decode cX5_init 120 = .ok (.invokevirtual 71, 3) := dk_182 0 71 (dk_at dksX5_init_5 5 rfl rfl)
theorem dX5_init_123 : decode cX5_init 123 = .ok (.iinc 2 1, 3) := dk_132 2 1 (dk_at dksX5_init_5 8 rfl rfl)
theorem dX5_init_126 : decode cX5_init 126 = .ok (.goto (-28), 3) := dk_167 255 228 (dk_at dksX5_init_5 11 rfl rfl)
theorem dX5_init_129 : decode cX5_init 129 = .ok (.aload_n 0, 1) := dk_42 (dk_at dksX5_init_5 14 rfl rfl)
theorem dX5_init_130 : decode cX5_init 130 = .ok (.getfield 12, 3) := dk_180 0 12 (dk_at dksX5_init_5 15 rfl rfl)
theorem dX5_init_133 : decode cX5_init 133 = .ok (.invokevirtual 75, 3) := dk_182 0 75 (dk_at dksX5_init_5 18 rfl rfl)
theorem dX5_init_136 : decode cX5_init 136 = .ok (.ifCond .ne 33, 3) := dk_154 0 33 (dk_at dksX5_init_5 21 rfl rfl)
theorem dX5_init_139 : decode cX5_init 139 = .ok (.aload_n 0, 1) := dk_42 (dk_at dksX5_init_6 0 rfl rfl)
theorem dX5_init_140 : decode cX5_init 140 = .ok (.getfield 12, 3) := dk_180 0 12 (dk_at dksX5_init_6 1 rfl rfl)
theorem dX5_init_143 : decode cX5_init 143 = .ok (.invokevirtual 79, 3) := dk_182 0 79 (dk_at dksX5_init_6 4 rfl rfl)
theorem dX5_init_146 : decode cX5_init 146 = .ok (.checkcast 66, 3) := dk_192 0 66 (dk_at dksX5_init_6 7 rfl rfl)
theorem dX5_init_149 : decode cX5_init 149 = .ok (.invokevirtual 83, 3) := dk_182 0 83 (dk_at dksX5_init_6 10 rfl rfl)
theorem dX5_init_152 : decode cX5_init 152 = .ok (.istore_n 2, 1) := dk_61 (dk_at dksX5_init_6 13 rfl rfl)
theorem dX5_init_153 : decode cX5_init 153 = .ok (.iload_n 2, 1) := dk_28 (dk_at dksX5_init_6 14 rfl rfl)
theorem dX5_init_154 : decode cX5_init 154 = .ok (.ifCond .lt 12, 3) := dk_155 0 12 (dk_at dksX5_init_6 15 rfl rfl)
theorem dX5_init_157 : decode cX5_init 157 = .ok (.aload_n 0, 1) := dk_42 (dk_at dksX5_init_6 18 rfl rfl)
theorem dX5_init_158 : decode cX5_init 158 = .ok (.iload_n 2, 1) := dk_28 (dk_at dksX5_init_6 19 rfl rfl)
theorem dX5_init_159 : decode cX5_init 159 = .ok (.invokevirtual 86, 3) := dk_182 0 86 (dk_at dksX5_init_6 20 rfl rfl)
theorem dX5_init_162 : decode cX5_init 162 = .ok (.istore_n 2, 1) := dk_61 (dk_at dksX5_init_6 23 rfl rfl)
theorem dX5_init_163 : decode cX5_init 163 = .ok (.goto (-10), 3) := dk_167 255 246 (dk_at dksX5_init_7 0 rfl rfl)
theorem dX5_init_166 : decode cX5_init 166 = .ok (.goto (-37), 3) := dk_167 255 219 (dk_at dksX5_init_7 3 rfl rfl)
theorem dX5_init_169 : decode cX5_init 169 = .ok (.aload_n 0, 1) := dk_42 (dk_at dksX5_init_7 6 rfl rfl)
theorem dX5_init_170 : decode cX5_init 170 = .ok (.invokevirtual 90, 3) := dk_182 0 90 (dk_at dksX5_init_7 7 rfl rfl)
theorem dX5_init_173 : decode cX5_init 173 = .ok (.iconst 0, 1) := dk_3 (dk_at dksX5_init_7 10 rfl rfl)
theorem dX5_init_174 : decode cX5_init 174 = .ok (.istore_n 2, 1) := dk_61 (dk_at dksX5_init_7 11 rfl rfl)
theorem dX5_init_175 : decode cX5_init 175 = .ok (.iload_n 2, 1) := dk_28 (dk_at dksX5_init_7 12 rfl rfl)
theorem dX5_init_176 : decode cX5_init 176 = .ok (.aload_n 0, 1) := dk_42 (dk_at dksX5_init_7 13 rfl rfl)
theorem dX5_init_177 : decode cX5_init 177 = .ok (.getfield 35, 3) := dk_180 0 35 (dk_at dksX5_init_7 14 rfl rfl)
theorem dX5_init_180 : decode cX5_init 180 = .ok (.invokevirtual 93, 3) := dk_182 0 93 (dk_at dksX5_init_7 17 rfl rfl)
theorem dX5_init_183 : decode cX5_init 183 = .ok (.if_icmp .ge 39, 3) := dk_162 0 39 (dk_at dksX5_init_7 20 rfl rfl)
theorem dX5_init_186 : decode cX5_init 186 = .ok (.aload_n 0, 1) := dk_42 (dk_at dksX5_init_7 23 rfl rfl)
theorem dX5_init_187 : decode cX5_init 187 = .ok (.aload_n 0, 1) := dk_42 (dk_at dksX5_init_8 0 rfl rfl)
theorem dX5_init_188 : decode cX5_init 188 = .ok (.getfield 35, 3) := dk_180 0 35 (dk_at dksX5_init_8 1 rfl rfl)
theorem dX5_init_191 : decode cX5_init 191 = .ok (.iload_n 2, 1) := dk_28 (dk_at dksX5_init_8 4 rfl rfl)
theorem dX5_init_192 : decode cX5_init 192 = .ok (.invokevirtual 94, 3) := dk_182 0 94 (dk_at dksX5_init_8 5 rfl rfl)
theorem dX5_init_195 : decode cX5_init 195 = .ok (.checkcast 98, 3) := dk_192 0 98 (dk_at dksX5_init_8 8 rfl rfl)
theorem dX5_init_198 : decode cX5_init 198 = .ok (.invokevirtual 100, 3) := dk_182 0 100 (dk_at dksX5_init_8 11 rfl rfl)
theorem dX5_init_201 : decode cX5_init 201 = .ok (.aload_n 0, 1) := dk_42 (dk_at dksX5_init_8 14 rfl rfl)
theorem dX5_init_202 : decode cX5_init 202 = .ok (.aload_n 0, 1) := dk_42 (dk_at dksX5_init_8 15 rfl rfl)
theorem dX5_init_203 : decode cX5_init 203 = .ok (.getfield 35, 3) := dk_180 0 35 (dk_at dksX5_init_8 16 rfl rfl)
theorem dX5_init_206 : decode cX5_init 206 = .ok (.iload_n 2, 1) := dk_28 (dk_at dksX5_init_8 19 rfl rfl)
theorem dX5_init_207 : decode cX5_init 207 = .ok (.invokevirtual 94, 3) := dk_182 0 94 (dk_at dksX5_init_8 20 rfl rfl)
theorem dX5_init_210 : decode cX5_init 210 = .ok (.checkcast 98, 3) := dk_192 0 98 (dk_at dksX5_init_9 0 rfl rfl)
theorem dX5_init_213 : decode cX5_init 213 = .ok (.invokevirtual 104, 3) := dk_182 0 104 (dk_at dksX5_init_9 3 rfl rfl)
theorem dX5_init_216 : decode cX5_init 216 = .ok (.iinc 2 1, 3) := dk_132 2 1 (dk_at dksX5_init_9 6 rfl rfl)
theorem dX5_init_219 : decode cX5_init 219 = .ok (.goto (-44), 3) := dk_167 255 212 (dk_at dksX5_init_9 9 rfl rfl)
theorem dX5_init_222 : decode cX5_init 222 = .ok (.aload_n 0, 1) := dk_42 (dk_at dksX5_init_9 12 rfl rfl)
theorem dX5_init_223 : decode cX5_init 223 = .ok (.invokevirtual 107, 3) := dk_182 0 107 (dk_at dksX5_init_9 13 rfl rfl)
theorem dX5_init_226 : decode cX5_init 226 = .ok (.return_, 1) := dk_177 (dk_at dksX5_init_9 16 rfl rfl)
abbrev cX5_follow : ByteArray := prog_8_method_4_code
def yX5_follow : MethodName := ⟨RX5, "follow", "(I)I"⟩
def dkwX5_follow_8 : List UInt8 := [153, 0, 7, 2, 167, 0, 6, 27, 28, 96, 172]
abbrev dktX5_follow_8 : List UInt8 := dkwX5_follow_8 ++ []
def dkwX5_follow_7 : List UInt8 := [182, 0, 146, 87, 45, 180, 0, 147, 42, 180, 0, 12, 184, 0, 151, 42, 180, 0, 48, 27, 182, 0, 155]
abbrev dktX5_follow_7 : List UInt8 := dkwX5_follow_7 ++ dktX5_follow_8
def dkwX5_follow_6 : List UInt8 := [180, 0, 48, 27, 182, 0, 139, 16, 9, 160, 0, 29, 42, 27, 182, 0, 142, 78, 42, 180, 0, 31, 45]
abbrev dktX5_follow_6 : List UInt8 := dkwX5_follow_6 ++ dktX5_follow_7
def dkwX5_follow_5 : List UInt8 := [153, 0, 21, 42, 180, 0, 12, 42, 180, 0, 48, 27, 182, 0, 136, 184, 0, 65, 182, 0, 71, 42]
abbrev dktX5_follow_5 : List UInt8 := dkwX5_follow_5 ++ dktX5_follow_6
def dkwX5_follow_4 : List UInt8 := [28, 5, 160, 0, 12, 42, 180, 0, 58, 27, 4, 96, 5, 79, 42, 180, 0, 48, 27, 182, 0, 133]
abbrev dktX5_follow_4 : List UInt8 := dkwX5_follow_4 ++ dktX5_follow_5
def dkwX5_follow_3 : List UInt8 := [184, 0, 65, 182, 0, 119, 87, 2, 172, 42, 180, 0, 44, 27, 182, 0, 129, 42, 180, 0, 58, 27, 4, 79]
abbrev dktX5_follow_3 : List UInt8 := dkwX5_follow_3 ++ dktX5_follow_4
def dkwX5_follow_2 : List UInt8 := [182, 0, 126, 154, 0, 15, 42, 27, 28, 96, 4, 100, 182, 0, 126, 153, 0, 17, 42, 180, 0, 21, 27]
abbrev dktX5_follow_2 : List UInt8 := dkwX5_follow_2 ++ dktX5_follow_3
def dkwX5_follow_1 : List UInt8 := [180, 0, 25, 27, 184, 0, 65, 182, 0, 119, 87, 2, 172, 42, 180, 0, 48, 27, 182, 0, 123, 61, 42, 27]
abbrev dktX5_follow_1 : List UInt8 := dkwX5_follow_1 ++ dktX5_follow_2
def dkwX5_follow_0 : List UInt8 := [42, 27, 182, 0, 113, 153, 0, 5, 2, 172, 42, 180, 0, 48, 27, 182, 0, 116, 154, 0, 17, 42]
abbrev dktX5_follow_0 : List UInt8 := dkwX5_follow_0 ++ dktX5_follow_1
theorem dksX5_follow_0 : cX5_follow.data.toList.drop 0 = dktX5_follow_0 := by decide +kernel
theorem dksX5_follow_1 : cX5_follow.data.toList.drop 22 = dktX5_follow_1 := dk_seg dksX5_follow_0 22 rfl rfl
theorem dksX5_follow_2 : cX5_follow.data.toList.drop 46 = dktX5_follow_2 := dk_seg dksX5_follow_1 24 rfl rfl
theorem dksX5_follow_3 : cX5_follow.data.toList.drop 69 = dktX5_follow_3 := dk_seg dksX5_follow_2 23 rfl rfl
theorem dksX5_follow_4 : cX5_follow.data.toList.drop 93 = dktX5_follow_4 := dk_seg dksX5_follow_3 24 rfl rfl
theorem dksX5_follow_5 : cX5_follow.data.toList.drop 115 = dktX5_follow_5 := dk_seg dksX5_follow_4 22 rfl rfl
theorem dksX5_follow_6 : cX5_follow.data.toList.drop 137 = dktX5_follow_6 := dk_seg dksX5_follow_5 22 rfl rfl
theorem dksX5_follow_7 : cX5_follow.data.toList.drop 160 = dktX5_follow_7 := dk_seg dksX5_follow_6 23 rfl rfl
theorem dksX5_follow_8 : cX5_follow.data.toList.drop 183 = dktX5_follow_8 := dk_seg dksX5_follow_7 23 rfl rfl
theorem dX5_follow_0 : decode cX5_follow 0 = .ok (.aload_n 0, 1) := dk_42 (dk_at dksX5_follow_0 0 rfl rfl)
theorem dX5_follow_1 : decode cX5_follow 1 = .ok (.iload_n 1, 1) := dk_27 (dk_at dksX5_follow_0 1 rfl rfl)
theorem dX5_follow_2 : decode cX5_follow 2 = .ok (.invokevirtual 113, 3) := dk_182 0 113 (dk_at dksX5_follow_0 2 rfl rfl)
theorem dX5_follow_5 : decode cX5_follow 5 = .ok (.ifCond .eq 5, 3) := dk_153 0 5 (dk_at dksX5_follow_0 5 rfl rfl)
theorem dX5_follow_8 : decode cX5_follow 8 = .ok (.iconst (-1), 1) := dk_2 (dk_at dksX5_follow_0 8 rfl rfl)
theorem dX5_follow_9 : decode cX5_follow 9 = .ok (.ireturn, 1) := dk_172 (dk_at dksX5_follow_0 9 rfl rfl)
theorem dX5_follow_10 : decode cX5_follow 10 = .ok (.aload_n 0, 1) := dk_42 (dk_at dksX5_follow_0 10 rfl rfl)
theorem dX5_follow_11 : decode cX5_follow 11 = .ok (.getfield 48, 3) := dk_180 0 48 (dk_at dksX5_follow_0 11 rfl rfl)
theorem dX5_follow_14 : decode cX5_follow 14 = .ok (.iload_n 1, 1) := dk_27 (dk_at dksX5_follow_0 14 rfl rfl)
theorem dX5_follow_15 : decode cX5_follow 15 = .ok (.invokevirtual 116, 3) := dk_182 0 116 (dk_at dksX5_follow_0 15 rfl rfl)
theorem dX5_follow_18 : decode cX5_follow 18 = .ok (.ifCond .ne 17, 3) := dk_154 0 17 (dk_at dksX5_follow_0 18 rfl rfl)
theorem dX5_follow_21 : decode cX5_follow 21 = .ok (.aload_n 0, 1) := dk_42 (dk_at dksX5_follow_0 21 rfl rfl)
theorem dX5_follow_22 : decode cX5_follow 22 = .ok (.getfield 25, 3) := dk_180 0 25 (dk_at dksX5_follow_1 0 rfl rfl)
theorem dX5_follow_25 : decode cX5_follow 25 = .ok (.iload_n 1, 1) := dk_27 (dk_at dksX5_follow_1 3 rfl rfl)
theorem dX5_follow_26 : decode cX5_follow 26 = .ok (.invokestatic 65, 3) := dk_184 0 65 (dk_at dksX5_follow_1 4 rfl rfl)
theorem dX5_follow_29 : decode cX5_follow 29 = .ok (.invokevirtual 119, 3) := dk_182 0 119 (dk_at dksX5_follow_1 7 rfl rfl)
theorem dX5_follow_32 : decode cX5_follow 32 = .ok (.pop, 1) := dk_87 (dk_at dksX5_follow_1 10 rfl rfl)
theorem dX5_follow_33 : decode cX5_follow 33 = .ok (.iconst (-1), 1) := dk_2 (dk_at dksX5_follow_1 11 rfl rfl)
theorem dX5_follow_34 : decode cX5_follow 34 = .ok (.ireturn, 1) := dk_172 (dk_at dksX5_follow_1 12 rfl rfl)
theorem dX5_follow_35 : decode cX5_follow 35 = .ok (.aload_n 0, 1) := dk_42 (dk_at dksX5_follow_1 13 rfl rfl)
theorem dX5_follow_36 : decode cX5_follow 36 = .ok (.getfield 48, 3) := dk_180 0 48 (dk_at dksX5_follow_1 14 rfl rfl)
theorem dX5_follow_39 : decode cX5_follow 39 = .ok (.iload_n 1, 1) := dk_27 (dk_at dksX5_follow_1 17 rfl rfl)
theorem dX5_follow_40 : decode cX5_follow 40 = .ok (.invokevirtual 123, 3) := dk_182 0 123 (dk_at dksX5_follow_1 18 rfl rfl)
theorem dX5_follow_43 : decode cX5_follow 43 = .ok (.istore_n 2, 1) := dk_61 (dk_at dksX5_follow_1 21 rfl rfl)
theorem dX5_follow_44 : decode cX5_follow 44 = .ok (.aload_n 0, 1) := dk_42 (dk_at dksX5_follow_1 22 rfl rfl)
theorem dX5_follow_45 : decode cX5_follow 45 = .ok (.iload_n 1, 1) := dk_27 (dk_at dksX5_follow_1 23 rfl rfl)
theorem dX5_follow_46 : decode cX5_follow 46 = .ok (.invokevirtual 126, 3) := dk_182 0 126 (dk_at dksX5_follow_2 0 rfl rfl)
theorem dX5_follow_49 : decode cX5_follow 49 = .ok (.ifCond .ne 15, 3) := dk_154 0 15 (dk_at dksX5_follow_2 3 rfl rfl)
theorem dX5_follow_52 : decode cX5_follow 52 = .ok (.aload_n 0, 1) := dk_42 (dk_at dksX5_follow_2 6 rfl rfl)
theorem dX5_follow_53 : decode cX5_follow 53 = .ok (.iload_n 1, 1) := dk_27 (dk_at dksX5_follow_2 7 rfl rfl)
theorem dX5_follow_54 : decode cX5_follow 54 = .ok (.iload_n 2, 1) := dk_28 (dk_at dksX5_follow_2 8 rfl rfl)
theorem dX5_follow_55 : decode cX5_follow 55 = .ok (.iadd, 1) := dk_96 (dk_at dksX5_follow_2 9 rfl rfl)
theorem dX5_follow_56 : decode cX5_follow 56 = .ok (.iconst 1, 1) := dk_4 (dk_at dksX5_follow_2 10 rfl rfl)
theorem dX5_follow_57 : decode cX5_follow 57 = .ok (.isub, 1) := dk_100 (dk_at dksX5_follow_2 11 rfl rfl)
theorem dX5_follow_58 : decode cX5_follow 58 = .ok (.invokevirtual 126, 3) := dk_182 0 126 (dk_at dksX5_follow_2 12 rfl rfl)
theorem dX5_follow_61 : decode cX5_follow 61 = .ok (.ifCond .eq 17, 3) := dk_153 0 17 (dk_at dksX5_follow_2 15 rfl rfl)
theorem dX5_follow_64 : decode cX5_follow 64 = .ok (.aload_n 0, 1) := dk_42 (dk_at dksX5_follow_2 18 rfl rfl)
theorem dX5_follow_65 : decode cX5_follow 65 = .ok (.getfield 21, 3) := dk_180 0 21 (dk_at dksX5_follow_2 19 rfl rfl)
theorem dX5_follow_68 : decode cX5_follow 68 = .ok (.iload_n 1, 1) := dk_27 (dk_at dksX5_follow_2 22 rfl rfl)
theorem dX5_follow_69 : decode cX5_follow 69 = .ok (.invokestatic 65, 3) := dk_184 0 65 (dk_at dksX5_follow_3 0 rfl rfl)
theorem dX5_follow_72 : decode cX5_follow 72 = .ok (.invokevirtual 119, 3) := dk_182 0 119 (dk_at dksX5_follow_3 3 rfl rfl)
theorem dX5_follow_75 : decode cX5_follow 75 = .ok (.pop, 1) := dk_87 (dk_at dksX5_follow_3 6 rfl rfl)
theorem dX5_follow_76 : decode cX5_follow 76 = .ok (.iconst (-1), 1) := dk_2 (dk_at dksX5_follow_3 7 rfl rfl)
theorem dX5_follow_77 : decode cX5_follow 77 = .ok (.ireturn, 1) := dk_172 (dk_at dksX5_follow_3 8 rfl rfl)
theorem dX5_follow_78 : decode cX5_follow 78 = .ok (.aload_n 0, 1) := dk_42 (dk_at dksX5_follow_3 9 rfl rfl)
theorem dX5_follow_79 : decode cX5_follow 79 = .ok (.getfield 44, 3) := dk_180 0 44 (dk_at dksX5_follow_3 10 rfl rfl)
theorem dX5_follow_82 : decode cX5_follow 82 = .ok (.iload_n 1, 1) := dk_27 (dk_at dksX5_follow_3 13 rfl rfl)
theorem dX5_follow_83 : decode cX5_follow 83 = .ok (.invokevirtual 129, 3) := dk_182 0 129 (dk_at dksX5_follow_3 14 rfl rfl)
theorem dX5_follow_86 : decode cX5_follow 86 = .ok (.aload_n 0, 1) := dk_42 (dk_at dksX5_follow_3 17 rfl rfl)
theorem dX5_follow_87 : decode cX5_follow 87 = .ok (.getfield 58, 3) := dk_180 0 58 (dk_at dksX5_follow_3 18 rfl rfl)
theorem dX5_follow_90 : decode cX5_follow 90 = .ok (.iload_n 1, 1) := dk_27 (dk_at dksX5_follow_3 21 rfl rfl)
theorem dX5_follow_91 : decode cX5_follow 91 = .ok (.iconst 1, 1) := dk_4 (dk_at dksX5_follow_3 22 rfl rfl)
theorem dX5_follow_92 : decode cX5_follow 92 = .ok (.iastore, 1) := dk_79 (dk_at dksX5_follow_3 23 rfl rfl)
theorem dX5_follow_93 : decode cX5_follow 93 = .ok (.iload_n 2, 1) := dk_28 (dk_at dksX5_follow_4 0 rfl rfl)
theorem dX5_follow_94 : decode cX5_follow 94 = .ok (.iconst 2, 1) := dk_5 (dk_at dksX5_follow_4 1 rfl rfl)
theorem dX5_follow_95 : decode cX5_follow 95 = .ok (.if_icmp .ne 12, 3) := dk_160 0 12 (dk_at dksX5_follow_4 2 rfl rfl)
theorem dX5_follow_98 : decode cX5_follow 98 = .ok (.aload_n 0, 1) := dk_42 (dk_at dksX5_follow_4 5 rfl rfl)
theorem dX5_follow_99 : decode cX5_follow 99 = .ok (.getfield 58, 3) := dk_180 0 58 (dk_at dksX5_follow_4 6 rfl rfl)
theorem dX5_follow_102 : decode cX5_follow 102 = .ok (.iload_n 1, 1) := dk_27 (dk_at dksX5_follow_4 9 rfl rfl)
theorem dX5_follow_103 : decode cX5_follow 103 = .ok (.iconst 1, 1) := dk_4 (dk_at dksX5_follow_4 10 rfl rfl)
theorem dX5_follow_104 : decode cX5_follow 104 = .ok (.iadd, 1) := dk_96 (dk_at dksX5_follow_4 11 rfl rfl)
theorem dX5_follow_105 : decode cX5_follow 105 = .ok (.iconst 2, 1) := dk_5 (dk_at dksX5_follow_4 12 rfl rfl)
theorem dX5_follow_106 : decode cX5_follow 106 = .ok (.iastore, 1) := dk_79 (dk_at dksX5_follow_4 13 rfl rfl)
theorem dX5_follow_107 : decode cX5_follow 107 = .ok (.aload_n 0, 1) := dk_42 (dk_at dksX5_follow_4 14 rfl rfl)
theorem dX5_follow_108 : decode cX5_follow 108 = .ok (.getfield 48, 3) := dk_180 0 48 (dk_at dksX5_follow_4 15 rfl rfl)
theorem dX5_follow_111 : decode cX5_follow 111 = .ok (.iload_n 1, 1) := dk_27 (dk_at dksX5_follow_4 18 rfl rfl)
theorem dX5_follow_112 : decode cX5_follow 112 = .ok (.invokevirtual 133, 3) := dk_182 0 133 (dk_at dksX5_follow_4 19 rfl rfl)
theorem dX5_follow_115 : decode cX5_follow 115 = .ok (.ifCond .eq 21, 3) := dk_153 0 21 (dk_at dksX5_follow_5 0 rfl rfl)
theorem dX5_follow_118 : decode cX5_follow 118 = .ok (.aload_n 0, 1) := dk_42 (dk_at dksX5_follow_5 3 rfl rfl)
theorem dX5_follow_119 : decode cX5_follow 119 = .ok (.getfield 12, 3) := dk_180 0 12 (dk_at dksX5_follow_5 4 rfl rfl)
theorem dX5_follow_122 : decode cX5_follow 122 = .ok (.aload_n 0, 1) := dk_42 (dk_at dksX5_follow_5 7 rfl rfl)
theorem dX5_follow_123 : decode cX5_follow 123 = .ok (.getfield 48, 3) := dk_180 0 48 (dk_at dksX5_follow_5 8 rfl rfl)
theorem dX5_follow_126 : decode cX5_follow 126 = .ok (.iload_n 1, 1) := dk_27 (dk_at dksX5_follow_5 11 rfl rfl)
theorem dX5_follow_127 : decode cX5_follow 127 = .ok (.invokevirtual 136, 3) := dk_182 0 136 (dk_at dksX5_follow_5 12 rfl rfl)
theorem dX5_follow_130 : decode cX5_follow 130 = .ok (.invokestatic 65, 3) := dk_184 0 65 (dk_at dksX5_follow_5 15 rfl rfl)
theorem dX5_follow_133 : decode cX5_follow 133 = .ok (.invokevirtual 71, 3) := dk_182 0 71 (dk_at dksX5_follow_5 18 rfl rfl)
theorem dX5_follow_136 : decode cX5_follow 136 = .ok (.aload_n 0, 1) := dk_42 (dk_at dksX5_follow_5 21 rfl rfl)
theorem dX5_follow_137 : decode cX5_follow 137 = .ok (.getfield 48, 3) := dk_180 0 48 (dk_at dksX5_follow_6 0 rfl rfl)
theorem dX5_follow_140 : decode cX5_follow 140 = .ok (.iload_n 1, 1) := dk_27 (dk_at dksX5_follow_6 3 rfl rfl)
theorem dX5_follow_141 : decode cX5_follow 141 = .ok (.invokevirtual 139, 3) := dk_182 0 139 (dk_at dksX5_follow_6 4 rfl rfl)
theorem dX5_follow_144 : decode cX5_follow 144 = .ok (.bipush 9, 2) := dk_16 9 (dk_at dksX5_follow_6 7 rfl rfl)
theorem dX5_follow_146 : decode cX5_follow 146 = .ok (.if_icmp .ne 29, 3) := dk_160 0 29 (dk_at dksX5_follow_6 9 rfl rfl)
theorem dX5_follow_149 : decode cX5_follow 149 = .ok (.aload_n 0, 1) := dk_42 (dk_at dksX5_follow_6 12 rfl rfl)
theorem dX5_follow_150 : decode cX5_follow 150 = .ok (.iload_n 1, 1) := dk_27 (dk_at dksX5_follow_6 13 rfl rfl)
theorem dX5_follow_151 : decode cX5_follow 151 = .ok (.invokevirtual 142, 3) := dk_182 0 142 (dk_at dksX5_follow_6 14 rfl rfl)
theorem dX5_follow_154 : decode cX5_follow 154 = .ok (.astore_n 3, 1) := dk_78 (dk_at dksX5_follow_6 17 rfl rfl)
theorem dX5_follow_155 : decode cX5_follow 155 = .ok (.aload_n 0, 1) := dk_42 (dk_at dksX5_follow_6 18 rfl rfl)
theorem dX5_follow_156 : decode cX5_follow 156 = .ok (.getfield 31, 3) := dk_180 0 31 (dk_at dksX5_follow_6 19 rfl rfl)
theorem dX5_follow_159 : decode cX5_follow 159 = .ok (.aload_n 3, 1) := dk_45 (dk_at dksX5_follow_6 22 rfl rfl)
theorem dX5_follow_160 : decode cX5_follow 160 = .ok (.invokevirtual 146, 3) := dk_182 0 146 (dk_at dksX5_follow_7 0 rfl rfl)
theorem dX5_follow_163 : decode cX5_follow 163 = .ok (.pop, 1) := dk_87 (dk_at dksX5_follow_7 3 rfl rfl)
theorem dX5_follow_164 : decode cX5_follow 164 = .ok (.aload_n 3, 1) := dk_45 (dk_at dksX5_follow_7 4 rfl rfl)
theorem dX5_follow_165 : decode cX5_follow 165 = .ok (.getfield 147, 3) := dk_180 0 147 (dk_at dksX5_follow_7 5 rfl rfl)
theorem dX5_follow_168 : decode cX5_follow 168 = .ok (.aload_n 0, 1) := dk_42 (dk_at dksX5_follow_7 8 rfl rfl)
theorem dX5_follow_169 : decode cX5_follow 169 = .ok (.getfield 12, 3) := dk_180 0 12 (dk_at dksX5_follow_7 9 rfl rfl)
theorem dX5_follow_172 : decode cX5_follow 172 = .ok (.invokestatic 151, 3) := dk_184 0 151 (dk_at dksX5_follow_7 12 rfl rfl)
theorem dX5_follow_175 : decode cX5_follow 175 = .ok (.aload_n 0, 1) := dk_42 (dk_at dksX5_follow_7 15 rfl rfl)
theorem dX5_follow_176 : decode cX5_follow 176 = .ok (.getfield 48, 3) := dk_180 0 48 (dk_at dksX5_follow_7 16 rfl rfl)
theorem dX5_follow_179 : decode cX5_follow 179 = .ok (.iload_n 1, 1) := dk_27 (dk_at dksX5_follow_7 19 rfl rfl)
theorem dX5_follow_180 : decode cX5_follow 180 = .ok (.invokevirtual 155, 3) := dk_182 0 155 (dk_at dksX5_follow_7 20 rfl rfl)
theorem dX5_follow_183 : decode cX5_follow 183 = .ok (.ifCond .eq 7, 3) := dk_153 0 7 (dk_at dksX5_follow_8 0 rfl rfl)
theorem dX5_follow_186 : decode cX5_follow 186 = .ok (.iconst (-1), 1) := dk_2 (dk_at dksX5_follow_8 3 rfl rfl)
theorem dX5_follow_187 : decode cX5_follow 187 = .ok (.goto 6, 3) := dk_167 0 6 (dk_at dksX5_follow_8 4 rfl rfl)
theorem dX5_follow_190 : decode cX5_follow 190 = .ok (.iload_n 1, 1) := dk_27 (dk_at dksX5_follow_8 7 rfl rfl)
theorem dX5_follow_191 : decode cX5_follow 191 = .ok (.iload_n 2, 1) := dk_28 (dk_at dksX5_follow_8 8 rfl rfl)
theorem dX5_follow_192 : decode cX5_follow 192 = .ok (.iadd, 1) := dk_96 (dk_at dksX5_follow_8 9 rfl rfl)
theorem dX5_follow_193 : decode cX5_follow 193 = .ok (.ireturn, 1) := dk_172 (dk_at dksX5_follow_8 10 rfl rfl)
abbrev cX5_isAccepted : ByteArray := prog_8_method_2_code
def yX5_isAccepted : MethodName := ⟨RX5, "isAccepted", "(I)Z"⟩
def dkwX5_isAccepted_0 : List UInt8 := [27, 155, 0, 18, 42, 180, 0, 44, 27, 182, 0, 110, 153, 0, 7, 4, 167, 0, 4, 3, 172]
abbrev dktX5_isAccepted_0 : List UInt8 := dkwX5_isAccepted_0 ++ []
theorem dksX5_isAccepted_0 : cX5_isAccepted.data.toList.drop 0 = dktX5_isAccepted_0 := by decide +kernel
theorem dX5_isAccepted_0 : decode cX5_isAccepted 0 = .ok (.iload_n 1, 1) := dk_27 (dk_at dksX5_isAccepted_0 0 rfl rfl)
theorem dX5_isAccepted_1 : decode cX5_isAccepted 1 = .ok (.ifCond .lt 18, 3) := dk_155 0 18 (dk_at dksX5_isAccepted_0 1 rfl rfl)
theorem dX5_isAccepted_4 : decode cX5_isAccepted 4 = .ok (.aload_n 0, 1) := dk_42 (dk_at dksX5_isAccepted_0 4 rfl rfl)
theorem dX5_isAccepted_5 : decode cX5_isAccepted 5 = .ok (.getfield 44, 3) := dk_180 0 44 (dk_at dksX5_isAccepted_0 5 rfl rfl)
theorem dX5_isAccepted_8 : decode cX5_isAccepted 8 = .ok (.iload_n 1, 1) := dk_27 (dk_at dksX5_isAccepted_0 8 rfl rfl)
theorem dX5_isAccepted_9 : decode cX5_isAccepted 9 = .ok (.invokevirtual 110, 3) := dk_182 0 110 (dk_at dksX5_isAccepted_0 9 rfl rfl)
theorem dX5_isAccepted_12 : decode cX5_isAccepted 12 = .ok (.ifCond .eq 7, 3) := dk_153 0 7 (dk_at dksX5_isAccepted_0 12 rfl rfl)
theorem dX5_isAccepted_15 : decode cX5_isAccepted 15 = .ok (.iconst 1, 1) := dk_4 (dk_at dksX5_isAccepted_0 15 rfl rfl)
theorem dX5_isAccepted_16 : decode cX5_isAccepted 16 = .ok (.goto 4, 3) := dk_167 0 4 (dk_at dksX5_isAccepted_0 16 rfl rfl)
theorem dX5_isAccepted_19 : decode cX5_isAccepted 19 = .ok (.iconst 0, 1) := dk_3 (dk_at dksX5_isAccepted_0 19 rfl rfl)
theorem dX5_isAccepted_20 : decode cX5_isAccepted 20 = .ok (.ireturn, 1) := dk_172 (dk_at dksX5_isAccepted_0 20 rfl rfl)
abbrev cX5_isTaken : ByteArray := prog_8_method_3_code
def yX5_isTaken : MethodName := ⟨RX5, "isTaken", "(I)Z"⟩
def dkwX5_isTaken_1 : List UInt8 := [27, 46, 6, 160, 0, 7, 4, 167, 0, 4, 3, 172]
abbrev dktX5_isTaken_1 : List UInt8 := dkwX5_isTaken_1 ++ []
def dkwX5_isTaken_0 : List UInt8 := [42, 180, 0, 58, 27, 46, 4, 159, 0, 23, 42, 180, 0, 58, 27, 46, 5, 159, 0, 13, 42, 180, 0, 58]
abbrev dktX5_isTaken_0 : List UInt8 := dkwX5_isTaken_0 ++ dktX5_isTaken_1
theorem dksX5_isTaken_0 : cX5_isTaken.data.toList.drop 0 = dktX5_isTaken_0 := by decide +kernel
theorem dksX5_isTaken_1 : cX5_isTaken.data.toList.drop 24 = dktX5_isTaken_1 := dk_seg dksX5_isTaken_0 24 rfl rfl
theorem dX5_isTaken_0 : decode cX5_isTaken 0 = .ok (.aload_n 0, 1) := dk_42 (dk_at dksX5_isTaken_0 0 rfl rfl)
theorem dX5_isTaken_1 : decode cX5_isTaken 1 = .ok (.getfield 58, 3) := dk_180 0 58 (dk_at dksX5_isTaken_0 1 rfl rfl)
theorem dX5_isTaken_4 : decode cX5_isTaken 4 = .ok (.iload_n 1, 1) := dk_27 (dk_at dksX5_isTaken_0 4 rfl rfl)
theorem dX5_isTaken_5 : decode cX5_isTaken 5 = .ok (.iaload, 1) := dk_46 (dk_at dksX5_isTaken_0 5 rfl rfl)
theorem dX5_isTaken_6 : decode cX5_isTaken 6 = .ok (.iconst 1, 1) := dk_4 (dk_at dksX5_isTaken_0 6 rfl rfl)
theorem dX5_isTaken_7 : decode cX5_isTaken 7 = .ok (.if_icmp .eq 23, 3) := dk_159 0 23 (dk_at dksX5_isTaken_0 7 rfl rfl)
theorem dX5_isTaken_10 : decode cX5_isTaken 10 = .ok (.aload_n 0, 1) := dk_42 (dk_at dksX5_isTaken_0 10 rfl rfl)
theorem dX5_isTaken_11 : decode cX5_isTaken 11 = .ok (.getfield 58, 3) := dk_180 0 58 (dk_at dksX5_isTaken_0 11 rfl rfl)
theorem dX5_isTaken_14 : decode cX5_isTaken 14 = .ok (.iload_n 1, 1) := dk_27 (dk_at dksX5_isTaken_0 14 rfl rfl)
theorem dX5_isTaken_15 : decode cX5_isTaken 15 = .ok (.iaload, 1) := dk_46 (dk_at dksX5_isTaken_0 15 rfl rfl)
theorem dX5_isTaken_16 : decode cX5_isTaken 16 = .ok (.iconst 2, 1) := dk_5 (dk_at dksX5_isTaken_0 16 rfl rfl)
theorem dX5_isTaken_17 : decode cX5_isTaken 17 = .ok (.if_icmp .eq 13, 3) := dk_159 0 13 (dk_at dksX5_isTaken_0 17 rfl rfl)
theorem dX5_isTaken_20 : decode cX5_isTaken 20 = .ok (.aload_n 0, 1) := dk_42 (dk_at dksX5_isTaken_0 20 rfl rfl)
theorem dX5_isTaken_21 : decode cX5_isTaken 21 = .ok (.getfield 58, 3) := dk_180 0 58 (dk_at dksX5_isTaken_0 21 rfl rfl)
theorem dX5_isTaken_24 : decode cX5_isTaken 24 = .ok (.iload_n 1, 1) := dk_27 (dk_at dksX5_isTaken_1 0 rfl rfl)
theorem dX5_isTaken_25 : decode cX5_isTaken 25 = .ok (.iaload, 1) := dk_46 (dk_at dksX5_isTaken_1 1 rfl rfl)
theorem dX5_isTaken_26 : decode cX5_isTaken 26 = .ok (.iconst 3, 1) := dk_6 (dk_at dksX5_isTaken_1 2 rfl rfl)
theorem dX5_isTaken_27 : decode cX5_isTaken 27 = .ok (.if_icmp .ne 7, 3) := dk_160 0 7 (dk_at dksX5_isTaken_1 3 rfl rfl)
theorem dX5_isTaken_30 : decode cX5_isTaken 30 = .ok (.iconst 1, 1) := dk_4 (dk_at dksX5_isTaken_1 6 rfl rfl)
theorem dX5_isTaken_31 : decode cX5_isTaken 31 = .ok (.goto 4, 3) := dk_167 0 4 (dk_at dksX5_isTaken_1 7 rfl rfl)
theorem dX5_isTaken_34 : decode cX5_isTaken 34 = .ok (.iconst 0, 1) := dk_3 (dk_at dksX5_isTaken_1 10 rfl rfl)
theorem dX5_isTaken_35 : decode cX5_isTaken 35 = .ok (.ireturn, 1) := dk_172 (dk_at dksX5_isTaken_1 11 rfl rfl)
abbrev cX5_makeTable : ByteArray := prog_8_method_6_code
def yX5_makeTable : MethodName := ⟨RX5, "makeTable", "(I)LCodeRecovery$Table;"⟩
def dkwX5_makeTable_13 : List UInt8 := [25, 7, 182, 0, 180, 25, 7, 176]
abbrev dktX5_makeTable_13 : List UInt8 := dkwX5_makeTable_13 ++ []
def dkwX5_makeTable_12 : List UInt8 := [29, 2, 160, 0, 7, 29, 167, 0, 9, 29, 16, 16, 184, 0, 171, 21, 4, 183, 0, 177, 58, 7, 42]
abbrev dktX5_makeTable_12 : List UInt8 := dkwX5_makeTable_12 ++ dktX5_makeTable_13
def dkwX5_makeTable_11 : List UInt8 := [54, 4, 3, 54, 6, 132, 7, 1, 167, 255, 13, 187, 0, 148, 89, 27, 42, 180, 0, 48, 27, 182, 0, 164]
abbrev dktX5_makeTable_11 : List UInt8 := dkwX5_makeTable_11 ++ dktX5_makeTable_12
def dkwX5_makeTable_10 : List UInt8 := [167, 0, 4, 29, 62, 21, 8, 153, 0, 15, 42, 180, 0, 48, 21, 5, 182, 0, 164, 167, 0, 5, 21, 4]
abbrev dktX5_makeTable_10 : List UInt8 := dkwX5_makeTable_10 ++ dktX5_makeTable_11
def dkwX5_makeTable_9 : List UInt8 := [167, 0, 4, 3, 54, 9, 21, 9, 153, 0, 17, 42, 180, 0, 48, 21, 5, 182, 0, 164, 4, 96]
abbrev dktX5_makeTable_9 : List UInt8 := dkwX5_makeTable_9 ++ dktX5_makeTable_10
def dkwX5_makeTable_8 : List UInt8 := [3, 54, 8, 21, 8, 154, 0, 17, 42, 180, 0, 48, 21, 5, 182, 0, 139, 16, 12, 160, 0, 7, 4]
abbrev dktX5_makeTable_8 : List UInt8 := dkwX5_makeTable_8 ++ dktX5_makeTable_9
def dkwX5_makeTable_7 : List UInt8 := [28, 182, 0, 167, 153, 0, 94, 42, 180, 0, 48, 21, 5, 182, 0, 139, 4, 160, 0, 7, 4, 167, 0, 4]
abbrev dktX5_makeTable_7 : List UInt8 := dkwX5_makeTable_7 ++ dktX5_makeTable_8
def dkwX5_makeTable_6 : List UInt8 := [154, 0, 7, 4, 167, 0, 4, 3, 54, 6, 167, 0, 112, 21, 6, 153, 0, 107, 42, 180, 0, 48, 21, 5]
abbrev dktX5_makeTable_6 : List UInt8 := dkwX5_makeTable_6 ++ dktX5_makeTable_7
def dkwX5_makeTable_5 : List UInt8 := [3, 54, 9, 21, 9, 153, 0, 15, 42, 180, 0, 48, 21, 8, 182, 0, 164, 167, 0, 4, 29, 62, 21, 9]
abbrev dktX5_makeTable_5 : List UInt8 := dkwX5_makeTable_5 ++ dktX5_makeTable_6
def dkwX5_makeTable_4 : List UInt8 := [182, 0, 139, 6, 160, 0, 20, 42, 180, 0, 48, 21, 8, 182, 0, 158, 28, 160, 0, 7, 4, 167, 0, 4]
abbrev dktX5_makeTable_4 : List UInt8 := dkwX5_makeTable_4 ++ dktX5_makeTable_5
def dkwX5_makeTable_3 : List UInt8 := [16, 6, 160, 0, 83, 42, 21, 5, 182, 0, 161, 54, 8, 21, 8, 155, 0, 33, 42, 180, 0, 48, 21, 8]
abbrev dktX5_makeTable_3 : List UInt8 := dkwX5_makeTable_3 ++ dktX5_makeTable_4
def dkwX5_makeTable_2 : List UInt8 := [155, 0, 7, 4, 167, 0, 4, 3, 54, 6, 21, 6, 153, 0, 97, 42, 180, 0, 48, 21, 5, 182, 0, 139]
abbrev dktX5_makeTable_2 : List UInt8 := dkwX5_makeTable_2 ++ dktX5_makeTable_3
def dkwX5_makeTable_1 : List UInt8 := [21, 7, 16, 6, 162, 0, 242, 21, 6, 153, 0, 237, 42, 21, 5, 182, 0, 161, 54, 5, 21, 5]
abbrev dktX5_makeTable_1 : List UInt8 := dkwX5_makeTable_1 ++ dktX5_makeTable_2
def dkwX5_makeTable_0 : List UInt8 := [42, 180, 0, 48, 27, 182, 0, 158, 61, 2, 62, 2, 54, 4, 27, 54, 5, 4, 54, 6, 3, 54, 7]
abbrev dktX5_makeTable_0 : List UInt8 := dkwX5_makeTable_0 ++ dktX5_makeTable_1
theorem dksX5_makeTable_0 : cX5_makeTable.data.toList.drop 0 = dktX5_makeTable_0 := by decide +kernel
theorem dksX5_makeTable_1 : cX5_makeTable.data.toList.drop 23 = dktX5_makeTable_1 := dk_seg dksX5_makeTable_0 23 rfl rfl
theorem dksX5_makeTable_2 : cX5_makeTable.data.toList.drop 45 = dktX5_makeTable_2 := dk_seg dksX5_makeTable_1 22 rfl rfl
theorem dksX5_makeTable_3 : cX5_makeTable.data.toList.drop 69 = dktX5_makeTable_3 := dk_seg dksX5_makeTable_2 24 rfl rfl
theorem dksX5_makeTable_4 : cX5_makeTable.data.toList.drop 93 = dktX5_makeTable_4 := dk_seg dksX5_makeTable_3 24 rfl rfl
theorem dksX5_makeTable_5 : cX5_makeTable.data.toList.drop 117 = dktX5_makeTable_5 := dk_seg dksX5_makeTable_4 24 rfl rfl
theorem dksX5_makeTable_6 : cX5_makeTable.data.toList.drop 141 = dktX5_makeTable_6 := dk_seg dksX5_makeTable_5 24 rfl rfl
theorem dksX5_makeTable_7 : cX5_makeTable.data.toList.drop 165 = dktX5_makeTable_7 := dk_seg dksX5_makeTable_6 24 rfl rfl
theorem dksX5_makeTable_8 : cX5_makeTable.data.toList.drop 189 = dktX5_makeTable_8 := dk_seg dksX5_makeTable_7 24 rfl rfl
theorem dksX5_makeTable_9 : cX5_makeTable.data.toList.drop 212 = dktX5_makeTable_9 := dk_seg dksX5_makeTable_8 23 rfl rfl
theorem dksX5_makeTable_10 : cX5_makeTable.data.toList.drop 234 = dktX5_makeTable_10 := dk_seg dksX5_makeTable_9 22 rfl rfl
theorem dksX5_makeTable_11 : cX5_makeTable.data.toList.drop 258 = dktX5_makeTable_11 := dk_seg dksX5_makeTable_10 24 rfl rfl
theorem dksX5_makeTable_12 : cX5_makeTable.data.toList.drop 282 = dktX5_makeTable_12 := dk_seg dksX5_makeTable_11 24 rfl rfl
theorem dksX5_makeTable_13 : cX5_makeTable.data.toList.drop 305 = dktX5_makeTable_13 := dk_seg dksX5_makeTable_12 23 rfl rfl
theorem dX5_makeTable_0 : decode cX5_makeTable 0 = .ok (.aload_n 0, 1) := dk_42 (dk_at dksX5_makeTable_0 0 rfl rfl)
theorem dX5_makeTable_1 : decode cX5_makeTable 1 = .ok (.getfield 48, 3) := dk_180 0 48 (dk_at dksX5_makeTable_0 1 rfl rfl)
theorem dX5_makeTable_4 : decode cX5_makeTable 4 = .ok (.iload_n 1, 1) := dk_27 (dk_at dksX5_makeTable_0 4 rfl rfl)
theorem dX5_makeTable_5 : decode cX5_makeTable 5 = .ok (.invokevirtual 158, 3) := dk_182 0 158 (dk_at dksX5_makeTable_0 5 rfl rfl)
theorem dX5_makeTable_8 : decode cX5_makeTable 8 = .ok (.istore_n 2, 1) := dk_61 (dk_at dksX5_makeTable_0 8 rfl rfl)
theorem dX5_makeTable_9 : decode cX5_makeTable 9 = .ok (.iconst (-1), 1) := dk_2 (dk_at dksX5_makeTable_0 9 rfl rfl)
theorem dX5_makeTable_10 : decode cX5_makeTable 10 = .ok (.istore_n 3, 1) := dk_62 (dk_at dksX5_makeTable_0 10 rfl rfl)
theorem dX5_makeTable_11 : decode cX5_makeTable 11 = .ok (.iconst (-1), 1) := dk_2 (dk_at dksX5_makeTable_0 11 rfl rfl)
theorem dX5_makeTable_12 : decode cX5_makeTable 12 = .ok (.istore 4, 2) := dk_54 4 (dk_at dksX5_makeTable_0 12 rfl rfl)
theorem dX5_makeTable_14 : decode cX5_makeTable 14 = .ok (.iload_n 1, 1) := dk_27 (dk_at dksX5_makeTable_0 14 rfl rfl)
theorem dX5_makeTable_15 : decode cX5_makeTable 15 = .ok (.istore 5, 2) := dk_54 5 (dk_at dksX5_makeTable_0 15 rfl rfl)
theorem dX5_makeTable_17 : decode cX5_makeTable 17 = .ok (.iconst 1, 1) := dk_4 (dk_at dksX5_makeTable_0 17 rfl rfl)
theorem dX5_makeTable_18 : decode cX5_makeTable 18 = .ok (.istore 6, 2) := dk_54 6 (dk_at dksX5_makeTable_0 18 rfl rfl)
theorem dX5_makeTable_20 : decode cX5_makeTable 20 = .ok (.iconst 0, 1) := dk_3 (dk_at dksX5_makeTable_0 20 rfl rfl)
theorem dX5_makeTable_21 : decode cX5_makeTable 21 = .ok (.istore 7, 2) := dk_54 7 (dk_at dksX5_makeTable_0 21 rfl rfl)
theorem dX5_makeTable_23 : decode cX5_makeTable 23 = .ok (.iload 7, 2) := dk_21 7 (dk_at dksX5_makeTable_1 0 rfl rfl)
theorem dX5_makeTable_25 : decode cX5_makeTable 25 = .ok (.bipush 6, 2) := dk_16 6 (dk_at dksX5_makeTable_1 2 rfl rfl)
theorem dX5_makeTable_27 : decode cX5_makeTable 27 = .ok (.if_icmp .ge 242, 3) := dk_162 0 242 (dk_at dksX5_makeTable_1 4 rfl rfl)
theorem dX5_makeTable_30 : decode cX5_makeTable 30 = .ok (.iload 6, 2) := dk_21 6 (dk_at dksX5_makeTable_1 7 rfl rfl)
theorem dX5_makeTable_32 : decode cX5_makeTable 32 = .ok (.ifCond .eq 237, 3) := dk_153 0 237 (dk_at dksX5_makeTable_1 9 rfl rfl)
theorem dX5_makeTable_35 : decode cX5_makeTable 35 = .ok (.aload_n 0, 1) := dk_42 (dk_at dksX5_makeTable_1 12 rfl rfl)
theorem dX5_makeTable_36 : decode cX5_makeTable 36 = .ok (.iload 5, 2) := dk_21 5 (dk_at dksX5_makeTable_1 13 rfl rfl)
theorem dX5_makeTable_38 : decode cX5_makeTable 38 = .ok (.invokevirtual 161, 3) := dk_182 0 161 (dk_at dksX5_makeTable_1 15 rfl rfl)
theorem dX5_makeTable_41 : decode cX5_makeTable 41 = .ok (.istore 5, 2) := dk_54 5 (dk_at dksX5_makeTable_1 18 rfl rfl)
theorem dX5_makeTable_43 : decode cX5_makeTable 43 = .ok (.iload 5, 2) := dk_21 5 (dk_at dksX5_makeTable_1 20 rfl rfl)
theorem dX5_makeTable_45 : decode cX5_makeTable 45 = .ok (.ifCond .lt 7, 3) := dk_155 0 7 (dk_at dksX5_makeTable_2 0 rfl rfl)
theorem dX5_makeTable_48 : decode cX5_makeTable 48 = .ok (.iconst 1, 1) := dk_4 (dk_at dksX5_makeTable_2 3 rfl rfl)
theorem dX5_makeTable_49 : decode cX5_makeTable 49 = .ok (.goto 4, 3) := dk_167 0 4 (dk_at dksX5_makeTable_2 4 rfl rfl)
theorem dX5_makeTable_52 : decode cX5_makeTable 52 = .ok (.iconst 0, 1) := dk_3 (dk_at dksX5_makeTable_2 7 rfl rfl)
theorem dX5_makeTable_53 : decode cX5_makeTable 53 = .ok (.istore 6, 2) := dk_54 6 (dk_at dksX5_makeTable_2 8 rfl rfl)
theorem dX5_makeTable_55 : decode cX5_makeTable 55 = .ok (.iload 6, 2) := dk_21 6 (dk_at dksX5_makeTable_2 10 rfl rfl)
theorem dX5_makeTable_57 : decode cX5_makeTable 57 = .ok (.ifCond .eq 97, 3) := dk_153 0 97 (dk_at dksX5_makeTable_2 12 rfl rfl)
theorem dX5_makeTable_60 : decode cX5_makeTable 60 = .ok (.aload_n 0, 1) := dk_42 (dk_at dksX5_makeTable_2 15 rfl rfl)
theorem dX5_makeTable_61 : decode cX5_makeTable 61 = .ok (.getfield 48, 3) := dk_180 0 48 (dk_at dksX5_makeTable_2 16 rfl rfl)
theorem dX5_makeTable_64 : decode cX5_makeTable 64 = .ok (.iload 5, 2) := dk_21 5 (dk_at dksX5_makeTable_2 19 rfl rfl)
theorem dX5_makeTable_66 : decode cX5_makeTable 66 = .ok (.invokevirtual 139, 3) := dk_182 0 139 (dk_at dksX5_makeTable_2 21 rfl rfl)
theorem dX5_makeTable_69 : decode cX5_makeTable 69 = .ok (.bipush 6, 2) := dk_16 6 (dk_at dksX5_makeTable_3 0 rfl rfl)
theorem dX5_makeTable_71 : decode cX5_makeTable 71 = .ok (.if_icmp .ne 83, 3) := dk_160 0 83 (dk_at dksX5_makeTable_3 2 rfl rfl)
theorem dX5_makeTable_74 : decode cX5_makeTable 74 = .ok (.aload_n 0, 1) := dk_42 (dk_at dksX5_makeTable_3 5 rfl rfl)
theorem dX5_makeTable_75 : decode cX5_makeTable 75 = .ok (.iload 5, 2) := dk_21 5 (dk_at dksX5_makeTable_3 6 rfl rfl)
theorem dX5_makeTable_77 : decode cX5_makeTable 77 = .ok (.invokevirtual 161, 3) := dk_182 0 161 (dk_at dksX5_makeTable_3 8 rfl rfl)
theorem dX5_makeTable_80 : decode cX5_makeTable 80 = .ok (.istore 8, 2) := dk_54 8 (dk_at dksX5_makeTable_3 11 rfl rfl)
theorem dX5_makeTable_82 : decode cX5_makeTable 82 = .ok (.iload 8, 2) := dk_21 8 (dk_at dksX5_makeTable_3 13 rfl rfl)
theorem dX5_makeTable_84 : decode cX5_makeTable 84 = .ok (.ifCond .lt 33, 3) := dk_155 0 33 (dk_at dksX5_makeTable_3 15 rfl rfl)
theorem dX5_makeTable_87 : decode cX5_makeTable 87 = .ok (.aload_n 0, 1) := dk_42 (dk_at dksX5_makeTable_3 18 rfl rfl)
theorem dX5_makeTable_88 : decode cX5_makeTable 88 = .ok (.getfield 48, 3) := dk_180 0 48 (dk_at dksX5_makeTable_3 19 rfl rfl)
theorem dX5_makeTable_91 : decode cX5_makeTable 91 = .ok (.iload 8, 2) := dk_21 8 (dk_at dksX5_makeTable_3 22 rfl rfl)
theorem dX5_makeTable_93 : decode cX5_makeTable 93 = .ok (.invokevirtual 139, 3) := dk_182 0 139 (dk_at dksX5_makeTable_4 0 rfl rfl)
theorem dX5_makeTable_96 : decode cX5_makeTable 96 = .ok (.iconst 3, 1) := dk_6 (dk_at dksX5_makeTable_4 3 rfl rfl)
theorem dX5_makeTable_97 : decode cX5_makeTable 97 = .ok (.if_icmp .ne 20, 3) := dk_160 0 20 (dk_at dksX5_makeTable_4 4 rfl rfl)
theorem dX5_makeTable_100 : decode cX5_makeTable 100 = .ok (.aload_n 0, 1) := dk_42 (dk_at dksX5_makeTable_4 7 rfl rfl)
theorem dX5_makeTable_101 : decode cX5_makeTable 101 = .ok (.getfield 48, 3) := dk_180 0 48 (dk_at dksX5_makeTable_4 8 rfl rfl)
theorem dX5_makeTable_104 : decode cX5_makeTable 104 = .ok (.iload 8, 2) := dk_21 8 (dk_at dksX5_makeTable_4 11 rfl rfl)
theorem dX5_makeTable_106 : decode cX5_makeTable 106 = .ok (.invokevirtual 158, 3) := dk_182 0 158 (dk_at dksX5_makeTable_4 13 rfl rfl)
theorem dX5_makeTable_109 : decode cX5_makeTable 109 = .ok (.iload_n 2, 1) := dk_28 (dk_at dksX5_makeTable_4 16 rfl rfl)
theorem dX5_makeTable_110 : decode cX5_makeTable 110 = .ok (.if_icmp .ne 7, 3) := dk_160 0 7 (dk_at dksX5_makeTable_4 17 rfl rfl)
theorem dX5_makeTable_113 : decode cX5_makeTable 113 = .ok (.iconst 1, 1) := dk_4 (dk_at dksX5_makeTable_4 20 rfl rfl)
theorem dX5_makeTable_114 : decode cX5_makeTable 114 = .ok (.goto 4, 3) := dk_167 0 4 (dk_at dksX5_makeTable_4 21 rfl rfl)
theorem dX5_makeTable_117 : decode cX5_makeTable 117 = .ok (.iconst 0, 1) := dk_3 (dk_at dksX5_makeTable_5 0 rfl rfl)
theorem dX5_makeTable_118 : decode cX5_makeTable 118 = .ok (.istore 9, 2) := dk_54 9 (dk_at dksX5_makeTable_5 1 rfl rfl)
theorem dX5_makeTable_120 : decode cX5_makeTable 120 = .ok (.iload 9, 2) := dk_21 9 (dk_at dksX5_makeTable_5 3 rfl rfl)
theorem dX5_makeTable_122 : decode cX5_makeTable 122 = .ok (.ifCond .eq 15, 3) := dk_153 0 15 (dk_at dksX5_makeTable_5 5 rfl rfl)
theorem dX5_makeTable_125 : decode cX5_makeTable 125 = .ok (.aload_n 0, 1) := dk_42 (dk_at dksX5_makeTable_5 8 rfl rfl)
theorem dX5_makeTable_126 : decode cX5_makeTable 126 = .ok (.getfield 48, 3) := dk_180 0 48 (dk_at dksX5_makeTable_5 9 rfl rfl)
theorem dX5_makeTable_129 : decode cX5_makeTable 129 = .ok (.iload 8, 2) := dk_21 8 (dk_at dksX5_makeTable_5 12 rfl rfl)
theorem dX5_makeTable_131 : decode cX5_makeTable 131 = .ok (.invokevirtual 164, 3) := dk_182 0 164 (dk_at dksX5_makeTable_5 14 rfl rfl)
theorem dX5_makeTable_134 : decode cX5_makeTable 134 = .ok (.goto 4, 3) := dk_167 0 4 (dk_at dksX5_makeTable_5 17 rfl rfl)
theorem dX5_makeTable_137 : decode cX5_makeTable 137 = .ok (.iload_n 3, 1) := dk_29 (dk_at dksX5_makeTable_5 20 rfl rfl)
theorem dX5_makeTable_138 : decode cX5_makeTable 138 = .ok (.istore_n 3, 1) := dk_62 (dk_at dksX5_makeTable_5 21 rfl rfl)
theorem dX5_makeTable_139 : decode cX5_makeTable 139 = .ok (.iload 9, 2) := dk_21 9 (dk_at dksX5_makeTable_5 22 rfl rfl)
theorem dX5_makeTable_141 : decode cX5_makeTable 141 = .ok (.ifCond .ne 7, 3) := dk_154 0 7 (dk_at dksX5_makeTable_6 0 rfl rfl)
theorem dX5_makeTable_144 : decode cX5_makeTable 144 = .ok (.iconst 1, 1) := dk_4 (dk_at dksX5_makeTable_6 3 rfl rfl)
theorem dX5_makeTable_145 : decode cX5_makeTable 145 = .ok (.goto 4, 3) := dk_167 0 4 (dk_at dksX5_makeTable_6 4 rfl rfl)
theorem dX5_makeTable_148 : decode cX5_makeTable 148 = .ok (.iconst 0, 1) := dk_3 (dk_at dksX5_makeTable_6 7 rfl rfl)
theorem dX5_makeTable_149 : decode cX5_makeTable 149 = .ok (.istore 6, 2) := dk_54 6 (dk_at dksX5_makeTable_6 8 rfl rfl)
theorem dX5_makeTable_151 : decode cX5_makeTable 151 = .ok (.goto 112, 3) := dk_167 0 112 (dk_at dksX5_makeTable_6 10 rfl rfl)
theorem dX5_makeTable_154 : decode cX5_makeTable 154 = .ok (.iload 6, 2) := dk_21 6 (dk_at dksX5_makeTable_6 13 rfl rfl)
theorem dX5_makeTable_156 : decode cX5_makeTable 156 = .ok (.ifCond .eq 107, 3) := dk_153 0 107 (dk_at dksX5_makeTable_6 15 rfl rfl)
theorem dX5_makeTable_159 : decode cX5_makeTable 159 = .ok (.aload_n 0, 1) := dk_42 (dk_at dksX5_makeTable_6 18 rfl rfl)
theorem dX5_makeTable_160 : decode cX5_makeTable 160 = .ok (.getfield 48, 3) := dk_180 0 48 (dk_at dksX5_makeTable_6 19 rfl rfl)
theorem dX5_makeTable_163 : decode cX5_makeTable 163 = .ok (.iload 5, 2) := dk_21 5 (dk_at dksX5_makeTable_6 22 rfl rfl)
theorem dX5_makeTable_165 : decode cX5_makeTable 165 = .ok (.iload_n 2, 1) := dk_28 (dk_at dksX5_makeTable_7 0 rfl rfl)
theorem dX5_makeTable_166 : decode cX5_makeTable 166 = .ok (.invokevirtual 167, 3) := dk_182 0 167 (dk_at dksX5_makeTable_7 1 rfl rfl)
theorem dX5_makeTable_169 : decode cX5_makeTable 169 = .ok (.ifCond .eq 94, 3) := dk_153 0 94 (dk_at dksX5_makeTable_7 4 rfl rfl)
theorem dX5_makeTable_172 : decode cX5_makeTable 172 = .ok (.aload_n 0, 1) := dk_42 (dk_at dksX5_makeTable_7 7 rfl rfl)
theorem dX5_makeTable_173 : decode cX5_makeTable 173 = .ok (.getfield 48, 3) := dk_180 0 48 (dk_at dksX5_makeTable_7 8 rfl rfl)
theorem dX5_makeTable_176 : decode cX5_makeTable 176 = .ok (.iload 5, 2) := dk_21 5 (dk_at dksX5_makeTable_7 11 rfl rfl)
theorem dX5_makeTable_178 : decode cX5_makeTable 178 = .ok (.invokevirtual 139, 3) := dk_182 0 139 (dk_at dksX5_makeTable_7 13 rfl rfl)
theorem dX5_makeTable_181 : decode cX5_makeTable 181 = .ok (.iconst 1, 1) := dk_4 (dk_at dksX5_makeTable_7 16 rfl rfl)
theorem dX5_makeTable_182 : decode cX5_makeTable 182 = .ok (.if_icmp .ne 7, 3) := dk_160 0 7 (dk_at dksX5_makeTable_7 17 rfl rfl)
theorem dX5_makeTable_185 : decode cX5_makeTable 185 = .ok (.iconst 1, 1) := dk_4 (dk_at dksX5_makeTable_7 20 rfl rfl)
theorem dX5_makeTable_186 : decode cX5_makeTable 186 = .ok (.goto 4, 3) := dk_167 0 4 (dk_at dksX5_makeTable_7 21 rfl rfl)
theorem dX5_makeTable_189 : decode cX5_makeTable 189 = .ok (.iconst 0, 1) := dk_3 (dk_at dksX5_makeTable_8 0 rfl rfl)
theorem dX5_makeTable_190 : decode cX5_makeTable 190 = .ok (.istore 8, 2) := dk_54 8 (dk_at dksX5_makeTable_8 1 rfl rfl)
theorem dX5_makeTable_192 : decode cX5_makeTable 192 = .ok (.iload 8, 2) := dk_21 8 (dk_at dksX5_makeTable_8 3 rfl rfl)
theorem dX5_makeTable_194 : decode cX5_makeTable 194 = .ok (.ifCond .ne 17, 3) := dk_154 0 17 (dk_at dksX5_makeTable_8 5 rfl rfl)
theorem dX5_makeTable_197 : decode cX5_makeTable 197 = .ok (.aload_n 0, 1) := dk_42 (dk_at dksX5_makeTable_8 8 rfl rfl)
theorem dX5_makeTable_198 : decode cX5_makeTable 198 = .ok (.getfield 48, 3) := dk_180 0 48 (dk_at dksX5_makeTable_8 9 rfl rfl)
theorem dX5_makeTable_201 : decode cX5_makeTable 201 = .ok (.iload 5, 2) := dk_21 5 (dk_at dksX5_makeTable_8 12 rfl rfl)
theorem dX5_makeTable_203 : decode cX5_makeTable 203 = .ok (.invokevirtual 139, 3) := dk_182 0 139 (dk_at dksX5_makeTable_8 14 rfl rfl)
theorem dX5_makeTable_206 : decode cX5_makeTable 206 = .ok (.bipush 12, 2) := dk_16 12 (dk_at dksX5_makeTable_8 17 rfl rfl)
theorem dX5_makeTable_208 : decode cX5_makeTable 208 = .ok (.if_icmp .ne 7, 3) := dk_160 0 7 (dk_at dksX5_makeTable_8 19 rfl rfl)
theorem dX5_makeTable_211 : decode cX5_makeTable 211 = .ok (.iconst 1, 1) := dk_4 (dk_at dksX5_makeTable_8 22 rfl rfl)
theorem dX5_makeTable_212 : decode cX5_makeTable 212 = .ok (.goto 4, 3) := dk_167 0 4 (dk_at dksX5_makeTable_9 0 rfl rfl)
theorem dX5_makeTable_215 : decode cX5_makeTable 215 = .ok (.iconst 0, 1) := dk_3 (dk_at dksX5_makeTable_9 3 rfl rfl)
theorem dX5_makeTable_216 : decode cX5_makeTable 216 = .ok (.istore 9, 2) := dk_54 9 (dk_at dksX5_makeTable_9 4 rfl rfl)
theorem dX5_makeTable_218 : decode cX5_makeTable 218 = .ok (.iload 9, 2) := dk_21 9 (dk_at dksX5_makeTable_9 6 rfl rfl)
theorem dX5_makeTable_220 : decode cX5_makeTable 220 = .ok (.ifCond .eq 17, 3) := dk_153 0 17 (dk_at dksX5_makeTable_9 8 rfl rfl)
theorem dX5_makeTable_223 : decode cX5_makeTable 223 = .ok (.aload_n 0, 1) := dk_42 (dk_at dksX5_makeTable_9 11 rfl rfl)
theorem dX5_makeTable_224 : decode cX5_makeTable 224 = .ok (.getfield 48, 3) := dk_180 0 48 (dk_at dksX5_makeTable_9 12 rfl rfl)
theorem dX5_makeTable_227 : decode cX5_makeTable 227 = .ok (.iload 5, 2) := dk_21 5 (dk_at dksX5_makeTable_9 15 rfl rfl)
theorem dX5_makeTable_229 : decode cX5_makeTable 229 = .ok (.invokevirtual 164, 3) := dk_182 0 164 (dk_at dksX5_makeTable_9 17 rfl rfl)
theorem dX5_makeTable_232 : decode cX5_makeTable 232 = .ok (.iconst 1, 1) := dk_4 (dk_at dksX5_makeTable_9 20 rfl rfl)
theorem dX5_makeTable_233 : decode cX5_makeTable 233 = .ok (.iadd, 1) := dk_96 (dk_at dksX5_makeTable_9 21 rfl rfl)
theorem dX5_makeTable_234 : decode cX5_makeTable 234 = .ok (.goto 4, 3) := dk_167 0 4 (dk_at dksX5_makeTable_10 0 rfl rfl)
theorem dX5_makeTable_237 : decode cX5_makeTable 237 = .ok (.iload_n 3, 1) := dk_29 (dk_at dksX5_makeTable_10 3 rfl rfl)
theorem dX5_makeTable_238 : decode cX5_makeTable 238 = .ok (.istore_n 3, 1) := dk_62 (dk_at dksX5_makeTable_10 4 rfl rfl)
theorem dX5_makeTable_239 : decode cX5_makeTable 239 = .ok (.iload 8, 2) := dk_21 8 (dk_at dksX5_makeTable_10 5 rfl rfl)
theorem dX5_makeTable_241 : decode cX5_makeTable 241 = .ok (.ifCond .eq 15, 3) := dk_153 0 15 (dk_at dksX5_makeTable_10 7 rfl rfl)
theorem dX5_makeTable_244 : decode cX5_makeTable 244 = .ok (.aload_n 0, 1) := dk_42 (dk_at dksX5_makeTable_10 10 rfl rfl)
theorem dX5_makeTable_245 : decode cX5_makeTable 245 = .ok (.getfield 48, 3) := dk_180 0 48 (dk_at dksX5_makeTable_10 11 rfl rfl)
theorem dX5_makeTable_248 : decode cX5_makeTable 248 = .ok (.iload 5, 2) := dk_21 5 (dk_at dksX5_makeTable_10 14 rfl rfl)
theorem dX5_makeTable_250 : decode cX5_makeTable 250 = .ok (.invokevirtual 164, 3) := dk_182 0 164 (dk_at dksX5_makeTable_10 16 rfl rfl)
theorem dX5_makeTable_253 : decode cX5_makeTable 253 = .ok (.goto 5, 3) := dk_167 0 5 (dk_at dksX5_makeTable_10 19 rfl rfl)
theorem dX5_makeTable_256 : decode cX5_makeTable 256 = .ok (.iload 4, 2) := dk_21 4 (dk_at dksX5_makeTable_10 22 rfl rfl)
theorem dX5_makeTable_258 : decode cX5_makeTable 258 = .ok (.istore 4, 2) := dk_54 4 (dk_at dksX5_makeTable_11 0 rfl rfl)
theorem dX5_makeTable_260 : decode cX5_makeTable 260 = .ok (.iconst 0, 1) := dk_3 (dk_at dksX5_makeTable_11 2 rfl rfl)
theorem dX5_makeTable_261 : decode cX5_makeTable 261 = .ok (.istore 6, 2) := dk_54 6 (dk_at dksX5_makeTable_11 3 rfl rfl)
theorem dX5_makeTable_263 : decode cX5_makeTable 263 = .ok (.iinc 7 1, 3) := dk_132 7 1 (dk_at dksX5_makeTable_11 5 rfl rfl)
theorem dX5_makeTable_266 : decode cX5_makeTable 266 = .ok (.goto (-243), 3) := dk_167 255 13 (dk_at dksX5_makeTable_11 8 rfl rfl)
theorem dX5_makeTable_269 : decode cX5_makeTable 269 = .ok (.new 148, 3) := dk_187 0 148 (dk_at dksX5_makeTable_11 11 rfl rfl)
theorem dX5_makeTable_272 : decode cX5_makeTable 272 = .ok (.dup, 1) := dk_89 (dk_at dksX5_makeTable_11 14 rfl rfl)
theorem dX5_makeTable_273 : decode cX5_makeTable 273 = .ok (.iload_n 1, 1) := dk_27 (dk_at dksX5_makeTable_11 15 rfl rfl)
theorem dX5_makeTable_274 : decode cX5_makeTable 274 = .ok (.aload_n 0, 1) := dk_42 (dk_at dksX5_makeTable_11 16 rfl rfl)
theorem dX5_makeTable_275 : decode cX5_makeTable 275 = .ok (.getfield 48, 3) := dk_180 0 48 (dk_at dksX5_makeTable_11 17 rfl rfl)
theorem dX5_makeTable_278 : decode cX5_makeTable 278 = .ok (.iload_n 1, 1) := dk_27 (dk_at dksX5_makeTable_11 20 rfl rfl)
theorem dX5_makeTable_279 : decode cX5_makeTable 279 = .ok (.invokevirtual 164, 3) := dk_182 0 164 (dk_at dksX5_makeTable_11 21 rfl rfl)
theorem dX5_makeTable_282 : decode cX5_makeTable 282 = .ok (.iload_n 3, 1) := dk_29 (dk_at dksX5_makeTable_12 0 rfl rfl)
theorem dX5_makeTable_283 : decode cX5_makeTable 283 = .ok (.iconst (-1), 1) := dk_2 (dk_at dksX5_makeTable_12 1 rfl rfl)
theorem dX5_makeTable_284 : decode cX5_makeTable 284 = .ok (.if_icmp .ne 7, 3) := dk_160 0 7 (dk_at dksX5_makeTable_12 2 rfl rfl)
theorem dX5_makeTable_287 : decode cX5_makeTable 287 = .ok (.iload_n 3, 1) := dk_29 (dk_at dksX5_makeTable_12 5 rfl rfl)
theorem dX5_makeTable_288 : decode cX5_makeTable 288 = .ok (.goto 9, 3) := dk_167 0 9 (dk_at dksX5_makeTable_12 6 rfl rfl)
theorem dX5_makeTable_291 : decode cX5_makeTable 291 = .ok (.iload_n 3, 1) := dk_29 (dk_at dksX5_makeTable_12 9 rfl rfl)
theorem dX5_makeTable_292 : decode cX5_makeTable 292 = .ok (.bipush 16, 2) := dk_16 16 (dk_at dksX5_makeTable_12 10 rfl rfl)
theorem dX5_makeTable_294 : decode cX5_makeTable 294 = .ok (.invokestatic 171, 3) := dk_184 0 171 (dk_at dksX5_makeTable_12 12 rfl rfl)
theorem dX5_makeTable_297 : decode cX5_makeTable 297 = .ok (.iload 4, 2) := dk_21 4 (dk_at dksX5_makeTable_12 15 rfl rfl)
theorem dX5_makeTable_299 : decode cX5_makeTable 299 = .ok (.invokespecial 177, 3) := dk_183 0 177 (dk_at dksX5_makeTable_12 17 rfl rfl)
theorem dX5_makeTable_302 : decode cX5_makeTable 302 = .ok (.astore 7, 2) := dk_58 7 (dk_at dksX5_makeTable_12 20 rfl rfl)
theorem dX5_makeTable_304 : decode cX5_makeTable 304 = .ok (.aload_n 0, 1) := dk_42 (dk_at dksX5_makeTable_12 22 rfl rfl)
theorem dX5_makeTable_305 : decode cX5_makeTable 305 = .ok (.aload 7, 2) := dk_25 7 (dk_at dksX5_makeTable_13 0 rfl rfl)
theorem dX5_makeTable_307 : decode cX5_makeTable 307 = .ok (.invokevirtual 180, 3) := dk_182 0 180 (dk_at dksX5_makeTable_13 2 rfl rfl)
theorem dX5_makeTable_310 : decode cX5_makeTable 310 = .ok (.aload 7, 2) := dk_25 7 (dk_at dksX5_makeTable_13 5 rfl rfl)
theorem dX5_makeTable_312 : decode cX5_makeTable 312 = .ok (.areturn, 1) := dk_176 (dk_at dksX5_makeTable_13 7 rfl rfl)
abbrev cX5_before : ByteArray := prog_8_method_5_code
def yX5_before : MethodName := ⟨RX5, "before", "(I)I"⟩
def dkwX5_before_2 : List UInt8 := [21, 4, 167, 0, 4, 28, 61, 132, 3, 1, 167, 255, 202, 28, 172]
abbrev dktX5_before_2 : List UInt8 := dkwX5_before_2 ++ []
def dkwX5_before_1 : List UInt8 := [180, 0, 48, 21, 4, 182, 0, 123, 29, 160, 0, 20, 42, 180, 0, 48, 21, 4, 182, 0, 155, 154, 0, 8]
abbrev dktX5_before_1 : List UInt8 := dkwX5_before_1 ++ dktX5_before_2
def dkwX5_before_0 : List UInt8 := [2, 61, 4, 62, 29, 5, 163, 0, 55, 27, 29, 100, 54, 4, 42, 21, 4, 182, 0, 113, 153, 0, 33, 42]
abbrev dktX5_before_0 : List UInt8 := dkwX5_before_0 ++ dktX5_before_1
theorem dksX5_before_0 : cX5_before.data.toList.drop 0 = dktX5_before_0 := by decide +kernel
theorem dksX5_before_1 : cX5_before.data.toList.drop 24 = dktX5_before_1 := dk_seg dksX5_before_0 24 rfl rfl
theorem dksX5_before_2 : cX5_before.data.toList.drop 48 = dktX5_before_2 := dk_seg dksX5_before_1 24 rfl rfl
theorem dX5_before_0 : decode cX5_before 0 = .ok (.iconst (-1), 1) := dk_2 (dk_at dksX5_before_0 0 rfl rfl)
theorem dX5_before_1 : decode cX5_before 1 = .ok (.istore_n 2, 1) := dk_61 (dk_at dksX5_before_0 1 rfl rfl)
theorem dX5_before_2 : decode cX5_before 2 = .ok (.iconst 1, 1) := dk_4 (dk_at dksX5_before_0 2 rfl rfl)
theorem dX5_before_3 : decode cX5_before 3 = .ok (.istore_n 3, 1) := dk_62 (dk_at dksX5_before_0 3 rfl rfl)
theorem dX5_before_4 : decode cX5_before 4 = .ok (.iload_n 3, 1) := dk_29 (dk_at dksX5_before_0 4 rfl rfl)
theorem dX5_before_5 : decode cX5_before 5 = .ok (.iconst 2, 1) := dk_5 (dk_at dksX5_before_0 5 rfl rfl)
theorem dX5_before_6 : decode cX5_before 6 = .ok (.if_icmp .gt 55, 3) := dk_163 0 55 (dk_at dksX5_before_0 6 rfl rfl)
theorem dX5_before_9 : decode cX5_before 9 = .ok (.iload_n 1, 1) := dk_27 (dk_at dksX5_before_0 9 rfl rfl)
theorem dX5_before_10 : decode cX5_before 10 = .ok (.iload_n 3, 1) := dk_29 (dk_at dksX5_before_0 10 rfl rfl)
theorem dX5_before_11 : decode cX5_before 11 = .ok (.isub, 1) := dk_100 (dk_at dksX5_before_0 11 rfl rfl)
theorem dX5_before_12 : decode cX5_before 12 = .ok (.istore 4, 2) := dk_54 4 (dk_at dksX5_before_0 12 rfl rfl)
theorem dX5_before_14 : decode cX5_before 14 = .ok (.aload_n 0, 1) := dk_42 (dk_at dksX5_before_0 14 rfl rfl)
theorem dX5_before_15 : decode cX5_before 15 = .ok (.iload 4, 2) := dk_21 4 (dk_at dksX5_before_0 15 rfl rfl)
theorem dX5_before_17 : decode cX5_before 17 = .ok (.invokevirtual 113, 3) := dk_182 0 113 (dk_at dksX5_before_0 17 rfl rfl)
theorem dX5_before_20 : decode cX5_before 20 = .ok (.ifCond .eq 33, 3) := dk_153 0 33 (dk_at dksX5_before_0 20 rfl rfl)
theorem dX5_before_23 : decode cX5_before 23 = .ok (.aload_n 0, 1) := dk_42 (dk_at dksX5_before_0 23 rfl rfl)
theorem dX5_before_24 : decode cX5_before 24 = .ok (.getfield 48, 3) := dk_180 0 48 (dk_at dksX5_before_1 0 rfl rfl)
theorem dX5_before_27 : decode cX5_before 27 = .ok (.iload 4, 2) := dk_21 4 (dk_at dksX5_before_1 3 rfl rfl)
theorem dX5_before_29 : decode cX5_before 29 = .ok (.invokevirtual 123, 3) := dk_182 0 123 (dk_at dksX5_before_1 5 rfl rfl)
theorem dX5_before_32 : decode cX5_before 32 = .ok (.iload_n 3, 1) := dk_29 (dk_at dksX5_before_1 8 rfl rfl)
theorem dX5_before_33 : decode cX5_before 33 = .ok (.if_icmp .ne 20, 3) := dk_160 0 20 (dk_at dksX5_before_1 9 rfl rfl)
theorem dX5_before_36 : decode cX5_before 36 = .ok (.aload_n 0, 1) := dk_42 (dk_at dksX5_before_1 12 rfl rfl)
theorem dX5_before_37 : decode cX5_before 37 = .ok (.getfield 48, 3) := dk_180 0 48 (dk_at dksX5_before_1 13 rfl rfl)
theorem dX5_before_40 : decode cX5_before 40 = .ok (.iload 4, 2) := dk_21 4 (dk_at dksX5_before_1 16 rfl rfl)
theorem dX5_before_42 : decode cX5_before 42 = .ok (.invokevirtual 155, 3) := dk_182 0 155 (dk_at dksX5_before_1 18 rfl rfl)
theorem dX5_before_45 : decode cX5_before 45 = .ok (.ifCond .ne 8, 3) := dk_154 0 8 (dk_at dksX5_before_1 21 rfl rfl)
theorem dX5_before_48 : decode cX5_before 48 = .ok (.iload 4, 2) := dk_21 4 (dk_at dksX5_before_2 0 rfl rfl)
theorem dX5_before_50 : decode cX5_before 50 = .ok (.goto 4, 3) := dk_167 0 4 (dk_at dksX5_before_2 2 rfl rfl)
theorem dX5_before_53 : decode cX5_before 53 = .ok (.iload_n 2, 1) := dk_28 (dk_at dksX5_before_2 5 rfl rfl)
theorem dX5_before_54 : decode cX5_before 54 = .ok (.istore_n 2, 1) := dk_61 (dk_at dksX5_before_2 6 rfl rfl)
theorem dX5_before_55 : decode cX5_before 55 = .ok (.iinc 3 1, 3) := dk_132 3 1 (dk_at dksX5_before_2 7 rfl rfl)
theorem dX5_before_58 : decode cX5_before 58 = .ok (.goto (-54), 3) := dk_167 255 202 (dk_at dksX5_before_2 10 rfl rfl)
theorem dX5_before_61 : decode cX5_before 61 = .ok (.iload_n 2, 1) := dk_28 (dk_at dksX5_before_2 13 rfl rfl)
theorem dX5_before_62 : decode cX5_before 62 = .ok (.ireturn, 1) := dk_172 (dk_at dksX5_before_2 14 rfl rfl)
abbrev cX5_takeEntries : ByteArray := prog_8_method_7_code
def yX5_takeEntries : MethodName := ⟨RX5, "takeEntries", "(LCodeRecovery$Table;)V"⟩
def dkwX5_takeEntries_6 : List UInt8 := [167, 255, 158, 177]
abbrev dktX5_takeEntries_6 : List UInt8 := dkwX5_takeEntries_6 ++ []
def dkwX5_takeEntries_5 : List UInt8 := [180, 0, 201, 21, 4, 46, 182, 0, 116, 154, 0, 4, 177, 42, 43, 21, 4, 182, 0, 191, 132, 3, 1]
abbrev dktX5_takeEntries_5 : List UInt8 := dkwX5_takeEntries_5 ++ dktX5_takeEntries_6
def dkwX5_takeEntries_4 : List UInt8 := [54, 5, 43, 180, 0, 195, 2, 160, 0, 29, 21, 5, 153, 0, 23, 42, 180, 0, 48, 42, 180, 0, 48]
abbrev dktX5_takeEntries_4 : List UInt8 := dkwX5_takeEntries_4 ++ dktX5_takeEntries_5
def dkwX5_takeEntries_3 : List UInt8 := [21, 4, 46, 4, 159, 0, 18, 42, 180, 0, 58, 21, 4, 46, 5, 159, 0, 7, 4, 167, 0, 4, 3]
abbrev dktX5_takeEntries_3 : List UInt8 := dkwX5_takeEntries_3 ++ dktX5_takeEntries_4
def dkwX5_takeEntries_2 : List UInt8 := [43, 180, 0, 188, 29, 96, 54, 4, 42, 180, 0, 48, 21, 4, 182, 0, 198, 153, 0, 29, 42, 180, 0, 58]
abbrev dktX5_takeEntries_2 : List UInt8 := dkwX5_takeEntries_2 ++ dktX5_takeEntries_3
def dkwX5_takeEntries_1 : List UInt8 := [180, 0, 195, 2, 160, 0, 8, 16, 8, 167, 0, 7, 43, 180, 0, 195, 61, 3, 62, 29, 28, 162, 0, 99]
abbrev dktX5_takeEntries_1 : List UInt8 := dkwX5_takeEntries_1 ++ dktX5_takeEntries_2
def dkwX5_takeEntries_0 : List UInt8 := [43, 180, 0, 184, 155, 0, 18, 42, 43, 43, 180, 0, 188, 43, 180, 0, 184, 96, 182, 0, 191, 177, 43]
abbrev dktX5_takeEntries_0 : List UInt8 := dkwX5_takeEntries_0 ++ dktX5_takeEntries_1
theorem dksX5_takeEntries_0 : cX5_takeEntries.data.toList.drop 0 = dktX5_takeEntries_0 := by decide +kernel
theorem dksX5_takeEntries_1 : cX5_takeEntries.data.toList.drop 23 = dktX5_takeEntries_1 := dk_seg dksX5_takeEntries_0 23 rfl rfl
theorem dksX5_takeEntries_2 : cX5_takeEntries.data.toList.drop 47 = dktX5_takeEntries_2 := dk_seg dksX5_takeEntries_1 24 rfl rfl
theorem dksX5_takeEntries_3 : cX5_takeEntries.data.toList.drop 71 = dktX5_takeEntries_3 := dk_seg dksX5_takeEntries_2 24 rfl rfl
theorem dksX5_takeEntries_4 : cX5_takeEntries.data.toList.drop 94 = dktX5_takeEntries_4 := dk_seg dksX5_takeEntries_3 23 rfl rfl
theorem dksX5_takeEntries_5 : cX5_takeEntries.data.toList.drop 117 = dktX5_takeEntries_5 := dk_seg dksX5_takeEntries_4 23 rfl rfl
theorem dksX5_takeEntries_6 : cX5_takeEntries.data.toList.drop 140 = dktX5_takeEntries_6 := dk_seg dksX5_takeEntries_5 23 rfl rfl
theorem dX5_takeEntries_0 : decode cX5_takeEntries 0 = .ok (.aload_n 1, 1) := dk_43 (dk_at dksX5_takeEntries_0 0 rfl rfl)
theorem dX5_takeEntries_1 : decode cX5_takeEntries 1 = .ok (.getfield 184, 3) := dk_180 0 184 (dk_at dksX5_takeEntries_0 1 rfl rfl)
theorem dX5_takeEntries_4 : decode cX5_takeEntries 4 = .ok (.ifCond .lt 18, 3) := dk_155 0 18 (dk_at dksX5_takeEntries_0 4 rfl rfl)
theorem dX5_takeEntries_7 : decode cX5_takeEntries 7 = .ok (.aload_n 0, 1) := dk_42 (dk_at dksX5_takeEntries_0 7 rfl rfl)
theorem dX5_takeEntries_8 : decode cX5_takeEntries 8 = .ok (.aload_n 1, 1) := dk_43 (dk_at dksX5_takeEntries_0 8 rfl rfl)
theorem dX5_takeEntries_9 : decode cX5_takeEntries 9 = .ok (.aload_n 1, 1) := dk_43 (dk_at dksX5_takeEntries_0 9 rfl rfl)
theorem dX5_takeEntries_10 : decode cX5_takeEntries 10 = .ok (.getfield 188, 3) := dk_180 0 188 (dk_at dksX5_takeEntries_0 10 rfl rfl)
theorem dX5_takeEntries_13 : decode cX5_takeEntries 13 = .ok (.aload_n 1, 1) := dk_43 (dk_at dksX5_takeEntries_0 13 rfl rfl)
theorem dX5_takeEntries_14 : decode cX5_takeEntries 14 = .ok (.getfield 184, 3) := dk_180 0 184 (dk_at dksX5_takeEntries_0 14 rfl rfl)
theorem dX5_takeEntries_17 : decode cX5_takeEntries 17 = .ok (.iadd, 1) := dk_96 (dk_at dksX5_takeEntries_0 17 rfl rfl)
theorem dX5_takeEntries_18 : decode cX5_takeEntries 18 = .ok (.invokevirtual 191, 3) := dk_182 0 191 (dk_at dksX5_takeEntries_0 18 rfl rfl)
theorem dX5_takeEntries_21 : decode cX5_takeEntries 21 = .ok (.return_, 1) := dk_177 (dk_at dksX5_takeEntries_0 21 rfl rfl)
theorem dX5_takeEntries_22 : decode cX5_takeEntries 22 = .ok (.aload_n 1, 1) := dk_43 (dk_at dksX5_takeEntries_0 22 rfl rfl)
theorem dX5_takeEntries_23 : decode cX5_takeEntries 23 = .ok (.getfield 195, 3) := dk_180 0 195 (dk_at dksX5_takeEntries_1 0 rfl rfl)
theorem dX5_takeEntries_26 : decode cX5_takeEntries 26 = .ok (.iconst (-1), 1) := dk_2 (dk_at dksX5_takeEntries_1 3 rfl rfl)
theorem dX5_takeEntries_27 : decode cX5_takeEntries 27 = .ok (.if_icmp .ne 8, 3) := dk_160 0 8 (dk_at dksX5_takeEntries_1 4 rfl rfl)
theorem dX5_takeEntries_30 : decode cX5_takeEntries 30 = .ok (.bipush 8, 2) := dk_16 8 (dk_at dksX5_takeEntries_1 7 rfl rfl)
theorem dX5_takeEntries_32 : decode cX5_takeEntries 32 = .ok (.goto 7, 3) := dk_167 0 7 (dk_at dksX5_takeEntries_1 9 rfl rfl)
theorem dX5_takeEntries_35 : decode cX5_takeEntries 35 = .ok (.aload_n 1, 1) := dk_43 (dk_at dksX5_takeEntries_1 12 rfl rfl)
theorem dX5_takeEntries_36 : decode cX5_takeEntries 36 = .ok (.getfield 195, 3) := dk_180 0 195 (dk_at dksX5_takeEntries_1 13 rfl rfl)
theorem dX5_takeEntries_39 : decode cX5_takeEntries 39 = .ok (.istore_n 2, 1) := dk_61 (dk_at dksX5_takeEntries_1 16 rfl rfl)
theorem dX5_takeEntries_40 : decode cX5_takeEntries 40 = .ok (.iconst 0, 1) := dk_3 (dk_at dksX5_takeEntries_1 17 rfl rfl)
theorem dX5_takeEntries_41 : decode cX5_takeEntries 41 = .ok (.istore_n 3, 1) := dk_62 (dk_at dksX5_takeEntries_1 18 rfl rfl)
theorem dX5_takeEntries_42 : decode cX5_takeEntries 42 = .ok (.iload_n 3, 1) := dk_29 (dk_at dksX5_takeEntries_1 19 rfl rfl)
theorem dX5_takeEntries_43 : decode cX5_takeEntries 43 = .ok (.iload_n 2, 1) := dk_28 (dk_at dksX5_takeEntries_1 20 rfl rfl)
theorem dX5_takeEntries_44 : decode cX5_takeEntries 44 = .ok (.if_icmp .ge 99, 3) := dk_162 0 99 (dk_at dksX5_takeEntries_1 21 rfl rfl)
theorem dX5_takeEntries_47 : decode cX5_takeEntries 47 = .ok (.aload_n 1, 1) := dk_43 (dk_at dksX5_takeEntries_2 0 rfl rfl)
theorem dX5_takeEntries_48 : decode cX5_takeEntries 48 = .ok (.getfield 188, 3) := dk_180 0 188 (dk_at dksX5_takeEntries_2 1 rfl rfl)
theorem dX5_takeEntries_51 : decode cX5_takeEntries 51 = .ok (.iload_n 3, 1) := dk_29 (dk_at dksX5_takeEntries_2 4 rfl rfl)
theorem dX5_takeEntries_52 : decode cX5_takeEntries 52 = .ok (.iadd, 1) := dk_96 (dk_at dksX5_takeEntries_2 5 rfl rfl)
theorem dX5_takeEntries_53 : decode cX5_takeEntries 53 = .ok (.istore 4, 2) := dk_54 4 (dk_at dksX5_takeEntries_2 6 rfl rfl)
theorem dX5_takeEntries_55 : decode cX5_takeEntries 55 = .ok (.aload_n 0, 1) := dk_42 (dk_at dksX5_takeEntries_2 8 rfl rfl)
theorem dX5_takeEntries_56 : decode cX5_takeEntries 56 = .ok (.getfield 48, 3) := dk_180 0 48 (dk_at dksX5_takeEntries_2 9 rfl rfl)
theorem dX5_takeEntries_59 : decode cX5_takeEntries 59 = .ok (.iload 4, 2) := dk_21 4 (dk_at dksX5_takeEntries_2 12 rfl rfl)
theorem dX5_takeEntries_61 : decode cX5_takeEntries 61 = .ok (.invokevirtual 198, 3) := dk_182 0 198 (dk_at dksX5_takeEntries_2 14 rfl rfl)
theorem dX5_takeEntries_64 : decode cX5_takeEntries 64 = .ok (.ifCond .eq 29, 3) := dk_153 0 29 (dk_at dksX5_takeEntries_2 17 rfl rfl)
theorem dX5_takeEntries_67 : decode cX5_takeEntries 67 = .ok (.aload_n 0, 1) := dk_42 (dk_at dksX5_takeEntries_2 20 rfl rfl)
theorem dX5_takeEntries_68 : decode cX5_takeEntries 68 = .ok (.getfield 58, 3) := dk_180 0 58 (dk_at dksX5_takeEntries_2 21 rfl rfl)
theorem dX5_takeEntries_71 : decode cX5_takeEntries 71 = .ok (.iload 4, 2) := dk_21 4 (dk_at dksX5_takeEntries_3 0 rfl rfl)
theorem dX5_takeEntries_73 : decode cX5_takeEntries 73 = .ok (.iaload, 1) := dk_46 (dk_at dksX5_takeEntries_3 2 rfl rfl)
theorem dX5_takeEntries_74 : decode cX5_takeEntries 74 = .ok (.iconst 1, 1) := dk_4 (dk_at dksX5_takeEntries_3 3 rfl rfl)
theorem dX5_takeEntries_75 : decode cX5_takeEntries 75 = .ok (.if_icmp .eq 18, 3) := dk_159 0 18 (dk_at dksX5_takeEntries_3 4 rfl rfl)
theorem dX5_takeEntries_78 : decode cX5_takeEntries 78 = .ok (.aload_n 0, 1) := dk_42 (dk_at dksX5_takeEntries_3 7 rfl rfl)
theorem dX5_takeEntries_79 : decode cX5_takeEntries 79 = .ok (.getfield 58, 3) := dk_180 0 58 (dk_at dksX5_takeEntries_3 8 rfl rfl)
theorem dX5_takeEntries_82 : decode cX5_takeEntries 82 = .ok (.iload 4, 2) := dk_21 4 (dk_at dksX5_takeEntries_3 11 rfl rfl)
theorem dX5_takeEntries_84 : decode cX5_takeEntries 84 = .ok (.iaload, 1) := dk_46 (dk_at dksX5_takeEntries_3 13 rfl rfl)
theorem dX5_takeEntries_85 : decode cX5_takeEntries 85 = .ok (.iconst 2, 1) := dk_5 (dk_at dksX5_takeEntries_3 14 rfl rfl)
theorem dX5_takeEntries_86 : decode cX5_takeEntries 86 = .ok (.if_icmp .eq 7, 3) := dk_159 0 7 (dk_at dksX5_takeEntries_3 15 rfl rfl)
theorem dX5_takeEntries_89 : decode cX5_takeEntries 89 = .ok (.iconst 1, 1) := dk_4 (dk_at dksX5_takeEntries_3 18 rfl rfl)
theorem dX5_takeEntries_90 : decode cX5_takeEntries 90 = .ok (.goto 4, 3) := dk_167 0 4 (dk_at dksX5_takeEntries_3 19 rfl rfl)
theorem dX5_takeEntries_93 : decode cX5_takeEntries 93 = .ok (.iconst 0, 1) := dk_3 (dk_at dksX5_takeEntries_3 22 rfl rfl)
theorem dX5_takeEntries_94 : decode cX5_takeEntries 94 = .ok (.istore 5, 2) := dk_54 5 (dk_at dksX5_takeEntries_4 0 rfl rfl)
theorem dX5_takeEntries_96 : decode cX5_takeEntries 96 = .ok (.aload_n 1, 1) := dk_43 (dk_at dksX5_takeEntries_4 2 rfl rfl)
theorem dX5_takeEntries_97 : decode cX5_takeEntries 97 = .ok (.getfield 195, 3) := dk_180 0 195 (dk_at dksX5_takeEntries_4 3 rfl rfl)
theorem dX5_takeEntries_100 : decode cX5_takeEntries 100 = .ok (.iconst (-1), 1) := dk_2 (dk_at dksX5_takeEntries_4 6 rfl rfl)
theorem dX5_takeEntries_101 : decode cX5_takeEntries 101 = .ok (.if_icmp .ne 29, 3) := dk_160 0 29 (dk_at dksX5_takeEntries_4 7 rfl rfl)
theorem dX5_takeEntries_104 : decode cX5_takeEntries 104 = .ok (.iload 5, 2) := dk_21 5 (dk_at dksX5_takeEntries_4 10 rfl rfl)
theorem dX5_takeEntries_106 : decode cX5_takeEntries 106 = .ok (.ifCond .eq 23, 3) := dk_153 0 23 (dk_at dksX5_takeEntries_4 12 rfl rfl)
theorem dX5_takeEntries_109 : decode cX5_takeEntries 109 = .ok (.aload_n 0, 1) := dk_42 (dk_at dksX5_takeEntries_4 15 rfl rfl)
theorem dX5_takeEntries_110 : decode cX5_takeEntries 110 = .ok (.getfield 48, 3) := dk_180 0 48 (dk_at dksX5_takeEntries_4 16 rfl rfl)
theorem dX5_takeEntries_113 : decode cX5_takeEntries 113 = .ok (.aload_n 0, 1) := dk_42 (dk_at dksX5_takeEntries_4 19 rfl rfl)
theorem dX5_takeEntries_114 : decode cX5_takeEntries 114 = .ok (.getfield 48, 3) := dk_180 0 48 (dk_at dksX5_takeEntries_4 20 rfl rfl)
theorem dX5_takeEntries_117 : decode cX5_takeEntries 117 = .ok (.getfield 201, 3) := dk_180 0 201 (dk_at dksX5_takeEntries_5 0 rfl rfl)
theorem dX5_takeEntries_120 : decode cX5_takeEntries 120 = .ok (.iload 4, 2) := dk_21 4 (dk_at dksX5_takeEntries_5 3 rfl rfl)
theorem dX5_takeEntries_122 : decode cX5_takeEntries 122 = .ok (.iaload, 1) := dk_46 (dk_at dksX5_takeEntries_5 5 rfl rfl)
theorem dX5_takeEntries_123 : decode cX5_takeEntries 123 = .ok (.invokevirtual 116, 3) := dk_182 0 116 (dk_at dksX5_takeEntries_5 6 rfl rfl)
theorem dX5_takeEntries_126 : decode cX5_takeEntries 126 = .ok (.ifCond .ne 4, 3) := dk_154 0 4 (dk_at dksX5_takeEntries_5 9 rfl rfl)
theorem dX5_takeEntries_129 : decode cX5_takeEntries 129 = .ok (.return_, 1) := dk_177 (dk_at dksX5_takeEntries_5 12 rfl rfl)
theorem dX5_takeEntries_130 : decode cX5_takeEntries 130 = .ok (.aload_n 0, 1) := dk_42 (dk_at dksX5_takeEntries_5 13 rfl rfl)
theorem dX5_takeEntries_131 : decode cX5_takeEntries 131 = .ok (.aload_n 1, 1) := dk_43 (dk_at dksX5_takeEntries_5 14 rfl rfl)
theorem dX5_takeEntries_132 : decode cX5_takeEntries 132 = .ok (.iload 4, 2) := dk_21 4 (dk_at dksX5_takeEntries_5 15 rfl rfl)
theorem dX5_takeEntries_134 : decode cX5_takeEntries 134 = .ok (.invokevirtual 191, 3) := dk_182 0 191 (dk_at dksX5_takeEntries_5 17 rfl rfl)
theorem dX5_takeEntries_137 : decode cX5_takeEntries 137 = .ok (.iinc 3 1, 3) := dk_132 3 1 (dk_at dksX5_takeEntries_5 20 rfl rfl)
theorem dX5_takeEntries_140 : decode cX5_takeEntries 140 = .ok (.goto (-98), 3) := dk_167 255 158 (dk_at dksX5_takeEntries_6 0 rfl rfl)
theorem dX5_takeEntries_143 : decode cX5_takeEntries 143 = .ok (.return_, 1) := dk_177 (dk_at dksX5_takeEntries_6 3 rfl rfl)
abbrev cX5_takeEntry : ByteArray := prog_8_method_8_code
def yX5_takeEntry : MethodName := ⟨RX5, "takeEntry", "(LCodeRecovery$Table;I)V"⟩
def dkwX5_takeEntry_2 : List UInt8 := [184, 0, 65, 182, 0, 146, 87, 42, 180, 0, 58, 28, 6, 79, 177]
abbrev dktX5_takeEntry_2 : List UInt8 := dkwX5_takeEntry_2 ++ []
def dkwX5_takeEntry_1 : List UInt8 := [180, 0, 58, 28, 46, 5, 159, 0, 30, 43, 180, 0, 147, 42, 180, 0, 48, 180, 0, 201, 28, 46]
abbrev dktX5_takeEntry_1 : List UInt8 := dkwX5_takeEntry_1 ++ dktX5_takeEntry_2
def dkwX5_takeEntry_0 : List UInt8 := [42, 180, 0, 48, 28, 182, 0, 198, 153, 0, 50, 42, 180, 0, 58, 28, 46, 4, 159, 0, 40, 42]
abbrev dktX5_takeEntry_0 : List UInt8 := dkwX5_takeEntry_0 ++ dktX5_takeEntry_1
theorem dksX5_takeEntry_0 : cX5_takeEntry.data.toList.drop 0 = dktX5_takeEntry_0 := by decide +kernel
theorem dksX5_takeEntry_1 : cX5_takeEntry.data.toList.drop 22 = dktX5_takeEntry_1 := dk_seg dksX5_takeEntry_0 22 rfl rfl
theorem dksX5_takeEntry_2 : cX5_takeEntry.data.toList.drop 44 = dktX5_takeEntry_2 := dk_seg dksX5_takeEntry_1 22 rfl rfl
theorem dX5_takeEntry_0 : decode cX5_takeEntry 0 = .ok (.aload_n 0, 1) := dk_42 (dk_at dksX5_takeEntry_0 0 rfl rfl)
theorem dX5_takeEntry_1 : decode cX5_takeEntry 1 = .ok (.getfield 48, 3) := dk_180 0 48 (dk_at dksX5_takeEntry_0 1 rfl rfl)
theorem dX5_takeEntry_4 : decode cX5_takeEntry 4 = .ok (.iload_n 2, 1) := dk_28 (dk_at dksX5_takeEntry_0 4 rfl rfl)
theorem dX5_takeEntry_5 : decode cX5_takeEntry 5 = .ok (.invokevirtual 198, 3) := dk_182 0 198 (dk_at dksX5_takeEntry_0 5 rfl rfl)
theorem dX5_takeEntry_8 : decode cX5_takeEntry 8 = .ok (.ifCond .eq 50, 3) := dk_153 0 50 (dk_at dksX5_takeEntry_0 8 rfl rfl)
theorem dX5_takeEntry_11 : decode cX5_takeEntry 11 = .ok (.aload_n 0, 1) := dk_42 (dk_at dksX5_takeEntry_0 11 rfl rfl)
theorem dX5_takeEntry_12 : decode cX5_takeEntry 12 = .ok (.getfield 58, 3) := dk_180 0 58 (dk_at dksX5_takeEntry_0 12 rfl rfl)
theorem dX5_takeEntry_15 : decode cX5_takeEntry 15 = .ok (.iload_n 2, 1) := dk_28 (dk_at dksX5_takeEntry_0 15 rfl rfl)
theorem dX5_takeEntry_16 : decode cX5_takeEntry 16 = .ok (.iaload, 1) := dk_46 (dk_at dksX5_takeEntry_0 16 rfl rfl)
theorem dX5_takeEntry_17 : decode cX5_takeEntry 17 = .ok (.iconst 1, 1) := dk_4 (dk_at dksX5_takeEntry_0 17 rfl rfl)
theorem dX5_takeEntry_18 : decode cX5_takeEntry 18 = .ok (.if_icmp .eq 40, 3) := dk_159 0 40 (dk_at dksX5_takeEntry_0 18 rfl rfl)
theorem dX5_takeEntry_21 : decode cX5_takeEntry 21 = .ok (.aload_n 0, 1) := dk_42 (dk_at dksX5_takeEntry_0 21 rfl rfl)
theorem dX5_takeEntry_22 : decode cX5_takeEntry 22 = .ok (.getfield 58, 3) := dk_180 0 58 (dk_at dksX5_takeEntry_1 0 rfl rfl)
theorem dX5_takeEntry_25 : decode cX5_takeEntry 25 = .ok (.iload_n 2, 1) := dk_28 (dk_at dksX5_takeEntry_1 3 rfl rfl)
theorem dX5_takeEntry_26 : decode cX5_takeEntry 26 = .ok (.iaload, 1) := dk_46 (dk_at dksX5_takeEntry_1 4 rfl rfl)
theorem dX5_takeEntry_27 : decode cX5_takeEntry 27 = .ok (.iconst 2, 1) := dk_5 (dk_at dksX5_takeEntry_1 5 rfl rfl)
theorem dX5_takeEntry_28 : decode cX5_takeEntry 28 = .ok (.if_icmp .eq 30, 3) := dk_159 0 30 (dk_at dksX5_takeEntry_1 6 rfl rfl)
theorem dX5_takeEntry_31 : decode cX5_takeEntry 31 = .ok (.aload_n 1, 1) := dk_43 (dk_at dksX5_takeEntry_1 9 rfl rfl)
theorem dX5_takeEntry_32 : decode cX5_takeEntry 32 = .ok (.getfield 147, 3) := dk_180 0 147 (dk_at dksX5_takeEntry_1 10 rfl rfl)
theorem dX5_takeEntry_35 : decode cX5_takeEntry 35 = .ok (.aload_n 0, 1) := dk_42 (dk_at dksX5_takeEntry_1 13 rfl rfl)
theorem dX5_takeEntry_36 : decode cX5_takeEntry 36 = .ok (.getfield 48, 3) := dk_180 0 48 (dk_at dksX5_takeEntry_1 14 rfl rfl)
theorem dX5_takeEntry_39 : decode cX5_takeEntry 39 = .ok (.getfield 201, 3) := dk_180 0 201 (dk_at dksX5_takeEntry_1 17 rfl rfl)
theorem dX5_takeEntry_42 : decode cX5_takeEntry 42 = .ok (.iload_n 2, 1) := dk_28 (dk_at dksX5_takeEntry_1 20 rfl rfl)
theorem dX5_takeEntry_43 : decode cX5_takeEntry 43 = .ok (.iaload, 1) := dk_46 (dk_at dksX5_takeEntry_1 21 rfl rfl)
theorem dX5_takeEntry_44 : decode cX5_takeEntry 44 = .ok (.invokestatic 65, 3) := dk_184 0 65 (dk_at dksX5_takeEntry_2 0 rfl rfl)
theorem dX5_takeEntry_47 : decode cX5_takeEntry 47 = .ok (.invokevirtual 146, 3) := dk_182 0 146 (dk_at dksX5_takeEntry_2 3 rfl rfl)
theorem dX5_takeEntry_50 : decode cX5_takeEntry 50 = .ok (.pop, 1) := dk_87 (dk_at dksX5_takeEntry_2 6 rfl rfl)
theorem dX5_takeEntry_51 : decode cX5_takeEntry 51 = .ok (.aload_n 0, 1) := dk_42 (dk_at dksX5_takeEntry_2 7 rfl rfl)
theorem dX5_takeEntry_52 : decode cX5_takeEntry 52 = .ok (.getfield 58, 3) := dk_180 0 58 (dk_at dksX5_takeEntry_2 8 rfl rfl)
theorem dX5_takeEntry_55 : decode cX5_takeEntry 55 = .ok (.iload_n 2, 1) := dk_28 (dk_at dksX5_takeEntry_2 11 rfl rfl)
theorem dX5_takeEntry_56 : decode cX5_takeEntry 56 = .ok (.iconst 3, 1) := dk_6 (dk_at dksX5_takeEntry_2 12 rfl rfl)
theorem dX5_takeEntry_57 : decode cX5_takeEntry 57 = .ok (.iastore, 1) := dk_79 (dk_at dksX5_takeEntry_2 13 rfl rfl)
theorem dX5_takeEntry_58 : decode cX5_takeEntry 58 = .ok (.return_, 1) := dk_177 (dk_at dksX5_takeEntry_2 14 rfl rfl)
abbrev cX5_findGaps : ByteArray := prog_8_method_9_code
def yX5_findGaps : MethodName := ⟨RX5, "findGaps", "()V"⟩
def dkwX5_findGaps_2 : List UInt8 := [27, 28, 27, 100, 183, 0, 204, 182, 0, 146, 87, 28, 4, 96, 60, 132, 2, 1, 167, 255, 195, 177]
abbrev dktX5_findGaps_2 : List UInt8 := dkwX5_findGaps_2 ++ []
def dkwX5_findGaps_1 : List UInt8 := [159, 0, 11, 42, 28, 182, 0, 126, 153, 0, 31, 28, 27, 164, 0, 22, 42, 180, 0, 35, 187, 0, 98, 89]
abbrev dktX5_findGaps_1 : List UInt8 := dkwX5_findGaps_1 ++ dktX5_findGaps_2
def dkwX5_findGaps_0 : List UInt8 := [3, 60, 3, 61, 28, 42, 180, 0, 48, 182, 0, 52, 163, 0, 56, 28, 42, 180, 0, 48, 182, 0, 52]
abbrev dktX5_findGaps_0 : List UInt8 := dkwX5_findGaps_0 ++ dktX5_findGaps_1
theorem dksX5_findGaps_0 : cX5_findGaps.data.toList.drop 0 = dktX5_findGaps_0 := by decide +kernel
theorem dksX5_findGaps_1 : cX5_findGaps.data.toList.drop 23 = dktX5_findGaps_1 := dk_seg dksX5_findGaps_0 23 rfl rfl
theorem dksX5_findGaps_2 : cX5_findGaps.data.toList.drop 47 = dktX5_findGaps_2 := dk_seg dksX5_findGaps_1 24 rfl rfl
theorem dX5_findGaps_0 : decode cX5_findGaps 0 = .ok (.iconst 0, 1) := dk_3 (dk_at dksX5_findGaps_0 0 rfl rfl)
theorem dX5_findGaps_1 : decode cX5_findGaps 1 = .ok (.istore_n 1, 1) := dk_60 (dk_at dksX5_findGaps_0 1 rfl rfl)
theorem dX5_findGaps_2 : decode cX5_findGaps 2 = .ok (.iconst 0, 1) := dk_3 (dk_at dksX5_findGaps_0 2 rfl rfl)
theorem dX5_findGaps_3 : decode cX5_findGaps 3 = .ok (.istore_n 2, 1) := dk_61 (dk_at dksX5_findGaps_0 3 rfl rfl)
theorem dX5_findGaps_4 : decode cX5_findGaps 4 = .ok (.iload_n 2, 1) := dk_28 (dk_at dksX5_findGaps_0 4 rfl rfl)
theorem dX5_findGaps_5 : decode cX5_findGaps 5 = .ok (.aload_n 0, 1) := dk_42 (dk_at dksX5_findGaps_0 5 rfl rfl)
theorem dX5_findGaps_6 : decode cX5_findGaps 6 = .ok (.getfield 48, 3) := dk_180 0 48 (dk_at dksX5_findGaps_0 6 rfl rfl)
theorem dX5_findGaps_9 : decode cX5_findGaps 9 = .ok (.invokevirtual 52, 3) := dk_182 0 52 (dk_at dksX5_findGaps_0 9 rfl rfl)
theorem dX5_findGaps_12 : decode cX5_findGaps 12 = .ok (.if_icmp .gt 56, 3) := dk_163 0 56 (dk_at dksX5_findGaps_0 12 rfl rfl)
theorem dX5_findGaps_15 : decode cX5_findGaps 15 = .ok (.iload_n 2, 1) := dk_28 (dk_at dksX5_findGaps_0 15 rfl rfl)
theorem dX5_findGaps_16 : decode cX5_findGaps 16 = .ok (.aload_n 0, 1) := dk_42 (dk_at dksX5_findGaps_0 16 rfl rfl)
theorem dX5_findGaps_17 : decode cX5_findGaps 17 = .ok (.getfield 48, 3) := dk_180 0 48 (dk_at dksX5_findGaps_0 17 rfl rfl)
theorem dX5_findGaps_20 : decode cX5_findGaps 20 = .ok (.invokevirtual 52, 3) := dk_182 0 52 (dk_at dksX5_findGaps_0 20 rfl rfl)
theorem dX5_findGaps_23 : decode cX5_findGaps 23 = .ok (.if_icmp .eq 11, 3) := dk_159 0 11 (dk_at dksX5_findGaps_1 0 rfl rfl)
theorem dX5_findGaps_26 : decode cX5_findGaps 26 = .ok (.aload_n 0, 1) := dk_42 (dk_at dksX5_findGaps_1 3 rfl rfl)
theorem dX5_findGaps_27 : decode cX5_findGaps 27 = .ok (.iload_n 2, 1) := dk_28 (dk_at dksX5_findGaps_1 4 rfl rfl)
theorem dX5_findGaps_28 : decode cX5_findGaps 28 = .ok (.invokevirtual 126, 3) := dk_182 0 126 (dk_at dksX5_findGaps_1 5 rfl rfl)
theorem dX5_findGaps_31 : decode cX5_findGaps 31 = .ok (.ifCond .eq 31, 3) := dk_153 0 31 (dk_at dksX5_findGaps_1 8 rfl rfl)
theorem dX5_findGaps_34 : decode cX5_findGaps 34 = .ok (.iload_n 2, 1) := dk_28 (dk_at dksX5_findGaps_1 11 rfl rfl)
theorem dX5_findGaps_35 : decode cX5_findGaps 35 = .ok (.iload_n 1, 1) := dk_27 (dk_at dksX5_findGaps_1 12 rfl rfl)
theorem dX5_findGaps_36 : decode cX5_findGaps 36 = .ok (.if_icmp .le 22, 3) := dk_164 0 22 (dk_at dksX5_findGaps_1 13 rfl rfl)
theorem dX5_findGaps_39 : decode cX5_findGaps 39 = .ok (.aload_n 0, 1) := dk_42 (dk_at dksX5_findGaps_1 16 rfl rfl)
theorem dX5_findGaps_40 : decode cX5_findGaps 40 = .ok (.getfield 35, 3) := dk_180 0 35 (dk_at dksX5_findGaps_1 17 rfl rfl)
theorem dX5_findGaps_43 : decode cX5_findGaps 43 = .ok (.new 98, 3) := dk_187 0 98 (dk_at dksX5_findGaps_1 20 rfl rfl)
theorem dX5_findGaps_46 : decode cX5_findGaps 46 = .ok (.dup, 1) := dk_89 (dk_at dksX5_findGaps_1 23 rfl rfl)
theorem dX5_findGaps_47 : decode cX5_findGaps 47 = .ok (.iload_n 1, 1) := dk_27 (dk_at dksX5_findGaps_2 0 rfl rfl)
theorem dX5_findGaps_48 : decode cX5_findGaps 48 = .ok (.iload_n 2, 1) := dk_28 (dk_at dksX5_findGaps_2 1 rfl rfl)
theorem dX5_findGaps_49 : decode cX5_findGaps 49 = .ok (.iload_n 1, 1) := dk_27 (dk_at dksX5_findGaps_2 2 rfl rfl)
theorem dX5_findGaps_50 : decode cX5_findGaps 50 = .ok (.isub, 1) := dk_100 (dk_at dksX5_findGaps_2 3 rfl rfl)
theorem dX5_findGaps_51 : decode cX5_findGaps 51 = .ok (.invokespecial 204, 3) := dk_183 0 204 (dk_at dksX5_findGaps_2 4 rfl rfl)
theorem dX5_findGaps_54 : decode cX5_findGaps 54 = .ok (.invokevirtual 146, 3) := dk_182 0 146 (dk_at dksX5_findGaps_2 7 rfl rfl)
theorem dX5_findGaps_57 : decode cX5_findGaps 57 = .ok (.pop, 1) := dk_87 (dk_at dksX5_findGaps_2 10 rfl rfl)
theorem dX5_findGaps_58 : decode cX5_findGaps 58 = .ok (.iload_n 2, 1) := dk_28 (dk_at dksX5_findGaps_2 11 rfl rfl)
theorem dX5_findGaps_59 : decode cX5_findGaps 59 = .ok (.iconst 1, 1) := dk_4 (dk_at dksX5_findGaps_2 12 rfl rfl)
theorem dX5_findGaps_60 : decode cX5_findGaps 60 = .ok (.iadd, 1) := dk_96 (dk_at dksX5_findGaps_2 13 rfl rfl)
theorem dX5_findGaps_61 : decode cX5_findGaps 61 = .ok (.istore_n 1, 1) := dk_60 (dk_at dksX5_findGaps_2 14 rfl rfl)
theorem dX5_findGaps_62 : decode cX5_findGaps 62 = .ok (.iinc 2 1, 3) := dk_132 2 1 (dk_at dksX5_findGaps_2 15 rfl rfl)
theorem dX5_findGaps_65 : decode cX5_findGaps 65 = .ok (.goto (-61), 3) := dk_167 255 195 (dk_at dksX5_findGaps_2 18 rfl rfl)
theorem dX5_findGaps_68 : decode cX5_findGaps 68 = .ok (.return_, 1) := dk_177 (dk_at dksX5_findGaps_2 21 rfl rfl)
abbrev cX5_test : ByteArray := prog_8_method_10_code
def yX5_test : MethodName := ⟨RX5, "test", "(LCodeRecovery$Gap;)V"⟩
def dkwX5_test_9 : List UInt8 := [21, 5, 181, 0, 217, 177]
abbrev dktX5_test_9 : List UInt8 := dkwX5_test_9 ++ []
def dkwX5_test_8 : List UInt8 := [154, 0, 4, 177, 44, 21, 7, 4, 96, 182, 0, 211, 54, 7, 167, 255, 196, 43, 21, 4, 181, 0, 214, 43]
abbrev dktX5_test_8 : List UInt8 := dkwX5_test_8 ++ dktX5_test_9
def dkwX5_test_7 : List UInt8 := [21, 7, 182, 0, 136, 182, 0, 113, 154, 0, 20, 44, 42, 180, 0, 48, 21, 7, 182, 0, 136, 182, 0, 110]
abbrev dktX5_test_7 : List UInt8 := dkwX5_test_7 ++ dktX5_test_8
def dkwX5_test_6 : List UInt8 := [54, 7, 21, 7, 155, 0, 61, 42, 180, 0, 48, 21, 7, 182, 0, 133, 153, 0, 36, 42, 42, 180, 0, 48]
abbrev dktX5_test_6 : List UInt8 := dkwX5_test_6 ++ dktX5_test_7
def dkwX5_test_5 : List UInt8 := [182, 0, 155, 54, 6, 29, 42, 180, 0, 48, 29, 182, 0, 123, 96, 62, 167, 255, 145, 44, 3, 182, 0, 211]
abbrev dktX5_test_5 : List UInt8 := dkwX5_test_5 ++ dktX5_test_6
def dkwX5_test_4 : List UInt8 := [182, 0, 133, 153, 0, 7, 5, 167, 0, 4, 3, 96, 96, 54, 4, 132, 5, 1, 42, 180, 0, 48, 29]
abbrev dktX5_test_4 : List UInt8 := dkwX5_test_4 ++ dktX5_test_5
def dkwX5_test_3 : List UInt8 := [42, 180, 0, 48, 29, 182, 0, 139, 16, 7, 160, 0, 7, 6, 167, 0, 19, 42, 180, 0, 48, 29]
abbrev dktX5_test_3 : List UInt8 := dkwX5_test_3 ++ dktX5_test_4
def dkwX5_test_2 : List UInt8 := [180, 0, 48, 29, 182, 0, 123, 96, 43, 182, 0, 208, 164, 0, 4, 177, 44, 29, 182, 0, 129, 21, 4, 4]
abbrev dktX5_test_2 : List UInt8 := dkwX5_test_2 ++ dktX5_test_3
def dkwX5_test_1 : List UInt8 := [154, 0, 112, 29, 43, 182, 0, 208, 162, 0, 31, 42, 180, 0, 48, 29, 182, 0, 116, 153, 0, 20, 29, 42]
abbrev dktX5_test_1 : List UInt8 := dkwX5_test_1 ++ dktX5_test_2
def dkwX5_test_0 : List UInt8 := [187, 0, 41, 89, 183, 0, 43, 77, 43, 180, 0, 207, 62, 3, 54, 4, 3, 54, 5, 3, 54, 6, 21, 6]
abbrev dktX5_test_0 : List UInt8 := dkwX5_test_0 ++ dktX5_test_1
theorem dksX5_test_0 : cX5_test.data.toList.drop 0 = dktX5_test_0 := by decide +kernel
theorem dksX5_test_1 : cX5_test.data.toList.drop 24 = dktX5_test_1 := dk_seg dksX5_test_0 24 rfl rfl
theorem dksX5_test_2 : cX5_test.data.toList.drop 48 = dktX5_test_2 := dk_seg dksX5_test_1 24 rfl rfl
theorem dksX5_test_3 : cX5_test.data.toList.drop 72 = dktX5_test_3 := dk_seg dksX5_test_2 24 rfl rfl
theorem dksX5_test_4 : cX5_test.data.toList.drop 94 = dktX5_test_4 := dk_seg dksX5_test_3 22 rfl rfl
theorem dksX5_test_5 : cX5_test.data.toList.drop 117 = dktX5_test_5 := dk_seg dksX5_test_4 23 rfl rfl
theorem dksX5_test_6 : cX5_test.data.toList.drop 141 = dktX5_test_6 := dk_seg dksX5_test_5 24 rfl rfl
theorem dksX5_test_7 : cX5_test.data.toList.drop 165 = dktX5_test_7 := dk_seg dksX5_test_6 24 rfl rfl
theorem dksX5_test_8 : cX5_test.data.toList.drop 189 = dktX5_test_8 := dk_seg dksX5_test_7 24 rfl rfl
theorem dksX5_test_9 : cX5_test.data.toList.drop 213 = dktX5_test_9 := dk_seg dksX5_test_8 24 rfl rfl
theorem dX5_test_0 : decode cX5_test 0 = .ok (.new 41, 3) := dk_187 0 41 (dk_at dksX5_test_0 0 rfl rfl)
theorem dX5_test_3 : decode cX5_test 3 = .ok (.dup, 1) := dk_89 (dk_at dksX5_test_0 3 rfl rfl)
theorem dX5_test_4 : decode cX5_test 4 = .ok (.invokespecial 43, 3) := dk_183 0 43 (dk_at dksX5_test_0 4 rfl rfl)
theorem dX5_test_7 : decode cX5_test 7 = .ok (.astore_n 2, 1) := dk_77 (dk_at dksX5_test_0 7 rfl rfl)
theorem dX5_test_8 : decode cX5_test 8 = .ok (.aload_n 1, 1) := dk_43 (dk_at dksX5_test_0 8 rfl rfl)
theorem dX5_test_9 : decode cX5_test 9 = .ok (.getfield 207, 3) := dk_180 0 207 (dk_at dksX5_test_0 9 rfl rfl)
theorem dX5_test_12 : decode cX5_test 12 = .ok (.istore_n 3, 1) := dk_62 (dk_at dksX5_test_0 12 rfl rfl)
theorem dX5_test_13 : decode cX5_test 13 = .ok (.iconst 0, 1) := dk_3 (dk_at dksX5_test_0 13 rfl rfl)
theorem dX5_test_14 : decode cX5_test 14 = .ok (.istore 4, 2) := dk_54 4 (dk_at dksX5_test_0 14 rfl rfl)
theorem dX5_test_16 : decode cX5_test 16 = .ok (.iconst 0, 1) := dk_3 (dk_at dksX5_test_0 16 rfl rfl)
theorem dX5_test_17 : decode cX5_test 17 = .ok (.istore 5, 2) := dk_54 5 (dk_at dksX5_test_0 17 rfl rfl)
theorem dX5_test_19 : decode cX5_test 19 = .ok (.iconst 0, 1) := dk_3 (dk_at dksX5_test_0 19 rfl rfl)
theorem dX5_test_20 : decode cX5_test 20 = .ok (.istore 6, 2) := dk_54 6 (dk_at dksX5_test_0 20 rfl rfl)
theorem dX5_test_22 : decode cX5_test 22 = .ok (.iload 6, 2) := dk_21 6 (dk_at dksX5_test_0 22 rfl rfl)
theorem dX5_test_24 : decode cX5_test 24 = .ok (.ifCond .ne 112, 3) := dk_154 0 112 (dk_at dksX5_test_1 0 rfl rfl)
theorem dX5_test_27 : decode cX5_test 27 = .ok (.iload_n 3, 1) := dk_29 (dk_at dksX5_test_1 3 rfl rfl)
theorem dX5_test_28 : decode cX5_test 28 = .ok (.aload_n 1, 1) := dk_43 (dk_at dksX5_test_1 4 rfl rfl)
theorem dX5_test_29 : decode cX5_test 29 = .ok (.invokevirtual 208, 3) := dk_182 0 208 (dk_at dksX5_test_1 5 rfl rfl)
theorem dX5_test_32 : decode cX5_test 32 = .ok (.if_icmp .ge 31, 3) := dk_162 0 31 (dk_at dksX5_test_1 8 rfl rfl)
theorem dX5_test_35 : decode cX5_test 35 = .ok (.aload_n 0, 1) := dk_42 (dk_at dksX5_test_1 11 rfl rfl)
theorem dX5_test_36 : decode cX5_test 36 = .ok (.getfield 48, 3) := dk_180 0 48 (dk_at dksX5_test_1 12 rfl rfl)
theorem dX5_test_39 : decode cX5_test 39 = .ok (.iload_n 3, 1) := dk_29 (dk_at dksX5_test_1 15 rfl rfl)
theorem dX5_test_40 : decode cX5_test 40 = .ok (.invokevirtual 116, 3) := dk_182 0 116 (dk_at dksX5_test_1 16 rfl rfl)
theorem dX5_test_43 : decode cX5_test 43 = .ok (.ifCond .eq 20, 3) := dk_153 0 20 (dk_at dksX5_test_1 19 rfl rfl)
theorem dX5_test_46 : decode cX5_test 46 = .ok (.iload_n 3, 1) := dk_29 (dk_at dksX5_test_1 22 rfl rfl)
theorem dX5_test_47 : decode cX5_test 47 = .ok (.aload_n 0, 1) := dk_42 (dk_at dksX5_test_1 23 rfl rfl)
theorem dX5_test_48 : decode cX5_test 48 = .ok (.getfield 48, 3) := dk_180 0 48 (dk_at dksX5_test_2 0 rfl rfl)
theorem dX5_test_51 : decode cX5_test 51 = .ok (.iload_n 3, 1) := dk_29 (dk_at dksX5_test_2 3 rfl rfl)
theorem dX5_test_52 : decode cX5_test 52 = .ok (.invokevirtual 123, 3) := dk_182 0 123 (dk_at dksX5_test_2 4 rfl rfl)
theorem dX5_test_55 : decode cX5_test 55 = .ok (.iadd, 1) := dk_96 (dk_at dksX5_test_2 7 rfl rfl)
theorem dX5_test_56 : decode cX5_test 56 = .ok (.aload_n 1, 1) := dk_43 (dk_at dksX5_test_2 8 rfl rfl)
theorem dX5_test_57 : decode cX5_test 57 = .ok (.invokevirtual 208, 3) := dk_182 0 208 (dk_at dksX5_test_2 9 rfl rfl)
theorem dX5_test_60 : decode cX5_test 60 = .ok (.if_icmp .le 4, 3) := dk_164 0 4 (dk_at dksX5_test_2 12 rfl rfl)
theorem dX5_test_63 : decode cX5_test 63 = .ok (.return_, 1) := dk_177 (dk_at dksX5_test_2 15 rfl rfl)
theorem dX5_test_64 : decode cX5_test 64 = .ok (.aload_n 2, 1) := dk_44 (dk_at dksX5_test_2 16 rfl rfl)
theorem dX5_test_65 : decode cX5_test 65 = .ok (.iload_n 3, 1) := dk_29 (dk_at dksX5_test_2 17 rfl rfl)
theorem dX5_test_66 : decode cX5_test 66 = .ok (.invokevirtual 129, 3) := dk_182 0 129 (dk_at dksX5_test_2 18 rfl rfl)
theorem dX5_test_69 : decode cX5_test 69 = .ok (.iload 4, 2) := dk_21 4 (dk_at dksX5_test_2 21 rfl rfl)
theorem dX5_test_71 : decode cX5_test 71 = .ok (.iconst 1, 1) := dk_4 (dk_at dksX5_test_2 23 rfl rfl)
theorem dX5_test_72 : decode cX5_test 72 = .ok (.aload_n 0, 1) := dk_42 (dk_at dksX5_test_3 0 rfl rfl)
theorem dX5_test_73 : decode cX5_test 73 = .ok (.getfield 48, 3) := dk_180 0 48 (dk_at dksX5_test_3 1 rfl rfl)
theorem dX5_test_76 : decode cX5_test 76 = .ok (.iload_n 3, 1) := dk_29 (dk_at dksX5_test_3 4 rfl rfl)
theorem dX5_test_77 : decode cX5_test 77 = .ok (.invokevirtual 139, 3) := dk_182 0 139 (dk_at dksX5_test_3 5 rfl rfl)
theorem dX5_test_80 : decode cX5_test 80 = .ok (.bipush 7, 2) := dk_16 7 (dk_at dksX5_test_3 8 rfl rfl)
theorem dX5_test_82 : decode cX5_test 82 = .ok (.if_icmp .ne 7, 3) := dk_160 0 7 (dk_at dksX5_test_3 10 rfl rfl)
theorem dX5_test_85 : decode cX5_test 85 = .ok (.iconst 3, 1) := dk_6 (dk_at dksX5_test_3 13 rfl rfl)
theorem dX5_test_86 : decode cX5_test 86 = .ok (.goto 19, 3) := dk_167 0 19 (dk_at dksX5_test_3 14 rfl rfl)
theorem dX5_test_89 : decode cX5_test 89 = .ok (.aload_n 0, 1) := dk_42 (dk_at dksX5_test_3 17 rfl rfl)
theorem dX5_test_90 : decode cX5_test 90 = .ok (.getfield 48, 3) := dk_180 0 48 (dk_at dksX5_test_3 18 rfl rfl)
theorem dX5_test_93 : decode cX5_test 93 = .ok (.iload_n 3, 1) := dk_29 (dk_at dksX5_test_3 21 rfl rfl)
theorem dX5_test_94 : decode cX5_test 94 = .ok (.invokevirtual 133, 3) := dk_182 0 133 (dk_at dksX5_test_4 0 rfl rfl)
theorem dX5_test_97 : decode cX5_test 97 = .ok (.ifCond .eq 7, 3) := dk_153 0 7 (dk_at dksX5_test_4 3 rfl rfl)
theorem dX5_test_100 : decode cX5_test 100 = .ok (.iconst 2, 1) := dk_5 (dk_at dksX5_test_4 6 rfl rfl)
theorem dX5_test_101 : decode cX5_test 101 = .ok (.goto 4, 3) := dk_167 0 4 (dk_at dksX5_test_4 7 rfl rfl)
theorem dX5_test_104 : decode cX5_test 104 = .ok (.iconst 0, 1) := dk_3 (dk_at dksX5_test_4 10 rfl rfl)
theorem dX5_test_105 : decode cX5_test 105 = .ok (.iadd, 1) := dk_96 (dk_at dksX5_test_4 11 rfl rfl)
theorem dX5_test_106 : decode cX5_test 106 = .ok (.iadd, 1) := dk_96 (dk_at dksX5_test_4 12 rfl rfl)
theorem dX5_test_107 : decode cX5_test 107 = .ok (.istore 4, 2) := dk_54 4 (dk_at dksX5_test_4 13 rfl rfl)
theorem dX5_test_109 : decode cX5_test 109 = .ok (.iinc 5 1, 3) := dk_132 5 1 (dk_at dksX5_test_4 15 rfl rfl)
theorem dX5_test_112 : decode cX5_test 112 = .ok (.aload_n 0, 1) := dk_42 (dk_at dksX5_test_4 18 rfl rfl)
theorem dX5_test_113 : decode cX5_test 113 = .ok (.getfield 48, 3) := dk_180 0 48 (dk_at dksX5_test_4 19 rfl rfl)
theorem dX5_test_116 : decode cX5_test 116 = .ok (.iload_n 3, 1) := dk_29 (dk_at dksX5_test_4 22 rfl rfl)
theorem dX5_test_117 : decode cX5_test 117 = .ok (.invokevirtual 155, 3) := dk_182 0 155 (dk_at dksX5_test_5 0 rfl rfl)
theorem dX5_test_120 : decode cX5_test 120 = .ok (.istore 6, 2) := dk_54 6 (dk_at dksX5_test_5 3 rfl rfl)
theorem dX5_test_122 : decode cX5_test 122 = .ok (.iload_n 3, 1) := dk_29 (dk_at dksX5_test_5 5 rfl rfl)
theorem dX5_test_123 : decode cX5_test 123 = .ok (.aload_n 0, 1) := dk_42 (dk_at dksX5_test_5 6 rfl rfl)
theorem dX5_test_124 : decode cX5_test 124 = .ok (.getfield 48, 3) := dk_180 0 48 (dk_at dksX5_test_5 7 rfl rfl)
theorem dX5_test_127 : decode cX5_test 127 = .ok (.iload_n 3, 1) := dk_29 (dk_at dksX5_test_5 10 rfl rfl)
theorem dX5_test_128 : decode cX5_test 128 = .ok (.invokevirtual 123, 3) := dk_182 0 123 (dk_at dksX5_test_5 11 rfl rfl)
theorem dX5_test_131 : decode cX5_test 131 = .ok (.iadd, 1) := dk_96 (dk_at dksX5_test_5 14 rfl rfl)
theorem dX5_test_132 : decode cX5_test 132 = .ok (.istore_n 3, 1) := dk_62 (dk_at dksX5_test_5 15 rfl rfl)
theorem dX5_test_133 : decode cX5_test 133 = .ok (.goto (-111), 3) := dk_167 255 145 (dk_at dksX5_test_5 16 rfl rfl)
theorem dX5_test_136 : decode cX5_test 136 = .ok (.aload_n 2, 1) := dk_44 (dk_at dksX5_test_5 19 rfl rfl)
theorem dX5_test_137 : decode cX5_test 137 = .ok (.iconst 0, 1) := dk_3 (dk_at dksX5_test_5 20 rfl rfl)
theorem dX5_test_138 : decode cX5_test 138 = .ok (.invokevirtual 211, 3) := dk_182 0 211 (dk_at dksX5_test_5 21 rfl rfl)
theorem dX5_test_141 : decode cX5_test 141 = .ok (.istore 7, 2) := dk_54 7 (dk_at dksX5_test_6 0 rfl rfl)
theorem dX5_test_143 : decode cX5_test 143 = .ok (.iload 7, 2) := dk_21 7 (dk_at dksX5_test_6 2 rfl rfl)
theorem dX5_test_145 : decode cX5_test 145 = .ok (.ifCond .lt 61, 3) := dk_155 0 61 (dk_at dksX5_test_6 4 rfl rfl)
theorem dX5_test_148 : decode cX5_test 148 = .ok (.aload_n 0, 1) := dk_42 (dk_at dksX5_test_6 7 rfl rfl)
theorem dX5_test_149 : decode cX5_test 149 = .ok (.getfield 48, 3) := dk_180 0 48 (dk_at dksX5_test_6 8 rfl rfl)
theorem dX5_test_152 : decode cX5_test 152 = .ok (.iload 7, 2) := dk_21 7 (dk_at dksX5_test_6 11 rfl rfl)
theorem dX5_test_154 : decode cX5_test 154 = .ok (.invokevirtual 133, 3) := dk_182 0 133 (dk_at dksX5_test_6 13 rfl rfl)
theorem dX5_test_157 : decode cX5_test 157 = .ok (.ifCond .eq 36, 3) := dk_153 0 36 (dk_at dksX5_test_6 16 rfl rfl)
theorem dX5_test_160 : decode cX5_test 160 = .ok (.aload_n 0, 1) := dk_42 (dk_at dksX5_test_6 19 rfl rfl)
theorem dX5_test_161 : decode cX5_test 161 = .ok (.aload_n 0, 1) := dk_42 (dk_at dksX5_test_6 20 rfl rfl)
theorem dX5_test_162 : decode cX5_test 162 = .ok (.getfield 48, 3) := dk_180 0 48 (dk_at dksX5_test_6 21 rfl rfl)
theorem dX5_test_165 : decode cX5_test 165 = .ok (.iload 7, 2) := dk_21 7 (dk_at dksX5_test_7 0 rfl rfl)
theorem dX5_test_167 : decode cX5_test 167 = .ok (.invokevirtual 136, 3) := dk_182 0 136 (dk_at dksX5_test_7 2 rfl rfl)
theorem dX5_test_170 : decode cX5_test 170 = .ok (.invokevirtual 113, 3) := dk_182 0 113 (dk_at dksX5_test_7 5 rfl rfl)
theorem dX5_test_173 : decode cX5_test 173 = .ok (.ifCond .ne 20, 3) := dk_154 0 20 (dk_at dksX5_test_7 8 rfl rfl)
theorem dX5_test_176 : decode cX5_test 176 = .ok (.aload_n 2, 1) := dk_44 (dk_at dksX5_test_7 11 rfl rfl)
theorem dX5_test_177 : decode cX5_test 177 = .ok (.aload_n 0, 1) := dk_42 (dk_at dksX5_test_7 12 rfl rfl)
theorem dX5_test_178 : decode cX5_test 178 = .ok (.getfield 48, 3) := dk_180 0 48 (dk_at dksX5_test_7 13 rfl rfl)
theorem dX5_test_181 : decode cX5_test 181 = .ok (.iload 7, 2) := dk_21 7 (dk_at dksX5_test_7 16 rfl rfl)
theorem dX5_test_183 : decode cX5_test 183 = .ok (.invokevirtual 136, 3) := dk_182 0 136 (dk_at dksX5_test_7 18 rfl rfl)
theorem dX5_test_186 : decode cX5_test 186 = .ok (.invokevirtual 110, 3) := dk_182 0 110 (dk_at dksX5_test_7 21 rfl rfl)
theorem dX5_test_189 : decode cX5_test 189 = .ok (.ifCond .ne 4, 3) := dk_154 0 4 (dk_at dksX5_test_8 0 rfl rfl)
theorem dX5_test_192 : decode cX5_test 192 = .ok (.return_, 1) := dk_177 (dk_at dksX5_test_8 3 rfl rfl)
theorem dX5_test_193 : decode cX5_test 193 = .ok (.aload_n 2, 1) := dk_44 (dk_at dksX5_test_8 4 rfl rfl)
theorem dX5_test_194 : decode cX5_test 194 = .ok (.iload 7, 2) := dk_21 7 (dk_at dksX5_test_8 5 rfl rfl)
theorem dX5_test_196 : decode cX5_test 196 = .ok (.iconst 1, 1) := dk_4 (dk_at dksX5_test_8 7 rfl rfl)
theorem dX5_test_197 : decode cX5_test 197 = .ok (.iadd, 1) := dk_96 (dk_at dksX5_test_8 8 rfl rfl)
theorem dX5_test_198 : decode cX5_test 198 = .ok (.invokevirtual 211, 3) := dk_182 0 211 (dk_at dksX5_test_8 9 rfl rfl)
theorem dX5_test_201 : decode cX5_test 201 = .ok (.istore 7, 2) := dk_54 7 (dk_at dksX5_test_8 12 rfl rfl)
theorem dX5_test_203 : decode cX5_test 203 = .ok (.goto (-60), 3) := dk_167 255 196 (dk_at dksX5_test_8 14 rfl rfl)
theorem dX5_test_206 : decode cX5_test 206 = .ok (.aload_n 1, 1) := dk_43 (dk_at dksX5_test_8 17 rfl rfl)
theorem dX5_test_207 : decode cX5_test 207 = .ok (.iload 4, 2) := dk_21 4 (dk_at dksX5_test_8 18 rfl rfl)
theorem dX5_test_209 : decode cX5_test 209 = .ok (.putfield 214, 3) := dk_181 0 214 (dk_at dksX5_test_8 20 rfl rfl)
theorem dX5_test_212 : decode cX5_test 212 = .ok (.aload_n 1, 1) := dk_43 (dk_at dksX5_test_8 23 rfl rfl)
theorem dX5_test_213 : decode cX5_test 213 = .ok (.iload 5, 2) := dk_21 5 (dk_at dksX5_test_9 0 rfl rfl)
theorem dX5_test_215 : decode cX5_test 215 = .ok (.putfield 217, 3) := dk_181 0 217 (dk_at dksX5_test_9 2 rfl rfl)
theorem dX5_test_218 : decode cX5_test 218 = .ok (.return_, 1) := dk_177 (dk_at dksX5_test_9 5 rfl rfl)
abbrev cX5_speculate : ByteArray := prog_8_method_11_code
def yX5_speculate : MethodName := ⟨RX5, "speculate", "(LCodeRecovery$Gap;)V"⟩
def dkwX5_speculate_3 : List UInt8 := [132, 3, 1, 167, 255, 192, 177]
abbrev dktX5_speculate_3 : List UInt8 := dkwX5_speculate_3 ++ []
def dkwX5_speculate_2 : List UInt8 := [160, 0, 12, 42, 180, 0, 58, 28, 4, 96, 8, 79, 28, 42, 180, 0, 48, 28, 182, 0, 123, 96, 61]
abbrev dktX5_speculate_2 : List UInt8 := dkwX5_speculate_2 ++ dktX5_speculate_3
def dkwX5_speculate_1 : List UInt8 := [180, 0, 220, 161, 0, 48, 42, 180, 0, 58, 28, 7, 79, 42, 180, 0, 48, 28, 182, 0, 123, 5]
abbrev dktX5_speculate_1 : List UInt8 := dkwX5_speculate_1 ++ dktX5_speculate_2
def dkwX5_speculate_0 : List UInt8 := [43, 180, 0, 207, 61, 3, 62, 29, 43, 180, 0, 217, 162, 0, 62, 43, 180, 0, 214, 42, 180, 0, 48]
abbrev dktX5_speculate_0 : List UInt8 := dkwX5_speculate_0 ++ dktX5_speculate_1
theorem dksX5_speculate_0 : cX5_speculate.data.toList.drop 0 = dktX5_speculate_0 := by decide +kernel
theorem dksX5_speculate_1 : cX5_speculate.data.toList.drop 23 = dktX5_speculate_1 := dk_seg dksX5_speculate_0 23 rfl rfl
theorem dksX5_speculate_2 : cX5_speculate.data.toList.drop 45 = dktX5_speculate_2 := dk_seg dksX5_speculate_1 22 rfl rfl
theorem dksX5_speculate_3 : cX5_speculate.data.toList.drop 68 = dktX5_speculate_3 := dk_seg dksX5_speculate_2 23 rfl rfl
theorem dX5_speculate_0 : decode cX5_speculate 0 = .ok (.aload_n 1, 1) := dk_43 (dk_at dksX5_speculate_0 0 rfl rfl)
theorem dX5_speculate_1 : decode cX5_speculate 1 = .ok (.getfield 207, 3) := dk_180 0 207 (dk_at dksX5_speculate_0 1 rfl rfl)
theorem dX5_speculate_4 : decode cX5_speculate 4 = .ok (.istore_n 2, 1) := dk_61 (dk_at dksX5_speculate_0 4 rfl rfl)
theorem dX5_speculate_5 : decode cX5_speculate 5 = .ok (.iconst 0, 1) := dk_3 (dk_at dksX5_speculate_0 5 rfl rfl)
theorem dX5_speculate_6 : decode cX5_speculate 6 = .ok (.istore_n 3, 1) := dk_62 (dk_at dksX5_speculate_0 6 rfl rfl)
theorem dX5_speculate_7 : decode cX5_speculate 7 = .ok (.iload_n 3, 1) := dk_29 (dk_at dksX5_speculate_0 7 rfl rfl)
theorem dX5_speculate_8 : decode cX5_speculate 8 = .ok (.aload_n 1, 1) := dk_43 (dk_at dksX5_speculate_0 8 rfl rfl)
theorem dX5_speculate_9 : decode cX5_speculate 9 = .ok (.getfield 217, 3) := dk_180 0 217 (dk_at dksX5_speculate_0 9 rfl rfl)
theorem dX5_speculate_12 : decode cX5_speculate 12 = .ok (.if_icmp .ge 62, 3) := dk_162 0 62 (dk_at dksX5_speculate_0 12 rfl rfl)
theorem dX5_speculate_15 : decode cX5_speculate 15 = .ok (.aload_n 1, 1) := dk_43 (dk_at dksX5_speculate_0 15 rfl rfl)
theorem dX5_speculate_16 : decode cX5_speculate 16 = .ok (.getfield 214, 3) := dk_180 0 214 (dk_at dksX5_speculate_0 16 rfl rfl)
theorem dX5_speculate_19 : decode cX5_speculate 19 = .ok (.aload_n 0, 1) := dk_42 (dk_at dksX5_speculate_0 19 rfl rfl)
theorem dX5_speculate_20 : decode cX5_speculate 20 = .ok (.getfield 48, 3) := dk_180 0 48 (dk_at dksX5_speculate_0 20 rfl rfl)
theorem dX5_speculate_23 : decode cX5_speculate 23 = .ok (.getfield 220, 3) := dk_180 0 220 (dk_at dksX5_speculate_1 0 rfl rfl)
theorem dX5_speculate_26 : decode cX5_speculate 26 = .ok (.if_icmp .lt 48, 3) := dk_161 0 48 (dk_at dksX5_speculate_1 3 rfl rfl)
theorem dX5_speculate_29 : decode cX5_speculate 29 = .ok (.aload_n 0, 1) := dk_42 (dk_at dksX5_speculate_1 6 rfl rfl)
theorem dX5_speculate_30 : decode cX5_speculate 30 = .ok (.getfield 58, 3) := dk_180 0 58 (dk_at dksX5_speculate_1 7 rfl rfl)
theorem dX5_speculate_33 : decode cX5_speculate 33 = .ok (.iload_n 2, 1) := dk_28 (dk_at dksX5_speculate_1 10 rfl rfl)
theorem dX5_speculate_34 : decode cX5_speculate 34 = .ok (.iconst 4, 1) := dk_7 (dk_at dksX5_speculate_1 11 rfl rfl)
theorem dX5_speculate_35 : decode cX5_speculate 35 = .ok (.iastore, 1) := dk_79 (dk_at dksX5_speculate_1 12 rfl rfl)
theorem dX5_speculate_36 : decode cX5_speculate 36 = .ok (.aload_n 0, 1) := dk_42 (dk_at dksX5_speculate_1 13 rfl rfl)
theorem dX5_speculate_37 : decode cX5_speculate 37 = .ok (.getfield 48, 3) := dk_180 0 48 (dk_at dksX5_speculate_1 14 rfl rfl)
theorem dX5_speculate_40 : decode cX5_speculate 40 = .ok (.iload_n 2, 1) := dk_28 (dk_at dksX5_speculate_1 17 rfl rfl)
theorem dX5_speculate_41 : decode cX5_speculate 41 = .ok (.invokevirtual 123, 3) := dk_182 0 123 (dk_at dksX5_speculate_1 18 rfl rfl)
theorem dX5_speculate_44 : decode cX5_speculate 44 = .ok (.iconst 2, 1) := dk_5 (dk_at dksX5_speculate_1 21 rfl rfl)
theorem dX5_speculate_45 : decode cX5_speculate 45 = .ok (.if_icmp .ne 12, 3) := dk_160 0 12 (dk_at dksX5_speculate_2 0 rfl rfl)
theorem dX5_speculate_48 : decode cX5_speculate 48 = .ok (.aload_n 0, 1) := dk_42 (dk_at dksX5_speculate_2 3 rfl rfl)
theorem dX5_speculate_49 : decode cX5_speculate 49 = .ok (.getfield 58, 3) := dk_180 0 58 (dk_at dksX5_speculate_2 4 rfl rfl)
theorem dX5_speculate_52 : decode cX5_speculate 52 = .ok (.iload_n 2, 1) := dk_28 (dk_at dksX5_speculate_2 7 rfl rfl)
theorem dX5_speculate_53 : decode cX5_speculate 53 = .ok (.iconst 1, 1) := dk_4 (dk_at dksX5_speculate_2 8 rfl rfl)
theorem dX5_speculate_54 : decode cX5_speculate 54 = .ok (.iadd, 1) := dk_96 (dk_at dksX5_speculate_2 9 rfl rfl)
theorem dX5_speculate_55 : decode cX5_speculate 55 = .ok (.iconst 5, 1) := dk_8 (dk_at dksX5_speculate_2 10 rfl rfl)
theorem dX5_speculate_56 : decode cX5_speculate 56 = .ok (.iastore, 1) := dk_79 (dk_at dksX5_speculate_2 11 rfl rfl)
theorem dX5_speculate_57 : decode cX5_speculate 57 = .ok (.iload_n 2, 1) := dk_28 (dk_at dksX5_speculate_2 12 rfl rfl)
theorem dX5_speculate_58 : decode cX5_speculate 58 = .ok (.aload_n 0, 1) := dk_42 (dk_at dksX5_speculate_2 13 rfl rfl)
theorem dX5_speculate_59 : decode cX5_speculate 59 = .ok (.getfield 48, 3) := dk_180 0 48 (dk_at dksX5_speculate_2 14 rfl rfl)
theorem dX5_speculate_62 : decode cX5_speculate 62 = .ok (.iload_n 2, 1) := dk_28 (dk_at dksX5_speculate_2 17 rfl rfl)
theorem dX5_speculate_63 : decode cX5_speculate 63 = .ok (.invokevirtual 123, 3) := dk_182 0 123 (dk_at dksX5_speculate_2 18 rfl rfl)
theorem dX5_speculate_66 : decode cX5_speculate 66 = .ok (.iadd, 1) := dk_96 (dk_at dksX5_speculate_2 21 rfl rfl)
theorem dX5_speculate_67 : decode cX5_speculate 67 = .ok (.istore_n 2, 1) := dk_61 (dk_at dksX5_speculate_2 22 rfl rfl)
theorem dX5_speculate_68 : decode cX5_speculate 68 = .ok (.iinc 3 1, 3) := dk_132 3 1 (dk_at dksX5_speculate_3 0 rfl rfl)
theorem dX5_speculate_71 : decode cX5_speculate 71 = .ok (.goto (-64), 3) := dk_167 255 192 (dk_at dksX5_speculate_3 3 rfl rfl)
theorem dX5_speculate_74 : decode cX5_speculate 74 = .ok (.return_, 1) := dk_177 (dk_at dksX5_speculate_3 6 rfl rfl)
abbrev cX5_findBlocks : ByteArray := prog_8_method_14_code
def yX5_findBlocks : MethodName := ⟨RX5, "findBlocks", "()V"⟩
def dkwX5_findBlocks_5 : List UInt8 := [87, 43, 28, 4, 96, 182, 0, 211, 61, 167, 255, 141, 177]
abbrev dktX5_findBlocks_5 : List UInt8 := dkwX5_findBlocks_5 ++ []
def dkwX5_findBlocks_4 : List UInt8 := [182, 0, 110, 154, 0, 7, 4, 167, 0, 4, 3, 54, 5, 167, 255, 180, 42, 180, 0, 38, 45, 182, 0, 146]
abbrev dktX5_findBlocks_4 : List UInt8 := dkwX5_findBlocks_4 ++ dktX5_findBlocks_5
def dkwX5_findBlocks_3 : List UInt8 := [182, 0, 123, 96, 54, 4, 21, 6, 154, 0, 25, 42, 21, 4, 182, 0, 113, 153, 0, 16, 43, 21, 4]
abbrev dktX5_findBlocks_3 : List UInt8 := dkwX5_findBlocks_3 ++ dktX5_findBlocks_4
def dkwX5_findBlocks_2 : List UInt8 := [181, 0, 239, 42, 180, 0, 48, 21, 4, 182, 0, 223, 54, 6, 21, 4, 42, 180, 0, 48, 21, 4]
abbrev dktX5_findBlocks_2 : List UInt8 := dkwX5_findBlocks_2 ++ dktX5_findBlocks_3
def dkwX5_findBlocks_1 : List UInt8 := [28, 54, 4, 4, 54, 5, 21, 5, 153, 0, 77, 45, 89, 180, 0, 238, 4, 96, 181, 0, 238, 45, 21, 4]
abbrev dktX5_findBlocks_1 : List UInt8 := dkwX5_findBlocks_1 ++ dktX5_findBlocks_2
def dkwX5_findBlocks_0 : List UInt8 := [42, 182, 0, 230, 76, 43, 3, 182, 0, 211, 61, 28, 155, 0, 117, 187, 0, 234, 89, 28, 183, 0, 236, 78]
abbrev dktX5_findBlocks_0 : List UInt8 := dkwX5_findBlocks_0 ++ dktX5_findBlocks_1
theorem dksX5_findBlocks_0 : cX5_findBlocks.data.toList.drop 0 = dktX5_findBlocks_0 := by decide +kernel
theorem dksX5_findBlocks_1 : cX5_findBlocks.data.toList.drop 24 = dktX5_findBlocks_1 := dk_seg dksX5_findBlocks_0 24 rfl rfl
theorem dksX5_findBlocks_2 : cX5_findBlocks.data.toList.drop 48 = dktX5_findBlocks_2 := dk_seg dksX5_findBlocks_1 24 rfl rfl
theorem dksX5_findBlocks_3 : cX5_findBlocks.data.toList.drop 70 = dktX5_findBlocks_3 := dk_seg dksX5_findBlocks_2 22 rfl rfl
theorem dksX5_findBlocks_4 : cX5_findBlocks.data.toList.drop 93 = dktX5_findBlocks_4 := dk_seg dksX5_findBlocks_3 23 rfl rfl
theorem dksX5_findBlocks_5 : cX5_findBlocks.data.toList.drop 117 = dktX5_findBlocks_5 := dk_seg dksX5_findBlocks_4 24 rfl rfl
theorem dX5_findBlocks_0 : decode cX5_findBlocks 0 = .ok (.aload_n 0, 1) := dk_42 (dk_at dksX5_findBlocks_0 0 rfl rfl)
theorem dX5_findBlocks_1 : decode cX5_findBlocks 1 = .ok (.invokevirtual 230, 3) := dk_182 0 230 (dk_at dksX5_findBlocks_0 1 rfl rfl)
theorem dX5_findBlocks_4 : decode cX5_findBlocks 4 = .ok (.astore_n 1, 1) := dk_76 (dk_at dksX5_findBlocks_0 4 rfl rfl)
theorem dX5_findBlocks_5 : decode cX5_findBlocks 5 = .ok (.aload_n 1, 1) := dk_43 (dk_at dksX5_findBlocks_0 5 rfl rfl)
theorem dX5_findBlocks_6 : decode cX5_findBlocks 6 = .ok (.iconst 0, 1) := dk_3 (dk_at dksX5_findBlocks_0 6 rfl rfl)
theorem dX5_findBlocks_7 : decode cX5_findBlocks 7 = .ok (.invokevirtual 211, 3) := dk_182 0 211 (dk_at dksX5_findBlocks_0 7 rfl rfl)
theorem dX5_findBlocks_10 : decode cX5_findBlocks 10 = .ok (.istore_n 2, 1) := dk_61 (dk_at dksX5_findBlocks_0 10 rfl rfl)
theorem dX5_findBlocks_11 : decode cX5_findBlocks 11 = .ok (.iload_n 2, 1) := dk_28 (dk_at dksX5_findBlocks_0 11 rfl rfl)
theorem dX5_findBlocks_12 : decode cX5_findBlocks 12 = .ok (.ifCond .lt 117, 3) := dk_155 0 117 (dk_at dksX5_findBlocks_0 12 rfl rfl)
theorem dX5_findBlocks_15 : decode cX5_findBlocks 15 = .ok (.new 234, 3) := dk_187 0 234 (dk_at dksX5_findBlocks_0 15 rfl rfl)
theorem dX5_findBlocks_18 : decode cX5_findBlocks 18 = .ok (.dup, 1) := dk_89 (dk_at dksX5_findBlocks_0 18 rfl rfl)
theorem dX5_findBlocks_19 : decode cX5_findBlocks 19 = .ok (.iload_n 2, 1) := dk_28 (dk_at dksX5_findBlocks_0 19 rfl rfl)
theorem dX5_findBlocks_20 : decode cX5_findBlocks 20 = .ok (.invokespecial 236, 3) := dk_183 0 236 (dk_at dksX5_findBlocks_0 20 rfl rfl)
theorem dX5_findBlocks_23 : decode cX5_findBlocks 23 = .ok (.astore_n 3, 1) := dk_78 (dk_at dksX5_findBlocks_0 23 rfl rfl)
theorem dX5_findBlocks_24 : decode cX5_findBlocks 24 = .ok (.iload_n 2, 1) := dk_28 (dk_at dksX5_findBlocks_1 0 rfl rfl)
theorem dX5_findBlocks_25 : decode cX5_findBlocks 25 = .ok (.istore 4, 2) := dk_54 4 (dk_at dksX5_findBlocks_1 1 rfl rfl)
theorem dX5_findBlocks_27 : decode cX5_findBlocks 27 = .ok (.iconst 1, 1) := dk_4 (dk_at dksX5_findBlocks_1 3 rfl rfl)
theorem dX5_findBlocks_28 : decode cX5_findBlocks 28 = .ok (.istore 5, 2) := dk_54 5 (dk_at dksX5_findBlocks_1 4 rfl rfl)
theorem dX5_findBlocks_30 : decode cX5_findBlocks 30 = .ok (.iload 5, 2) := dk_21 5 (dk_at dksX5_findBlocks_1 6 rfl rfl)
theorem dX5_findBlocks_32 : decode cX5_findBlocks 32 = .ok (.ifCond .eq 77, 3) := dk_153 0 77 (dk_at dksX5_findBlocks_1 8 rfl rfl)
theorem dX5_findBlocks_35 : decode cX5_findBlocks 35 = .ok (.aload_n 3, 1) := dk_45 (dk_at dksX5_findBlocks_1 11 rfl rfl)
theorem dX5_findBlocks_36 : decode cX5_findBlocks 36 = .ok (.dup, 1) := dk_89 (dk_at dksX5_findBlocks_1 12 rfl rfl)
theorem dX5_findBlocks_37 : decode cX5_findBlocks 37 = .ok (.getfield 238, 3) := dk_180 0 238 (dk_at dksX5_findBlocks_1 13 rfl rfl)
theorem dX5_findBlocks_40 : decode cX5_findBlocks 40 = .ok (.iconst 1, 1) := dk_4 (dk_at dksX5_findBlocks_1 16 rfl rfl)
theorem dX5_findBlocks_41 : decode cX5_findBlocks 41 = .ok (.iadd, 1) := dk_96 (dk_at dksX5_findBlocks_1 17 rfl rfl)
theorem dX5_findBlocks_42 : decode cX5_findBlocks 42 = .ok (.putfield 238, 3) := dk_181 0 238 (dk_at dksX5_findBlocks_1 18 rfl rfl)
theorem dX5_findBlocks_45 : decode cX5_findBlocks 45 = .ok (.aload_n 3, 1) := dk_45 (dk_at dksX5_findBlocks_1 21 rfl rfl)
theorem dX5_findBlocks_46 : decode cX5_findBlocks 46 = .ok (.iload 4, 2) := dk_21 4 (dk_at dksX5_findBlocks_1 22 rfl rfl)
theorem dX5_findBlocks_48 : decode cX5_findBlocks 48 = .ok (.putfield 239, 3) := dk_181 0 239 (dk_at dksX5_findBlocks_2 0 rfl rfl)
theorem dX5_findBlocks_51 : decode cX5_findBlocks 51 = .ok (.aload_n 0, 1) := dk_42 (dk_at dksX5_findBlocks_2 3 rfl rfl)
theorem dX5_findBlocks_52 : decode cX5_findBlocks 52 = .ok (.getfield 48, 3) := dk_180 0 48 (dk_at dksX5_findBlocks_2 4 rfl rfl)
theorem dX5_findBlocks_55 : decode cX5_findBlocks 55 = .ok (.iload 4, 2) := dk_21 4 (dk_at dksX5_findBlocks_2 7 rfl rfl)
theorem dX5_findBlocks_57 : decode cX5_findBlocks 57 = .ok (.invokevirtual 223, 3) := dk_182 0 223 (dk_at dksX5_findBlocks_2 9 rfl rfl)
theorem dX5_findBlocks_60 : decode cX5_findBlocks 60 = .ok (.istore 6, 2) := dk_54 6 (dk_at dksX5_findBlocks_2 12 rfl rfl)
theorem dX5_findBlocks_62 : decode cX5_findBlocks 62 = .ok (.iload 4, 2) := dk_21 4 (dk_at dksX5_findBlocks_2 14 rfl rfl)
theorem dX5_findBlocks_64 : decode cX5_findBlocks 64 = .ok (.aload_n 0, 1) := dk_42 (dk_at dksX5_findBlocks_2 16 rfl rfl)
theorem dX5_findBlocks_65 : decode cX5_findBlocks 65 = .ok (.getfield 48, 3) := dk_180 0 48 (dk_at dksX5_findBlocks_2 17 rfl rfl)
theorem dX5_findBlocks_68 : decode cX5_findBlocks 68 = .ok (.iload 4, 2) := dk_21 4 (dk_at dksX5_findBlocks_2 20 rfl rfl)
theorem dX5_findBlocks_70 : decode cX5_findBlocks 70 = .ok (.invokevirtual 123, 3) := dk_182 0 123 (dk_at dksX5_findBlocks_3 0 rfl rfl)
theorem dX5_findBlocks_73 : decode cX5_findBlocks 73 = .ok (.iadd, 1) := dk_96 (dk_at dksX5_findBlocks_3 3 rfl rfl)
theorem dX5_findBlocks_74 : decode cX5_findBlocks 74 = .ok (.istore 4, 2) := dk_54 4 (dk_at dksX5_findBlocks_3 4 rfl rfl)
theorem dX5_findBlocks_76 : decode cX5_findBlocks 76 = .ok (.iload 6, 2) := dk_21 6 (dk_at dksX5_findBlocks_3 6 rfl rfl)
theorem dX5_findBlocks_78 : decode cX5_findBlocks 78 = .ok (.ifCond .ne 25, 3) := dk_154 0 25 (dk_at dksX5_findBlocks_3 8 rfl rfl)
theorem dX5_findBlocks_81 : decode cX5_findBlocks 81 = .ok (.aload_n 0, 1) := dk_42 (dk_at dksX5_findBlocks_3 11 rfl rfl)
theorem dX5_findBlocks_82 : decode cX5_findBlocks 82 = .ok (.iload 4, 2) := dk_21 4 (dk_at dksX5_findBlocks_3 12 rfl rfl)
theorem dX5_findBlocks_84 : decode cX5_findBlocks 84 = .ok (.invokevirtual 113, 3) := dk_182 0 113 (dk_at dksX5_findBlocks_3 14 rfl rfl)
theorem dX5_findBlocks_87 : decode cX5_findBlocks 87 = .ok (.ifCond .eq 16, 3) := dk_153 0 16 (dk_at dksX5_findBlocks_3 17 rfl rfl)
theorem dX5_findBlocks_90 : decode cX5_findBlocks 90 = .ok (.aload_n 1, 1) := dk_43 (dk_at dksX5_findBlocks_3 20 rfl rfl)
theorem dX5_findBlocks_91 : decode cX5_findBlocks 91 = .ok (.iload 4, 2) := dk_21 4 (dk_at dksX5_findBlocks_3 21 rfl rfl)
theorem dX5_findBlocks_93 : decode cX5_findBlocks 93 = .ok (.invokevirtual 110, 3) := dk_182 0 110 (dk_at dksX5_findBlocks_4 0 rfl rfl)
theorem dX5_findBlocks_96 : decode cX5_findBlocks 96 = .ok (.ifCond .ne 7, 3) := dk_154 0 7 (dk_at dksX5_findBlocks_4 3 rfl rfl)
theorem dX5_findBlocks_99 : decode cX5_findBlocks 99 = .ok (.iconst 1, 1) := dk_4 (dk_at dksX5_findBlocks_4 6 rfl rfl)
theorem dX5_findBlocks_100 : decode cX5_findBlocks 100 = .ok (.goto 4, 3) := dk_167 0 4 (dk_at dksX5_findBlocks_4 7 rfl rfl)
theorem dX5_findBlocks_103 : decode cX5_findBlocks 103 = .ok (.iconst 0, 1) := dk_3 (dk_at dksX5_findBlocks_4 10 rfl rfl)
theorem dX5_findBlocks_104 : decode cX5_findBlocks 104 = .ok (.istore 5, 2) := dk_54 5 (dk_at dksX5_findBlocks_4 11 rfl rfl)
theorem dX5_findBlocks_106 : decode cX5_findBlocks 106 = .ok (.goto (-76), 3) := dk_167 255 180 (dk_at dksX5_findBlocks_4 13 rfl rfl)
theorem dX5_findBlocks_109 : decode cX5_findBlocks 109 = .ok (.aload_n 0, 1) := dk_42 (dk_at dksX5_findBlocks_4 16 rfl rfl)
theorem dX5_findBlocks_110 : decode cX5_findBlocks 110 = .ok (.getfield 38, 3) := dk_180 0 38 (dk_at dksX5_findBlocks_4 17 rfl rfl)
theorem dX5_findBlocks_113 : decode cX5_findBlocks 113 = .ok (.aload_n 3, 1) := dk_45 (dk_at dksX5_findBlocks_4 20 rfl rfl)
theorem dX5_findBlocks_114 : decode cX5_findBlocks 114 = .ok (.invokevirtual 146, 3) := dk_182 0 146 (dk_at dksX5_findBlocks_4 21 rfl rfl)
theorem dX5_findBlocks_117 : decode cX5_findBlocks 117 = .ok (.pop, 1) := dk_87 (dk_at dksX5_findBlocks_5 0 rfl rfl)
theorem dX5_findBlocks_118 : decode cX5_findBlocks 118 = .ok (.aload_n 1, 1) := dk_43 (dk_at dksX5_findBlocks_5 1 rfl rfl)
theorem dX5_findBlocks_119 : decode cX5_findBlocks 119 = .ok (.iload_n 2, 1) := dk_28 (dk_at dksX5_findBlocks_5 2 rfl rfl)
theorem dX5_findBlocks_120 : decode cX5_findBlocks 120 = .ok (.iconst 1, 1) := dk_4 (dk_at dksX5_findBlocks_5 3 rfl rfl)
theorem dX5_findBlocks_121 : decode cX5_findBlocks 121 = .ok (.iadd, 1) := dk_96 (dk_at dksX5_findBlocks_5 4 rfl rfl)
theorem dX5_findBlocks_122 : decode cX5_findBlocks 122 = .ok (.invokevirtual 211, 3) := dk_182 0 211 (dk_at dksX5_findBlocks_5 5 rfl rfl)
theorem dX5_findBlocks_125 : decode cX5_findBlocks 125 = .ok (.istore_n 2, 1) := dk_61 (dk_at dksX5_findBlocks_5 8 rfl rfl)
theorem dX5_findBlocks_126 : decode cX5_findBlocks 126 = .ok (.goto (-115), 3) := dk_167 255 141 (dk_at dksX5_findBlocks_5 9 rfl rfl)
theorem dX5_findBlocks_129 : decode cX5_findBlocks 129 = .ok (.return_, 1) := dk_177 (dk_at dksX5_findBlocks_5 12 rfl rfl)
abbrev cX5_findLeaders : ByteArray := prog_8_method_13_code
def yX5_findLeaders : MethodName := ⟨RX5, "findLeaders", "()Ljava/util/BitSet;"⟩
def dkwX5_findLeaders_8 : List UInt8 := [132, 2, 1, 167, 255, 185, 43, 42, 180, 0, 44, 182, 0, 226, 43, 176]
abbrev dktX5_findLeaders_8 : List UInt8 := dkwX5_findLeaders_8 ++ []
def dkwX5_findLeaders_7 : List UInt8 := [180, 0, 147, 29, 182, 0, 94, 192, 0, 66, 182, 0, 83, 182, 0, 129, 132, 3, 1, 167, 255, 204]
abbrev dktX5_findLeaders_7 : List UInt8 := dkwX5_findLeaders_7 ++ dktX5_findLeaders_8
def dkwX5_findLeaders_6 : List UInt8 := [192, 0, 148, 180, 0, 147, 182, 0, 93, 162, 0, 37, 43, 42, 180, 0, 31, 28, 182, 0, 94, 192, 0, 148]
abbrev dktX5_findLeaders_6 : List UInt8 := dkwX5_findLeaders_6 ++ dktX5_findLeaders_7
def dkwX5_findLeaders_5 : List UInt8 := [28, 42, 180, 0, 31, 182, 0, 93, 162, 0, 66, 3, 62, 29, 42, 180, 0, 31, 28, 182, 0, 94]
abbrev dktX5_findLeaders_5 : List UInt8 := dkwX5_findLeaders_5 ++ dktX5_findLeaders_6
def dkwX5_findLeaders_4 : List UInt8 := [28, 182, 0, 123, 96, 182, 0, 129, 42, 180, 0, 44, 28, 4, 96, 182, 0, 211, 61, 167, 255, 193, 3, 61]
abbrev dktX5_findLeaders_4 : List UInt8 := dkwX5_findLeaders_4 ++ dktX5_findLeaders_5
def dkwX5_findLeaders_3 : List UInt8 := [28, 182, 0, 136, 182, 0, 129, 42, 180, 0, 48, 28, 182, 0, 223, 153, 0, 17, 43, 28, 42, 180, 0, 48]
abbrev dktX5_findLeaders_3 : List UInt8 := dkwX5_findLeaders_3 ++ dktX5_findLeaders_4
def dkwX5_findLeaders_2 : List UInt8 := [182, 0, 211, 61, 28, 155, 0, 65, 42, 180, 0, 48, 28, 182, 0, 133, 153, 0, 15, 43, 42, 180, 0, 48]
abbrev dktX5_findLeaders_2 : List UInt8 := dkwX5_findLeaders_2 ++ dktX5_findLeaders_3
def dkwX5_findLeaders_1 : List UInt8 := [180, 0, 48, 180, 0, 62, 28, 46, 182, 0, 129, 132, 2, 1, 167, 255, 228, 42, 180, 0, 44, 3]
abbrev dktX5_findLeaders_1 : List UInt8 := dkwX5_findLeaders_1 ++ dktX5_findLeaders_2
def dkwX5_findLeaders_0 : List UInt8 := [187, 0, 41, 89, 183, 0, 43, 76, 3, 61, 28, 42, 180, 0, 48, 180, 0, 62, 190, 162, 0, 22, 43, 42]
abbrev dktX5_findLeaders_0 : List UInt8 := dkwX5_findLeaders_0 ++ dktX5_findLeaders_1
theorem dksX5_findLeaders_0 : cX5_findLeaders.data.toList.drop 0 = dktX5_findLeaders_0 := by decide +kernel
theorem dksX5_findLeaders_1 : cX5_findLeaders.data.toList.drop 24 = dktX5_findLeaders_1 := dk_seg dksX5_findLeaders_0 24 rfl rfl
theorem dksX5_findLeaders_2 : cX5_findLeaders.data.toList.drop 46 = dktX5_findLeaders_2 := dk_seg dksX5_findLeaders_1 22 rfl rfl
theorem dksX5_findLeaders_3 : cX5_findLeaders.data.toList.drop 70 = dktX5_findLeaders_3 := dk_seg dksX5_findLeaders_2 24 rfl rfl
theorem dksX5_findLeaders_4 : cX5_findLeaders.data.toList.drop 94 = dktX5_findLeaders_4 := dk_seg dksX5_findLeaders_3 24 rfl rfl
theorem dksX5_findLeaders_5 : cX5_findLeaders.data.toList.drop 118 = dktX5_findLeaders_5 := dk_seg dksX5_findLeaders_4 24 rfl rfl
theorem dksX5_findLeaders_6 : cX5_findLeaders.data.toList.drop 140 = dktX5_findLeaders_6 := dk_seg dksX5_findLeaders_5 22 rfl rfl
theorem dksX5_findLeaders_7 : cX5_findLeaders.data.toList.drop 164 = dktX5_findLeaders_7 := dk_seg dksX5_findLeaders_6 24 rfl rfl
theorem dksX5_findLeaders_8 : cX5_findLeaders.data.toList.drop 186 = dktX5_findLeaders_8 := dk_seg dksX5_findLeaders_7 22 rfl rfl
theorem dX5_findLeaders_0 : decode cX5_findLeaders 0 = .ok (.new 41, 3) := dk_187 0 41 (dk_at dksX5_findLeaders_0 0 rfl rfl)
theorem dX5_findLeaders_3 : decode cX5_findLeaders 3 = .ok (.dup, 1) := dk_89 (dk_at dksX5_findLeaders_0 3 rfl rfl)
theorem dX5_findLeaders_4 : decode cX5_findLeaders 4 = .ok (.invokespecial 43, 3) := dk_183 0 43 (dk_at dksX5_findLeaders_0 4 rfl rfl)
theorem dX5_findLeaders_7 : decode cX5_findLeaders 7 = .ok (.astore_n 1, 1) := dk_76 (dk_at dksX5_findLeaders_0 7 rfl rfl)
theorem dX5_findLeaders_8 : decode cX5_findLeaders 8 = .ok (.iconst 0, 1) := dk_3 (dk_at dksX5_findLeaders_0 8 rfl rfl)
theorem dX5_findLeaders_9 : decode cX5_findLeaders 9 = .ok (.istore_n 2, 1) := dk_61 (dk_at dksX5_findLeaders_0 9 rfl rfl)
theorem dX5_findLeaders_10 : decode cX5_findLeaders 10 = .ok (.iload_n 2, 1) := dk_28 (dk_at dksX5_findLeaders_0 10 rfl rfl)
theorem dX5_findLeaders_11 : decode cX5_findLeaders 11 = .ok (.aload_n 0, 1) := dk_42 (dk_at dksX5_findLeaders_0 11 rfl rfl)
theorem dX5_findLeaders_12 : decode cX5_findLeaders 12 = .ok (.getfield 48, 3) := dk_180 0 48 (dk_at dksX5_findLeaders_0 12 rfl rfl)
theorem dX5_findLeaders_15 : decode cX5_findLeaders 15 = .ok (.getfield 62, 3) := dk_180 0 62 (dk_at dksX5_findLeaders_0 15 rfl rfl)
theorem dX5_findLeaders_18 : decode cX5_findLeaders 18 = .ok (.arraylength, 1) := dk_190 (dk_at dksX5_findLeaders_0 18 rfl rfl)
theorem dX5_findLeaders_19 : decode cX5_findLeaders 19 = .ok (.if_icmp .ge 22, 3) := dk_162 0 22 (dk_at dksX5_findLeaders_0 19 rfl rfl)
theorem dX5_findLeaders_22 : decode cX5_findLeaders 22 = .ok (.aload_n 1, 1) := dk_43 (dk_at dksX5_findLeaders_0 22 rfl rfl)
theorem dX5_findLeaders_23 : decode cX5_findLeaders 23 = .ok (.aload_n 0, 1) := dk_42 (dk_at dksX5_findLeaders_0 23 rfl rfl)
theorem dX5_findLeaders_24 : decode cX5_findLeaders 24 = .ok (.getfield 48, 3) := dk_180 0 48 (dk_at dksX5_findLeaders_1 0 rfl rfl)
theorem dX5_findLeaders_27 : decode cX5_findLeaders 27 = .ok (.getfield 62, 3) := dk_180 0 62 (dk_at dksX5_findLeaders_1 3 rfl rfl)
theorem dX5_findLeaders_30 : decode cX5_findLeaders 30 = .ok (.iload_n 2, 1) := dk_28 (dk_at dksX5_findLeaders_1 6 rfl rfl)
theorem dX5_findLeaders_31 : decode cX5_findLeaders 31 = .ok (.iaload, 1) := dk_46 (dk_at dksX5_findLeaders_1 7 rfl rfl)
theorem dX5_findLeaders_32 : decode cX5_findLeaders 32 = .ok (.invokevirtual 129, 3) := dk_182 0 129 (dk_at dksX5_findLeaders_1 8 rfl rfl)
theorem dX5_findLeaders_35 : decode cX5_findLeaders 35 = .ok (.iinc 2 1, 3) := dk_132 2 1 (dk_at dksX5_findLeaders_1 11 rfl rfl)
theorem dX5_findLeaders_38 : decode cX5_findLeaders 38 = .ok (.goto (-28), 3) := dk_167 255 228 (dk_at dksX5_findLeaders_1 14 rfl rfl)
theorem dX5_findLeaders_41 : decode cX5_findLeaders 41 = .ok (.aload_n 0, 1) := dk_42 (dk_at dksX5_findLeaders_1 17 rfl rfl)
theorem dX5_findLeaders_42 : decode cX5_findLeaders 42 = .ok (.getfield 44, 3) := dk_180 0 44 (dk_at dksX5_findLeaders_1 18 rfl rfl)
theorem dX5_findLeaders_45 : decode cX5_findLeaders 45 = .ok (.iconst 0, 1) := dk_3 (dk_at dksX5_findLeaders_1 21 rfl rfl)
theorem dX5_findLeaders_46 : decode cX5_findLeaders 46 = .ok (.invokevirtual 211, 3) := dk_182 0 211 (dk_at dksX5_findLeaders_2 0 rfl rfl)
theorem dX5_findLeaders_49 : decode cX5_findLeaders 49 = .ok (.istore_n 2, 1) := dk_61 (dk_at dksX5_findLeaders_2 3 rfl rfl)
theorem dX5_findLeaders_50 : decode cX5_findLeaders 50 = .ok (.iload_n 2, 1) := dk_28 (dk_at dksX5_findLeaders_2 4 rfl rfl)
theorem dX5_findLeaders_51 : decode cX5_findLeaders 51 = .ok (.ifCond .lt 65, 3) := dk_155 0 65 (dk_at dksX5_findLeaders_2 5 rfl rfl)
theorem dX5_findLeaders_54 : decode cX5_findLeaders 54 = .ok (.aload_n 0, 1) := dk_42 (dk_at dksX5_findLeaders_2 8 rfl rfl)
theorem dX5_findLeaders_55 : decode cX5_findLeaders 55 = .ok (.getfield 48, 3) := dk_180 0 48 (dk_at dksX5_findLeaders_2 9 rfl rfl)
theorem dX5_findLeaders_58 : decode cX5_findLeaders 58 = .ok (.iload_n 2, 1) := dk_28 (dk_at dksX5_findLeaders_2 12 rfl rfl)
theorem dX5_findLeaders_59 : decode cX5_findLeaders 59 = .ok (.invokevirtual 133, 3) := dk_182 0 133 (dk_at dksX5_findLeaders_2 13 rfl rfl)
theorem dX5_findLeaders_62 : decode cX5_findLeaders 62 = .ok (.ifCond .eq 15, 3) := dk_153 0 15 (dk_at dksX5_findLeaders_2 16 rfl rfl)
theorem dX5_findLeaders_65 : decode cX5_findLeaders 65 = .ok (.aload_n 1, 1) := dk_43 (dk_at dksX5_findLeaders_2 19 rfl rfl)
theorem dX5_findLeaders_66 : decode cX5_findLeaders 66 = .ok (.aload_n 0, 1) := dk_42 (dk_at dksX5_findLeaders_2 20 rfl rfl)
theorem dX5_findLeaders_67 : decode cX5_findLeaders 67 = .ok (.getfield 48, 3) := dk_180 0 48 (dk_at dksX5_findLeaders_2 21 rfl rfl)
theorem dX5_findLeaders_70 : decode cX5_findLeaders 70 = .ok (.iload_n 2, 1) := dk_28 (dk_at dksX5_findLeaders_3 0 rfl rfl)
theorem dX5_findLeaders_71 : decode cX5_findLeaders 71 = .ok (.invokevirtual 136, 3) := dk_182 0 136 (dk_at dksX5_findLeaders_3 1 rfl rfl)
theorem dX5_findLeaders_74 : decode cX5_findLeaders 74 = .ok (.invokevirtual 129, 3) := dk_182 0 129 (dk_at dksX5_findLeaders_3 4 rfl rfl)
theorem dX5_findLeaders_77 : decode cX5_findLeaders 77 = .ok (.aload_n 0, 1) := dk_42 (dk_at dksX5_findLeaders_3 7 rfl rfl)
theorem dX5_findLeaders_78 : decode cX5_findLeaders 78 = .ok (.getfield 48, 3) := dk_180 0 48 (dk_at dksX5_findLeaders_3 8 rfl rfl)
theorem dX5_findLeaders_81 : decode cX5_findLeaders 81 = .ok (.iload_n 2, 1) := dk_28 (dk_at dksX5_findLeaders_3 11 rfl rfl)
theorem dX5_findLeaders_82 : decode cX5_findLeaders 82 = .ok (.invokevirtual 223, 3) := dk_182 0 223 (dk_at dksX5_findLeaders_3 12 rfl rfl)
theorem dX5_findLeaders_85 : decode cX5_findLeaders 85 = .ok (.ifCond .eq 17, 3) := dk_153 0 17 (dk_at dksX5_findLeaders_3 15 rfl rfl)
theorem dX5_findLeaders_88 : decode cX5_findLeaders 88 = .ok (.aload_n 1, 1) := dk_43 (dk_at dksX5_findLeaders_3 18 rfl rfl)
theorem dX5_findLeaders_89 : decode cX5_findLeaders 89 = .ok (.iload_n 2, 1) := dk_28 (dk_at dksX5_findLeaders_3 19 rfl rfl)
theorem dX5_findLeaders_90 : decode cX5_findLeaders 90 = .ok (.aload_n 0, 1) := dk_42 (dk_at dksX5_findLeaders_3 20 rfl rfl)
theorem dX5_findLeaders_91 : decode cX5_findLeaders 91 = .ok (.getfield 48, 3) := dk_180 0 48 (dk_at dksX5_findLeaders_3 21 rfl rfl)
theorem dX5_findLeaders_94 : decode cX5_findLeaders 94 = .ok (.iload_n 2, 1) := dk_28 (dk_at dksX5_findLeaders_4 0 rfl rfl)
theorem dX5_findLeaders_95 : decode cX5_findLeaders 95 = .ok (.invokevirtual 123, 3) := dk_182 0 123 (dk_at dksX5_findLeaders_4 1 rfl rfl)
theorem dX5_findLeaders_98 : decode cX5_findLeaders 98 = .ok (.iadd, 1) := dk_96 (dk_at dksX5_findLeaders_4 4 rfl rfl)
theorem dX5_findLeaders_99 : decode cX5_findLeaders 99 = .ok (.invokevirtual 129, 3) := dk_182 0 129 (dk_at dksX5_findLeaders_4 5 rfl rfl)
theorem dX5_findLeaders_102 : decode cX5_findLeaders 102 = .ok (.aload_n 0, 1) := dk_42 (dk_at dksX5_findLeaders_4 8 rfl rfl)
theorem dX5_findLeaders_103 : decode cX5_findLeaders 103 = .ok (.getfield 44, 3) := dk_180 0 44 (dk_at dksX5_findLeaders_4 9 rfl rfl)
theorem dX5_findLeaders_106 : decode cX5_findLeaders 106 = .ok (.iload_n 2, 1) := dk_28 (dk_at dksX5_findLeaders_4 12 rfl rfl)
theorem dX5_findLeaders_107 : decode cX5_findLeaders 107 = .ok (.iconst 1, 1) := dk_4 (dk_at dksX5_findLeaders_4 13 rfl rfl)
theorem dX5_findLeaders_108 : decode cX5_findLeaders 108 = .ok (.iadd, 1) := dk_96 (dk_at dksX5_findLeaders_4 14 rfl rfl)
theorem dX5_findLeaders_109 : decode cX5_findLeaders 109 = .ok (.invokevirtual 211, 3) := dk_182 0 211 (dk_at dksX5_findLeaders_4 15 rfl rfl)
theorem dX5_findLeaders_112 : decode cX5_findLeaders 112 = .ok (.istore_n 2, 1) := dk_61 (dk_at dksX5_findLeaders_4 18 rfl rfl)
theorem dX5_findLeaders_113 : decode cX5_findLeaders 113 = .ok (.goto (-63), 3) := dk_167 255 193 (dk_at dksX5_findLeaders_4 19 rfl rfl)
theorem dX5_findLeaders_116 : decode cX5_findLeaders 116 = .ok (.iconst 0, 1) := dk_3 (dk_at dksX5_findLeaders_4 22 rfl rfl)
theorem dX5_findLeaders_117 : decode cX5_findLeaders 117 = .ok (.istore_n 2, 1) := dk_61 (dk_at dksX5_findLeaders_4 23 rfl rfl)
theorem dX5_findLeaders_118 : decode cX5_findLeaders 118 = .ok (.iload_n 2, 1) := dk_28 (dk_at dksX5_findLeaders_5 0 rfl rfl)
theorem dX5_findLeaders_119 : decode cX5_findLeaders 119 = .ok (.aload_n 0, 1) := dk_42 (dk_at dksX5_findLeaders_5 1 rfl rfl)
theorem dX5_findLeaders_120 : decode cX5_findLeaders 120 = .ok (.getfield 31, 3) := dk_180 0 31 (dk_at dksX5_findLeaders_5 2 rfl rfl)
theorem dX5_findLeaders_123 : decode cX5_findLeaders 123 = .ok (.invokevirtual 93, 3) := dk_182 0 93 (dk_at dksX5_findLeaders_5 5 rfl rfl)
theorem dX5_findLeaders_126 : decode cX5_findLeaders 126 = .ok (.if_icmp .ge 66, 3) := dk_162 0 66 (dk_at dksX5_findLeaders_5 8 rfl rfl)
theorem dX5_findLeaders_129 : decode cX5_findLeaders 129 = .ok (.iconst 0, 1) := dk_3 (dk_at dksX5_findLeaders_5 11 rfl rfl)
theorem dX5_findLeaders_130 : decode cX5_findLeaders 130 = .ok (.istore_n 3, 1) := dk_62 (dk_at dksX5_findLeaders_5 12 rfl rfl)
theorem dX5_findLeaders_131 : decode cX5_findLeaders 131 = .ok (.iload_n 3, 1) := dk_29 (dk_at dksX5_findLeaders_5 13 rfl rfl)
theorem dX5_findLeaders_132 : decode cX5_findLeaders 132 = .ok (.aload_n 0, 1) := dk_42 (dk_at dksX5_findLeaders_5 14 rfl rfl)
theorem dX5_findLeaders_133 : decode cX5_findLeaders 133 = .ok (.getfield 31, 3) := dk_180 0 31 (dk_at dksX5_findLeaders_5 15 rfl rfl)
theorem dX5_findLeaders_136 : decode cX5_findLeaders 136 = .ok (.iload_n 2, 1) := dk_28 (dk_at dksX5_findLeaders_5 18 rfl rfl)
theorem dX5_findLeaders_137 : decode cX5_findLeaders 137 = .ok (.invokevirtual 94, 3) := dk_182 0 94 (dk_at dksX5_findLeaders_5 19 rfl rfl)
theorem dX5_findLeaders_140 : decode cX5_findLeaders 140 = .ok (.checkcast 148, 3) := dk_192 0 148 (dk_at dksX5_findLeaders_6 0 rfl rfl)
theorem dX5_findLeaders_143 : decode cX5_findLeaders 143 = .ok (.getfield 147, 3) := dk_180 0 147 (dk_at dksX5_findLeaders_6 3 rfl rfl)
theorem dX5_findLeaders_146 : decode cX5_findLeaders 146 = .ok (.invokevirtual 93, 3) := dk_182 0 93 (dk_at dksX5_findLeaders_6 6 rfl rfl)
theorem dX5_findLeaders_149 : decode cX5_findLeaders 149 = .ok (.if_icmp .ge 37, 3) := dk_162 0 37 (dk_at dksX5_findLeaders_6 9 rfl rfl)
theorem dX5_findLeaders_152 : decode cX5_findLeaders 152 = .ok (.aload_n 1, 1) := dk_43 (dk_at dksX5_findLeaders_6 12 rfl rfl)
theorem dX5_findLeaders_153 : decode cX5_findLeaders 153 = .ok (.aload_n 0, 1) := dk_42 (dk_at dksX5_findLeaders_6 13 rfl rfl)
theorem dX5_findLeaders_154 : decode cX5_findLeaders 154 = .ok (.getfield 31, 3) := dk_180 0 31 (dk_at dksX5_findLeaders_6 14 rfl rfl)
theorem dX5_findLeaders_157 : decode cX5_findLeaders 157 = .ok (.iload_n 2, 1) := dk_28 (dk_at dksX5_findLeaders_6 17 rfl rfl)
theorem dX5_findLeaders_158 : decode cX5_findLeaders 158 = .ok (.invokevirtual 94, 3) := dk_182 0 94 (dk_at dksX5_findLeaders_6 18 rfl rfl)
theorem dX5_findLeaders_161 : decode cX5_findLeaders 161 = .ok (.checkcast 148, 3) := dk_192 0 148 (dk_at dksX5_findLeaders_6 21 rfl rfl)
theorem dX5_findLeaders_164 : decode cX5_findLeaders 164 = .ok (.getfield 147, 3) := dk_180 0 147 (dk_at dksX5_findLeaders_7 0 rfl rfl)
theorem dX5_findLeaders_167 : decode cX5_findLeaders 167 = .ok (.iload_n 3, 1) := dk_29 (dk_at dksX5_findLeaders_7 3 rfl rfl)
theorem dX5_findLeaders_168 : decode cX5_findLeaders 168 = .ok (.invokevirtual 94, 3) := dk_182 0 94 (dk_at dksX5_findLeaders_7 4 rfl rfl)
theorem dX5_findLeaders_171 : decode cX5_findLeaders 171 = .ok (.checkcast 66, 3) := dk_192 0 66 (dk_at dksX5_findLeaders_7 7 rfl rfl)
theorem dX5_findLeaders_174 : decode cX5_findLeaders 174 = .ok (.invokevirtual 83, 3) := dk_182 0 83 (dk_at dksX5_findLeaders_7 10 rfl rfl)
theorem dX5_findLeaders_177 : decode cX5_findLeaders 177 = .ok (.invokevirtual 129, 3) := dk_182 0 129 (dk_at dksX5_findLeaders_7 13 rfl rfl)
theorem dX5_findLeaders_180 : decode cX5_findLeaders 180 = .ok (.iinc 3 1, 3) := dk_132 3 1 (dk_at dksX5_findLeaders_7 16 rfl rfl)
theorem dX5_findLeaders_183 : decode cX5_findLeaders 183 = .ok (.goto (-52), 3) := dk_167 255 204 (dk_at dksX5_findLeaders_7 19 rfl rfl)
theorem dX5_findLeaders_186 : decode cX5_findLeaders 186 = .ok (.iinc 2 1, 3) := dk_132 2 1 (dk_at dksX5_findLeaders_8 0 rfl rfl)
theorem dX5_findLeaders_189 : decode cX5_findLeaders 189 = .ok (.goto (-71), 3) := dk_167 255 185 (dk_at dksX5_findLeaders_8 3 rfl rfl)
theorem dX5_findLeaders_192 : decode cX5_findLeaders 192 = .ok (.aload_n 1, 1) := dk_43 (dk_at dksX5_findLeaders_8 6 rfl rfl)
theorem dX5_findLeaders_193 : decode cX5_findLeaders 193 = .ok (.aload_n 0, 1) := dk_42 (dk_at dksX5_findLeaders_8 7 rfl rfl)
theorem dX5_findLeaders_194 : decode cX5_findLeaders 194 = .ok (.getfield 44, 3) := dk_180 0 44 (dk_at dksX5_findLeaders_8 8 rfl rfl)
theorem dX5_findLeaders_197 : decode cX5_findLeaders 197 = .ok (.invokevirtual 226, 3) := dk_182 0 226 (dk_at dksX5_findLeaders_8 11 rfl rfl)
theorem dX5_findLeaders_200 : decode cX5_findLeaders 200 = .ok (.aload_n 1, 1) := dk_43 (dk_at dksX5_findLeaders_8 14 rfl rfl)
theorem dX5_findLeaders_201 : decode cX5_findLeaders 201 = .ok (.areturn, 1) := dk_176 (dk_at dksX5_findLeaders_8 15 rfl rfl)
abbrev cX5_countSpeculative : ByteArray := prog_8_method_12_code
def yX5_countSpeculative : MethodName := ⟨RX5, "countSpeculative", "()I"⟩
def dkwX5_countSpeculative_2 : List UInt8 := [192, 0, 98, 180, 0, 217, 167, 0, 4, 3, 96, 60, 132, 2, 1, 167, 255, 197, 27, 172]
abbrev dktX5_countSpeculative_2 : List UInt8 := dkwX5_countSpeculative_2 ++ []
def dkwX5_countSpeculative_1 : List UInt8 := [192, 0, 98, 180, 0, 214, 42, 180, 0, 48, 180, 0, 220, 161, 0, 20, 42, 180, 0, 35, 28, 182, 0, 94]
abbrev dktX5_countSpeculative_1 : List UInt8 := dkwX5_countSpeculative_1 ++ dktX5_countSpeculative_2
def dkwX5_countSpeculative_0 : List UInt8 := [3, 60, 3, 61, 28, 42, 180, 0, 35, 182, 0, 93, 162, 0, 54, 27, 42, 180, 0, 35, 28, 182, 0, 94]
abbrev dktX5_countSpeculative_0 : List UInt8 := dkwX5_countSpeculative_0 ++ dktX5_countSpeculative_1
theorem dksX5_countSpeculative_0 : cX5_countSpeculative.data.toList.drop 0 = dktX5_countSpeculative_0 := by decide +kernel
theorem dksX5_countSpeculative_1 : cX5_countSpeculative.data.toList.drop 24 = dktX5_countSpeculative_1 := dk_seg dksX5_countSpeculative_0 24 rfl rfl
theorem dksX5_countSpeculative_2 : cX5_countSpeculative.data.toList.drop 48 = dktX5_countSpeculative_2 := dk_seg dksX5_countSpeculative_1 24 rfl rfl
theorem dX5_countSpeculative_0 : decode cX5_countSpeculative 0 = .ok (.iconst 0, 1) := dk_3 (dk_at dksX5_countSpeculative_0 0 rfl rfl)
theorem dX5_countSpeculative_1 : decode cX5_countSpeculative 1 = .ok (.istore_n 1, 1) := dk_60 (dk_at dksX5_countSpeculative_0 1 rfl rfl)
theorem dX5_countSpeculative_2 : decode cX5_countSpeculative 2 = .ok (.iconst 0, 1) := dk_3 (dk_at dksX5_countSpeculative_0 2 rfl rfl)
theorem dX5_countSpeculative_3 : decode cX5_countSpeculative 3 = .ok (.istore_n 2, 1) := dk_61 (dk_at dksX5_countSpeculative_0 3 rfl rfl)
theorem dX5_countSpeculative_4 : decode cX5_countSpeculative 4 = .ok (.iload_n 2, 1) := dk_28 (dk_at dksX5_countSpeculative_0 4 rfl rfl)
theorem dX5_countSpeculative_5 : decode cX5_countSpeculative 5 = .ok (.aload_n 0, 1) := dk_42 (dk_at dksX5_countSpeculative_0 5 rfl rfl)
theorem dX5_countSpeculative_6 : decode cX5_countSpeculative 6 = .ok (.getfield 35, 3) := dk_180 0 35 (dk_at dksX5_countSpeculative_0 6 rfl rfl)
theorem dX5_countSpeculative_9 : decode cX5_countSpeculative 9 = .ok (.invokevirtual 93, 3) := dk_182 0 93 (dk_at dksX5_countSpeculative_0 9 rfl rfl)
theorem dX5_countSpeculative_12 : decode cX5_countSpeculative 12 = .ok (.if_icmp .ge 54, 3) := dk_162 0 54 (dk_at dksX5_countSpeculative_0 12 rfl rfl)
theorem dX5_countSpeculative_15 : decode cX5_countSpeculative 15 = .ok (.iload_n 1, 1) := dk_27 (dk_at dksX5_countSpeculative_0 15 rfl rfl)
theorem dX5_countSpeculative_16 : decode cX5_countSpeculative 16 = .ok (.aload_n 0, 1) := dk_42 (dk_at dksX5_countSpeculative_0 16 rfl rfl)
theorem dX5_countSpeculative_17 : decode cX5_countSpeculative 17 = .ok (.getfield 35, 3) := dk_180 0 35 (dk_at dksX5_countSpeculative_0 17 rfl rfl)
theorem dX5_countSpeculative_20 : decode cX5_countSpeculative 20 = .ok (.iload_n 2, 1) := dk_28 (dk_at dksX5_countSpeculative_0 20 rfl rfl)
theorem dX5_countSpeculative_21 : decode cX5_countSpeculative 21 = .ok (.invokevirtual 94, 3) := dk_182 0 94 (dk_at dksX5_countSpeculative_0 21 rfl rfl)
theorem dX5_countSpeculative_24 : decode cX5_countSpeculative 24 = .ok (.checkcast 98, 3) := dk_192 0 98 (dk_at dksX5_countSpeculative_1 0 rfl rfl)
theorem dX5_countSpeculative_27 : decode cX5_countSpeculative 27 = .ok (.getfield 214, 3) := dk_180 0 214 (dk_at dksX5_countSpeculative_1 3 rfl rfl)
theorem dX5_countSpeculative_30 : decode cX5_countSpeculative 30 = .ok (.aload_n 0, 1) := dk_42 (dk_at dksX5_countSpeculative_1 6 rfl rfl)
theorem dX5_countSpeculative_31 : decode cX5_countSpeculative 31 = .ok (.getfield 48, 3) := dk_180 0 48 (dk_at dksX5_countSpeculative_1 7 rfl rfl)
theorem dX5_countSpeculative_34 : decode cX5_countSpeculative 34 = .ok (.getfield 220, 3) := dk_180 0 220 (dk_at dksX5_countSpeculative_1 10 rfl rfl)
theorem dX5_countSpeculative_37 : decode cX5_countSpeculative 37 = .ok (.if_icmp .lt 20, 3) := dk_161 0 20 (dk_at dksX5_countSpeculative_1 13 rfl rfl)
theorem dX5_countSpeculative_40 : decode cX5_countSpeculative 40 = .ok (.aload_n 0, 1) := dk_42 (dk_at dksX5_countSpeculative_1 16 rfl rfl)
theorem dX5_countSpeculative_41 : decode cX5_countSpeculative 41 = .ok (.getfield 35, 3) := dk_180 0 35 (dk_at dksX5_countSpeculative_1 17 rfl rfl)
theorem dX5_countSpeculative_44 : decode cX5_countSpeculative 44 = .ok (.iload_n 2, 1) := dk_28 (dk_at dksX5_countSpeculative_1 20 rfl rfl)
theorem dX5_countSpeculative_45 : decode cX5_countSpeculative 45 = .ok (.invokevirtual 94, 3) := dk_182 0 94 (dk_at dksX5_countSpeculative_1 21 rfl rfl)
theorem dX5_countSpeculative_48 : decode cX5_countSpeculative 48 = .ok (.checkcast 98, 3) := dk_192 0 98 (dk_at dksX5_countSpeculative_2 0 rfl rfl)
theorem dX5_countSpeculative_51 : decode cX5_countSpeculative 51 = .ok (.getfield 217, 3) := dk_180 0 217 (dk_at dksX5_countSpeculative_2 3 rfl rfl)
theorem dX5_countSpeculative_54 : decode cX5_countSpeculative 54 = .ok (.goto 4, 3) := dk_167 0 4 (dk_at dksX5_countSpeculative_2 6 rfl rfl)
theorem dX5_countSpeculative_57 : decode cX5_countSpeculative 57 = .ok (.iconst 0, 1) := dk_3 (dk_at dksX5_countSpeculative_2 9 rfl rfl)
theorem dX5_countSpeculative_58 : decode cX5_countSpeculative 58 = .ok (.iadd, 1) := dk_96 (dk_at dksX5_countSpeculative_2 10 rfl rfl)
theorem dX5_countSpeculative_59 : decode cX5_countSpeculative 59 = .ok (.istore_n 1, 1) := dk_60 (dk_at dksX5_countSpeculative_2 11 rfl rfl)
theorem dX5_countSpeculative_60 : decode cX5_countSpeculative 60 = .ok (.iinc 2 1, 3) := dk_132 2 1 (dk_at dksX5_countSpeculative_2 12 rfl rfl)
theorem dX5_countSpeculative_63 : decode cX5_countSpeculative 63 = .ok (.goto (-59), 3) := dk_167 255 197 (dk_at dksX5_countSpeculative_2 15 rfl rfl)
theorem dX5_countSpeculative_66 : decode cX5_countSpeculative 66 = .ok (.iload_n 1, 1) := dk_27 (dk_at dksX5_countSpeculative_2 18 rfl rfl)
theorem dX5_countSpeculative_67 : decode cX5_countSpeculative 67 = .ok (.ireturn, 1) := dk_172 (dk_at dksX5_countSpeculative_2 19 rfl rfl)
abbrev cX5_findHeads : ByteArray := prog_8_method_16_code
def yX5_findHeads : MethodName := ⟨RX5, "findHeads", "()Ljava/util/BitSet;"⟩
def dkwX5_findHeads_4 : List UInt8 := [43, 42, 180, 0, 44, 182, 0, 226, 43, 176]
abbrev dktX5_findHeads_4 : List UInt8 := dkwX5_findHeads_4 ++ []
def dkwX5_findHeads_3 : List UInt8 := [180, 0, 48, 28, 182, 0, 136, 182, 0, 129, 42, 180, 0, 44, 28, 4, 96, 182, 0, 211, 61, 167, 255, 216]
abbrev dktX5_findHeads_3 : List UInt8 := dkwX5_findHeads_3 ++ dktX5_findHeads_4
def dkwX5_findHeads_2 : List UInt8 := [182, 0, 211, 61, 28, 155, 0, 42, 42, 180, 0, 48, 28, 182, 0, 139, 16, 7, 160, 0, 15, 43, 42]
abbrev dktX5_findHeads_2 : List UInt8 := dkwX5_findHeads_2 ++ dktX5_findHeads_3
def dkwX5_findHeads_1 : List UInt8 := [180, 0, 48, 180, 0, 62, 28, 46, 182, 0, 129, 132, 2, 1, 167, 255, 228, 42, 180, 0, 44, 3]
abbrev dktX5_findHeads_1 : List UInt8 := dkwX5_findHeads_1 ++ dktX5_findHeads_2
def dkwX5_findHeads_0 : List UInt8 := [187, 0, 41, 89, 183, 0, 43, 76, 3, 61, 28, 42, 180, 0, 48, 180, 0, 62, 190, 162, 0, 22, 43, 42]
abbrev dktX5_findHeads_0 : List UInt8 := dkwX5_findHeads_0 ++ dktX5_findHeads_1
theorem dksX5_findHeads_0 : cX5_findHeads.data.toList.drop 0 = dktX5_findHeads_0 := by decide +kernel
theorem dksX5_findHeads_1 : cX5_findHeads.data.toList.drop 24 = dktX5_findHeads_1 := dk_seg dksX5_findHeads_0 24 rfl rfl
theorem dksX5_findHeads_2 : cX5_findHeads.data.toList.drop 46 = dktX5_findHeads_2 := dk_seg dksX5_findHeads_1 22 rfl rfl
theorem dksX5_findHeads_3 : cX5_findHeads.data.toList.drop 69 = dktX5_findHeads_3 := dk_seg dksX5_findHeads_2 23 rfl rfl
theorem dksX5_findHeads_4 : cX5_findHeads.data.toList.drop 93 = dktX5_findHeads_4 := dk_seg dksX5_findHeads_3 24 rfl rfl
theorem dX5_findHeads_0 : decode cX5_findHeads 0 = .ok (.new 41, 3) := dk_187 0 41 (dk_at dksX5_findHeads_0 0 rfl rfl)
theorem dX5_findHeads_3 : decode cX5_findHeads 3 = .ok (.dup, 1) := dk_89 (dk_at dksX5_findHeads_0 3 rfl rfl)
theorem dX5_findHeads_4 : decode cX5_findHeads 4 = .ok (.invokespecial 43, 3) := dk_183 0 43 (dk_at dksX5_findHeads_0 4 rfl rfl)
theorem dX5_findHeads_7 : decode cX5_findHeads 7 = .ok (.astore_n 1, 1) := dk_76 (dk_at dksX5_findHeads_0 7 rfl rfl)
theorem dX5_findHeads_8 : decode cX5_findHeads 8 = .ok (.iconst 0, 1) := dk_3 (dk_at dksX5_findHeads_0 8 rfl rfl)
theorem dX5_findHeads_9 : decode cX5_findHeads 9 = .ok (.istore_n 2, 1) := dk_61 (dk_at dksX5_findHeads_0 9 rfl rfl)
theorem dX5_findHeads_10 : decode cX5_findHeads 10 = .ok (.iload_n 2, 1) := dk_28 (dk_at dksX5_findHeads_0 10 rfl rfl)
theorem dX5_findHeads_11 : decode cX5_findHeads 11 = .ok (.aload_n 0, 1) := dk_42 (dk_at dksX5_findHeads_0 11 rfl rfl)
theorem dX5_findHeads_12 : decode cX5_findHeads 12 = .ok (.getfield 48, 3) := dk_180 0 48 (dk_at dksX5_findHeads_0 12 rfl rfl)
theorem dX5_findHeads_15 : decode cX5_findHeads 15 = .ok (.getfield 62, 3) := dk_180 0 62 (dk_at dksX5_findHeads_0 15 rfl rfl)
theorem dX5_findHeads_18 : decode cX5_findHeads 18 = .ok (.arraylength, 1) := dk_190 (dk_at dksX5_findHeads_0 18 rfl rfl)
theorem dX5_findHeads_19 : decode cX5_findHeads 19 = .ok (.if_icmp .ge 22, 3) := dk_162 0 22 (dk_at dksX5_findHeads_0 19 rfl rfl)
theorem dX5_findHeads_22 : decode cX5_findHeads 22 = .ok (.aload_n 1, 1) := dk_43 (dk_at dksX5_findHeads_0 22 rfl rfl)
theorem dX5_findHeads_23 : decode cX5_findHeads 23 = .ok (.aload_n 0, 1) := dk_42 (dk_at dksX5_findHeads_0 23 rfl rfl)
theorem dX5_findHeads_24 : decode cX5_findHeads 24 = .ok (.getfield 48, 3) := dk_180 0 48 (dk_at dksX5_findHeads_1 0 rfl rfl)
theorem dX5_findHeads_27 : decode cX5_findHeads 27 = .ok (.getfield 62, 3) := dk_180 0 62 (dk_at dksX5_findHeads_1 3 rfl rfl)
theorem dX5_findHeads_30 : decode cX5_findHeads 30 = .ok (.iload_n 2, 1) := dk_28 (dk_at dksX5_findHeads_1 6 rfl rfl)
theorem dX5_findHeads_31 : decode cX5_findHeads 31 = .ok (.iaload, 1) := dk_46 (dk_at dksX5_findHeads_1 7 rfl rfl)
theorem dX5_findHeads_32 : decode cX5_findHeads 32 = .ok (.invokevirtual 129, 3) := dk_182 0 129 (dk_at dksX5_findHeads_1 8 rfl rfl)
theorem dX5_findHeads_35 : decode cX5_findHeads 35 = .ok (.iinc 2 1, 3) := dk_132 2 1 (dk_at dksX5_findHeads_1 11 rfl rfl)
theorem dX5_findHeads_38 : decode cX5_findHeads 38 = .ok (.goto (-28), 3) := dk_167 255 228 (dk_at dksX5_findHeads_1 14 rfl rfl)
theorem dX5_findHeads_41 : decode cX5_findHeads 41 = .ok (.aload_n 0, 1) := dk_42 (dk_at dksX5_findHeads_1 17 rfl rfl)
theorem dX5_findHeads_42 : decode cX5_findHeads 42 = .ok (.getfield 44, 3) := dk_180 0 44 (dk_at dksX5_findHeads_1 18 rfl rfl)
theorem dX5_findHeads_45 : decode cX5_findHeads 45 = .ok (.iconst 0, 1) := dk_3 (dk_at dksX5_findHeads_1 21 rfl rfl)
theorem dX5_findHeads_46 : decode cX5_findHeads 46 = .ok (.invokevirtual 211, 3) := dk_182 0 211 (dk_at dksX5_findHeads_2 0 rfl rfl)
theorem dX5_findHeads_49 : decode cX5_findHeads 49 = .ok (.istore_n 2, 1) := dk_61 (dk_at dksX5_findHeads_2 3 rfl rfl)
theorem dX5_findHeads_50 : decode cX5_findHeads 50 = .ok (.iload_n 2, 1) := dk_28 (dk_at dksX5_findHeads_2 4 rfl rfl)
theorem dX5_findHeads_51 : decode cX5_findHeads 51 = .ok (.ifCond .lt 42, 3) := dk_155 0 42 (dk_at dksX5_findHeads_2 5 rfl rfl)
theorem dX5_findHeads_54 : decode cX5_findHeads 54 = .ok (.aload_n 0, 1) := dk_42 (dk_at dksX5_findHeads_2 8 rfl rfl)
theorem dX5_findHeads_55 : decode cX5_findHeads 55 = .ok (.getfield 48, 3) := dk_180 0 48 (dk_at dksX5_findHeads_2 9 rfl rfl)
theorem dX5_findHeads_58 : decode cX5_findHeads 58 = .ok (.iload_n 2, 1) := dk_28 (dk_at dksX5_findHeads_2 12 rfl rfl)
theorem dX5_findHeads_59 : decode cX5_findHeads 59 = .ok (.invokevirtual 139, 3) := dk_182 0 139 (dk_at dksX5_findHeads_2 13 rfl rfl)
theorem dX5_findHeads_62 : decode cX5_findHeads 62 = .ok (.bipush 7, 2) := dk_16 7 (dk_at dksX5_findHeads_2 16 rfl rfl)
theorem dX5_findHeads_64 : decode cX5_findHeads 64 = .ok (.if_icmp .ne 15, 3) := dk_160 0 15 (dk_at dksX5_findHeads_2 18 rfl rfl)
theorem dX5_findHeads_67 : decode cX5_findHeads 67 = .ok (.aload_n 1, 1) := dk_43 (dk_at dksX5_findHeads_2 21 rfl rfl)
theorem dX5_findHeads_68 : decode cX5_findHeads 68 = .ok (.aload_n 0, 1) := dk_42 (dk_at dksX5_findHeads_2 22 rfl rfl)
theorem dX5_findHeads_69 : decode cX5_findHeads 69 = .ok (.getfield 48, 3) := dk_180 0 48 (dk_at dksX5_findHeads_3 0 rfl rfl)
theorem dX5_findHeads_72 : decode cX5_findHeads 72 = .ok (.iload_n 2, 1) := dk_28 (dk_at dksX5_findHeads_3 3 rfl rfl)
theorem dX5_findHeads_73 : decode cX5_findHeads 73 = .ok (.invokevirtual 136, 3) := dk_182 0 136 (dk_at dksX5_findHeads_3 4 rfl rfl)
theorem dX5_findHeads_76 : decode cX5_findHeads 76 = .ok (.invokevirtual 129, 3) := dk_182 0 129 (dk_at dksX5_findHeads_3 7 rfl rfl)
theorem dX5_findHeads_79 : decode cX5_findHeads 79 = .ok (.aload_n 0, 1) := dk_42 (dk_at dksX5_findHeads_3 10 rfl rfl)
theorem dX5_findHeads_80 : decode cX5_findHeads 80 = .ok (.getfield 44, 3) := dk_180 0 44 (dk_at dksX5_findHeads_3 11 rfl rfl)
theorem dX5_findHeads_83 : decode cX5_findHeads 83 = .ok (.iload_n 2, 1) := dk_28 (dk_at dksX5_findHeads_3 14 rfl rfl)
theorem dX5_findHeads_84 : decode cX5_findHeads 84 = .ok (.iconst 1, 1) := dk_4 (dk_at dksX5_findHeads_3 15 rfl rfl)
theorem dX5_findHeads_85 : decode cX5_findHeads 85 = .ok (.iadd, 1) := dk_96 (dk_at dksX5_findHeads_3 16 rfl rfl)
theorem dX5_findHeads_86 : decode cX5_findHeads 86 = .ok (.invokevirtual 211, 3) := dk_182 0 211 (dk_at dksX5_findHeads_3 17 rfl rfl)
theorem dX5_findHeads_89 : decode cX5_findHeads 89 = .ok (.istore_n 2, 1) := dk_61 (dk_at dksX5_findHeads_3 20 rfl rfl)
theorem dX5_findHeads_90 : decode cX5_findHeads 90 = .ok (.goto (-40), 3) := dk_167 255 216 (dk_at dksX5_findHeads_3 21 rfl rfl)
theorem dX5_findHeads_93 : decode cX5_findHeads 93 = .ok (.aload_n 1, 1) := dk_43 (dk_at dksX5_findHeads_4 0 rfl rfl)
theorem dX5_findHeads_94 : decode cX5_findHeads 94 = .ok (.aload_n 0, 1) := dk_42 (dk_at dksX5_findHeads_4 1 rfl rfl)
theorem dX5_findHeads_95 : decode cX5_findHeads 95 = .ok (.getfield 44, 3) := dk_180 0 44 (dk_at dksX5_findHeads_4 2 rfl rfl)
theorem dX5_findHeads_98 : decode cX5_findHeads 98 = .ok (.invokevirtual 226, 3) := dk_182 0 226 (dk_at dksX5_findHeads_4 5 rfl rfl)
theorem dX5_findHeads_101 : decode cX5_findHeads 101 = .ok (.aload_n 1, 1) := dk_43 (dk_at dksX5_findHeads_4 8 rfl rfl)
theorem dX5_findHeads_102 : decode cX5_findHeads 102 = .ok (.areturn, 1) := dk_176 (dk_at dksX5_findHeads_4 9 rfl rfl)
abbrev cX5_countReached : ByteArray := prog_8_method_17_code
def yX5_countReached : MethodName := ⟨RX5, "countReached", "(I)I"⟩
def dkwX5_countReached_3 : List UInt8 := [45, 182, 0, 242, 167, 255, 206, 44, 182, 0, 246, 172]
abbrev dktX5_countReached_3 : List UInt8 := dkwX5_countReached_3 ++ []
def dkwX5_countReached_2 : List UInt8 := [182, 0, 113, 153, 0, 25, 44, 21, 4, 182, 0, 110, 154, 0, 16, 44, 21, 4, 182, 0, 129, 42, 21, 4]
abbrev dktX5_countReached_2 : List UInt8 := dkwX5_countReached_2 ++ dktX5_countReached_3
def dkwX5_countReached_1 : List UInt8 := [45, 182, 0, 75, 154, 0, 49, 45, 182, 0, 79, 192, 0, 66, 182, 0, 83, 54, 4, 42, 21, 4]
abbrev dktX5_countReached_1 : List UInt8 := dkwX5_countReached_1 ++ dktX5_countReached_2
def dkwX5_countReached_0 : List UInt8 := [187, 0, 41, 89, 183, 0, 43, 77, 187, 0, 9, 89, 183, 0, 11, 78, 45, 27, 184, 0, 65, 182, 0, 71]
abbrev dktX5_countReached_0 : List UInt8 := dkwX5_countReached_0 ++ dktX5_countReached_1
theorem dksX5_countReached_0 : cX5_countReached.data.toList.drop 0 = dktX5_countReached_0 := by decide +kernel
theorem dksX5_countReached_1 : cX5_countReached.data.toList.drop 24 = dktX5_countReached_1 := dk_seg dksX5_countReached_0 24 rfl rfl
theorem dksX5_countReached_2 : cX5_countReached.data.toList.drop 46 = dktX5_countReached_2 := dk_seg dksX5_countReached_1 22 rfl rfl
theorem dksX5_countReached_3 : cX5_countReached.data.toList.drop 70 = dktX5_countReached_3 := dk_seg dksX5_countReached_2 24 rfl rfl
theorem dX5_countReached_0 : decode cX5_countReached 0 = .ok (.new 41, 3) := dk_187 0 41 (dk_at dksX5_countReached_0 0 rfl rfl)
theorem dX5_countReached_3 : decode cX5_countReached 3 = .ok (.dup, 1) := dk_89 (dk_at dksX5_countReached_0 3 rfl rfl)
theorem dX5_countReached_4 : decode cX5_countReached 4 = .ok (.invokespecial 43, 3) := dk_183 0 43 (dk_at dksX5_countReached_0 4 rfl rfl)
theorem dX5_countReached_7 : decode cX5_countReached 7 = .ok (.astore_n 2, 1) := dk_77 (dk_at dksX5_countReached_0 7 rfl rfl)
theorem dX5_countReached_8 : decode cX5_countReached 8 = .ok (.new 9, 3) := dk_187 0 9 (dk_at dksX5_countReached_0 8 rfl rfl)
theorem dX5_countReached_11 : decode cX5_countReached 11 = .ok (.dup, 1) := dk_89 (dk_at dksX5_countReached_0 11 rfl rfl)
theorem dX5_countReached_12 : decode cX5_countReached 12 = .ok (.invokespecial 11, 3) := dk_183 0 11 (dk_at dksX5_countReached_0 12 rfl rfl)
theorem dX5_countReached_15 : decode cX5_countReached 15 = .ok (.astore_n 3, 1) := dk_78 (dk_at dksX5_countReached_0 15 rfl rfl)
theorem dX5_countReached_16 : decode cX5_countReached 16 = .ok (.aload_n 3, 1) := dk_45 (dk_at dksX5_countReached_0 16 rfl rfl)
theorem dX5_countReached_17 : decode cX5_countReached 17 = .ok (.iload_n 1, 1) := dk_27 (dk_at dksX5_countReached_0 17 rfl rfl)
theorem dX5_countReached_18 : decode cX5_countReached 18 = .ok (.invokestatic 65, 3) := dk_184 0 65 (dk_at dksX5_countReached_0 18 rfl rfl)
theorem dX5_countReached_21 : decode cX5_countReached 21 = .ok (.invokevirtual 71, 3) := dk_182 0 71 (dk_at dksX5_countReached_0 21 rfl rfl)
theorem dX5_countReached_24 : decode cX5_countReached 24 = .ok (.aload_n 3, 1) := dk_45 (dk_at dksX5_countReached_1 0 rfl rfl)
theorem dX5_countReached_25 : decode cX5_countReached 25 = .ok (.invokevirtual 75, 3) := dk_182 0 75 (dk_at dksX5_countReached_1 1 rfl rfl)
theorem dX5_countReached_28 : decode cX5_countReached 28 = .ok (.ifCond .ne 49, 3) := dk_154 0 49 (dk_at dksX5_countReached_1 4 rfl rfl)
theorem dX5_countReached_31 : decode cX5_countReached 31 = .ok (.aload_n 3, 1) := dk_45 (dk_at dksX5_countReached_1 7 rfl rfl)
theorem dX5_countReached_32 : decode cX5_countReached 32 = .ok (.invokevirtual 79, 3) := dk_182 0 79 (dk_at dksX5_countReached_1 8 rfl rfl)
theorem dX5_countReached_35 : decode cX5_countReached 35 = .ok (.checkcast 66, 3) := dk_192 0 66 (dk_at dksX5_countReached_1 11 rfl rfl)
theorem dX5_countReached_38 : decode cX5_countReached 38 = .ok (.invokevirtual 83, 3) := dk_182 0 83 (dk_at dksX5_countReached_1 14 rfl rfl)
theorem dX5_countReached_41 : decode cX5_countReached 41 = .ok (.istore 4, 2) := dk_54 4 (dk_at dksX5_countReached_1 17 rfl rfl)
theorem dX5_countReached_43 : decode cX5_countReached 43 = .ok (.aload_n 0, 1) := dk_42 (dk_at dksX5_countReached_1 19 rfl rfl)
theorem dX5_countReached_44 : decode cX5_countReached 44 = .ok (.iload 4, 2) := dk_21 4 (dk_at dksX5_countReached_1 20 rfl rfl)
theorem dX5_countReached_46 : decode cX5_countReached 46 = .ok (.invokevirtual 113, 3) := dk_182 0 113 (dk_at dksX5_countReached_2 0 rfl rfl)
theorem dX5_countReached_49 : decode cX5_countReached 49 = .ok (.ifCond .eq 25, 3) := dk_153 0 25 (dk_at dksX5_countReached_2 3 rfl rfl)
theorem dX5_countReached_52 : decode cX5_countReached 52 = .ok (.aload_n 2, 1) := dk_44 (dk_at dksX5_countReached_2 6 rfl rfl)
theorem dX5_countReached_53 : decode cX5_countReached 53 = .ok (.iload 4, 2) := dk_21 4 (dk_at dksX5_countReached_2 7 rfl rfl)
theorem dX5_countReached_55 : decode cX5_countReached 55 = .ok (.invokevirtual 110, 3) := dk_182 0 110 (dk_at dksX5_countReached_2 9 rfl rfl)
theorem dX5_countReached_58 : decode cX5_countReached 58 = .ok (.ifCond .ne 16, 3) := dk_154 0 16 (dk_at dksX5_countReached_2 12 rfl rfl)
theorem dX5_countReached_61 : decode cX5_countReached 61 = .ok (.aload_n 2, 1) := dk_44 (dk_at dksX5_countReached_2 15 rfl rfl)
theorem dX5_countReached_62 : decode cX5_countReached 62 = .ok (.iload 4, 2) := dk_21 4 (dk_at dksX5_countReached_2 16 rfl rfl)
theorem dX5_countReached_64 : decode cX5_countReached 64 = .ok (.invokevirtual 129, 3) := dk_182 0 129 (dk_at dksX5_countReached_2 18 rfl rfl)
theorem dX5_countReached_67 : decode cX5_countReached 67 = .ok (.aload_n 0, 1) := dk_42 (dk_at dksX5_countReached_2 21 rfl rfl)
theorem dX5_countReached_68 : decode cX5_countReached 68 = .ok (.iload 4, 2) := dk_21 4 (dk_at dksX5_countReached_2 22 rfl rfl)
theorem dX5_countReached_70 : decode cX5_countReached 70 = .ok (.aload_n 3, 1) := dk_45 (dk_at dksX5_countReached_3 0 rfl rfl)
theorem dX5_countReached_71 : decode cX5_countReached 71 = .ok (.invokevirtual 242, 3) := dk_182 0 242 (dk_at dksX5_countReached_3 1 rfl rfl)
theorem dX5_countReached_74 : decode cX5_countReached 74 = .ok (.goto (-50), 3) := dk_167 255 206 (dk_at dksX5_countReached_3 4 rfl rfl)
theorem dX5_countReached_77 : decode cX5_countReached 77 = .ok (.aload_n 2, 1) := dk_44 (dk_at dksX5_countReached_3 7 rfl rfl)
theorem dX5_countReached_78 : decode cX5_countReached 78 = .ok (.invokevirtual 246, 3) := dk_182 0 246 (dk_at dksX5_countReached_3 8 rfl rfl)
theorem dX5_countReached_81 : decode cX5_countReached 81 = .ok (.ireturn, 1) := dk_172 (dk_at dksX5_countReached_3 11 rfl rfl)
abbrev cX5_addNext : ByteArray := prog_8_method_18_code
def yX5_addNext : MethodName := ⟨RX5, "addNext", "(ILjava/util/ArrayDeque;)V"⟩
def dkwX5_addNext_5 : List UInt8 := [184, 0, 151, 132, 3, 1, 167, 255, 206, 177]
abbrev dktX5_addNext_5 : List UInt8 := dkwX5_addNext_5 ++ []
def dkwX5_addNext_4 : List UInt8 := [180, 0, 249, 27, 160, 0, 21, 42, 180, 0, 31, 29, 182, 0, 94, 192, 0, 148, 180, 0, 147, 44]
abbrev dktX5_addNext_4 : List UInt8 := dkwX5_addNext_4 ++ dktX5_addNext_5
def dkwX5_addNext_3 : List UInt8 := [62, 29, 42, 180, 0, 31, 182, 0, 93, 162, 0, 45, 42, 180, 0, 31, 29, 182, 0, 94, 192, 0, 148]
abbrev dktX5_addNext_3 : List UInt8 := dkwX5_addNext_3 ++ dktX5_addNext_4
def dkwX5_addNext_2 : List UInt8 := [182, 0, 139, 16, 7, 159, 0, 18, 44, 42, 180, 0, 48, 27, 182, 0, 136, 184, 0, 65, 182, 0, 71, 3]
abbrev dktX5_addNext_2 : List UInt8 := dkwX5_addNext_2 ++ dktX5_addNext_3
def dkwX5_addNext_1 : List UInt8 := [184, 0, 65, 182, 0, 71, 42, 180, 0, 48, 27, 182, 0, 133, 153, 0, 31, 42, 180, 0, 48, 27]
abbrev dktX5_addNext_1 : List UInt8 := dkwX5_addNext_1 ++ dktX5_addNext_2
def dkwX5_addNext_0 : List UInt8 := [42, 180, 0, 48, 27, 182, 0, 155, 154, 0, 20, 44, 27, 42, 180, 0, 48, 27, 182, 0, 123, 96]
abbrev dktX5_addNext_0 : List UInt8 := dkwX5_addNext_0 ++ dktX5_addNext_1
theorem dksX5_addNext_0 : cX5_addNext.data.toList.drop 0 = dktX5_addNext_0 := by decide +kernel
theorem dksX5_addNext_1 : cX5_addNext.data.toList.drop 22 = dktX5_addNext_1 := dk_seg dksX5_addNext_0 22 rfl rfl
theorem dksX5_addNext_2 : cX5_addNext.data.toList.drop 44 = dktX5_addNext_2 := dk_seg dksX5_addNext_1 22 rfl rfl
theorem dksX5_addNext_3 : cX5_addNext.data.toList.drop 68 = dktX5_addNext_3 := dk_seg dksX5_addNext_2 24 rfl rfl
theorem dksX5_addNext_4 : cX5_addNext.data.toList.drop 91 = dktX5_addNext_4 := dk_seg dksX5_addNext_3 23 rfl rfl
theorem dksX5_addNext_5 : cX5_addNext.data.toList.drop 113 = dktX5_addNext_5 := dk_seg dksX5_addNext_4 22 rfl rfl
theorem dX5_addNext_0 : decode cX5_addNext 0 = .ok (.aload_n 0, 1) := dk_42 (dk_at dksX5_addNext_0 0 rfl rfl)
theorem dX5_addNext_1 : decode cX5_addNext 1 = .ok (.getfield 48, 3) := dk_180 0 48 (dk_at dksX5_addNext_0 1 rfl rfl)
theorem dX5_addNext_4 : decode cX5_addNext 4 = .ok (.iload_n 1, 1) := dk_27 (dk_at dksX5_addNext_0 4 rfl rfl)
theorem dX5_addNext_5 : decode cX5_addNext 5 = .ok (.invokevirtual 155, 3) := dk_182 0 155 (dk_at dksX5_addNext_0 5 rfl rfl)
theorem dX5_addNext_8 : decode cX5_addNext 8 = .ok (.ifCond .ne 20, 3) := dk_154 0 20 (dk_at dksX5_addNext_0 8 rfl rfl)
theorem dX5_addNext_11 : decode cX5_addNext 11 = .ok (.aload_n 2, 1) := dk_44 (dk_at dksX5_addNext_0 11 rfl rfl)
theorem dX5_addNext_12 : decode cX5_addNext 12 = .ok (.iload_n 1, 1) := dk_27 (dk_at dksX5_addNext_0 12 rfl rfl)
theorem dX5_addNext_13 : decode cX5_addNext 13 = .ok (.aload_n 0, 1) := dk_42 (dk_at dksX5_addNext_0 13 rfl rfl)
theorem dX5_addNext_14 : decode cX5_addNext 14 = .ok (.getfield 48, 3) := dk_180 0 48 (dk_at dksX5_addNext_0 14 rfl rfl)
theorem dX5_addNext_17 : decode cX5_addNext 17 = .ok (.iload_n 1, 1) := dk_27 (dk_at dksX5_addNext_0 17 rfl rfl)
theorem dX5_addNext_18 : decode cX5_addNext 18 = .ok (.invokevirtual 123, 3) := dk_182 0 123 (dk_at dksX5_addNext_0 18 rfl rfl)
theorem dX5_addNext_21 : decode cX5_addNext 21 = .ok (.iadd, 1) := dk_96 (dk_at dksX5_addNext_0 21 rfl rfl)
theorem dX5_addNext_22 : decode cX5_addNext 22 = .ok (.invokestatic 65, 3) := dk_184 0 65 (dk_at dksX5_addNext_1 0 rfl rfl)
theorem dX5_addNext_25 : decode cX5_addNext 25 = .ok (.invokevirtual 71, 3) := dk_182 0 71 (dk_at dksX5_addNext_1 3 rfl rfl)
theorem dX5_addNext_28 : decode cX5_addNext 28 = .ok (.aload_n 0, 1) := dk_42 (dk_at dksX5_addNext_1 6 rfl rfl)
theorem dX5_addNext_29 : decode cX5_addNext 29 = .ok (.getfield 48, 3) := dk_180 0 48 (dk_at dksX5_addNext_1 7 rfl rfl)
theorem dX5_addNext_32 : decode cX5_addNext 32 = .ok (.iload_n 1, 1) := dk_27 (dk_at dksX5_addNext_1 10 rfl rfl)
theorem dX5_addNext_33 : decode cX5_addNext 33 = .ok (.invokevirtual 133, 3) := dk_182 0 133 (dk_at dksX5_addNext_1 11 rfl rfl)
theorem dX5_addNext_36 : decode cX5_addNext 36 = .ok (.ifCond .eq 31, 3) := dk_153 0 31 (dk_at dksX5_addNext_1 14 rfl rfl)
theorem dX5_addNext_39 : decode cX5_addNext 39 = .ok (.aload_n 0, 1) := dk_42 (dk_at dksX5_addNext_1 17 rfl rfl)
theorem dX5_addNext_40 : decode cX5_addNext 40 = .ok (.getfield 48, 3) := dk_180 0 48 (dk_at dksX5_addNext_1 18 rfl rfl)
theorem dX5_addNext_43 : decode cX5_addNext 43 = .ok (.iload_n 1, 1) := dk_27 (dk_at dksX5_addNext_1 21 rfl rfl)
theorem dX5_addNext_44 : decode cX5_addNext 44 = .ok (.invokevirtual 139, 3) := dk_182 0 139 (dk_at dksX5_addNext_2 0 rfl rfl)
theorem dX5_addNext_47 : decode cX5_addNext 47 = .ok (.bipush 7, 2) := dk_16 7 (dk_at dksX5_addNext_2 3 rfl rfl)
theorem dX5_addNext_49 : decode cX5_addNext 49 = .ok (.if_icmp .eq 18, 3) := dk_159 0 18 (dk_at dksX5_addNext_2 5 rfl rfl)
theorem dX5_addNext_52 : decode cX5_addNext 52 = .ok (.aload_n 2, 1) := dk_44 (dk_at dksX5_addNext_2 8 rfl rfl)
theorem dX5_addNext_53 : decode cX5_addNext 53 = .ok (.aload_n 0, 1) := dk_42 (dk_at dksX5_addNext_2 9 rfl rfl)
theorem dX5_addNext_54 : decode cX5_addNext 54 = .ok (.getfield 48, 3) := dk_180 0 48 (dk_at dksX5_addNext_2 10 rfl rfl)
theorem dX5_addNext_57 : decode cX5_addNext 57 = .ok (.iload_n 1, 1) := dk_27 (dk_at dksX5_addNext_2 13 rfl rfl)
theorem dX5_addNext_58 : decode cX5_addNext 58 = .ok (.invokevirtual 136, 3) := dk_182 0 136 (dk_at dksX5_addNext_2 14 rfl rfl)
theorem dX5_addNext_61 : decode cX5_addNext 61 = .ok (.invokestatic 65, 3) := dk_184 0 65 (dk_at dksX5_addNext_2 17 rfl rfl)
theorem dX5_addNext_64 : decode cX5_addNext 64 = .ok (.invokevirtual 71, 3) := dk_182 0 71 (dk_at dksX5_addNext_2 20 rfl rfl)
theorem dX5_addNext_67 : decode cX5_addNext 67 = .ok (.iconst 0, 1) := dk_3 (dk_at dksX5_addNext_2 23 rfl rfl)
theorem dX5_addNext_68 : decode cX5_addNext 68 = .ok (.istore_n 3, 1) := dk_62 (dk_at dksX5_addNext_3 0 rfl rfl)
theorem dX5_addNext_69 : decode cX5_addNext 69 = .ok (.iload_n 3, 1) := dk_29 (dk_at dksX5_addNext_3 1 rfl rfl)
theorem dX5_addNext_70 : decode cX5_addNext 70 = .ok (.aload_n 0, 1) := dk_42 (dk_at dksX5_addNext_3 2 rfl rfl)
theorem dX5_addNext_71 : decode cX5_addNext 71 = .ok (.getfield 31, 3) := dk_180 0 31 (dk_at dksX5_addNext_3 3 rfl rfl)
theorem dX5_addNext_74 : decode cX5_addNext 74 = .ok (.invokevirtual 93, 3) := dk_182 0 93 (dk_at dksX5_addNext_3 6 rfl rfl)
theorem dX5_addNext_77 : decode cX5_addNext 77 = .ok (.if_icmp .ge 45, 3) := dk_162 0 45 (dk_at dksX5_addNext_3 9 rfl rfl)
theorem dX5_addNext_80 : decode cX5_addNext 80 = .ok (.aload_n 0, 1) := dk_42 (dk_at dksX5_addNext_3 12 rfl rfl)
theorem dX5_addNext_81 : decode cX5_addNext 81 = .ok (.getfield 31, 3) := dk_180 0 31 (dk_at dksX5_addNext_3 13 rfl rfl)
theorem dX5_addNext_84 : decode cX5_addNext 84 = .ok (.iload_n 3, 1) := dk_29 (dk_at dksX5_addNext_3 16 rfl rfl)
theorem dX5_addNext_85 : decode cX5_addNext 85 = .ok (.invokevirtual 94, 3) := dk_182 0 94 (dk_at dksX5_addNext_3 17 rfl rfl)
theorem dX5_addNext_88 : decode cX5_addNext 88 = .ok (.checkcast 148, 3) := dk_192 0 148 (dk_at dksX5_addNext_3 20 rfl rfl)
theorem dX5_addNext_91 : decode cX5_addNext 91 = .ok (.getfield 249, 3) := dk_180 0 249 (dk_at dksX5_addNext_4 0 rfl rfl)
theorem dX5_addNext_94 : decode cX5_addNext 94 = .ok (.iload_n 1, 1) := dk_27 (dk_at dksX5_addNext_4 3 rfl rfl)
theorem dX5_addNext_95 : decode cX5_addNext 95 = .ok (.if_icmp .ne 21, 3) := dk_160 0 21 (dk_at dksX5_addNext_4 4 rfl rfl)
theorem dX5_addNext_98 : decode cX5_addNext 98 = .ok (.aload_n 0, 1) := dk_42 (dk_at dksX5_addNext_4 7 rfl rfl)
theorem dX5_addNext_99 : decode cX5_addNext 99 = .ok (.getfield 31, 3) := dk_180 0 31 (dk_at dksX5_addNext_4 8 rfl rfl)
theorem dX5_addNext_102 : decode cX5_addNext 102 = .ok (.iload_n 3, 1) := dk_29 (dk_at dksX5_addNext_4 11 rfl rfl)
theorem dX5_addNext_103 : decode cX5_addNext 103 = .ok (.invokevirtual 94, 3) := dk_182 0 94 (dk_at dksX5_addNext_4 12 rfl rfl)
theorem dX5_addNext_106 : decode cX5_addNext 106 = .ok (.checkcast 148, 3) := dk_192 0 148 (dk_at dksX5_addNext_4 15 rfl rfl)
theorem dX5_addNext_109 : decode cX5_addNext 109 = .ok (.getfield 147, 3) := dk_180 0 147 (dk_at dksX5_addNext_4 18 rfl rfl)
theorem dX5_addNext_112 : decode cX5_addNext 112 = .ok (.aload_n 2, 1) := dk_44 (dk_at dksX5_addNext_4 21 rfl rfl)
theorem dX5_addNext_113 : decode cX5_addNext 113 = .ok (.invokestatic 151, 3) := dk_184 0 151 (dk_at dksX5_addNext_5 0 rfl rfl)
theorem dX5_addNext_116 : decode cX5_addNext 116 = .ok (.iinc 3 1, 3) := dk_132 3 1 (dk_at dksX5_addNext_5 3 rfl rfl)
theorem dX5_addNext_119 : decode cX5_addNext 119 = .ok (.goto (-50), 3) := dk_167 255 206 (dk_at dksX5_addNext_5 6 rfl rfl)
theorem dX5_addNext_122 : decode cX5_addNext 122 = .ok (.return_, 1) := dk_177 (dk_at dksX5_addNext_5 9 rfl rfl)
abbrev cX5_countBytes : ByteArray := prog_8_method_19_code
def yX5_countBytes : MethodName := ⟨RX5, "countBytes", "()I"⟩
def dkwX5_countBytes_1 : List UInt8 := [167, 0, 4, 3, 96, 60, 132, 2, 1, 167, 255, 228, 27, 172]
abbrev dktX5_countBytes_1 : List UInt8 := dkwX5_countBytes_1 ++ []
def dkwX5_countBytes_0 : List UInt8 := [3, 60, 3, 61, 28, 42, 180, 0, 58, 190, 162, 0, 25, 27, 42, 28, 182, 0, 126, 153, 0, 7, 4]
abbrev dktX5_countBytes_0 : List UInt8 := dkwX5_countBytes_0 ++ dktX5_countBytes_1
theorem dksX5_countBytes_0 : cX5_countBytes.data.toList.drop 0 = dktX5_countBytes_0 := by decide +kernel
theorem dksX5_countBytes_1 : cX5_countBytes.data.toList.drop 23 = dktX5_countBytes_1 := dk_seg dksX5_countBytes_0 23 rfl rfl
theorem dX5_countBytes_0 : decode cX5_countBytes 0 = .ok (.iconst 0, 1) := dk_3 (dk_at dksX5_countBytes_0 0 rfl rfl)
theorem dX5_countBytes_1 : decode cX5_countBytes 1 = .ok (.istore_n 1, 1) := dk_60 (dk_at dksX5_countBytes_0 1 rfl rfl)
theorem dX5_countBytes_2 : decode cX5_countBytes 2 = .ok (.iconst 0, 1) := dk_3 (dk_at dksX5_countBytes_0 2 rfl rfl)
theorem dX5_countBytes_3 : decode cX5_countBytes 3 = .ok (.istore_n 2, 1) := dk_61 (dk_at dksX5_countBytes_0 3 rfl rfl)
theorem dX5_countBytes_4 : decode cX5_countBytes 4 = .ok (.iload_n 2, 1) := dk_28 (dk_at dksX5_countBytes_0 4 rfl rfl)
theorem dX5_countBytes_5 : decode cX5_countBytes 5 = .ok (.aload_n 0, 1) := dk_42 (dk_at dksX5_countBytes_0 5 rfl rfl)
theorem dX5_countBytes_6 : decode cX5_countBytes 6 = .ok (.getfield 58, 3) := dk_180 0 58 (dk_at dksX5_countBytes_0 6 rfl rfl)
theorem dX5_countBytes_9 : decode cX5_countBytes 9 = .ok (.arraylength, 1) := dk_190 (dk_at dksX5_countBytes_0 9 rfl rfl)
theorem dX5_countBytes_10 : decode cX5_countBytes 10 = .ok (.if_icmp .ge 25, 3) := dk_162 0 25 (dk_at dksX5_countBytes_0 10 rfl rfl)
theorem dX5_countBytes_13 : decode cX5_countBytes 13 = .ok (.iload_n 1, 1) := dk_27 (dk_at dksX5_countBytes_0 13 rfl rfl)
theorem dX5_countBytes_14 : decode cX5_countBytes 14 = .ok (.aload_n 0, 1) := dk_42 (dk_at dksX5_countBytes_0 14 rfl rfl)
theorem dX5_countBytes_15 : decode cX5_countBytes 15 = .ok (.iload_n 2, 1) := dk_28 (dk_at dksX5_countBytes_0 15 rfl rfl)
theorem dX5_countBytes_16 : decode cX5_countBytes 16 = .ok (.invokevirtual 126, 3) := dk_182 0 126 (dk_at dksX5_countBytes_0 16 rfl rfl)
theorem dX5_countBytes_19 : decode cX5_countBytes 19 = .ok (.ifCond .eq 7, 3) := dk_153 0 7 (dk_at dksX5_countBytes_0 19 rfl rfl)
theorem dX5_countBytes_22 : decode cX5_countBytes 22 = .ok (.iconst 1, 1) := dk_4 (dk_at dksX5_countBytes_0 22 rfl rfl)
theorem dX5_countBytes_23 : decode cX5_countBytes 23 = .ok (.goto 4, 3) := dk_167 0 4 (dk_at dksX5_countBytes_1 0 rfl rfl)
theorem dX5_countBytes_26 : decode cX5_countBytes 26 = .ok (.iconst 0, 1) := dk_3 (dk_at dksX5_countBytes_1 3 rfl rfl)
theorem dX5_countBytes_27 : decode cX5_countBytes 27 = .ok (.iadd, 1) := dk_96 (dk_at dksX5_countBytes_1 4 rfl rfl)
theorem dX5_countBytes_28 : decode cX5_countBytes 28 = .ok (.istore_n 1, 1) := dk_60 (dk_at dksX5_countBytes_1 5 rfl rfl)
theorem dX5_countBytes_29 : decode cX5_countBytes 29 = .ok (.iinc 2 1, 3) := dk_132 2 1 (dk_at dksX5_countBytes_1 6 rfl rfl)
theorem dX5_countBytes_32 : decode cX5_countBytes 32 = .ok (.goto (-28), 3) := dk_167 255 228 (dk_at dksX5_countBytes_1 9 rfl rfl)
theorem dX5_countBytes_35 : decode cX5_countBytes 35 = .ok (.iload_n 1, 1) := dk_27 (dk_at dksX5_countBytes_1 12 rfl rfl)
theorem dX5_countBytes_36 : decode cX5_countBytes 36 = .ok (.ireturn, 1) := dk_172 (dk_at dksX5_countBytes_1 13 rfl rfl)
abbrev cX5_countInBlocks : ByteArray := prog_8_method_15_code
def yX5_countInBlocks : MethodName := ⟨RX5, "countInBlocks", "()I"⟩
def dkwX5_countInBlocks_1 : List UInt8 := [192, 0, 234, 180, 0, 238, 96, 60, 132, 2, 1, 167, 255, 225, 27, 172]
abbrev dktX5_countInBlocks_1 : List UInt8 := dkwX5_countInBlocks_1 ++ []
def dkwX5_countInBlocks_0 : List UInt8 := [3, 60, 3, 61, 28, 42, 180, 0, 38, 182, 0, 93, 162, 0, 26, 27, 42, 180, 0, 38, 28, 182, 0, 94]
abbrev dktX5_countInBlocks_0 : List UInt8 := dkwX5_countInBlocks_0 ++ dktX5_countInBlocks_1
theorem dksX5_countInBlocks_0 : cX5_countInBlocks.data.toList.drop 0 = dktX5_countInBlocks_0 := by decide +kernel
theorem dksX5_countInBlocks_1 : cX5_countInBlocks.data.toList.drop 24 = dktX5_countInBlocks_1 := dk_seg dksX5_countInBlocks_0 24 rfl rfl
theorem dX5_countInBlocks_0 : decode cX5_countInBlocks 0 = .ok (.iconst 0, 1) := dk_3 (dk_at dksX5_countInBlocks_0 0 rfl rfl)
theorem dX5_countInBlocks_1 : decode cX5_countInBlocks 1 = .ok (.istore_n 1, 1) := dk_60 (dk_at dksX5_countInBlocks_0 1 rfl rfl)
theorem dX5_countInBlocks_2 : decode cX5_countInBlocks 2 = .ok (.iconst 0, 1) := dk_3 (dk_at dksX5_countInBlocks_0 2 rfl rfl)
theorem dX5_countInBlocks_3 : decode cX5_countInBlocks 3 = .ok (.istore_n 2, 1) := dk_61 (dk_at dksX5_countInBlocks_0 3 rfl rfl)
theorem dX5_countInBlocks_4 : decode cX5_countInBlocks 4 = .ok (.iload_n 2, 1) := dk_28 (dk_at dksX5_countInBlocks_0 4 rfl rfl)
theorem dX5_countInBlocks_5 : decode cX5_countInBlocks 5 = .ok (.aload_n 0, 1) := dk_42 (dk_at dksX5_countInBlocks_0 5 rfl rfl)
theorem dX5_countInBlocks_6 : decode cX5_countInBlocks 6 = .ok (.getfield 38, 3) := dk_180 0 38 (dk_at dksX5_countInBlocks_0 6 rfl rfl)
theorem dX5_countInBlocks_9 : decode cX5_countInBlocks 9 = .ok (.invokevirtual 93, 3) := dk_182 0 93 (dk_at dksX5_countInBlocks_0 9 rfl rfl)
theorem dX5_countInBlocks_12 : decode cX5_countInBlocks 12 = .ok (.if_icmp .ge 26, 3) := dk_162 0 26 (dk_at dksX5_countInBlocks_0 12 rfl rfl)
theorem dX5_countInBlocks_15 : decode cX5_countInBlocks 15 = .ok (.iload_n 1, 1) := dk_27 (dk_at dksX5_countInBlocks_0 15 rfl rfl)
theorem dX5_countInBlocks_16 : decode cX5_countInBlocks 16 = .ok (.aload_n 0, 1) := dk_42 (dk_at dksX5_countInBlocks_0 16 rfl rfl)
theorem dX5_countInBlocks_17 : decode cX5_countInBlocks 17 = .ok (.getfield 38, 3) := dk_180 0 38 (dk_at dksX5_countInBlocks_0 17 rfl rfl)
theorem dX5_countInBlocks_20 : decode cX5_countInBlocks 20 = .ok (.iload_n 2, 1) := dk_28 (dk_at dksX5_countInBlocks_0 20 rfl rfl)
theorem dX5_countInBlocks_21 : decode cX5_countInBlocks 21 = .ok (.invokevirtual 94, 3) := dk_182 0 94 (dk_at dksX5_countInBlocks_0 21 rfl rfl)
theorem dX5_countInBlocks_24 : decode cX5_countInBlocks 24 = .ok (.checkcast 234, 3) := dk_192 0 234 (dk_at dksX5_countInBlocks_1 0 rfl rfl)
theorem dX5_countInBlocks_27 : decode cX5_countInBlocks 27 = .ok (.getfield 238, 3) := dk_180 0 238 (dk_at dksX5_countInBlocks_1 3 rfl rfl)
theorem dX5_countInBlocks_30 : decode cX5_countInBlocks 30 = .ok (.iadd, 1) := dk_96 (dk_at dksX5_countInBlocks_1 6 rfl rfl)
theorem dX5_countInBlocks_31 : decode cX5_countInBlocks 31 = .ok (.istore_n 1, 1) := dk_60 (dk_at dksX5_countInBlocks_1 7 rfl rfl)
theorem dX5_countInBlocks_32 : decode cX5_countInBlocks 32 = .ok (.iinc 2 1, 3) := dk_132 2 1 (dk_at dksX5_countInBlocks_1 8 rfl rfl)
theorem dX5_countInBlocks_35 : decode cX5_countInBlocks 35 = .ok (.goto (-31), 3) := dk_167 255 225 (dk_at dksX5_countInBlocks_1 11 rfl rfl)
theorem dX5_countInBlocks_38 : decode cX5_countInBlocks 38 = .ok (.iload_n 1, 1) := dk_27 (dk_at dksX5_countInBlocks_1 14 rfl rfl)
theorem dX5_countInBlocks_39 : decode cX5_countInBlocks 39 = .ok (.ireturn, 1) := dk_172 (dk_at dksX5_countInBlocks_1 15 rfl rfl)
theorem q103 : (Jvm.Cond.initialized "CodeRecovery$Recovery") ∈ lw_all := lw_g (lw_at lw_m1 26 rfl) rfl
theorem q134 : (Jvm.Cond.fieldLinkNest "CodeRecovery$Recovery" (201 : Nat) "CodeRecovery$Image" "bytes" "[I" "CodeRecovery") ∈ lw_tbl := lw_at lw_m1 57 rfl
theorem q137 : (Jvm.Cond.fieldLinkNest "CodeRecovery$Recovery" (62 : Nat) "CodeRecovery$Image" "entries" "[I" "CodeRecovery") ∈ lw_tbl := lw_at lw_m1 60 rfl
theorem q140 : (Jvm.Cond.fieldLinkNest "CodeRecovery$Recovery" (220 : Nat) "CodeRecovery$Image" "threshold" "I" "CodeRecovery") ∈ lw_tbl := lw_at lw_m1 63 rfl
theorem q202 : (Jvm.Cond.instantiable "CodeRecovery$Recovery" (9 : Nat)) ∈ lw_all := lw_g (lw_at lw_m1 125 rfl) rfl
theorem q204 : (Jvm.Cond.instanceMethod ({ cls := "CodeRecovery$Recovery", name := "<init>", desc := "(LCodeRecovery$Image;)V" } : Jvm.MethodName)) ∈ lw_all := lw_g (lw_at lw_m1 127 rfl) rfl
theorem q205 : (Jvm.Cond.code ({ cls := "CodeRecovery$Recovery", name := "<init>", desc := "(LCodeRecovery$Image;)V" } : Jvm.MethodName) prog_8_method_1_code (3 : Nat) (Option.none : Option Jvm.ClassFile.FieldType)) ∈ lw_all := lw_g (lw_at lw_m1 128 rfl) rfl
theorem q206 : (Jvm.Cond.methodLink "CodeRecovery$Recovery" (3 : Nat) ({ cls := "java/lang/Object", name := "<init>", desc := "()V" } : Jvm.MethodName)) ∈ lw_all := lw_g (lw_at lw_m1 129 rfl) rfl
theorem q207 : (Jvm.Cond.classLink "CodeRecovery$Recovery" (9 : Nat) "java/util/ArrayDeque") ∈ lw_all := lw_g (lw_at lw_m1 130 rfl) rfl
theorem q209 : (Jvm.Cond.methodLink "CodeRecovery$Recovery" (11 : Nat) ({ cls := "java/util/ArrayDeque", name := "<init>", desc := "()V" } : Jvm.MethodName)) ∈ lw_all := lw_g (lw_at lw_m1 132 rfl) rfl
theorem q228 : (Jvm.Cond.classLink "CodeRecovery$Recovery" (18 : Nat) "CodeRecovery$Distinct") ∈ lw_all := lw_g (lw_at lw_m1 151 rfl) rfl
theorem q230 : (Jvm.Cond.methodLinkNest "CodeRecovery$Recovery" (20 : Nat) ({ cls := "CodeRecovery$Distinct", name := "<init>", desc := "()V" } : Jvm.MethodName) "CodeRecovery") ∈ lw_tbl := lw_at lw_m1 153 rfl
theorem q261 : (Jvm.Cond.classLink "CodeRecovery$Recovery" (28 : Nat) "java/util/ArrayList") ∈ lw_all := lw_g (lw_at lw_m1 184 rfl) rfl
theorem q262 : (Jvm.Cond.methodLink "CodeRecovery$Recovery" (30 : Nat) ({ cls := "java/util/ArrayList", name := "<init>", desc := "()V" } : Jvm.MethodName)) ∈ lw_all := lw_g (lw_at lw_m1 185 rfl) rfl
theorem q263 : (Jvm.Cond.classLink "CodeRecovery$Recovery" (41 : Nat) "java/util/BitSet") ∈ lw_all := lw_g (lw_at lw_m1 186 rfl) rfl
theorem q265 : (Jvm.Cond.methodLink "CodeRecovery$Recovery" (43 : Nat) ({ cls := "java/util/BitSet", name := "<init>", desc := "()V" } : Jvm.MethodName)) ∈ lw_all := lw_g (lw_at lw_m1 188 rfl) rfl
theorem q287 : (Jvm.Cond.methodLink "CodeRecovery$Recovery" (52 : Nat) ({ cls := "CodeRecovery$Image", name := "size", desc := "()I" } : Jvm.MethodName)) ∈ lw_all := lw_g (lw_at lw_m1 210 rfl) rfl
theorem q288 : (Jvm.Cond.methodLink "CodeRecovery$Recovery" (65 : Nat) ({ cls := "java/lang/Integer", name := "valueOf", desc := "(I)Ljava/lang/Integer;" } : Jvm.MethodName)) ∈ lw_all := lw_g (lw_at lw_m1 211 rfl) rfl
theorem q308 : (Jvm.Cond.methodLink "CodeRecovery$Recovery" (71 : Nat) ({ cls := "java/util/ArrayDeque", name := "addLast", desc := "(Ljava/lang/Object;)V" } : Jvm.MethodName)) ∈ lw_all := lw_g (lw_at lw_m1 231 rfl) rfl
theorem q410 : (Jvm.Cond.selects "CodeRecovery$Recovery" ({ cls := "java/lang/Object", name := "getClass", desc := "()Ljava/lang/Class;" } : Jvm.MethodName) ({ cls := "java/lang/Object", name := "getClass", desc := "()Ljava/lang/Class;" } : Jvm.MethodName)) ∈ lw_all := lw_g (lw_at lw_m2 93 rfl) rfl
theorem q440 : (Jvm.Cond.methodLink "CodeRecovery$Recovery" (75 : Nat) ({ cls := "java/util/ArrayDeque", name := "isEmpty", desc := "()Z" } : Jvm.MethodName)) ∈ lw_all := lw_g (lw_at lw_m2 123 rfl) rfl
theorem q444 : (Jvm.Cond.methodLink "CodeRecovery$Recovery" (79 : Nat) ({ cls := "java/util/ArrayDeque", name := "removeFirst", desc := "()Ljava/lang/Object;" } : Jvm.MethodName)) ∈ lw_all := lw_g (lw_at lw_m2 127 rfl) rfl
theorem q476 : (Jvm.Cond.classLink "CodeRecovery$Recovery" (66 : Nat) "java/lang/Integer") ∈ lw_all := lw_g (lw_at lw_m2 159 rfl) rfl
theorem q477 : (Jvm.Cond.methodLink "CodeRecovery$Recovery" (83 : Nat) ({ cls := "java/lang/Integer", name := "intValue", desc := "()I" } : Jvm.MethodName)) ∈ lw_all := lw_g (lw_at lw_m2 160 rfl) rfl
theorem q481 : (Jvm.Cond.methodLink "CodeRecovery$Recovery" (86 : Nat) ({ cls := "CodeRecovery$Recovery", name := "follow", desc := "(I)I" } : Jvm.MethodName)) ∈ lw_all := lw_g (lw_at lw_m2 164 rfl) rfl
theorem q482 : (Jvm.Cond.privateMethod ({ cls := "CodeRecovery$Recovery", name := "follow", desc := "(I)I" } : Jvm.MethodName)) ∈ lw_tbl := lw_at lw_m2 165 rfl
theorem q483 : (Jvm.Cond.instanceMethod ({ cls := "CodeRecovery$Recovery", name := "follow", desc := "(I)I" } : Jvm.MethodName)) ∈ lw_all := lw_g (lw_at lw_m2 166 rfl) rfl
theorem q484 : (Jvm.Cond.code ({ cls := "CodeRecovery$Recovery", name := "follow", desc := "(I)I" } : Jvm.MethodName) prog_8_method_4_code (4 : Nat) (Option.some Jvm.ClassFile.FieldType.int)) ∈ lw_all := lw_g (lw_at lw_m2 167 rfl) rfl
theorem q485 : (Jvm.Cond.methodLink "CodeRecovery$Recovery" (113 : Nat) ({ cls := "CodeRecovery$Recovery", name := "isAccepted", desc := "(I)Z" } : Jvm.MethodName)) ∈ lw_all := lw_g (lw_at lw_m2 168 rfl) rfl
theorem q486 : (Jvm.Cond.instanceMethod ({ cls := "CodeRecovery$Recovery", name := "isAccepted", desc := "(I)Z" } : Jvm.MethodName)) ∈ lw_all := lw_g (lw_at lw_m2 169 rfl) rfl
theorem q487 : (Jvm.Cond.selects "CodeRecovery$Recovery" ({ cls := "CodeRecovery$Recovery", name := "isAccepted", desc := "(I)Z" } : Jvm.MethodName) ({ cls := "CodeRecovery$Recovery", name := "isAccepted", desc := "(I)Z" } : Jvm.MethodName)) ∈ lw_all := lw_g (lw_at lw_m2 170 rfl) rfl
theorem q488 : (Jvm.Cond.code ({ cls := "CodeRecovery$Recovery", name := "isAccepted", desc := "(I)Z" } : Jvm.MethodName) prog_8_method_2_code (2 : Nat) (Option.some Jvm.ClassFile.FieldType.boolean)) ∈ lw_all := lw_g (lw_at lw_m2 171 rfl) rfl
theorem q489 : (Jvm.Cond.methodLink "CodeRecovery$Recovery" (110 : Nat) ({ cls := "java/util/BitSet", name := "get", desc := "(I)Z" } : Jvm.MethodName)) ∈ lw_all := lw_g (lw_at lw_m2 172 rfl) rfl
theorem q766 : (Jvm.Cond.methodLink "CodeRecovery$Recovery" (116 : Nat) ({ cls := "CodeRecovery$Image", name := "isValid", desc := "(I)Z" } : Jvm.MethodName)) ∈ lw_all := lw_g (lw_at lw_m3 209 rfl) rfl
theorem q801 : (Jvm.Cond.methodLink "CodeRecovery$Recovery" (119 : Nat) ({ cls := "CodeRecovery$Distinct", name := "add", desc := "(Ljava/lang/Object;)Z" } : Jvm.MethodName)) ∈ lw_all := lw_g (lw_at lw_m4 4 rfl) rfl
theorem q827 : (Jvm.Cond.selects "CodeRecovery$Recovery" ({ cls := "java/lang/Object", name := "equals", desc := "(Ljava/lang/Object;)Z" } : Jvm.MethodName) ({ cls := "java/lang/Object", name := "equals", desc := "(Ljava/lang/Object;)Z" } : Jvm.MethodName)) ∈ lw_all := lw_g (lw_at lw_m4 30 rfl) rfl
theorem q870 : (Jvm.Cond.methodLink "CodeRecovery$Recovery" (123 : Nat) ({ cls := "CodeRecovery$Image", name := "length", desc := "(I)I" } : Jvm.MethodName)) ∈ lw_all := lw_g (lw_at lw_m4 73 rfl) rfl
theorem q871 : (Jvm.Cond.methodLink "CodeRecovery$Recovery" (126 : Nat) ({ cls := "CodeRecovery$Recovery", name := "isTaken", desc := "(I)Z" } : Jvm.MethodName)) ∈ lw_all := lw_g (lw_at lw_m4 74 rfl) rfl
theorem q872 : (Jvm.Cond.privateMethod ({ cls := "CodeRecovery$Recovery", name := "isTaken", desc := "(I)Z" } : Jvm.MethodName)) ∈ lw_tbl := lw_at lw_m4 75 rfl
theorem q873 : (Jvm.Cond.instanceMethod ({ cls := "CodeRecovery$Recovery", name := "isTaken", desc := "(I)Z" } : Jvm.MethodName)) ∈ lw_all := lw_g (lw_at lw_m4 76 rfl) rfl
theorem q874 : (Jvm.Cond.code ({ cls := "CodeRecovery$Recovery", name := "isTaken", desc := "(I)Z" } : Jvm.MethodName) prog_8_method_3_code (2 : Nat) (Option.some Jvm.ClassFile.FieldType.boolean)) ∈ lw_all := lw_g (lw_at lw_m4 77 rfl) rfl
theorem q875 : (Jvm.Cond.methodLink "CodeRecovery$Recovery" (129 : Nat) ({ cls := "java/util/BitSet", name := "set", desc := "(I)V" } : Jvm.MethodName)) ∈ lw_all := lw_g (lw_at lw_m4 78 rfl) rfl
theorem q896 : (Jvm.Cond.methodLink "CodeRecovery$Recovery" (133 : Nat) ({ cls := "CodeRecovery$Image", name := "hasTarget", desc := "(I)Z" } : Jvm.MethodName)) ∈ lw_all := lw_g (lw_at lw_m4 99 rfl) rfl
theorem q897 : (Jvm.Cond.methodLink "CodeRecovery$Recovery" (136 : Nat) ({ cls := "CodeRecovery$Image", name := "target", desc := "(I)I" } : Jvm.MethodName)) ∈ lw_all := lw_g (lw_at lw_m4 100 rfl) rfl
theorem q898 : (Jvm.Cond.methodLink "CodeRecovery$Recovery" (139 : Nat) ({ cls := "CodeRecovery$Image", name := "kind", desc := "(I)I" } : Jvm.MethodName)) ∈ lw_all := lw_g (lw_at lw_m4 101 rfl) rfl
theorem q899 : (Jvm.Cond.methodLink "CodeRecovery$Recovery" (142 : Nat) ({ cls := "CodeRecovery$Recovery", name := "makeTable", desc := "(I)LCodeRecovery$Table;" } : Jvm.MethodName)) ∈ lw_all := lw_g (lw_at lw_m4 102 rfl) rfl
theorem q900 : (Jvm.Cond.privateMethod ({ cls := "CodeRecovery$Recovery", name := "makeTable", desc := "(I)LCodeRecovery$Table;" } : Jvm.MethodName)) ∈ lw_tbl := lw_at lw_m4 103 rfl
theorem q901 : (Jvm.Cond.instanceMethod ({ cls := "CodeRecovery$Recovery", name := "makeTable", desc := "(I)LCodeRecovery$Table;" } : Jvm.MethodName)) ∈ lw_all := lw_g (lw_at lw_m4 104 rfl) rfl
theorem q902 : (Jvm.Cond.code ({ cls := "CodeRecovery$Recovery", name := "makeTable", desc := "(I)LCodeRecovery$Table;" } : Jvm.MethodName) prog_8_method_6_code (10 : Nat) (Option.some (Jvm.ClassFile.FieldType.object "CodeRecovery$Table"))) ∈ lw_all := lw_g (lw_at lw_m4 105 rfl) rfl
theorem q903 : (Jvm.Cond.methodLink "CodeRecovery$Recovery" (158 : Nat) ({ cls := "CodeRecovery$Image", name := "first", desc := "(I)I" } : Jvm.MethodName)) ∈ lw_all := lw_g (lw_at lw_m4 106 rfl) rfl
theorem q907 : (Jvm.Cond.methodLink "CodeRecovery$Recovery" (161 : Nat) ({ cls := "CodeRecovery$Recovery", name := "before", desc := "(I)I" } : Jvm.MethodName)) ∈ lw_all := lw_g (lw_at lw_m4 110 rfl) rfl
theorem q908 : (Jvm.Cond.privateMethod ({ cls := "CodeRecovery$Recovery", name := "before", desc := "(I)I" } : Jvm.MethodName)) ∈ lw_tbl := lw_at lw_m4 111 rfl
theorem q909 : (Jvm.Cond.instanceMethod ({ cls := "CodeRecovery$Recovery", name := "before", desc := "(I)I" } : Jvm.MethodName)) ∈ lw_all := lw_g (lw_at lw_m4 112 rfl) rfl
theorem q910 : (Jvm.Cond.code ({ cls := "CodeRecovery$Recovery", name := "before", desc := "(I)I" } : Jvm.MethodName) prog_8_method_5_code (5 : Nat) (Option.some Jvm.ClassFile.FieldType.int)) ∈ lw_all := lw_g (lw_at lw_m4 113 rfl) rfl
theorem q911 : (Jvm.Cond.methodLink "CodeRecovery$Recovery" (155 : Nat) ({ cls := "CodeRecovery$Image", name := "endsFlow", desc := "(I)Z" } : Jvm.MethodName)) ∈ lw_all := lw_g (lw_at lw_m4 114 rfl) rfl
theorem q915 : (Jvm.Cond.methodLink "CodeRecovery$Recovery" (164 : Nat) ({ cls := "CodeRecovery$Image", name := "operand", desc := "(I)I" } : Jvm.MethodName)) ∈ lw_all := lw_g (lw_at lw_m4 118 rfl) rfl
theorem q916 : (Jvm.Cond.methodLink "CodeRecovery$Recovery" (167 : Nat) ({ cls := "CodeRecovery$Image", name := "changes", desc := "(II)Z" } : Jvm.MethodName)) ∈ lw_all := lw_g (lw_at lw_m4 119 rfl) rfl
theorem q921 : (Jvm.Cond.classLink "CodeRecovery$Recovery" (148 : Nat) "CodeRecovery$Table") ∈ lw_all := lw_g (lw_at lw_m4 124 rfl) rfl
theorem q923 : (Jvm.Cond.methodLink "CodeRecovery$Recovery" (171 : Nat) ({ cls := "java/lang/Math", name := "min", desc := "(II)I" } : Jvm.MethodName)) ∈ lw_all := lw_g (lw_at lw_m4 126 rfl) rfl
theorem q924 : (Jvm.Cond.methodLink "CodeRecovery$Recovery" (177 : Nat) ({ cls := "CodeRecovery$Table", name := "<init>", desc := "(IIII)V" } : Jvm.MethodName)) ∈ lw_all := lw_g (lw_at lw_m4 127 rfl) rfl
theorem q931 : (Jvm.Cond.fieldLinkNest "CodeRecovery$Recovery" (249 : Nat) "CodeRecovery$Table" "jump" "I" "CodeRecovery") ∈ lw_tbl := lw_at lw_m4 134 rfl
theorem q933 : (Jvm.Cond.fieldLinkNest "CodeRecovery$Recovery" (188 : Nat) "CodeRecovery$Table" "begin" "I" "CodeRecovery") ∈ lw_tbl := lw_at lw_m4 136 rfl
theorem q935 : (Jvm.Cond.fieldLinkNest "CodeRecovery$Recovery" (195 : Nat) "CodeRecovery$Table" "bound" "I" "CodeRecovery") ∈ lw_tbl := lw_at lw_m4 138 rfl
theorem q937 : (Jvm.Cond.fieldLinkNest "CodeRecovery$Recovery" (184 : Nat) "CodeRecovery$Table" "only" "I" "CodeRecovery") ∈ lw_tbl := lw_at lw_m4 140 rfl
theorem q939 : (Jvm.Cond.fieldLinkNest "CodeRecovery$Recovery" (147 : Nat) "CodeRecovery$Table" "entries" "Ljava/util/ArrayList;" "CodeRecovery") ∈ lw_tbl := lw_at lw_m4 142 rfl
theorem q952 : (Jvm.Cond.methodLink "CodeRecovery$Recovery" (180 : Nat) ({ cls := "CodeRecovery$Recovery", name := "takeEntries", desc := "(LCodeRecovery$Table;)V" } : Jvm.MethodName)) ∈ lw_all := lw_g (lw_at lw_m4 155 rfl) rfl
theorem q953 : (Jvm.Cond.privateMethod ({ cls := "CodeRecovery$Recovery", name := "takeEntries", desc := "(LCodeRecovery$Table;)V" } : Jvm.MethodName)) ∈ lw_tbl := lw_at lw_m4 156 rfl
theorem q954 : (Jvm.Cond.instanceMethod ({ cls := "CodeRecovery$Recovery", name := "takeEntries", desc := "(LCodeRecovery$Table;)V" } : Jvm.MethodName)) ∈ lw_all := lw_g (lw_at lw_m4 157 rfl) rfl
theorem q955 : (Jvm.Cond.code ({ cls := "CodeRecovery$Recovery", name := "takeEntries", desc := "(LCodeRecovery$Table;)V" } : Jvm.MethodName) prog_8_method_7_code (6 : Nat) (Option.none : Option Jvm.ClassFile.FieldType)) ∈ lw_all := lw_g (lw_at lw_m4 158 rfl) rfl
theorem q956 : (Jvm.Cond.methodLink "CodeRecovery$Recovery" (191 : Nat) ({ cls := "CodeRecovery$Recovery", name := "takeEntry", desc := "(LCodeRecovery$Table;I)V" } : Jvm.MethodName)) ∈ lw_all := lw_g (lw_at lw_m4 159 rfl) rfl
theorem q957 : (Jvm.Cond.privateMethod ({ cls := "CodeRecovery$Recovery", name := "takeEntry", desc := "(LCodeRecovery$Table;I)V" } : Jvm.MethodName)) ∈ lw_tbl := lw_at lw_m4 160 rfl
theorem q958 : (Jvm.Cond.instanceMethod ({ cls := "CodeRecovery$Recovery", name := "takeEntry", desc := "(LCodeRecovery$Table;I)V" } : Jvm.MethodName)) ∈ lw_all := lw_g (lw_at lw_m4 161 rfl) rfl
theorem q959 : (Jvm.Cond.code ({ cls := "CodeRecovery$Recovery", name := "takeEntry", desc := "(LCodeRecovery$Table;I)V" } : Jvm.MethodName) prog_8_method_8_code (3 : Nat) (Option.none : Option Jvm.ClassFile.FieldType)) ∈ lw_all := lw_g (lw_at lw_m4 162 rfl) rfl
theorem q960 : (Jvm.Cond.methodLink "CodeRecovery$Recovery" (198 : Nat) ({ cls := "CodeRecovery$Image", name := "contains", desc := "(I)Z" } : Jvm.MethodName)) ∈ lw_all := lw_g (lw_at lw_m4 163 rfl) rfl
theorem q961 : (Jvm.Cond.methodLink "CodeRecovery$Recovery" (146 : Nat) ({ cls := "java/util/ArrayList", name := "add", desc := "(Ljava/lang/Object;)Z" } : Jvm.MethodName)) ∈ lw_all := lw_g (lw_at lw_m4 164 rfl) rfl
theorem q962 : (Jvm.Cond.methodLinkNest "CodeRecovery$Recovery" (151 : Nat) ({ cls := "CodeRecovery", name := "addAll", desc := "(Ljava/util/List;Ljava/util/ArrayDeque;)V" } : Jvm.MethodName) "CodeRecovery") ∈ lw_tbl := lw_at lw_m4 165 rfl
theorem q995 : (Jvm.Cond.methodLink "CodeRecovery$Recovery" (90 : Nat) ({ cls := "CodeRecovery$Recovery", name := "findGaps", desc := "()V" } : Jvm.MethodName)) ∈ lw_all := lw_g (lw_at lw_m4 198 rfl) rfl
theorem q996 : (Jvm.Cond.privateMethod ({ cls := "CodeRecovery$Recovery", name := "findGaps", desc := "()V" } : Jvm.MethodName)) ∈ lw_tbl := lw_at lw_m4 199 rfl
theorem q997 : (Jvm.Cond.instanceMethod ({ cls := "CodeRecovery$Recovery", name := "findGaps", desc := "()V" } : Jvm.MethodName)) ∈ lw_all := lw_g (lw_at lw_m4 200 rfl) rfl
theorem q998 : (Jvm.Cond.code ({ cls := "CodeRecovery$Recovery", name := "findGaps", desc := "()V" } : Jvm.MethodName) prog_8_method_9_code (3 : Nat) (Option.none : Option Jvm.ClassFile.FieldType)) ∈ lw_all := lw_g (lw_at lw_m4 201 rfl) rfl
theorem q999 : (Jvm.Cond.classLink "CodeRecovery$Recovery" (98 : Nat) "CodeRecovery$Gap") ∈ lw_all := lw_g (lw_at lw_m4 202 rfl) rfl
theorem q1001 : (Jvm.Cond.methodLink "CodeRecovery$Recovery" (204 : Nat) ({ cls := "CodeRecovery$Gap", name := "<init>", desc := "(II)V" } : Jvm.MethodName)) ∈ lw_all := lw_g (lw_at lw_m4 204 rfl) rfl
theorem q1006 : (Jvm.Cond.fieldLinkNest "CodeRecovery$Recovery" (207 : Nat) "CodeRecovery$Gap" "begin" "I" "CodeRecovery") ∈ lw_tbl := lw_at lw_m4 209 rfl
theorem q1009 : (Jvm.Cond.fieldLinkNest "CodeRecovery$Recovery" (214 : Nat) "CodeRecovery$Gap" "score" "I" "CodeRecovery") ∈ lw_tbl := lw_at lw_m4 212 rfl
theorem q1010 : (Jvm.Cond.fieldLinkNest "CodeRecovery$Recovery" (217 : Nat) "CodeRecovery$Gap" "instructions" "I" "CodeRecovery") ∈ lw_tbl := lw_at lw_m4 213 rfl
theorem q1020 : (Jvm.Cond.methodLink "CodeRecovery$Recovery" (93 : Nat) ({ cls := "java/util/ArrayList", name := "size", desc := "()I" } : Jvm.MethodName)) ∈ lw_all := lw_g (lw_at lw_m4 223 rfl) rfl
theorem q1021 : (Jvm.Cond.methodLink "CodeRecovery$Recovery" (94 : Nat) ({ cls := "java/util/ArrayList", name := "get", desc := "(I)Ljava/lang/Object;" } : Jvm.MethodName)) ∈ lw_all := lw_g (lw_at lw_m4 224 rfl) rfl
theorem q1022 : (Jvm.Cond.methodLink "CodeRecovery$Recovery" (100 : Nat) ({ cls := "CodeRecovery$Recovery", name := "test", desc := "(LCodeRecovery$Gap;)V" } : Jvm.MethodName)) ∈ lw_all := lw_g (lw_at lw_m4 225 rfl) rfl
theorem q1023 : (Jvm.Cond.privateMethod ({ cls := "CodeRecovery$Recovery", name := "test", desc := "(LCodeRecovery$Gap;)V" } : Jvm.MethodName)) ∈ lw_tbl := lw_at lw_m4 226 rfl
theorem q1024 : (Jvm.Cond.instanceMethod ({ cls := "CodeRecovery$Recovery", name := "test", desc := "(LCodeRecovery$Gap;)V" } : Jvm.MethodName)) ∈ lw_all := lw_g (lw_at lw_m4 227 rfl) rfl
theorem q1025 : (Jvm.Cond.code ({ cls := "CodeRecovery$Recovery", name := "test", desc := "(LCodeRecovery$Gap;)V" } : Jvm.MethodName) prog_8_method_10_code (8 : Nat) (Option.none : Option Jvm.ClassFile.FieldType)) ∈ lw_all := lw_g (lw_at lw_m4 228 rfl) rfl
theorem q1026 : (Jvm.Cond.methodLink "CodeRecovery$Recovery" (208 : Nat) ({ cls := "CodeRecovery$Gap", name := "end", desc := "()I" } : Jvm.MethodName)) ∈ lw_all := lw_g (lw_at lw_m4 229 rfl) rfl
theorem q1030 : (Jvm.Cond.methodLink "CodeRecovery$Recovery" (211 : Nat) ({ cls := "java/util/BitSet", name := "nextSetBit", desc := "(I)I" } : Jvm.MethodName)) ∈ lw_all := lw_g (lw_at lw_m4 233 rfl) rfl
theorem q1043 : (Jvm.Cond.methodLink "CodeRecovery$Recovery" (104 : Nat) ({ cls := "CodeRecovery$Recovery", name := "speculate", desc := "(LCodeRecovery$Gap;)V" } : Jvm.MethodName)) ∈ lw_all := lw_g (lw_at lw_m5 6 rfl) rfl
theorem q1044 : (Jvm.Cond.privateMethod ({ cls := "CodeRecovery$Recovery", name := "speculate", desc := "(LCodeRecovery$Gap;)V" } : Jvm.MethodName)) ∈ lw_tbl := lw_at lw_m5 7 rfl
theorem q1045 : (Jvm.Cond.instanceMethod ({ cls := "CodeRecovery$Recovery", name := "speculate", desc := "(LCodeRecovery$Gap;)V" } : Jvm.MethodName)) ∈ lw_all := lw_g (lw_at lw_m5 8 rfl) rfl
theorem q1046 : (Jvm.Cond.code ({ cls := "CodeRecovery$Recovery", name := "speculate", desc := "(LCodeRecovery$Gap;)V" } : Jvm.MethodName) prog_8_method_11_code (4 : Nat) (Option.none : Option Jvm.ClassFile.FieldType)) ∈ lw_all := lw_g (lw_at lw_m5 9 rfl) rfl
theorem q1047 : (Jvm.Cond.methodLink "CodeRecovery$Recovery" (107 : Nat) ({ cls := "CodeRecovery$Recovery", name := "findBlocks", desc := "()V" } : Jvm.MethodName)) ∈ lw_all := lw_g (lw_at lw_m5 10 rfl) rfl
theorem q1048 : (Jvm.Cond.privateMethod ({ cls := "CodeRecovery$Recovery", name := "findBlocks", desc := "()V" } : Jvm.MethodName)) ∈ lw_tbl := lw_at lw_m5 11 rfl
theorem q1049 : (Jvm.Cond.instanceMethod ({ cls := "CodeRecovery$Recovery", name := "findBlocks", desc := "()V" } : Jvm.MethodName)) ∈ lw_all := lw_g (lw_at lw_m5 12 rfl) rfl
theorem q1050 : (Jvm.Cond.code ({ cls := "CodeRecovery$Recovery", name := "findBlocks", desc := "()V" } : Jvm.MethodName) prog_8_method_14_code (7 : Nat) (Option.none : Option Jvm.ClassFile.FieldType)) ∈ lw_all := lw_g (lw_at lw_m5 13 rfl) rfl
theorem q1051 : (Jvm.Cond.methodLink "CodeRecovery$Recovery" (230 : Nat) ({ cls := "CodeRecovery$Recovery", name := "findLeaders", desc := "()Ljava/util/BitSet;" } : Jvm.MethodName)) ∈ lw_all := lw_g (lw_at lw_m5 14 rfl) rfl
theorem q1052 : (Jvm.Cond.privateMethod ({ cls := "CodeRecovery$Recovery", name := "findLeaders", desc := "()Ljava/util/BitSet;" } : Jvm.MethodName)) ∈ lw_tbl := lw_at lw_m5 15 rfl
theorem q1053 : (Jvm.Cond.instanceMethod ({ cls := "CodeRecovery$Recovery", name := "findLeaders", desc := "()Ljava/util/BitSet;" } : Jvm.MethodName)) ∈ lw_all := lw_g (lw_at lw_m5 16 rfl) rfl
theorem q1054 : (Jvm.Cond.code ({ cls := "CodeRecovery$Recovery", name := "findLeaders", desc := "()Ljava/util/BitSet;" } : Jvm.MethodName) prog_8_method_13_code (4 : Nat) (Option.some (Jvm.ClassFile.FieldType.object "java/util/BitSet"))) ∈ lw_all := lw_g (lw_at lw_m5 17 rfl) rfl
theorem q1055 : (Jvm.Cond.methodLink "CodeRecovery$Recovery" (223 : Nat) ({ cls := "CodeRecovery$Image", name := "endsBlock", desc := "(I)Z" } : Jvm.MethodName)) ∈ lw_all := lw_g (lw_at lw_m5 18 rfl) rfl
theorem q1060 : (Jvm.Cond.methodLink "CodeRecovery$Recovery" (226 : Nat) ({ cls := "java/util/BitSet", name := "and", desc := "(Ljava/util/BitSet;)V" } : Jvm.MethodName)) ∈ lw_all := lw_g (lw_at lw_m5 23 rfl) rfl
theorem q1068 : (Jvm.Cond.classLink "CodeRecovery$Recovery" (234 : Nat) "CodeRecovery$Block") ∈ lw_all := lw_g (lw_at lw_m5 31 rfl) rfl
theorem q1070 : (Jvm.Cond.methodLink "CodeRecovery$Recovery" (236 : Nat) ({ cls := "CodeRecovery$Block", name := "<init>", desc := "(I)V" } : Jvm.MethodName)) ∈ lw_all := lw_g (lw_at lw_m5 33 rfl) rfl
theorem q1076 : (Jvm.Cond.fieldLinkNest "CodeRecovery$Recovery" (238 : Nat) "CodeRecovery$Block" "instructions" "I" "CodeRecovery") ∈ lw_tbl := lw_at lw_m5 39 rfl
theorem q1078 : (Jvm.Cond.fieldLinkNest "CodeRecovery$Recovery" (239 : Nat) "CodeRecovery$Block" "last" "I" "CodeRecovery") ∈ lw_tbl := lw_at lw_m5 41 rfl
theorem q1086 : (Jvm.Cond.fieldLink "CodeRecovery$Recovery" (48 : Nat) "CodeRecovery$Recovery" "image" "LCodeRecovery$Image;") ∈ lw_all := lw_g (lw_at lw_m5 49 rfl) rfl
theorem q1087 : (Jvm.Cond.fieldLink "CodeRecovery$Recovery" (58 : Nat) "CodeRecovery$Recovery" "uses" "[I") ∈ lw_all := lw_g (lw_at lw_m5 50 rfl) rfl
theorem q1089 : (Jvm.Cond.fieldLink "CodeRecovery$Recovery" (12 : Nat) "CodeRecovery$Recovery" "list" "Ljava/util/ArrayDeque;") ∈ lw_all := lw_g (lw_at lw_m5 52 rfl) rfl
theorem q1090 : (Jvm.Cond.fieldLink "CodeRecovery$Recovery" (21 : Nat) "CodeRecovery$Recovery" "conflicts" "LCodeRecovery$Distinct;") ∈ lw_all := lw_g (lw_at lw_m5 53 rfl) rfl
theorem q1092 : (Jvm.Cond.fieldLink "CodeRecovery$Recovery" (25 : Nat) "CodeRecovery$Recovery" "badTargets" "LCodeRecovery$Distinct;") ∈ lw_all := lw_g (lw_at lw_m5 55 rfl) rfl
theorem q1094 : (Jvm.Cond.fieldLink "CodeRecovery$Recovery" (31 : Nat) "CodeRecovery$Recovery" "tables" "Ljava/util/ArrayList;") ∈ lw_all := lw_g (lw_at lw_m5 57 rfl) rfl
theorem q1096 : (Jvm.Cond.fieldLink "CodeRecovery$Recovery" (35 : Nat) "CodeRecovery$Recovery" "gaps" "Ljava/util/ArrayList;") ∈ lw_all := lw_g (lw_at lw_m5 59 rfl) rfl
theorem q1098 : (Jvm.Cond.fieldLink "CodeRecovery$Recovery" (38 : Nat) "CodeRecovery$Recovery" "blocks" "Ljava/util/ArrayList;") ∈ lw_all := lw_g (lw_at lw_m5 61 rfl) rfl
theorem q1100 : (Jvm.Cond.fieldLink "CodeRecovery$Recovery" (44 : Nat) "CodeRecovery$Recovery" "accepted" "Ljava/util/BitSet;") ∈ lw_all := lw_g (lw_at lw_m5 63 rfl) rfl
theorem q1102 : (Jvm.Cond.laysFinal "CodeRecovery$Recovery" "CodeRecovery$Recovery" "image" "LCodeRecovery$Image;") ∈ lw_all := lw_g (lw_at lw_m5 65 rfl) rfl
theorem q1103 : (Jvm.Cond.soleField "CodeRecovery$Recovery" "image") ∈ lw_all := lw_g (lw_at lw_m5 66 rfl) rfl
theorem q1104 : (Jvm.Cond.laysFinal "CodeRecovery$Recovery" "CodeRecovery$Recovery" "uses" "[I") ∈ lw_all := lw_g (lw_at lw_m5 67 rfl) rfl
theorem q1105 : (Jvm.Cond.soleField "CodeRecovery$Recovery" "uses") ∈ lw_all := lw_g (lw_at lw_m5 68 rfl) rfl
theorem q1106 : (Jvm.Cond.laysFinal "CodeRecovery$Recovery" "CodeRecovery$Recovery" "list" "Ljava/util/ArrayDeque;") ∈ lw_all := lw_g (lw_at lw_m5 69 rfl) rfl
theorem q1107 : (Jvm.Cond.soleField "CodeRecovery$Recovery" "list") ∈ lw_all := lw_g (lw_at lw_m5 70 rfl) rfl
theorem q1108 : (Jvm.Cond.laysFinal "CodeRecovery$Recovery" "CodeRecovery$Recovery" "conflicts" "LCodeRecovery$Distinct;") ∈ lw_all := lw_g (lw_at lw_m5 71 rfl) rfl
theorem q1109 : (Jvm.Cond.soleField "CodeRecovery$Recovery" "conflicts") ∈ lw_all := lw_g (lw_at lw_m5 72 rfl) rfl
theorem q1110 : (Jvm.Cond.laysFinal "CodeRecovery$Recovery" "CodeRecovery$Recovery" "badTargets" "LCodeRecovery$Distinct;") ∈ lw_all := lw_g (lw_at lw_m5 73 rfl) rfl
theorem q1111 : (Jvm.Cond.soleField "CodeRecovery$Recovery" "badTargets") ∈ lw_all := lw_g (lw_at lw_m5 74 rfl) rfl
theorem q1112 : (Jvm.Cond.laysFinal "CodeRecovery$Recovery" "CodeRecovery$Recovery" "tables" "Ljava/util/ArrayList;") ∈ lw_all := lw_g (lw_at lw_m5 75 rfl) rfl
theorem q1113 : (Jvm.Cond.soleField "CodeRecovery$Recovery" "tables") ∈ lw_all := lw_g (lw_at lw_m5 76 rfl) rfl
theorem q1114 : (Jvm.Cond.laysFinal "CodeRecovery$Recovery" "CodeRecovery$Recovery" "gaps" "Ljava/util/ArrayList;") ∈ lw_all := lw_g (lw_at lw_m5 77 rfl) rfl
theorem q1115 : (Jvm.Cond.soleField "CodeRecovery$Recovery" "gaps") ∈ lw_all := lw_g (lw_at lw_m5 78 rfl) rfl
theorem q1116 : (Jvm.Cond.laysFinal "CodeRecovery$Recovery" "CodeRecovery$Recovery" "blocks" "Ljava/util/ArrayList;") ∈ lw_all := lw_g (lw_at lw_m5 79 rfl) rfl
theorem q1117 : (Jvm.Cond.soleField "CodeRecovery$Recovery" "blocks") ∈ lw_all := lw_g (lw_at lw_m5 80 rfl) rfl
theorem q1118 : (Jvm.Cond.laysFinal "CodeRecovery$Recovery" "CodeRecovery$Recovery" "accepted" "Ljava/util/BitSet;") ∈ lw_all := lw_g (lw_at lw_m5 81 rfl) rfl
theorem q1119 : (Jvm.Cond.soleField "CodeRecovery$Recovery" "accepted") ∈ lw_all := lw_g (lw_at lw_m5 82 rfl) rfl
theorem q1120 : (Jvm.Cond.superclass "CodeRecovery$Recovery" "java/lang/Object") ∈ lw_all := lw_g (lw_at lw_m5 83 rfl) rfl
theorem q1469 : (Jvm.Cond.instanceMethod ({ cls := "CodeRecovery$Recovery", name := "countSpeculative", desc := "()I" } : Jvm.MethodName)) ∈ lw_all := lw_g (lw_at lw_m6 192 rfl) rfl
theorem q1470 : (Jvm.Cond.selects "CodeRecovery$Recovery" ({ cls := "CodeRecovery$Recovery", name := "countSpeculative", desc := "()I" } : Jvm.MethodName) ({ cls := "CodeRecovery$Recovery", name := "countSpeculative", desc := "()I" } : Jvm.MethodName)) ∈ lw_all := lw_g (lw_at lw_m6 193 rfl) rfl
theorem q1471 : (Jvm.Cond.code ({ cls := "CodeRecovery$Recovery", name := "countSpeculative", desc := "()I" } : Jvm.MethodName) prog_8_method_12_code (3 : Nat) (Option.some Jvm.ClassFile.FieldType.int)) ∈ lw_all := lw_g (lw_at lw_m6 194 rfl) rfl
theorem q1494 : (Jvm.Cond.instanceMethod ({ cls := "CodeRecovery$Recovery", name := "findHeads", desc := "()Ljava/util/BitSet;" } : Jvm.MethodName)) ∈ lw_all := lw_g (lw_at lw_m6 217 rfl) rfl
theorem q1495 : (Jvm.Cond.selects "CodeRecovery$Recovery" ({ cls := "CodeRecovery$Recovery", name := "findHeads", desc := "()Ljava/util/BitSet;" } : Jvm.MethodName) ({ cls := "CodeRecovery$Recovery", name := "findHeads", desc := "()Ljava/util/BitSet;" } : Jvm.MethodName)) ∈ lw_all := lw_g (lw_at lw_m6 218 rfl) rfl
theorem q1496 : (Jvm.Cond.code ({ cls := "CodeRecovery$Recovery", name := "findHeads", desc := "()Ljava/util/BitSet;" } : Jvm.MethodName) prog_8_method_16_code (3 : Nat) (Option.some (Jvm.ClassFile.FieldType.object "java/util/BitSet"))) ∈ lw_all := lw_g (lw_at lw_m6 219 rfl) rfl
theorem q1509 : (Jvm.Cond.instanceMethod ({ cls := "CodeRecovery$Recovery", name := "countReached", desc := "(I)I" } : Jvm.MethodName)) ∈ lw_all := lw_g (lw_at lw_m6 232 rfl) rfl
theorem q1510 : (Jvm.Cond.selects "CodeRecovery$Recovery" ({ cls := "CodeRecovery$Recovery", name := "countReached", desc := "(I)I" } : Jvm.MethodName) ({ cls := "CodeRecovery$Recovery", name := "countReached", desc := "(I)I" } : Jvm.MethodName)) ∈ lw_all := lw_g (lw_at lw_m6 233 rfl) rfl
theorem q1511 : (Jvm.Cond.code ({ cls := "CodeRecovery$Recovery", name := "countReached", desc := "(I)I" } : Jvm.MethodName) prog_8_method_17_code (5 : Nat) (Option.some Jvm.ClassFile.FieldType.int)) ∈ lw_all := lw_g (lw_at lw_m6 234 rfl) rfl
theorem q1512 : (Jvm.Cond.methodLink "CodeRecovery$Recovery" (242 : Nat) ({ cls := "CodeRecovery$Recovery", name := "addNext", desc := "(ILjava/util/ArrayDeque;)V" } : Jvm.MethodName)) ∈ lw_all := lw_g (lw_at lw_m6 235 rfl) rfl
theorem q1513 : (Jvm.Cond.privateMethod ({ cls := "CodeRecovery$Recovery", name := "addNext", desc := "(ILjava/util/ArrayDeque;)V" } : Jvm.MethodName)) ∈ lw_tbl := lw_at lw_m6 236 rfl
theorem q1514 : (Jvm.Cond.instanceMethod ({ cls := "CodeRecovery$Recovery", name := "addNext", desc := "(ILjava/util/ArrayDeque;)V" } : Jvm.MethodName)) ∈ lw_all := lw_g (lw_at lw_m6 237 rfl) rfl
theorem q1515 : (Jvm.Cond.code ({ cls := "CodeRecovery$Recovery", name := "addNext", desc := "(ILjava/util/ArrayDeque;)V" } : Jvm.MethodName) prog_8_method_18_code (4 : Nat) (Option.none : Option Jvm.ClassFile.FieldType)) ∈ lw_all := lw_g (lw_at lw_m6 238 rfl) rfl
theorem q1516 : (Jvm.Cond.methodLink "CodeRecovery$Recovery" (246 : Nat) ({ cls := "java/util/BitSet", name := "cardinality", desc := "()I" } : Jvm.MethodName)) ∈ lw_all := lw_g (lw_at lw_m6 239 rfl) rfl
theorem q1657 : (Jvm.Cond.instanceMethod ({ cls := "CodeRecovery$Recovery", name := "countBytes", desc := "()I" } : Jvm.MethodName)) ∈ lw_all := lw_g (lw_at lw_m7 140 rfl) rfl
theorem q1658 : (Jvm.Cond.selects "CodeRecovery$Recovery" ({ cls := "CodeRecovery$Recovery", name := "countBytes", desc := "()I" } : Jvm.MethodName) ({ cls := "CodeRecovery$Recovery", name := "countBytes", desc := "()I" } : Jvm.MethodName)) ∈ lw_all := lw_g (lw_at lw_m7 141 rfl) rfl
theorem q1659 : (Jvm.Cond.code ({ cls := "CodeRecovery$Recovery", name := "countBytes", desc := "()I" } : Jvm.MethodName) prog_8_method_19_code (3 : Nat) (Option.some Jvm.ClassFile.FieldType.int)) ∈ lw_all := lw_g (lw_at lw_m7 142 rfl) rfl
theorem q1668 : (Jvm.Cond.instanceMethod ({ cls := "CodeRecovery$Recovery", name := "countInBlocks", desc := "()I" } : Jvm.MethodName)) ∈ lw_all := lw_g (lw_at lw_m7 151 rfl) rfl
theorem q1669 : (Jvm.Cond.selects "CodeRecovery$Recovery" ({ cls := "CodeRecovery$Recovery", name := "countInBlocks", desc := "()I" } : Jvm.MethodName) ({ cls := "CodeRecovery$Recovery", name := "countInBlocks", desc := "()I" } : Jvm.MethodName)) ∈ lw_all := lw_g (lw_at lw_m7 152 rfl) rfl
theorem q1670 : (Jvm.Cond.code ({ cls := "CodeRecovery$Recovery", name := "countInBlocks", desc := "()I" } : Jvm.MethodName) prog_8_method_15_code (3 : Nat) (Option.some Jvm.ClassFile.FieldType.int)) ∈ lw_all := lw_g (lw_at lw_m7 153 rfl) rfl
theorem q2201 : (Jvm.Cond.castable "CodeRecovery$Recovery" "java/lang/Object") ∈ lw_tbl := lw_at lw_m9 204 rfl
theorem in_X5 : ∀ w ∈ wsX50, w ∈ lw_all := lw_in wsX50 [1102, 1104, 1106, 1108, 1110, 1112, 1114, 1116, 1118] (by decide +kernel) (by decide +kernel)

/-! CodeRecovery$Distinct -/
set_option maxRecDepth 100000
def RX6 : String := "CodeRecovery$Distinct"
def TX6 : u_T := fun k => match k with
  | _ => ("CodeRecovery$Distinct", "all", "Ljava/util/ArrayList;", true)
def tyX6 : Nat → FieldType := fun k => match k with
  | _ => .object "java/util/ArrayList"
abbrev wsX60 : List Cond := u_ws RX6 TX6 1
theorem nmX6 : ∀ a, a < 1 → ∀ b, b < 1 → a ≠ b → (TX6 a).2.1 ≠ (TX6 b).2.1 := by decide +kernel
theorem tyX6_ok : ∀ k, k < 1 → parseFieldDescriptor (TX6 k).2.2.1 = some (tyX6 k) := by decide +kernel
abbrev cX6_init : ByteArray := prog_3_method_1_code
def yX6_init : MethodName := ⟨RX6, "<init>", "()V"⟩
def dkwX6_init_0 : List UInt8 := [42, 183, 0, 1, 42, 187, 0, 7, 89, 183, 0, 9, 181, 0, 10, 177]
abbrev dktX6_init_0 : List UInt8 := dkwX6_init_0 ++ []
theorem dksX6_init_0 : cX6_init.data.toList.drop 0 = dktX6_init_0 := by decide +kernel
theorem dX6_init_0 : decode cX6_init 0 = .ok (.aload_n 0, 1) := dk_42 (dk_at dksX6_init_0 0 rfl rfl)
theorem dX6_init_1 : decode cX6_init 1 = .ok (.invokespecial 1, 3) := dk_183 0 1 (dk_at dksX6_init_0 1 rfl rfl)
theorem dX6_init_4 : decode cX6_init 4 = .ok (.aload_n 0, 1) := dk_42 (dk_at dksX6_init_0 4 rfl rfl)
theorem dX6_init_5 : decode cX6_init 5 = .ok (.new 7, 3) := dk_187 0 7 (dk_at dksX6_init_0 5 rfl rfl)
theorem dX6_init_8 : decode cX6_init 8 = .ok (.dup, 1) := dk_89 (dk_at dksX6_init_0 8 rfl rfl)
theorem dX6_init_9 : decode cX6_init 9 = .ok (.invokespecial 9, 3) := dk_183 0 9 (dk_at dksX6_init_0 9 rfl rfl)
theorem dX6_init_12 : decode cX6_init 12 = .ok (.putfield 10, 3) := dk_181 0 10 (dk_at dksX6_init_0 12 rfl rfl)
theorem dX6_init_15 : decode cX6_init 15 = .ok (.return_, 1) := dk_177 (dk_at dksX6_init_0 15 rfl rfl)
abbrev cX6_add : ByteArray := prog_3_method_2_code
def yX6_add : MethodName := ⟨RX6, "add", "(Ljava/lang/Object;)Z"⟩
def dkwX6_add_1 : List UInt8 := [167, 0, 4, 3, 172]
abbrev dktX6_add_1 : List UInt8 := dkwX6_add_1 ++ []
def dkwX6_add_0 : List UInt8 := [42, 180, 0, 10, 43, 182, 0, 16, 154, 0, 18, 42, 180, 0, 10, 43, 182, 0, 20, 153, 0, 7, 4]
abbrev dktX6_add_0 : List UInt8 := dkwX6_add_0 ++ dktX6_add_1
theorem dksX6_add_0 : cX6_add.data.toList.drop 0 = dktX6_add_0 := by decide +kernel
theorem dksX6_add_1 : cX6_add.data.toList.drop 23 = dktX6_add_1 := dk_seg dksX6_add_0 23 rfl rfl
theorem dX6_add_0 : decode cX6_add 0 = .ok (.aload_n 0, 1) := dk_42 (dk_at dksX6_add_0 0 rfl rfl)
theorem dX6_add_1 : decode cX6_add 1 = .ok (.getfield 10, 3) := dk_180 0 10 (dk_at dksX6_add_0 1 rfl rfl)
theorem dX6_add_4 : decode cX6_add 4 = .ok (.aload_n 1, 1) := dk_43 (dk_at dksX6_add_0 4 rfl rfl)
theorem dX6_add_5 : decode cX6_add 5 = .ok (.invokevirtual 16, 3) := dk_182 0 16 (dk_at dksX6_add_0 5 rfl rfl)
theorem dX6_add_8 : decode cX6_add 8 = .ok (.ifCond .ne 18, 3) := dk_154 0 18 (dk_at dksX6_add_0 8 rfl rfl)
theorem dX6_add_11 : decode cX6_add 11 = .ok (.aload_n 0, 1) := dk_42 (dk_at dksX6_add_0 11 rfl rfl)
theorem dX6_add_12 : decode cX6_add 12 = .ok (.getfield 10, 3) := dk_180 0 10 (dk_at dksX6_add_0 12 rfl rfl)
theorem dX6_add_15 : decode cX6_add 15 = .ok (.aload_n 1, 1) := dk_43 (dk_at dksX6_add_0 15 rfl rfl)
theorem dX6_add_16 : decode cX6_add 16 = .ok (.invokevirtual 20, 3) := dk_182 0 20 (dk_at dksX6_add_0 16 rfl rfl)
theorem dX6_add_19 : decode cX6_add 19 = .ok (.ifCond .eq 7, 3) := dk_153 0 7 (dk_at dksX6_add_0 19 rfl rfl)
theorem dX6_add_22 : decode cX6_add 22 = .ok (.iconst 1, 1) := dk_4 (dk_at dksX6_add_0 22 rfl rfl)
theorem dX6_add_23 : decode cX6_add 23 = .ok (.goto 4, 3) := dk_167 0 4 (dk_at dksX6_add_1 0 rfl rfl)
theorem dX6_add_26 : decode cX6_add 26 = .ok (.iconst 0, 1) := dk_3 (dk_at dksX6_add_1 3 rfl rfl)
theorem dX6_add_27 : decode cX6_add 27 = .ok (.ireturn, 1) := dk_172 (dk_at dksX6_add_1 4 rfl rfl)
abbrev cX6_size : ByteArray := prog_3_method_4_code
def yX6_size : MethodName := ⟨RX6, "size", "()I"⟩
def dkwX6_size_0 : List UInt8 := [42, 180, 0, 10, 182, 0, 23, 172]
abbrev dktX6_size_0 : List UInt8 := dkwX6_size_0 ++ []
theorem dksX6_size_0 : cX6_size.data.toList.drop 0 = dktX6_size_0 := by decide +kernel
theorem dX6_size_0 : decode cX6_size 0 = .ok (.aload_n 0, 1) := dk_42 (dk_at dksX6_size_0 0 rfl rfl)
theorem dX6_size_1 : decode cX6_size 1 = .ok (.getfield 10, 3) := dk_180 0 10 (dk_at dksX6_size_0 1 rfl rfl)
theorem dX6_size_4 : decode cX6_size 4 = .ok (.invokevirtual 23, 3) := dk_182 0 23 (dk_at dksX6_size_0 4 rfl rfl)
theorem dX6_size_7 : decode cX6_size 7 = .ok (.ireturn, 1) := dk_172 (dk_at dksX6_size_0 7 rfl rfl)
abbrev cX6_get : ByteArray := prog_3_method_3_code
def yX6_get : MethodName := ⟨RX6, "get", "(I)Ljava/lang/Object;"⟩
def dkwX6_get_1 : List UInt8 := [182, 0, 37, 176]
abbrev dktX6_get_1 : List UInt8 := dkwX6_get_1 ++ []
def dkwX6_get_0 : List UInt8 := [27, 3, 42, 180, 0, 10, 182, 0, 23, 4, 100, 184, 0, 27, 184, 0, 33, 42, 180, 0, 10, 27]
abbrev dktX6_get_0 : List UInt8 := dkwX6_get_0 ++ dktX6_get_1
theorem dksX6_get_0 : cX6_get.data.toList.drop 0 = dktX6_get_0 := by decide +kernel
theorem dksX6_get_1 : cX6_get.data.toList.drop 22 = dktX6_get_1 := dk_seg dksX6_get_0 22 rfl rfl
theorem dX6_get_0 : decode cX6_get 0 = .ok (.iload_n 1, 1) := dk_27 (dk_at dksX6_get_0 0 rfl rfl)
theorem dX6_get_1 : decode cX6_get 1 = .ok (.iconst 0, 1) := dk_3 (dk_at dksX6_get_0 1 rfl rfl)
theorem dX6_get_2 : decode cX6_get 2 = .ok (.aload_n 0, 1) := dk_42 (dk_at dksX6_get_0 2 rfl rfl)
theorem dX6_get_3 : decode cX6_get 3 = .ok (.getfield 10, 3) := dk_180 0 10 (dk_at dksX6_get_0 3 rfl rfl)
theorem dX6_get_6 : decode cX6_get 6 = .ok (.invokevirtual 23, 3) := dk_182 0 23 (dk_at dksX6_get_0 6 rfl rfl)
theorem dX6_get_9 : decode cX6_get 9 = .ok (.iconst 1, 1) := dk_4 (dk_at dksX6_get_0 9 rfl rfl)
theorem dX6_get_10 : decode cX6_get 10 = .ok (.isub, 1) := dk_100 (dk_at dksX6_get_0 10 rfl rfl)
theorem dX6_get_11 : decode cX6_get 11 = .ok (.invokestatic 27, 3) := dk_184 0 27 (dk_at dksX6_get_0 11 rfl rfl)
theorem dX6_get_14 : decode cX6_get 14 = .ok (.invokestatic 33, 3) := dk_184 0 33 (dk_at dksX6_get_0 14 rfl rfl)
theorem dX6_get_17 : decode cX6_get 17 = .ok (.aload_n 0, 1) := dk_42 (dk_at dksX6_get_0 17 rfl rfl)
theorem dX6_get_18 : decode cX6_get 18 = .ok (.getfield 10, 3) := dk_180 0 10 (dk_at dksX6_get_0 18 rfl rfl)
theorem dX6_get_21 : decode cX6_get 21 = .ok (.iload_n 1, 1) := dk_27 (dk_at dksX6_get_0 21 rfl rfl)
theorem dX6_get_22 : decode cX6_get 22 = .ok (.invokevirtual 37, 3) := dk_182 0 37 (dk_at dksX6_get_1 0 rfl rfl)
theorem dX6_get_25 : decode cX6_get 25 = .ok (.areturn, 1) := dk_176 (dk_at dksX6_get_1 3 rfl rfl)
theorem q105 : (Jvm.Cond.initialized "CodeRecovery$Distinct") ∈ lw_all := lw_g (lw_at lw_m1 28 rfl) rfl
theorem q229 : (Jvm.Cond.instantiable "CodeRecovery$Distinct" (1 : Nat)) ∈ lw_all := lw_g (lw_at lw_m1 152 rfl) rfl
theorem q231 : (Jvm.Cond.instanceMethod ({ cls := "CodeRecovery$Distinct", name := "<init>", desc := "()V" } : Jvm.MethodName)) ∈ lw_all := lw_g (lw_at lw_m1 154 rfl) rfl
theorem q232 : (Jvm.Cond.code ({ cls := "CodeRecovery$Distinct", name := "<init>", desc := "()V" } : Jvm.MethodName) prog_3_method_1_code (1 : Nat) (Option.none : Option Jvm.ClassFile.FieldType)) ∈ lw_all := lw_g (lw_at lw_m1 155 rfl) rfl
theorem q233 : (Jvm.Cond.methodLink "CodeRecovery$Distinct" (1 : Nat) ({ cls := "java/lang/Object", name := "<init>", desc := "()V" } : Jvm.MethodName)) ∈ lw_all := lw_g (lw_at lw_m1 156 rfl) rfl
theorem q234 : (Jvm.Cond.classLink "CodeRecovery$Distinct" (7 : Nat) "java/util/ArrayList") ∈ lw_all := lw_g (lw_at lw_m1 157 rfl) rfl
theorem q236 : (Jvm.Cond.methodLink "CodeRecovery$Distinct" (9 : Nat) ({ cls := "java/util/ArrayList", name := "<init>", desc := "()V" } : Jvm.MethodName)) ∈ lw_all := lw_g (lw_at lw_m1 159 rfl) rfl
theorem q257 : (Jvm.Cond.fieldLink "CodeRecovery$Distinct" (10 : Nat) "CodeRecovery$Distinct" "all" "Ljava/util/ArrayList;") ∈ lw_all := lw_g (lw_at lw_m1 180 rfl) rfl
theorem q258 : (Jvm.Cond.laysFinal "CodeRecovery$Distinct" "CodeRecovery$Distinct" "all" "Ljava/util/ArrayList;") ∈ lw_all := lw_g (lw_at lw_m1 181 rfl) rfl
theorem q259 : (Jvm.Cond.soleField "CodeRecovery$Distinct" "all") ∈ lw_all := lw_g (lw_at lw_m1 182 rfl) rfl
theorem q260 : (Jvm.Cond.superclass "CodeRecovery$Distinct" "java/lang/Object") ∈ lw_all := lw_g (lw_at lw_m1 183 rfl) rfl
theorem q406 : (Jvm.Cond.selects "CodeRecovery$Distinct" ({ cls := "java/lang/Object", name := "getClass", desc := "()Ljava/lang/Class;" } : Jvm.MethodName) ({ cls := "java/lang/Object", name := "getClass", desc := "()Ljava/lang/Class;" } : Jvm.MethodName)) ∈ lw_all := lw_g (lw_at lw_m2 89 rfl) rfl
theorem q802 : (Jvm.Cond.instanceMethod ({ cls := "CodeRecovery$Distinct", name := "add", desc := "(Ljava/lang/Object;)Z" } : Jvm.MethodName)) ∈ lw_all := lw_g (lw_at lw_m4 5 rfl) rfl
theorem q803 : (Jvm.Cond.selects "CodeRecovery$Distinct" ({ cls := "CodeRecovery$Distinct", name := "add", desc := "(Ljava/lang/Object;)Z" } : Jvm.MethodName) ({ cls := "CodeRecovery$Distinct", name := "add", desc := "(Ljava/lang/Object;)Z" } : Jvm.MethodName)) ∈ lw_all := lw_g (lw_at lw_m4 6 rfl) rfl
theorem q804 : (Jvm.Cond.code ({ cls := "CodeRecovery$Distinct", name := "add", desc := "(Ljava/lang/Object;)Z" } : Jvm.MethodName) prog_3_method_2_code (2 : Nat) (Option.some Jvm.ClassFile.FieldType.boolean)) ∈ lw_all := lw_g (lw_at lw_m4 7 rfl) rfl
theorem q805 : (Jvm.Cond.methodLink "CodeRecovery$Distinct" (16 : Nat) ({ cls := "java/util/ArrayList", name := "contains", desc := "(Ljava/lang/Object;)Z" } : Jvm.MethodName)) ∈ lw_all := lw_g (lw_at lw_m4 8 rfl) rfl
theorem q823 : (Jvm.Cond.selects "CodeRecovery$Distinct" ({ cls := "java/lang/Object", name := "equals", desc := "(Ljava/lang/Object;)Z" } : Jvm.MethodName) ({ cls := "java/lang/Object", name := "equals", desc := "(Ljava/lang/Object;)Z" } : Jvm.MethodName)) ∈ lw_all := lw_g (lw_at lw_m4 26 rfl) rfl
theorem q850 : (Jvm.Cond.methodLink "CodeRecovery$Distinct" (20 : Nat) ({ cls := "java/util/ArrayList", name := "add", desc := "(Ljava/lang/Object;)Z" } : Jvm.MethodName)) ∈ lw_all := lw_g (lw_at lw_m4 53 rfl) rfl
theorem q1361 : (Jvm.Cond.instanceMethod ({ cls := "CodeRecovery$Distinct", name := "size", desc := "()I" } : Jvm.MethodName)) ∈ lw_all := lw_g (lw_at lw_m6 84 rfl) rfl
theorem q1362 : (Jvm.Cond.selects "CodeRecovery$Distinct" ({ cls := "CodeRecovery$Distinct", name := "size", desc := "()I" } : Jvm.MethodName) ({ cls := "CodeRecovery$Distinct", name := "size", desc := "()I" } : Jvm.MethodName)) ∈ lw_all := lw_g (lw_at lw_m6 85 rfl) rfl
theorem q1363 : (Jvm.Cond.code ({ cls := "CodeRecovery$Distinct", name := "size", desc := "()I" } : Jvm.MethodName) prog_3_method_4_code (1 : Nat) (Option.some Jvm.ClassFile.FieldType.int)) ∈ lw_all := lw_g (lw_at lw_m6 86 rfl) rfl
theorem q1364 : (Jvm.Cond.methodLink "CodeRecovery$Distinct" (23 : Nat) ({ cls := "java/util/ArrayList", name := "size", desc := "()I" } : Jvm.MethodName)) ∈ lw_all := lw_g (lw_at lw_m6 87 rfl) rfl
theorem q1373 : (Jvm.Cond.instanceMethod ({ cls := "CodeRecovery$Distinct", name := "get", desc := "(I)Ljava/lang/Object;" } : Jvm.MethodName)) ∈ lw_all := lw_g (lw_at lw_m6 96 rfl) rfl
theorem q1374 : (Jvm.Cond.selects "CodeRecovery$Distinct" ({ cls := "CodeRecovery$Distinct", name := "get", desc := "(I)Ljava/lang/Object;" } : Jvm.MethodName) ({ cls := "CodeRecovery$Distinct", name := "get", desc := "(I)Ljava/lang/Object;" } : Jvm.MethodName)) ∈ lw_all := lw_g (lw_at lw_m6 97 rfl) rfl
theorem q1375 : (Jvm.Cond.code ({ cls := "CodeRecovery$Distinct", name := "get", desc := "(I)Ljava/lang/Object;" } : Jvm.MethodName) prog_3_method_3_code (2 : Nat) (Option.some (Jvm.ClassFile.FieldType.object "java/lang/Object"))) ∈ lw_all := lw_g (lw_at lw_m6 98 rfl) rfl
theorem q1376 : (Jvm.Cond.methodLinkNest "CodeRecovery$Distinct" (27 : Nat) ({ cls := "CodeRecovery", name := "isBetween", desc := "(III)Z" } : Jvm.MethodName) "CodeRecovery") ∈ lw_tbl := lw_at lw_m6 99 rfl
theorem q1377 : (Jvm.Cond.methodLinkNest "CodeRecovery$Distinct" (33 : Nat) ({ cls := "CodeRecovery", name := "requireIndex", desc := "(Z)V" } : Jvm.MethodName) "CodeRecovery") ∈ lw_tbl := lw_at lw_m6 100 rfl
theorem q1378 : (Jvm.Cond.methodLink "CodeRecovery$Distinct" (37 : Nat) ({ cls := "java/util/ArrayList", name := "get", desc := "(I)Ljava/lang/Object;" } : Jvm.MethodName)) ∈ lw_all := lw_g (lw_at lw_m6 101 rfl) rfl
theorem q2203 : (Jvm.Cond.castable "CodeRecovery$Distinct" "java/lang/Object") ∈ lw_tbl := lw_at lw_m9 206 rfl
theorem in_X6 : ∀ w ∈ wsX60, w ∈ lw_all := lw_in wsX60 [258] (by decide +kernel) (by decide +kernel)

/-! CodeRecovery$Table -/
set_option maxRecDepth 100000
def RX7 : String := "CodeRecovery$Table"
def TX7 : u_T := fun k => match k with
  | 0 => ("CodeRecovery$Table", "jump", "I", true)
  | 1 => ("CodeRecovery$Table", "begin", "I", true)
  | 2 => ("CodeRecovery$Table", "bound", "I", true)
  | 3 => ("CodeRecovery$Table", "only", "I", true)
  | _ => ("CodeRecovery$Table", "entries", "Ljava/util/ArrayList;", true)
def tyX7 : Nat → FieldType := fun k => match k with
  | 0 => .int
  | 1 => .int
  | 2 => .int
  | 3 => .int
  | _ => .object "java/util/ArrayList"
abbrev wsX70 : List Cond := u_ws RX7 TX7 5
theorem nmX7 : ∀ a, a < 5 → ∀ b, b < 5 → a ≠ b → (TX7 a).2.1 ≠ (TX7 b).2.1 := by decide +kernel
theorem tyX7_ok : ∀ k, k < 5 → parseFieldDescriptor (TX7 k).2.2.1 = some (tyX7 k) := by decide +kernel
abbrev cX7_init : ByteArray := prog_10_method_1_code
def yX7_init : MethodName := ⟨RX7, "<init>", "(IIII)V"⟩
def dkwX7_init_1 : List UInt8 := [181, 0, 20, 42, 29, 181, 0, 23, 42, 21, 4, 181, 0, 26, 177]
abbrev dktX7_init_1 : List UInt8 := dkwX7_init_1 ++ []
def dkwX7_init_0 : List UInt8 := [42, 183, 0, 1, 42, 187, 0, 7, 89, 183, 0, 9, 181, 0, 10, 42, 27, 181, 0, 16, 42, 28]
abbrev dktX7_init_0 : List UInt8 := dkwX7_init_0 ++ dktX7_init_1
theorem dksX7_init_0 : cX7_init.data.toList.drop 0 = dktX7_init_0 := by decide +kernel
theorem dksX7_init_1 : cX7_init.data.toList.drop 22 = dktX7_init_1 := dk_seg dksX7_init_0 22 rfl rfl
theorem dX7_init_0 : decode cX7_init 0 = .ok (.aload_n 0, 1) := dk_42 (dk_at dksX7_init_0 0 rfl rfl)
theorem dX7_init_1 : decode cX7_init 1 = .ok (.invokespecial 1, 3) := dk_183 0 1 (dk_at dksX7_init_0 1 rfl rfl)
theorem dX7_init_4 : decode cX7_init 4 = .ok (.aload_n 0, 1) := dk_42 (dk_at dksX7_init_0 4 rfl rfl)
theorem dX7_init_5 : decode cX7_init 5 = .ok (.new 7, 3) := dk_187 0 7 (dk_at dksX7_init_0 5 rfl rfl)
theorem dX7_init_8 : decode cX7_init 8 = .ok (.dup, 1) := dk_89 (dk_at dksX7_init_0 8 rfl rfl)
theorem dX7_init_9 : decode cX7_init 9 = .ok (.invokespecial 9, 3) := dk_183 0 9 (dk_at dksX7_init_0 9 rfl rfl)
theorem dX7_init_12 : decode cX7_init 12 = .ok (.putfield 10, 3) := dk_181 0 10 (dk_at dksX7_init_0 12 rfl rfl)
theorem dX7_init_15 : decode cX7_init 15 = .ok (.aload_n 0, 1) := dk_42 (dk_at dksX7_init_0 15 rfl rfl)
theorem dX7_init_16 : decode cX7_init 16 = .ok (.iload_n 1, 1) := dk_27 (dk_at dksX7_init_0 16 rfl rfl)
theorem dX7_init_17 : decode cX7_init 17 = .ok (.putfield 16, 3) := dk_181 0 16 (dk_at dksX7_init_0 17 rfl rfl)
theorem dX7_init_20 : decode cX7_init 20 = .ok (.aload_n 0, 1) := dk_42 (dk_at dksX7_init_0 20 rfl rfl)
theorem dX7_init_21 : decode cX7_init 21 = .ok (.iload_n 2, 1) := dk_28 (dk_at dksX7_init_0 21 rfl rfl)
theorem dX7_init_22 : decode cX7_init 22 = .ok (.putfield 20, 3) := dk_181 0 20 (dk_at dksX7_init_1 0 rfl rfl)
theorem dX7_init_25 : decode cX7_init 25 = .ok (.aload_n 0, 1) := dk_42 (dk_at dksX7_init_1 3 rfl rfl)
theorem dX7_init_26 : decode cX7_init 26 = .ok (.iload_n 3, 1) := dk_29 (dk_at dksX7_init_1 4 rfl rfl)
theorem dX7_init_27 : decode cX7_init 27 = .ok (.putfield 23, 3) := dk_181 0 23 (dk_at dksX7_init_1 5 rfl rfl)
theorem dX7_init_30 : decode cX7_init 30 = .ok (.aload_n 0, 1) := dk_42 (dk_at dksX7_init_1 8 rfl rfl)
theorem dX7_init_31 : decode cX7_init 31 = .ok (.iload 4, 2) := dk_21 4 (dk_at dksX7_init_1 9 rfl rfl)
theorem dX7_init_33 : decode cX7_init 33 = .ok (.putfield 26, 3) := dk_181 0 26 (dk_at dksX7_init_1 11 rfl rfl)
theorem dX7_init_36 : decode cX7_init 36 = .ok (.return_, 1) := dk_177 (dk_at dksX7_init_1 14 rfl rfl)
abbrev cX7_part : ByteArray := prog_10_method_2_code
def yX7_part : MethodName := ⟨RX7, "part", "(I)I"⟩
def dkwX7_part_1 : List UInt8 := [5, 160, 0, 10, 42, 180, 0, 23, 167, 0, 10, 42, 180, 0, 10, 182, 0, 29, 172]
abbrev dktX7_part_1 : List UInt8 := dkwX7_part_1 ++ []
def dkwX7_part_0 : List UInt8 := [27, 154, 0, 10, 42, 180, 0, 16, 167, 0, 34, 27, 4, 160, 0, 10, 42, 180, 0, 20, 167, 0, 22, 27]
abbrev dktX7_part_0 : List UInt8 := dkwX7_part_0 ++ dktX7_part_1
theorem dksX7_part_0 : cX7_part.data.toList.drop 0 = dktX7_part_0 := by decide +kernel
theorem dksX7_part_1 : cX7_part.data.toList.drop 24 = dktX7_part_1 := dk_seg dksX7_part_0 24 rfl rfl
theorem dX7_part_0 : decode cX7_part 0 = .ok (.iload_n 1, 1) := dk_27 (dk_at dksX7_part_0 0 rfl rfl)
theorem dX7_part_1 : decode cX7_part 1 = .ok (.ifCond .ne 10, 3) := dk_154 0 10 (dk_at dksX7_part_0 1 rfl rfl)
theorem dX7_part_4 : decode cX7_part 4 = .ok (.aload_n 0, 1) := dk_42 (dk_at dksX7_part_0 4 rfl rfl)
theorem dX7_part_5 : decode cX7_part 5 = .ok (.getfield 16, 3) := dk_180 0 16 (dk_at dksX7_part_0 5 rfl rfl)
theorem dX7_part_8 : decode cX7_part 8 = .ok (.goto 34, 3) := dk_167 0 34 (dk_at dksX7_part_0 8 rfl rfl)
theorem dX7_part_11 : decode cX7_part 11 = .ok (.iload_n 1, 1) := dk_27 (dk_at dksX7_part_0 11 rfl rfl)
theorem dX7_part_12 : decode cX7_part 12 = .ok (.iconst 1, 1) := dk_4 (dk_at dksX7_part_0 12 rfl rfl)
theorem dX7_part_13 : decode cX7_part 13 = .ok (.if_icmp .ne 10, 3) := dk_160 0 10 (dk_at dksX7_part_0 13 rfl rfl)
theorem dX7_part_16 : decode cX7_part 16 = .ok (.aload_n 0, 1) := dk_42 (dk_at dksX7_part_0 16 rfl rfl)
theorem dX7_part_17 : decode cX7_part 17 = .ok (.getfield 20, 3) := dk_180 0 20 (dk_at dksX7_part_0 17 rfl rfl)
theorem dX7_part_20 : decode cX7_part 20 = .ok (.goto 22, 3) := dk_167 0 22 (dk_at dksX7_part_0 20 rfl rfl)
theorem dX7_part_23 : decode cX7_part 23 = .ok (.iload_n 1, 1) := dk_27 (dk_at dksX7_part_0 23 rfl rfl)
theorem dX7_part_24 : decode cX7_part 24 = .ok (.iconst 2, 1) := dk_5 (dk_at dksX7_part_1 0 rfl rfl)
theorem dX7_part_25 : decode cX7_part 25 = .ok (.if_icmp .ne 10, 3) := dk_160 0 10 (dk_at dksX7_part_1 1 rfl rfl)
theorem dX7_part_28 : decode cX7_part 28 = .ok (.aload_n 0, 1) := dk_42 (dk_at dksX7_part_1 4 rfl rfl)
theorem dX7_part_29 : decode cX7_part 29 = .ok (.getfield 23, 3) := dk_180 0 23 (dk_at dksX7_part_1 5 rfl rfl)
theorem dX7_part_32 : decode cX7_part 32 = .ok (.goto 10, 3) := dk_167 0 10 (dk_at dksX7_part_1 8 rfl rfl)
theorem dX7_part_35 : decode cX7_part 35 = .ok (.aload_n 0, 1) := dk_42 (dk_at dksX7_part_1 11 rfl rfl)
theorem dX7_part_36 : decode cX7_part 36 = .ok (.getfield 10, 3) := dk_180 0 10 (dk_at dksX7_part_1 12 rfl rfl)
theorem dX7_part_39 : decode cX7_part 39 = .ok (.invokevirtual 29, 3) := dk_182 0 29 (dk_at dksX7_part_1 15 rfl rfl)
theorem dX7_part_42 : decode cX7_part 42 = .ok (.ireturn, 1) := dk_172 (dk_at dksX7_part_1 18 rfl rfl)
theorem q112 : (Jvm.Cond.initialized "CodeRecovery$Table") ∈ lw_all := lw_g (lw_at lw_m1 35 rfl) rfl
theorem q412 : (Jvm.Cond.selects "CodeRecovery$Table" ({ cls := "java/lang/Object", name := "getClass", desc := "()Ljava/lang/Class;" } : Jvm.MethodName) ({ cls := "java/lang/Object", name := "getClass", desc := "()Ljava/lang/Class;" } : Jvm.MethodName)) ∈ lw_all := lw_g (lw_at lw_m2 95 rfl) rfl
theorem q829 : (Jvm.Cond.selects "CodeRecovery$Table" ({ cls := "java/lang/Object", name := "equals", desc := "(Ljava/lang/Object;)Z" } : Jvm.MethodName) ({ cls := "java/lang/Object", name := "equals", desc := "(Ljava/lang/Object;)Z" } : Jvm.MethodName)) ∈ lw_all := lw_g (lw_at lw_m4 32 rfl) rfl
theorem q922 : (Jvm.Cond.instantiable "CodeRecovery$Table" (5 : Nat)) ∈ lw_all := lw_g (lw_at lw_m4 125 rfl) rfl
theorem q925 : (Jvm.Cond.instanceMethod ({ cls := "CodeRecovery$Table", name := "<init>", desc := "(IIII)V" } : Jvm.MethodName)) ∈ lw_all := lw_g (lw_at lw_m4 128 rfl) rfl
theorem q926 : (Jvm.Cond.code ({ cls := "CodeRecovery$Table", name := "<init>", desc := "(IIII)V" } : Jvm.MethodName) prog_10_method_1_code (5 : Nat) (Option.none : Option Jvm.ClassFile.FieldType)) ∈ lw_all := lw_g (lw_at lw_m4 129 rfl) rfl
theorem q927 : (Jvm.Cond.methodLink "CodeRecovery$Table" (1 : Nat) ({ cls := "java/lang/Object", name := "<init>", desc := "()V" } : Jvm.MethodName)) ∈ lw_all := lw_g (lw_at lw_m4 130 rfl) rfl
theorem q928 : (Jvm.Cond.classLink "CodeRecovery$Table" (7 : Nat) "java/util/ArrayList") ∈ lw_all := lw_g (lw_at lw_m4 131 rfl) rfl
theorem q929 : (Jvm.Cond.methodLink "CodeRecovery$Table" (9 : Nat) ({ cls := "java/util/ArrayList", name := "<init>", desc := "()V" } : Jvm.MethodName)) ∈ lw_all := lw_g (lw_at lw_m4 132 rfl) rfl
theorem q930 : (Jvm.Cond.fieldLink "CodeRecovery$Table" (16 : Nat) "CodeRecovery$Table" "jump" "I") ∈ lw_all := lw_g (lw_at lw_m4 133 rfl) rfl
theorem q932 : (Jvm.Cond.fieldLink "CodeRecovery$Table" (20 : Nat) "CodeRecovery$Table" "begin" "I") ∈ lw_all := lw_g (lw_at lw_m4 135 rfl) rfl
theorem q934 : (Jvm.Cond.fieldLink "CodeRecovery$Table" (23 : Nat) "CodeRecovery$Table" "bound" "I") ∈ lw_all := lw_g (lw_at lw_m4 137 rfl) rfl
theorem q936 : (Jvm.Cond.fieldLink "CodeRecovery$Table" (26 : Nat) "CodeRecovery$Table" "only" "I") ∈ lw_all := lw_g (lw_at lw_m4 139 rfl) rfl
theorem q938 : (Jvm.Cond.fieldLink "CodeRecovery$Table" (10 : Nat) "CodeRecovery$Table" "entries" "Ljava/util/ArrayList;") ∈ lw_all := lw_g (lw_at lw_m4 141 rfl) rfl
theorem q941 : (Jvm.Cond.laysFinal "CodeRecovery$Table" "CodeRecovery$Table" "jump" "I") ∈ lw_all := lw_g (lw_at lw_m4 144 rfl) rfl
theorem q942 : (Jvm.Cond.soleField "CodeRecovery$Table" "jump") ∈ lw_all := lw_g (lw_at lw_m4 145 rfl) rfl
theorem q943 : (Jvm.Cond.laysFinal "CodeRecovery$Table" "CodeRecovery$Table" "begin" "I") ∈ lw_all := lw_g (lw_at lw_m4 146 rfl) rfl
theorem q944 : (Jvm.Cond.soleField "CodeRecovery$Table" "begin") ∈ lw_all := lw_g (lw_at lw_m4 147 rfl) rfl
theorem q945 : (Jvm.Cond.laysFinal "CodeRecovery$Table" "CodeRecovery$Table" "bound" "I") ∈ lw_all := lw_g (lw_at lw_m4 148 rfl) rfl
theorem q946 : (Jvm.Cond.soleField "CodeRecovery$Table" "bound") ∈ lw_all := lw_g (lw_at lw_m4 149 rfl) rfl
theorem q947 : (Jvm.Cond.laysFinal "CodeRecovery$Table" "CodeRecovery$Table" "only" "I") ∈ lw_all := lw_g (lw_at lw_m4 150 rfl) rfl
theorem q948 : (Jvm.Cond.soleField "CodeRecovery$Table" "only") ∈ lw_all := lw_g (lw_at lw_m4 151 rfl) rfl
theorem q949 : (Jvm.Cond.laysFinal "CodeRecovery$Table" "CodeRecovery$Table" "entries" "Ljava/util/ArrayList;") ∈ lw_all := lw_g (lw_at lw_m4 152 rfl) rfl
theorem q950 : (Jvm.Cond.soleField "CodeRecovery$Table" "entries") ∈ lw_all := lw_g (lw_at lw_m4 153 rfl) rfl
theorem q951 : (Jvm.Cond.superclass "CodeRecovery$Table" "java/lang/Object") ∈ lw_all := lw_g (lw_at lw_m4 154 rfl) rfl
theorem q1420 : (Jvm.Cond.castable "CodeRecovery$Table" "CodeRecovery$Parts") ∈ lw_tbl := lw_at lw_m6 143 rfl
theorem q1421 : (Jvm.Cond.selects "CodeRecovery$Table" ({ cls := "CodeRecovery$Parts", name := "part", desc := "(I)I" } : Jvm.MethodName) ({ cls := "CodeRecovery$Table", name := "part", desc := "(I)I" } : Jvm.MethodName)) ∈ lw_all := lw_g (lw_at lw_m6 144 rfl) rfl
theorem q1422 : (Jvm.Cond.unhidden "CodeRecovery$Table" "part" "(I)I") ∈ lw_tbl := lw_at lw_m6 145 rfl
theorem q1423 : (Jvm.Cond.instanceMethod ({ cls := "CodeRecovery$Table", name := "part", desc := "(I)I" } : Jvm.MethodName)) ∈ lw_all := lw_g (lw_at lw_m6 146 rfl) rfl
theorem q1424 : (Jvm.Cond.publicMethod ({ cls := "CodeRecovery$Table", name := "part", desc := "(I)I" } : Jvm.MethodName)) ∈ lw_tbl := lw_at lw_m6 147 rfl
theorem q1425 : (Jvm.Cond.code ({ cls := "CodeRecovery$Table", name := "part", desc := "(I)I" } : Jvm.MethodName) prog_10_method_2_code (2 : Nat) (Option.some Jvm.ClassFile.FieldType.int)) ∈ lw_all := lw_g (lw_at lw_m6 148 rfl) rfl
theorem q1426 : (Jvm.Cond.methodLink "CodeRecovery$Table" (29 : Nat) ({ cls := "java/util/ArrayList", name := "size", desc := "()I" } : Jvm.MethodName)) ∈ lw_all := lw_g (lw_at lw_m6 149 rfl) rfl
theorem q2208 : (Jvm.Cond.castable "CodeRecovery$Table" "java/lang/Object") ∈ lw_tbl := lw_at lw_m9 211 rfl
theorem in_X7 : ∀ w ∈ wsX70, w ∈ lw_all := lw_in wsX70 [941, 943, 945, 947, 949] (by decide +kernel) (by decide +kernel)

/-! CodeRecovery$Gap -/
set_option maxRecDepth 100000
def RX8 : String := "CodeRecovery$Gap"
def TX8 : u_T := fun k => match k with
  | 0 => ("CodeRecovery$Gap", "begin", "I", true)
  | 1 => ("CodeRecovery$Gap", "length", "I", true)
  | 2 => ("CodeRecovery$Gap", "score", "I", false)
  | _ => ("CodeRecovery$Gap", "instructions", "I", false)
def tyX8 : Nat → FieldType := fun k => match k with
  | 0 => .int
  | 1 => .int
  | 2 => .int
  | _ => .int
abbrev wsX80 : List Cond := u_ws RX8 TX8 4
theorem nmX8 : ∀ a, a < 4 → ∀ b, b < 4 → a ≠ b → (TX8 a).2.1 ≠ (TX8 b).2.1 := by decide +kernel
theorem tyX8_ok : ∀ k, k < 4 → parseFieldDescriptor (TX8 k).2.2.1 = some (tyX8 k) := by decide +kernel
abbrev cX8_init : ByteArray := prog_5_method_1_code
def yX8_init : MethodName := ⟨RX8, "<init>", "(II)V"⟩
def dkwX8_init_0 : List UInt8 := [42, 183, 0, 1, 42, 27, 181, 0, 7, 42, 28, 181, 0, 13, 177]
abbrev dktX8_init_0 : List UInt8 := dkwX8_init_0 ++ []
theorem dksX8_init_0 : cX8_init.data.toList.drop 0 = dktX8_init_0 := by decide +kernel
theorem dX8_init_0 : decode cX8_init 0 = .ok (.aload_n 0, 1) := dk_42 (dk_at dksX8_init_0 0 rfl rfl)
theorem dX8_init_1 : decode cX8_init 1 = .ok (.invokespecial 1, 3) := dk_183 0 1 (dk_at dksX8_init_0 1 rfl rfl)
theorem dX8_init_4 : decode cX8_init 4 = .ok (.aload_n 0, 1) := dk_42 (dk_at dksX8_init_0 4 rfl rfl)
theorem dX8_init_5 : decode cX8_init 5 = .ok (.iload_n 1, 1) := dk_27 (dk_at dksX8_init_0 5 rfl rfl)
theorem dX8_init_6 : decode cX8_init 6 = .ok (.putfield 7, 3) := dk_181 0 7 (dk_at dksX8_init_0 6 rfl rfl)
theorem dX8_init_9 : decode cX8_init 9 = .ok (.aload_n 0, 1) := dk_42 (dk_at dksX8_init_0 9 rfl rfl)
theorem dX8_init_10 : decode cX8_init 10 = .ok (.iload_n 2, 1) := dk_28 (dk_at dksX8_init_0 10 rfl rfl)
theorem dX8_init_11 : decode cX8_init 11 = .ok (.putfield 13, 3) := dk_181 0 13 (dk_at dksX8_init_0 11 rfl rfl)
theorem dX8_init_14 : decode cX8_init 14 = .ok (.return_, 1) := dk_177 (dk_at dksX8_init_0 14 rfl rfl)
abbrev cX8_end : ByteArray := prog_5_method_3_code
def yX8_end : MethodName := ⟨RX8, "end", "()I"⟩
def dkwX8_end_0 : List UInt8 := [42, 180, 0, 7, 42, 180, 0, 13, 96, 172]
abbrev dktX8_end_0 : List UInt8 := dkwX8_end_0 ++ []
theorem dksX8_end_0 : cX8_end.data.toList.drop 0 = dktX8_end_0 := by decide +kernel
theorem dX8_end_0 : decode cX8_end 0 = .ok (.aload_n 0, 1) := dk_42 (dk_at dksX8_end_0 0 rfl rfl)
theorem dX8_end_1 : decode cX8_end 1 = .ok (.getfield 7, 3) := dk_180 0 7 (dk_at dksX8_end_0 1 rfl rfl)
theorem dX8_end_4 : decode cX8_end 4 = .ok (.aload_n 0, 1) := dk_42 (dk_at dksX8_end_0 4 rfl rfl)
theorem dX8_end_5 : decode cX8_end 5 = .ok (.getfield 13, 3) := dk_180 0 13 (dk_at dksX8_end_0 5 rfl rfl)
theorem dX8_end_8 : decode cX8_end 8 = .ok (.iadd, 1) := dk_96 (dk_at dksX8_end_0 8 rfl rfl)
theorem dX8_end_9 : decode cX8_end 9 = .ok (.ireturn, 1) := dk_172 (dk_at dksX8_end_0 9 rfl rfl)
abbrev cX8_part : ByteArray := prog_5_method_2_code
def yX8_part : MethodName := ⟨RX8, "part", "(I)I"⟩
def dkwX8_part_1 : List UInt8 := [180, 0, 16, 172]
abbrev dktX8_part_1 : List UInt8 := dkwX8_part_1 ++ []
def dkwX8_part_0 : List UInt8 := [27, 154, 0, 10, 42, 180, 0, 7, 167, 0, 19, 27, 4, 160, 0, 10, 42, 180, 0, 13, 167, 0, 7, 42]
abbrev dktX8_part_0 : List UInt8 := dkwX8_part_0 ++ dktX8_part_1
theorem dksX8_part_0 : cX8_part.data.toList.drop 0 = dktX8_part_0 := by decide +kernel
theorem dksX8_part_1 : cX8_part.data.toList.drop 24 = dktX8_part_1 := dk_seg dksX8_part_0 24 rfl rfl
theorem dX8_part_0 : decode cX8_part 0 = .ok (.iload_n 1, 1) := dk_27 (dk_at dksX8_part_0 0 rfl rfl)
theorem dX8_part_1 : decode cX8_part 1 = .ok (.ifCond .ne 10, 3) := dk_154 0 10 (dk_at dksX8_part_0 1 rfl rfl)
theorem dX8_part_4 : decode cX8_part 4 = .ok (.aload_n 0, 1) := dk_42 (dk_at dksX8_part_0 4 rfl rfl)
theorem dX8_part_5 : decode cX8_part 5 = .ok (.getfield 7, 3) := dk_180 0 7 (dk_at dksX8_part_0 5 rfl rfl)
theorem dX8_part_8 : decode cX8_part 8 = .ok (.goto 19, 3) := dk_167 0 19 (dk_at dksX8_part_0 8 rfl rfl)
theorem dX8_part_11 : decode cX8_part 11 = .ok (.iload_n 1, 1) := dk_27 (dk_at dksX8_part_0 11 rfl rfl)
theorem dX8_part_12 : decode cX8_part 12 = .ok (.iconst 1, 1) := dk_4 (dk_at dksX8_part_0 12 rfl rfl)
theorem dX8_part_13 : decode cX8_part 13 = .ok (.if_icmp .ne 10, 3) := dk_160 0 10 (dk_at dksX8_part_0 13 rfl rfl)
theorem dX8_part_16 : decode cX8_part 16 = .ok (.aload_n 0, 1) := dk_42 (dk_at dksX8_part_0 16 rfl rfl)
theorem dX8_part_17 : decode cX8_part 17 = .ok (.getfield 13, 3) := dk_180 0 13 (dk_at dksX8_part_0 17 rfl rfl)
theorem dX8_part_20 : decode cX8_part 20 = .ok (.goto 7, 3) := dk_167 0 7 (dk_at dksX8_part_0 20 rfl rfl)
theorem dX8_part_23 : decode cX8_part 23 = .ok (.aload_n 0, 1) := dk_42 (dk_at dksX8_part_0 23 rfl rfl)
theorem dX8_part_24 : decode cX8_part 24 = .ok (.getfield 16, 3) := dk_180 0 16 (dk_at dksX8_part_1 0 rfl rfl)
theorem dX8_part_27 : decode cX8_part 27 = .ok (.ireturn, 1) := dk_172 (dk_at dksX8_part_1 3 rfl rfl)
theorem q113 : (Jvm.Cond.initialized "CodeRecovery$Gap") ∈ lw_all := lw_g (lw_at lw_m1 36 rfl) rfl
theorem q408 : (Jvm.Cond.selects "CodeRecovery$Gap" ({ cls := "java/lang/Object", name := "getClass", desc := "()Ljava/lang/Class;" } : Jvm.MethodName) ({ cls := "java/lang/Object", name := "getClass", desc := "()Ljava/lang/Class;" } : Jvm.MethodName)) ∈ lw_all := lw_g (lw_at lw_m2 91 rfl) rfl
theorem q825 : (Jvm.Cond.selects "CodeRecovery$Gap" ({ cls := "java/lang/Object", name := "equals", desc := "(Ljava/lang/Object;)Z" } : Jvm.MethodName) ({ cls := "java/lang/Object", name := "equals", desc := "(Ljava/lang/Object;)Z" } : Jvm.MethodName)) ∈ lw_all := lw_g (lw_at lw_m4 28 rfl) rfl
theorem q1000 : (Jvm.Cond.instantiable "CodeRecovery$Gap" (4 : Nat)) ∈ lw_all := lw_g (lw_at lw_m4 203 rfl) rfl
theorem q1002 : (Jvm.Cond.instanceMethod ({ cls := "CodeRecovery$Gap", name := "<init>", desc := "(II)V" } : Jvm.MethodName)) ∈ lw_all := lw_g (lw_at lw_m4 205 rfl) rfl
theorem q1003 : (Jvm.Cond.code ({ cls := "CodeRecovery$Gap", name := "<init>", desc := "(II)V" } : Jvm.MethodName) prog_5_method_1_code (3 : Nat) (Option.none : Option Jvm.ClassFile.FieldType)) ∈ lw_all := lw_g (lw_at lw_m4 206 rfl) rfl
theorem q1004 : (Jvm.Cond.methodLink "CodeRecovery$Gap" (1 : Nat) ({ cls := "java/lang/Object", name := "<init>", desc := "()V" } : Jvm.MethodName)) ∈ lw_all := lw_g (lw_at lw_m4 207 rfl) rfl
theorem q1005 : (Jvm.Cond.fieldLink "CodeRecovery$Gap" (7 : Nat) "CodeRecovery$Gap" "begin" "I") ∈ lw_all := lw_g (lw_at lw_m4 208 rfl) rfl
theorem q1007 : (Jvm.Cond.fieldLink "CodeRecovery$Gap" (13 : Nat) "CodeRecovery$Gap" "length" "I") ∈ lw_all := lw_g (lw_at lw_m4 210 rfl) rfl
theorem q1008 : (Jvm.Cond.fieldLink "CodeRecovery$Gap" (16 : Nat) "CodeRecovery$Gap" "score" "I") ∈ lw_all := lw_g (lw_at lw_m4 211 rfl) rfl
theorem q1011 : (Jvm.Cond.laysFinal "CodeRecovery$Gap" "CodeRecovery$Gap" "begin" "I") ∈ lw_all := lw_g (lw_at lw_m4 214 rfl) rfl
theorem q1012 : (Jvm.Cond.soleField "CodeRecovery$Gap" "begin") ∈ lw_all := lw_g (lw_at lw_m4 215 rfl) rfl
theorem q1013 : (Jvm.Cond.laysFinal "CodeRecovery$Gap" "CodeRecovery$Gap" "length" "I") ∈ lw_all := lw_g (lw_at lw_m4 216 rfl) rfl
theorem q1014 : (Jvm.Cond.soleField "CodeRecovery$Gap" "length") ∈ lw_all := lw_g (lw_at lw_m4 217 rfl) rfl
theorem q1015 : (Jvm.Cond.lays "CodeRecovery$Gap" "CodeRecovery$Gap" "score" "I") ∈ lw_all := lw_g (lw_at lw_m4 218 rfl) rfl
theorem q1016 : (Jvm.Cond.soleField "CodeRecovery$Gap" "score") ∈ lw_all := lw_g (lw_at lw_m4 219 rfl) rfl
theorem q1017 : (Jvm.Cond.lays "CodeRecovery$Gap" "CodeRecovery$Gap" "instructions" "I") ∈ lw_all := lw_g (lw_at lw_m4 220 rfl) rfl
theorem q1018 : (Jvm.Cond.soleField "CodeRecovery$Gap" "instructions") ∈ lw_all := lw_g (lw_at lw_m4 221 rfl) rfl
theorem q1019 : (Jvm.Cond.superclass "CodeRecovery$Gap" "java/lang/Object") ∈ lw_all := lw_g (lw_at lw_m4 222 rfl) rfl
theorem q1027 : (Jvm.Cond.instanceMethod ({ cls := "CodeRecovery$Gap", name := "end", desc := "()I" } : Jvm.MethodName)) ∈ lw_all := lw_g (lw_at lw_m4 230 rfl) rfl
theorem q1028 : (Jvm.Cond.selects "CodeRecovery$Gap" ({ cls := "CodeRecovery$Gap", name := "end", desc := "()I" } : Jvm.MethodName) ({ cls := "CodeRecovery$Gap", name := "end", desc := "()I" } : Jvm.MethodName)) ∈ lw_all := lw_g (lw_at lw_m4 231 rfl) rfl
theorem q1029 : (Jvm.Cond.code ({ cls := "CodeRecovery$Gap", name := "end", desc := "()I" } : Jvm.MethodName) prog_5_method_3_code (1 : Nat) (Option.some Jvm.ClassFile.FieldType.int)) ∈ lw_all := lw_g (lw_at lw_m4 232 rfl) rfl
theorem q1414 : (Jvm.Cond.castable "CodeRecovery$Gap" "CodeRecovery$Parts") ∈ lw_tbl := lw_at lw_m6 137 rfl
theorem q1415 : (Jvm.Cond.selects "CodeRecovery$Gap" ({ cls := "CodeRecovery$Parts", name := "part", desc := "(I)I" } : Jvm.MethodName) ({ cls := "CodeRecovery$Gap", name := "part", desc := "(I)I" } : Jvm.MethodName)) ∈ lw_all := lw_g (lw_at lw_m6 138 rfl) rfl
theorem q1416 : (Jvm.Cond.unhidden "CodeRecovery$Gap" "part" "(I)I") ∈ lw_tbl := lw_at lw_m6 139 rfl
theorem q1417 : (Jvm.Cond.instanceMethod ({ cls := "CodeRecovery$Gap", name := "part", desc := "(I)I" } : Jvm.MethodName)) ∈ lw_all := lw_g (lw_at lw_m6 140 rfl) rfl
theorem q1418 : (Jvm.Cond.publicMethod ({ cls := "CodeRecovery$Gap", name := "part", desc := "(I)I" } : Jvm.MethodName)) ∈ lw_tbl := lw_at lw_m6 141 rfl
theorem q1419 : (Jvm.Cond.code ({ cls := "CodeRecovery$Gap", name := "part", desc := "(I)I" } : Jvm.MethodName) prog_5_method_2_code (2 : Nat) (Option.some Jvm.ClassFile.FieldType.int)) ∈ lw_all := lw_g (lw_at lw_m6 142 rfl) rfl
theorem q2209 : (Jvm.Cond.castable "CodeRecovery$Gap" "java/lang/Object") ∈ lw_tbl := lw_at lw_m9 212 rfl
theorem in_X8 : ∀ w ∈ wsX80, w ∈ lw_all := lw_in wsX80 [1011, 1013, 1015, 1017] (by decide +kernel) (by decide +kernel)

/-! CodeRecovery$Block -/
set_option maxRecDepth 100000
def RX9 : String := "CodeRecovery$Block"
def TX9 : u_T := fun k => match k with
  | 0 => ("CodeRecovery$Block", "leader", "I", true)
  | 1 => ("CodeRecovery$Block", "instructions", "I", false)
  | _ => ("CodeRecovery$Block", "last", "I", false)
def tyX9 : Nat → FieldType := fun k => match k with
  | 0 => .int
  | 1 => .int
  | _ => .int
abbrev wsX90 : List Cond := u_ws RX9 TX9 3
theorem nmX9 : ∀ a, a < 3 → ∀ b, b < 3 → a ≠ b → (TX9 a).2.1 ≠ (TX9 b).2.1 := by decide +kernel
theorem tyX9_ok : ∀ k, k < 3 → parseFieldDescriptor (TX9 k).2.2.1 = some (tyX9 k) := by decide +kernel
abbrev cX9_init : ByteArray := prog_2_method_1_code
def yX9_init : MethodName := ⟨RX9, "<init>", "(I)V"⟩
def dkwX9_init_0 : List UInt8 := [42, 183, 0, 1, 42, 27, 181, 0, 7, 177]
abbrev dktX9_init_0 : List UInt8 := dkwX9_init_0 ++ []
theorem dksX9_init_0 : cX9_init.data.toList.drop 0 = dktX9_init_0 := by decide +kernel
theorem dX9_init_0 : decode cX9_init 0 = .ok (.aload_n 0, 1) := dk_42 (dk_at dksX9_init_0 0 rfl rfl)
theorem dX9_init_1 : decode cX9_init 1 = .ok (.invokespecial 1, 3) := dk_183 0 1 (dk_at dksX9_init_0 1 rfl rfl)
theorem dX9_init_4 : decode cX9_init 4 = .ok (.aload_n 0, 1) := dk_42 (dk_at dksX9_init_0 4 rfl rfl)
theorem dX9_init_5 : decode cX9_init 5 = .ok (.iload_n 1, 1) := dk_27 (dk_at dksX9_init_0 5 rfl rfl)
theorem dX9_init_6 : decode cX9_init 6 = .ok (.putfield 7, 3) := dk_181 0 7 (dk_at dksX9_init_0 6 rfl rfl)
theorem dX9_init_9 : decode cX9_init 9 = .ok (.return_, 1) := dk_177 (dk_at dksX9_init_0 9 rfl rfl)
abbrev cX9_part : ByteArray := prog_2_method_2_code
def yX9_part : MethodName := ⟨RX9, "part", "(I)I"⟩
def dkwX9_part_1 : List UInt8 := [180, 0, 16, 172]
abbrev dktX9_part_1 : List UInt8 := dkwX9_part_1 ++ []
def dkwX9_part_0 : List UInt8 := [27, 154, 0, 10, 42, 180, 0, 7, 167, 0, 19, 27, 4, 160, 0, 10, 42, 180, 0, 13, 167, 0, 7, 42]
abbrev dktX9_part_0 : List UInt8 := dkwX9_part_0 ++ dktX9_part_1
theorem dksX9_part_0 : cX9_part.data.toList.drop 0 = dktX9_part_0 := by decide +kernel
theorem dksX9_part_1 : cX9_part.data.toList.drop 24 = dktX9_part_1 := dk_seg dksX9_part_0 24 rfl rfl
theorem dX9_part_0 : decode cX9_part 0 = .ok (.iload_n 1, 1) := dk_27 (dk_at dksX9_part_0 0 rfl rfl)
theorem dX9_part_1 : decode cX9_part 1 = .ok (.ifCond .ne 10, 3) := dk_154 0 10 (dk_at dksX9_part_0 1 rfl rfl)
theorem dX9_part_4 : decode cX9_part 4 = .ok (.aload_n 0, 1) := dk_42 (dk_at dksX9_part_0 4 rfl rfl)
theorem dX9_part_5 : decode cX9_part 5 = .ok (.getfield 7, 3) := dk_180 0 7 (dk_at dksX9_part_0 5 rfl rfl)
theorem dX9_part_8 : decode cX9_part 8 = .ok (.goto 19, 3) := dk_167 0 19 (dk_at dksX9_part_0 8 rfl rfl)
theorem dX9_part_11 : decode cX9_part 11 = .ok (.iload_n 1, 1) := dk_27 (dk_at dksX9_part_0 11 rfl rfl)
theorem dX9_part_12 : decode cX9_part 12 = .ok (.iconst 1, 1) := dk_4 (dk_at dksX9_part_0 12 rfl rfl)
theorem dX9_part_13 : decode cX9_part 13 = .ok (.if_icmp .ne 10, 3) := dk_160 0 10 (dk_at dksX9_part_0 13 rfl rfl)
theorem dX9_part_16 : decode cX9_part 16 = .ok (.aload_n 0, 1) := dk_42 (dk_at dksX9_part_0 16 rfl rfl)
theorem dX9_part_17 : decode cX9_part 17 = .ok (.getfield 13, 3) := dk_180 0 13 (dk_at dksX9_part_0 17 rfl rfl)
theorem dX9_part_20 : decode cX9_part 20 = .ok (.goto 7, 3) := dk_167 0 7 (dk_at dksX9_part_0 20 rfl rfl)
theorem dX9_part_23 : decode cX9_part 23 = .ok (.aload_n 0, 1) := dk_42 (dk_at dksX9_part_0 23 rfl rfl)
theorem dX9_part_24 : decode cX9_part 24 = .ok (.getfield 16, 3) := dk_180 0 16 (dk_at dksX9_part_1 0 rfl rfl)
theorem dX9_part_27 : decode cX9_part 27 = .ok (.ireturn, 1) := dk_172 (dk_at dksX9_part_1 3 rfl rfl)
theorem q115 : (Jvm.Cond.initialized "CodeRecovery$Block") ∈ lw_all := lw_g (lw_at lw_m1 38 rfl) rfl
theorem q405 : (Jvm.Cond.selects "CodeRecovery$Block" ({ cls := "java/lang/Object", name := "getClass", desc := "()Ljava/lang/Class;" } : Jvm.MethodName) ({ cls := "java/lang/Object", name := "getClass", desc := "()Ljava/lang/Class;" } : Jvm.MethodName)) ∈ lw_all := lw_g (lw_at lw_m2 88 rfl) rfl
theorem q822 : (Jvm.Cond.selects "CodeRecovery$Block" ({ cls := "java/lang/Object", name := "equals", desc := "(Ljava/lang/Object;)Z" } : Jvm.MethodName) ({ cls := "java/lang/Object", name := "equals", desc := "(Ljava/lang/Object;)Z" } : Jvm.MethodName)) ∈ lw_all := lw_g (lw_at lw_m4 25 rfl) rfl
theorem q1069 : (Jvm.Cond.instantiable "CodeRecovery$Block" (3 : Nat)) ∈ lw_all := lw_g (lw_at lw_m5 32 rfl) rfl
theorem q1071 : (Jvm.Cond.instanceMethod ({ cls := "CodeRecovery$Block", name := "<init>", desc := "(I)V" } : Jvm.MethodName)) ∈ lw_all := lw_g (lw_at lw_m5 34 rfl) rfl
theorem q1072 : (Jvm.Cond.code ({ cls := "CodeRecovery$Block", name := "<init>", desc := "(I)V" } : Jvm.MethodName) prog_2_method_1_code (2 : Nat) (Option.none : Option Jvm.ClassFile.FieldType)) ∈ lw_all := lw_g (lw_at lw_m5 35 rfl) rfl
theorem q1073 : (Jvm.Cond.methodLink "CodeRecovery$Block" (1 : Nat) ({ cls := "java/lang/Object", name := "<init>", desc := "()V" } : Jvm.MethodName)) ∈ lw_all := lw_g (lw_at lw_m5 36 rfl) rfl
theorem q1074 : (Jvm.Cond.fieldLink "CodeRecovery$Block" (7 : Nat) "CodeRecovery$Block" "leader" "I") ∈ lw_all := lw_g (lw_at lw_m5 37 rfl) rfl
theorem q1075 : (Jvm.Cond.fieldLink "CodeRecovery$Block" (13 : Nat) "CodeRecovery$Block" "instructions" "I") ∈ lw_all := lw_g (lw_at lw_m5 38 rfl) rfl
theorem q1077 : (Jvm.Cond.fieldLink "CodeRecovery$Block" (16 : Nat) "CodeRecovery$Block" "last" "I") ∈ lw_all := lw_g (lw_at lw_m5 40 rfl) rfl
theorem q1079 : (Jvm.Cond.laysFinal "CodeRecovery$Block" "CodeRecovery$Block" "leader" "I") ∈ lw_all := lw_g (lw_at lw_m5 42 rfl) rfl
theorem q1080 : (Jvm.Cond.soleField "CodeRecovery$Block" "leader") ∈ lw_all := lw_g (lw_at lw_m5 43 rfl) rfl
theorem q1081 : (Jvm.Cond.lays "CodeRecovery$Block" "CodeRecovery$Block" "instructions" "I") ∈ lw_all := lw_g (lw_at lw_m5 44 rfl) rfl
theorem q1082 : (Jvm.Cond.soleField "CodeRecovery$Block" "instructions") ∈ lw_all := lw_g (lw_at lw_m5 45 rfl) rfl
theorem q1083 : (Jvm.Cond.lays "CodeRecovery$Block" "CodeRecovery$Block" "last" "I") ∈ lw_all := lw_g (lw_at lw_m5 46 rfl) rfl
theorem q1084 : (Jvm.Cond.soleField "CodeRecovery$Block" "last") ∈ lw_all := lw_g (lw_at lw_m5 47 rfl) rfl
theorem q1085 : (Jvm.Cond.superclass "CodeRecovery$Block" "java/lang/Object") ∈ lw_all := lw_g (lw_at lw_m5 48 rfl) rfl
theorem q1408 : (Jvm.Cond.castable "CodeRecovery$Block" "CodeRecovery$Parts") ∈ lw_tbl := lw_at lw_m6 131 rfl
theorem q1409 : (Jvm.Cond.selects "CodeRecovery$Block" ({ cls := "CodeRecovery$Parts", name := "part", desc := "(I)I" } : Jvm.MethodName) ({ cls := "CodeRecovery$Block", name := "part", desc := "(I)I" } : Jvm.MethodName)) ∈ lw_all := lw_g (lw_at lw_m6 132 rfl) rfl
theorem q1410 : (Jvm.Cond.unhidden "CodeRecovery$Block" "part" "(I)I") ∈ lw_tbl := lw_at lw_m6 133 rfl
theorem q1411 : (Jvm.Cond.instanceMethod ({ cls := "CodeRecovery$Block", name := "part", desc := "(I)I" } : Jvm.MethodName)) ∈ lw_all := lw_g (lw_at lw_m6 134 rfl) rfl
theorem q1412 : (Jvm.Cond.publicMethod ({ cls := "CodeRecovery$Block", name := "part", desc := "(I)I" } : Jvm.MethodName)) ∈ lw_tbl := lw_at lw_m6 135 rfl
theorem q1413 : (Jvm.Cond.code ({ cls := "CodeRecovery$Block", name := "part", desc := "(I)I" } : Jvm.MethodName) prog_2_method_2_code (2 : Nat) (Option.some Jvm.ClassFile.FieldType.int)) ∈ lw_all := lw_g (lw_at lw_m6 136 rfl) rfl
theorem q2210 : (Jvm.Cond.castable "CodeRecovery$Block" "java/lang/Object") ∈ lw_tbl := lw_at lw_m9 213 rfl
theorem in_X9 : ∀ w ∈ wsX90, w ∈ lw_all := lw_in wsX90 [1079, 1081, 1083] (by decide +kernel) (by decide +kernel)

/-! CodeRecovery$Run -/
set_option maxRecDepth 100000
def RX10 : String := "CodeRecovery$Run"
def TX10 : u_T := fun k => match k with
  | 0 => ("CodeRecovery$Run", "image", "LCodeRecovery$Image;", true)
  | 1 => ("CodeRecovery$Run", "registers", "[I", true)
  | 2 => ("CodeRecovery$Run", "executions", "[I", true)
  | 3 => ("CodeRecovery$Run", "stack", "Ljava/util/ArrayDeque;", true)
  | 4 => ("CodeRecovery$Run", "flag", "Z", false)
  | _ => ("CodeRecovery$Run", "executed", "I", false)
def tyX10 : Nat → FieldType := fun k => match k with
  | 0 => .object "CodeRecovery$Image"
  | 1 => .array .int
  | 2 => .array .int
  | 3 => .object "java/util/ArrayDeque"
  | 4 => .boolean
  | _ => .int
abbrev wsX100 : List Cond := u_ws RX10 TX10 6
theorem nmX10 : ∀ a, a < 6 → ∀ b, b < 6 → a ≠ b → (TX10 a).2.1 ≠ (TX10 b).2.1 := by decide +kernel
theorem tyX10_ok : ∀ k, k < 6 → parseFieldDescriptor (TX10 k).2.2.1 = some (tyX10 k) := by decide +kernel
abbrev cX10_init : ByteArray := prog_9_method_1_code
def yX10_init : MethodName := ⟨RX10, "<init>", "(LCodeRecovery$Image;I)V"⟩
def dkwX10_init_3 : List UInt8 := [180, 0, 35, 4, 96, 181, 0, 35, 42, 29, 182, 0, 43, 62, 167, 255, 212, 177]
abbrev dktX10_init_3 : List UInt8 := dkwX10_init_3 ++ []
def dkwX10_init_2 : List UInt8 := [162, 0, 40, 43, 29, 182, 0, 39, 153, 0, 32, 42, 180, 0, 32, 29, 92, 46, 4, 96, 79, 42, 89]
abbrev dktX10_init_2 : List UInt8 := dkwX10_init_2 ++ dktX10_init_3
def dkwX10_init_1 : List UInt8 := [181, 0, 22, 42, 43, 182, 0, 26, 188, 10, 181, 0, 32, 28, 62, 42, 180, 0, 35, 17, 0, 200]
abbrev dktX10_init_1 : List UInt8 := dkwX10_init_1 ++ dktX10_init_2
def dkwX10_init_0 : List UInt8 := [42, 183, 0, 3, 42, 7, 188, 10, 181, 0, 9, 42, 187, 0, 15, 89, 183, 0, 17, 181, 0, 18, 42, 43]
abbrev dktX10_init_0 : List UInt8 := dkwX10_init_0 ++ dktX10_init_1
theorem dksX10_init_0 : cX10_init.data.toList.drop 0 = dktX10_init_0 := by decide +kernel
theorem dksX10_init_1 : cX10_init.data.toList.drop 24 = dktX10_init_1 := dk_seg dksX10_init_0 24 rfl rfl
theorem dksX10_init_2 : cX10_init.data.toList.drop 46 = dktX10_init_2 := dk_seg dksX10_init_1 22 rfl rfl
theorem dksX10_init_3 : cX10_init.data.toList.drop 69 = dktX10_init_3 := dk_seg dksX10_init_2 23 rfl rfl
theorem dX10_init_0 : decode cX10_init 0 = .ok (.aload_n 0, 1) := dk_42 (dk_at dksX10_init_0 0 rfl rfl)
theorem dX10_init_1 : decode cX10_init 1 = .ok (.invokespecial 3, 3) := dk_183 0 3 (dk_at dksX10_init_0 1 rfl rfl)
theorem dX10_init_4 : decode cX10_init 4 = .ok (.aload_n 0, 1) := dk_42 (dk_at dksX10_init_0 4 rfl rfl)
theorem dX10_init_5 : decode cX10_init 5 = .ok (.iconst 4, 1) := dk_7 (dk_at dksX10_init_0 5 rfl rfl)
theorem dX10_init_6 : decode cX10_init 6 = .ok (.newarray .int, 2) := dk_188_10 (dk_at dksX10_init_0 6 rfl rfl)
theorem dX10_init_8 : decode cX10_init 8 = .ok (.putfield 9, 3) := dk_181 0 9 (dk_at dksX10_init_0 8 rfl rfl)
theorem dX10_init_11 : decode cX10_init 11 = .ok (.aload_n 0, 1) := dk_42 (dk_at dksX10_init_0 11 rfl rfl)
theorem dX10_init_12 : decode cX10_init 12 = .ok (.new 15, 3) := dk_187 0 15 (dk_at dksX10_init_0 12 rfl rfl)
theorem dX10_init_15 : decode cX10_init 15 = .ok (.dup, 1) := dk_89 (dk_at dksX10_init_0 15 rfl rfl)
theorem dX10_init_16 : decode cX10_init 16 = .ok (.invokespecial 17, 3) := dk_183 0 17 (dk_at dksX10_init_0 16 rfl rfl)
theorem dX10_init_19 : decode cX10_init 19 = .ok (.putfield 18, 3) := dk_181 0 18 (dk_at dksX10_init_0 19 rfl rfl)
theorem dX10_init_22 : decode cX10_init 22 = .ok (.aload_n 0, 1) := dk_42 (dk_at dksX10_init_0 22 rfl rfl)
theorem dX10_init_23 : decode cX10_init 23 = .ok (.aload_n 1, 1) := dk_43 (dk_at dksX10_init_0 23 rfl rfl)
theorem dX10_init_24 : decode cX10_init 24 = .ok (.putfield 22, 3) := dk_181 0 22 (dk_at dksX10_init_1 0 rfl rfl)
theorem dX10_init_27 : decode cX10_init 27 = .ok (.aload_n 0, 1) := dk_42 (dk_at dksX10_init_1 3 rfl rfl)
theorem dX10_init_28 : decode cX10_init 28 = .ok (.aload_n 1, 1) := dk_43 (dk_at dksX10_init_1 4 rfl rfl)
theorem dX10_init_29 : decode cX10_init 29 = .ok (.invokevirtual 26, 3) := dk_182 0 26 (dk_at dksX10_init_1 5 rfl rfl)
theorem dX10_init_32 : decode cX10_init 32 = .ok (.newarray .int, 2) := dk_188_10 (dk_at dksX10_init_1 8 rfl rfl)
theorem dX10_init_34 : decode cX10_init 34 = .ok (.putfield 32, 3) := dk_181 0 32 (dk_at dksX10_init_1 10 rfl rfl)
theorem dX10_init_37 : decode cX10_init 37 = .ok (.iload_n 2, 1) := dk_28 (dk_at dksX10_init_1 13 rfl rfl)
theorem dX10_init_38 : decode cX10_init 38 = .ok (.istore_n 3, 1) := dk_62 (dk_at dksX10_init_1 14 rfl rfl)
theorem dX10_init_39 : decode cX10_init 39 = .ok (.aload_n 0, 1) := dk_42 (dk_at dksX10_init_1 15 rfl rfl)
theorem dX10_init_40 : decode cX10_init 40 = .ok (.getfield 35, 3) := dk_180 0 35 (dk_at dksX10_init_1 16 rfl rfl)
theorem dX10_init_43 : decode cX10_init 43 = .ok (.sipush 200, 3) := dk_17 0 200 (dk_at dksX10_init_1 19 rfl rfl)
theorem dX10_init_46 : decode cX10_init 46 = .ok (.if_icmp .ge 40, 3) := dk_162 0 40 (dk_at dksX10_init_2 0 rfl rfl)
theorem dX10_init_49 : decode cX10_init 49 = .ok (.aload_n 1, 1) := dk_43 (dk_at dksX10_init_2 3 rfl rfl)
theorem dX10_init_50 : decode cX10_init 50 = .ok (.iload_n 3, 1) := dk_29 (dk_at dksX10_init_2 4 rfl rfl)
theorem dX10_init_51 : decode cX10_init 51 = .ok (.invokevirtual 39, 3) := dk_182 0 39 (dk_at dksX10_init_2 5 rfl rfl)
theorem dX10_init_54 : decode cX10_init 54 = .ok (.ifCond .eq 32, 3) := dk_153 0 32 (dk_at dksX10_init_2 8 rfl rfl)
theorem dX10_init_57 : decode cX10_init 57 = .ok (.aload_n 0, 1) := dk_42 (dk_at dksX10_init_2 11 rfl rfl)
theorem dX10_init_58 : decode cX10_init 58 = .ok (.getfield 32, 3) := dk_180 0 32 (dk_at dksX10_init_2 12 rfl rfl)
theorem dX10_init_61 : decode cX10_init 61 = .ok (.iload_n 3, 1) := dk_29 (dk_at dksX10_init_2 15 rfl rfl)
theorem dX10_init_62 : decode cX10_init 62 = .ok (.dup2, 1) := dk_92 (dk_at dksX10_init_2 16 rfl rfl)
theorem dX10_init_63 : decode cX10_init 63 = .ok (.iaload, 1) := dk_46 (dk_at dksX10_init_2 17 rfl rfl)
theorem dX10_init_64 : decode cX10_init 64 = .ok (.iconst 1, 1) := dk_4 (dk_at dksX10_init_2 18 rfl rfl)
theorem dX10_init_65 : decode cX10_init 65 = .ok (.iadd, 1) := dk_96 (dk_at dksX10_init_2 19 rfl rfl)
theorem dX10_init_66 : decode cX10_init 66 = .ok (.iastore, 1) := dk_79 (dk_at dksX10_init_2 20 rfl rfl)
theorem dX10_init_67 : decode cX10_init 67 = .ok (.aload_n 0, 1) := dk_42 (dk_at dksX10_init_2 21 rfl rfl)
theorem dX10_init_68 : decode cX10_init 68 = .ok (.dup, 1) := dk_89 (dk_at dksX10_init_2 22 rfl rfl)
theorem dX10_init_69 : decode cX10_init 69 = .ok (.getfield 35, 3) := dk_180 0 35 (dk_at dksX10_init_3 0 rfl rfl)
theorem dX10_init_72 : decode cX10_init 72 = .ok (.iconst 1, 1) := dk_4 (dk_at dksX10_init_3 3 rfl rfl)
theorem dX10_init_73 : decode cX10_init 73 = .ok (.iadd, 1) := dk_96 (dk_at dksX10_init_3 4 rfl rfl)
theorem dX10_init_74 : decode cX10_init 74 = .ok (.putfield 35, 3) := dk_181 0 35 (dk_at dksX10_init_3 5 rfl rfl)
theorem dX10_init_77 : decode cX10_init 77 = .ok (.aload_n 0, 1) := dk_42 (dk_at dksX10_init_3 8 rfl rfl)
theorem dX10_init_78 : decode cX10_init 78 = .ok (.iload_n 3, 1) := dk_29 (dk_at dksX10_init_3 9 rfl rfl)
theorem dX10_init_79 : decode cX10_init 79 = .ok (.invokevirtual 43, 3) := dk_182 0 43 (dk_at dksX10_init_3 10 rfl rfl)
theorem dX10_init_82 : decode cX10_init 82 = .ok (.istore_n 3, 1) := dk_62 (dk_at dksX10_init_3 13 rfl rfl)
theorem dX10_init_83 : decode cX10_init 83 = .ok (.goto (-44), 3) := dk_167 255 212 (dk_at dksX10_init_3 14 rfl rfl)
theorem dX10_init_86 : decode cX10_init 86 = .ok (.return_, 1) := dk_177 (dk_at dksX10_init_3 17 rfl rfl)
abbrev cX10_execute : ByteArray := prog_9_method_3_code
def yX10_execute : MethodName := ⟨RX10, "execute", "(I)I"⟩
def dkwX10_execute_7 : List UInt8 := [182, 0, 89, 172, 2, 172, 42, 27, 182, 0, 92, 153, 0, 7, 28, 167, 0, 4, 2, 172]
abbrev dktX10_execute_7 : List UInt8 := dkwX10_execute_7 ++ []
def dkwX10_execute_6 : List UInt8 := [180, 0, 22, 27, 182, 0, 83, 42, 180, 0, 9, 42, 180, 0, 22, 27, 182, 0, 86, 46, 96, 2]
abbrev dktX10_execute_6 : List UInt8 := dkwX10_execute_6 ++ dktX10_execute_7
def dkwX10_execute_5 : List UInt8 := [153, 0, 7, 2, 167, 0, 16, 42, 180, 0, 18, 182, 0, 74, 192, 0, 78, 182, 0, 80, 172, 42, 42]
abbrev dktX10_execute_5 : List UInt8 := dkwX10_execute_5 ++ dktX10_execute_6
def dkwX10_execute_4 : List UInt8 := [172, 42, 42, 180, 0, 22, 27, 182, 0, 59, 28, 182, 0, 66, 172, 42, 180, 0, 18, 182, 0, 70]
abbrev dktX10_execute_4 : List UInt8 := dkwX10_execute_4 ++ dktX10_execute_5
def dkwX10_execute_3 : List UInt8 := [167, 0, 4, 28, 172, 42, 180, 0, 62, 153, 0, 7, 28, 167, 0, 11, 42, 180, 0, 22, 27, 182, 0, 59]
abbrev dktX10_execute_3 : List UInt8 := dkwX10_execute_3 ++ dktX10_execute_4
def dkwX10_execute_2 : List UInt8 := [42, 180, 0, 22, 27, 182, 0, 59, 172, 42, 180, 0, 62, 153, 0, 14, 42, 180, 0, 22, 27, 182, 0, 59]
abbrev dktX10_execute_2 : List UInt8 := dkwX10_execute_2 ++ dktX10_execute_3
def dkwX10_execute_1 : List UInt8 := [170, 0, 0, 0, 174, 0, 0, 0, 4, 0, 0, 0, 13, 0, 0, 0, 53, 0, 0, 0, 62, 0, 0, 0, 82, 0, 0, 0, 102, 0, 0, 0, 116, 0, 0, 0, 144, 0, 0, 0, 174, 0, 0, 0, 174, 0, 0, 0, 174, 0, 0, 0, 172]
abbrev dktX10_execute_1 : List UInt8 := dkwX10_execute_1 ++ dktX10_execute_2
def dkwX10_execute_0 : List UInt8 := [27, 42, 180, 0, 22, 27, 182, 0, 53, 96, 61, 42, 180, 0, 22, 27, 182, 0, 56]
abbrev dktX10_execute_0 : List UInt8 := dkwX10_execute_0 ++ dktX10_execute_1
theorem dksX10_execute_0 : cX10_execute.data.toList.drop 0 = dktX10_execute_0 := by decide +kernel
theorem dksX10_execute_1 : cX10_execute.data.toList.drop 19 = dktX10_execute_1 := dk_seg dksX10_execute_0 19 rfl rfl
theorem dksX10_execute_2 : cX10_execute.data.toList.drop 72 = dktX10_execute_2 := dk_seg dksX10_execute_1 53 rfl rfl
theorem dksX10_execute_3 : cX10_execute.data.toList.drop 96 = dktX10_execute_3 := dk_seg dksX10_execute_2 24 rfl rfl
theorem dksX10_execute_4 : cX10_execute.data.toList.drop 120 = dktX10_execute_4 := dk_seg dksX10_execute_3 24 rfl rfl
theorem dksX10_execute_5 : cX10_execute.data.toList.drop 142 = dktX10_execute_5 := dk_seg dksX10_execute_4 22 rfl rfl
theorem dksX10_execute_6 : cX10_execute.data.toList.drop 165 = dktX10_execute_6 := dk_seg dksX10_execute_5 23 rfl rfl
theorem dksX10_execute_7 : cX10_execute.data.toList.drop 187 = dktX10_execute_7 := dk_seg dksX10_execute_6 22 rfl rfl
theorem dX10_execute_0 : decode cX10_execute 0 = .ok (.iload_n 1, 1) := dk_27 (dk_at dksX10_execute_0 0 rfl rfl)
theorem dX10_execute_1 : decode cX10_execute 1 = .ok (.aload_n 0, 1) := dk_42 (dk_at dksX10_execute_0 1 rfl rfl)
theorem dX10_execute_2 : decode cX10_execute 2 = .ok (.getfield 22, 3) := dk_180 0 22 (dk_at dksX10_execute_0 2 rfl rfl)
theorem dX10_execute_5 : decode cX10_execute 5 = .ok (.iload_n 1, 1) := dk_27 (dk_at dksX10_execute_0 5 rfl rfl)
theorem dX10_execute_6 : decode cX10_execute 6 = .ok (.invokevirtual 53, 3) := dk_182 0 53 (dk_at dksX10_execute_0 6 rfl rfl)
theorem dX10_execute_9 : decode cX10_execute 9 = .ok (.iadd, 1) := dk_96 (dk_at dksX10_execute_0 9 rfl rfl)
theorem dX10_execute_10 : decode cX10_execute 10 = .ok (.istore_n 2, 1) := dk_61 (dk_at dksX10_execute_0 10 rfl rfl)
theorem dX10_execute_11 : decode cX10_execute 11 = .ok (.aload_n 0, 1) := dk_42 (dk_at dksX10_execute_0 11 rfl rfl)
theorem dX10_execute_12 : decode cX10_execute 12 = .ok (.getfield 22, 3) := dk_180 0 22 (dk_at dksX10_execute_0 12 rfl rfl)
theorem dX10_execute_15 : decode cX10_execute 15 = .ok (.iload_n 1, 1) := dk_27 (dk_at dksX10_execute_0 15 rfl rfl)
theorem dX10_execute_16 : decode cX10_execute 16 = .ok (.invokevirtual 56, 3) := dk_182 0 56 (dk_at dksX10_execute_0 16 rfl rfl)
theorem dX10_execute_19 : decode cX10_execute 19 = .ok (.tableswitch 174 4 13 #[53, 62, 82, 102, 116, 144, 174, 174, 174, 172], 53) := by decide +kernel
theorem dX10_execute_72 : decode cX10_execute 72 = .ok (.aload_n 0, 1) := dk_42 (dk_at dksX10_execute_2 0 rfl rfl)
theorem dX10_execute_73 : decode cX10_execute 73 = .ok (.getfield 22, 3) := dk_180 0 22 (dk_at dksX10_execute_2 1 rfl rfl)
theorem dX10_execute_76 : decode cX10_execute 76 = .ok (.iload_n 1, 1) := dk_27 (dk_at dksX10_execute_2 4 rfl rfl)
theorem dX10_execute_77 : decode cX10_execute 77 = .ok (.invokevirtual 59, 3) := dk_182 0 59 (dk_at dksX10_execute_2 5 rfl rfl)
theorem dX10_execute_80 : decode cX10_execute 80 = .ok (.ireturn, 1) := dk_172 (dk_at dksX10_execute_2 8 rfl rfl)
theorem dX10_execute_81 : decode cX10_execute 81 = .ok (.aload_n 0, 1) := dk_42 (dk_at dksX10_execute_2 9 rfl rfl)
theorem dX10_execute_82 : decode cX10_execute 82 = .ok (.getfield 62, 3) := dk_180 0 62 (dk_at dksX10_execute_2 10 rfl rfl)
theorem dX10_execute_85 : decode cX10_execute 85 = .ok (.ifCond .eq 14, 3) := dk_153 0 14 (dk_at dksX10_execute_2 13 rfl rfl)
theorem dX10_execute_88 : decode cX10_execute 88 = .ok (.aload_n 0, 1) := dk_42 (dk_at dksX10_execute_2 16 rfl rfl)
theorem dX10_execute_89 : decode cX10_execute 89 = .ok (.getfield 22, 3) := dk_180 0 22 (dk_at dksX10_execute_2 17 rfl rfl)
theorem dX10_execute_92 : decode cX10_execute 92 = .ok (.iload_n 1, 1) := dk_27 (dk_at dksX10_execute_2 20 rfl rfl)
theorem dX10_execute_93 : decode cX10_execute 93 = .ok (.invokevirtual 59, 3) := dk_182 0 59 (dk_at dksX10_execute_2 21 rfl rfl)
theorem dX10_execute_96 : decode cX10_execute 96 = .ok (.goto 4, 3) := dk_167 0 4 (dk_at dksX10_execute_3 0 rfl rfl)
theorem dX10_execute_99 : decode cX10_execute 99 = .ok (.iload_n 2, 1) := dk_28 (dk_at dksX10_execute_3 3 rfl rfl)
theorem dX10_execute_100 : decode cX10_execute 100 = .ok (.ireturn, 1) := dk_172 (dk_at dksX10_execute_3 4 rfl rfl)
theorem dX10_execute_101 : decode cX10_execute 101 = .ok (.aload_n 0, 1) := dk_42 (dk_at dksX10_execute_3 5 rfl rfl)
theorem dX10_execute_102 : decode cX10_execute 102 = .ok (.getfield 62, 3) := dk_180 0 62 (dk_at dksX10_execute_3 6 rfl rfl)
theorem dX10_execute_105 : decode cX10_execute 105 = .ok (.ifCond .eq 7, 3) := dk_153 0 7 (dk_at dksX10_execute_3 9 rfl rfl)
theorem dX10_execute_108 : decode cX10_execute 108 = .ok (.iload_n 2, 1) := dk_28 (dk_at dksX10_execute_3 12 rfl rfl)
theorem dX10_execute_109 : decode cX10_execute 109 = .ok (.goto 11, 3) := dk_167 0 11 (dk_at dksX10_execute_3 13 rfl rfl)
theorem dX10_execute_112 : decode cX10_execute 112 = .ok (.aload_n 0, 1) := dk_42 (dk_at dksX10_execute_3 16 rfl rfl)
theorem dX10_execute_113 : decode cX10_execute 113 = .ok (.getfield 22, 3) := dk_180 0 22 (dk_at dksX10_execute_3 17 rfl rfl)
theorem dX10_execute_116 : decode cX10_execute 116 = .ok (.iload_n 1, 1) := dk_27 (dk_at dksX10_execute_3 20 rfl rfl)
theorem dX10_execute_117 : decode cX10_execute 117 = .ok (.invokevirtual 59, 3) := dk_182 0 59 (dk_at dksX10_execute_3 21 rfl rfl)
theorem dX10_execute_120 : decode cX10_execute 120 = .ok (.ireturn, 1) := dk_172 (dk_at dksX10_execute_4 0 rfl rfl)
theorem dX10_execute_121 : decode cX10_execute 121 = .ok (.aload_n 0, 1) := dk_42 (dk_at dksX10_execute_4 1 rfl rfl)
theorem dX10_execute_122 : decode cX10_execute 122 = .ok (.aload_n 0, 1) := dk_42 (dk_at dksX10_execute_4 2 rfl rfl)
theorem dX10_execute_123 : decode cX10_execute 123 = .ok (.getfield 22, 3) := dk_180 0 22 (dk_at dksX10_execute_4 3 rfl rfl)
theorem dX10_execute_126 : decode cX10_execute 126 = .ok (.iload_n 1, 1) := dk_27 (dk_at dksX10_execute_4 6 rfl rfl)
theorem dX10_execute_127 : decode cX10_execute 127 = .ok (.invokevirtual 59, 3) := dk_182 0 59 (dk_at dksX10_execute_4 7 rfl rfl)
theorem dX10_execute_130 : decode cX10_execute 130 = .ok (.iload_n 2, 1) := dk_28 (dk_at dksX10_execute_4 10 rfl rfl)
theorem dX10_execute_131 : decode cX10_execute 131 = .ok (.invokevirtual 66, 3) := dk_182 0 66 (dk_at dksX10_execute_4 11 rfl rfl)
theorem dX10_execute_134 : decode cX10_execute 134 = .ok (.ireturn, 1) := dk_172 (dk_at dksX10_execute_4 14 rfl rfl)
theorem dX10_execute_135 : decode cX10_execute 135 = .ok (.aload_n 0, 1) := dk_42 (dk_at dksX10_execute_4 15 rfl rfl)
theorem dX10_execute_136 : decode cX10_execute 136 = .ok (.getfield 18, 3) := dk_180 0 18 (dk_at dksX10_execute_4 16 rfl rfl)
theorem dX10_execute_139 : decode cX10_execute 139 = .ok (.invokevirtual 70, 3) := dk_182 0 70 (dk_at dksX10_execute_4 19 rfl rfl)
theorem dX10_execute_142 : decode cX10_execute 142 = .ok (.ifCond .eq 7, 3) := dk_153 0 7 (dk_at dksX10_execute_5 0 rfl rfl)
theorem dX10_execute_145 : decode cX10_execute 145 = .ok (.iconst (-1), 1) := dk_2 (dk_at dksX10_execute_5 3 rfl rfl)
theorem dX10_execute_146 : decode cX10_execute 146 = .ok (.goto 16, 3) := dk_167 0 16 (dk_at dksX10_execute_5 4 rfl rfl)
theorem dX10_execute_149 : decode cX10_execute 149 = .ok (.aload_n 0, 1) := dk_42 (dk_at dksX10_execute_5 7 rfl rfl)
theorem dX10_execute_150 : decode cX10_execute 150 = .ok (.getfield 18, 3) := dk_180 0 18 (dk_at dksX10_execute_5 8 rfl rfl)
theorem dX10_execute_153 : decode cX10_execute 153 = .ok (.invokevirtual 74, 3) := dk_182 0 74 (dk_at dksX10_execute_5 11 rfl rfl)
theorem dX10_execute_156 : decode cX10_execute 156 = .ok (.checkcast 78, 3) := dk_192 0 78 (dk_at dksX10_execute_5 14 rfl rfl)
theorem dX10_execute_159 : decode cX10_execute 159 = .ok (.invokevirtual 80, 3) := dk_182 0 80 (dk_at dksX10_execute_5 17 rfl rfl)
theorem dX10_execute_162 : decode cX10_execute 162 = .ok (.ireturn, 1) := dk_172 (dk_at dksX10_execute_5 20 rfl rfl)
theorem dX10_execute_163 : decode cX10_execute 163 = .ok (.aload_n 0, 1) := dk_42 (dk_at dksX10_execute_5 21 rfl rfl)
theorem dX10_execute_164 : decode cX10_execute 164 = .ok (.aload_n 0, 1) := dk_42 (dk_at dksX10_execute_5 22 rfl rfl)
theorem dX10_execute_165 : decode cX10_execute 165 = .ok (.getfield 22, 3) := dk_180 0 22 (dk_at dksX10_execute_6 0 rfl rfl)
theorem dX10_execute_168 : decode cX10_execute 168 = .ok (.iload_n 1, 1) := dk_27 (dk_at dksX10_execute_6 3 rfl rfl)
theorem dX10_execute_169 : decode cX10_execute 169 = .ok (.invokevirtual 83, 3) := dk_182 0 83 (dk_at dksX10_execute_6 4 rfl rfl)
theorem dX10_execute_172 : decode cX10_execute 172 = .ok (.aload_n 0, 1) := dk_42 (dk_at dksX10_execute_6 7 rfl rfl)
theorem dX10_execute_173 : decode cX10_execute 173 = .ok (.getfield 9, 3) := dk_180 0 9 (dk_at dksX10_execute_6 8 rfl rfl)
theorem dX10_execute_176 : decode cX10_execute 176 = .ok (.aload_n 0, 1) := dk_42 (dk_at dksX10_execute_6 11 rfl rfl)
theorem dX10_execute_177 : decode cX10_execute 177 = .ok (.getfield 22, 3) := dk_180 0 22 (dk_at dksX10_execute_6 12 rfl rfl)
theorem dX10_execute_180 : decode cX10_execute 180 = .ok (.iload_n 1, 1) := dk_27 (dk_at dksX10_execute_6 15 rfl rfl)
theorem dX10_execute_181 : decode cX10_execute 181 = .ok (.invokevirtual 86, 3) := dk_182 0 86 (dk_at dksX10_execute_6 16 rfl rfl)
theorem dX10_execute_184 : decode cX10_execute 184 = .ok (.iaload, 1) := dk_46 (dk_at dksX10_execute_6 19 rfl rfl)
theorem dX10_execute_185 : decode cX10_execute 185 = .ok (.iadd, 1) := dk_96 (dk_at dksX10_execute_6 20 rfl rfl)
theorem dX10_execute_186 : decode cX10_execute 186 = .ok (.iconst (-1), 1) := dk_2 (dk_at dksX10_execute_6 21 rfl rfl)
theorem dX10_execute_187 : decode cX10_execute 187 = .ok (.invokevirtual 89, 3) := dk_182 0 89 (dk_at dksX10_execute_7 0 rfl rfl)
theorem dX10_execute_190 : decode cX10_execute 190 = .ok (.ireturn, 1) := dk_172 (dk_at dksX10_execute_7 3 rfl rfl)
theorem dX10_execute_191 : decode cX10_execute 191 = .ok (.iconst (-1), 1) := dk_2 (dk_at dksX10_execute_7 4 rfl rfl)
theorem dX10_execute_192 : decode cX10_execute 192 = .ok (.ireturn, 1) := dk_172 (dk_at dksX10_execute_7 5 rfl rfl)
theorem dX10_execute_193 : decode cX10_execute 193 = .ok (.aload_n 0, 1) := dk_42 (dk_at dksX10_execute_7 6 rfl rfl)
theorem dX10_execute_194 : decode cX10_execute 194 = .ok (.iload_n 1, 1) := dk_27 (dk_at dksX10_execute_7 7 rfl rfl)
theorem dX10_execute_195 : decode cX10_execute 195 = .ok (.invokevirtual 92, 3) := dk_182 0 92 (dk_at dksX10_execute_7 8 rfl rfl)
theorem dX10_execute_198 : decode cX10_execute 198 = .ok (.ifCond .eq 7, 3) := dk_153 0 7 (dk_at dksX10_execute_7 11 rfl rfl)
theorem dX10_execute_201 : decode cX10_execute 201 = .ok (.iload_n 2, 1) := dk_28 (dk_at dksX10_execute_7 14 rfl rfl)
theorem dX10_execute_202 : decode cX10_execute 202 = .ok (.goto 4, 3) := dk_167 0 4 (dk_at dksX10_execute_7 15 rfl rfl)
theorem dX10_execute_205 : decode cX10_execute 205 = .ok (.iconst (-1), 1) := dk_2 (dk_at dksX10_execute_7 18 rfl rfl)
theorem dX10_execute_206 : decode cX10_execute 206 = .ok (.ireturn, 1) := dk_172 (dk_at dksX10_execute_7 19 rfl rfl)
abbrev cX10_call : ByteArray := prog_9_method_4_code
def yX10_call : MethodName := ⟨RX10, "call", "(II)I"⟩
def dkwX10_call_1 : List UInt8 := [182, 0, 100, 27, 172]
abbrev dktX10_call_1 : List UInt8 := dkwX10_call_1 ++ []
def dkwX10_call_0 : List UInt8 := [42, 180, 0, 18, 182, 0, 95, 16, 8, 160, 0, 5, 2, 172, 42, 180, 0, 18, 28, 184, 0, 96]
abbrev dktX10_call_0 : List UInt8 := dkwX10_call_0 ++ dktX10_call_1
theorem dksX10_call_0 : cX10_call.data.toList.drop 0 = dktX10_call_0 := by decide +kernel
theorem dksX10_call_1 : cX10_call.data.toList.drop 22 = dktX10_call_1 := dk_seg dksX10_call_0 22 rfl rfl
theorem dX10_call_0 : decode cX10_call 0 = .ok (.aload_n 0, 1) := dk_42 (dk_at dksX10_call_0 0 rfl rfl)
theorem dX10_call_1 : decode cX10_call 1 = .ok (.getfield 18, 3) := dk_180 0 18 (dk_at dksX10_call_0 1 rfl rfl)
theorem dX10_call_4 : decode cX10_call 4 = .ok (.invokevirtual 95, 3) := dk_182 0 95 (dk_at dksX10_call_0 4 rfl rfl)
theorem dX10_call_7 : decode cX10_call 7 = .ok (.bipush 8, 2) := dk_16 8 (dk_at dksX10_call_0 7 rfl rfl)
theorem dX10_call_9 : decode cX10_call 9 = .ok (.if_icmp .ne 5, 3) := dk_160 0 5 (dk_at dksX10_call_0 9 rfl rfl)
theorem dX10_call_12 : decode cX10_call 12 = .ok (.iconst (-1), 1) := dk_2 (dk_at dksX10_call_0 12 rfl rfl)
theorem dX10_call_13 : decode cX10_call 13 = .ok (.ireturn, 1) := dk_172 (dk_at dksX10_call_0 13 rfl rfl)
theorem dX10_call_14 : decode cX10_call 14 = .ok (.aload_n 0, 1) := dk_42 (dk_at dksX10_call_0 14 rfl rfl)
theorem dX10_call_15 : decode cX10_call 15 = .ok (.getfield 18, 3) := dk_180 0 18 (dk_at dksX10_call_0 15 rfl rfl)
theorem dX10_call_18 : decode cX10_call 18 = .ok (.iload_n 2, 1) := dk_28 (dk_at dksX10_call_0 18 rfl rfl)
theorem dX10_call_19 : decode cX10_call 19 = .ok (.invokestatic 96, 3) := dk_184 0 96 (dk_at dksX10_call_0 19 rfl rfl)
theorem dX10_call_22 : decode cX10_call 22 = .ok (.invokevirtual 100, 3) := dk_182 0 100 (dk_at dksX10_call_1 0 rfl rfl)
theorem dX10_call_25 : decode cX10_call 25 = .ok (.iload_n 1, 1) := dk_27 (dk_at dksX10_call_1 3 rfl rfl)
theorem dX10_call_26 : decode cX10_call 26 = .ok (.ireturn, 1) := dk_172 (dk_at dksX10_call_1 4 rfl rfl)
abbrev cX10_byteOr : ByteArray := prog_9_method_2_code
def yX10_byteOr : MethodName := ⟨RX10, "byteOr", "(II)I"⟩
def dkwX10_byteOr_1 : List UInt8 := [172]
abbrev dktX10_byteOr_1 : List UInt8 := dkwX10_byteOr_1 ++ []
def dkwX10_byteOr_0 : List UInt8 := [42, 180, 0, 22, 27, 182, 0, 47, 153, 0, 15, 42, 180, 0, 22, 180, 0, 50, 27, 46, 167, 0, 4, 28]
abbrev dktX10_byteOr_0 : List UInt8 := dkwX10_byteOr_0 ++ dktX10_byteOr_1
theorem dksX10_byteOr_0 : cX10_byteOr.data.toList.drop 0 = dktX10_byteOr_0 := by decide +kernel
theorem dksX10_byteOr_1 : cX10_byteOr.data.toList.drop 24 = dktX10_byteOr_1 := dk_seg dksX10_byteOr_0 24 rfl rfl
theorem dX10_byteOr_0 : decode cX10_byteOr 0 = .ok (.aload_n 0, 1) := dk_42 (dk_at dksX10_byteOr_0 0 rfl rfl)
theorem dX10_byteOr_1 : decode cX10_byteOr 1 = .ok (.getfield 22, 3) := dk_180 0 22 (dk_at dksX10_byteOr_0 1 rfl rfl)
theorem dX10_byteOr_4 : decode cX10_byteOr 4 = .ok (.iload_n 1, 1) := dk_27 (dk_at dksX10_byteOr_0 4 rfl rfl)
theorem dX10_byteOr_5 : decode cX10_byteOr 5 = .ok (.invokevirtual 47, 3) := dk_182 0 47 (dk_at dksX10_byteOr_0 5 rfl rfl)
theorem dX10_byteOr_8 : decode cX10_byteOr 8 = .ok (.ifCond .eq 15, 3) := dk_153 0 15 (dk_at dksX10_byteOr_0 8 rfl rfl)
theorem dX10_byteOr_11 : decode cX10_byteOr 11 = .ok (.aload_n 0, 1) := dk_42 (dk_at dksX10_byteOr_0 11 rfl rfl)
theorem dX10_byteOr_12 : decode cX10_byteOr 12 = .ok (.getfield 22, 3) := dk_180 0 22 (dk_at dksX10_byteOr_0 12 rfl rfl)
theorem dX10_byteOr_15 : decode cX10_byteOr 15 = .ok (.getfield 50, 3) := dk_180 0 50 (dk_at dksX10_byteOr_0 15 rfl rfl)
theorem dX10_byteOr_18 : decode cX10_byteOr 18 = .ok (.iload_n 1, 1) := dk_27 (dk_at dksX10_byteOr_0 18 rfl rfl)
theorem dX10_byteOr_19 : decode cX10_byteOr 19 = .ok (.iaload, 1) := dk_46 (dk_at dksX10_byteOr_0 19 rfl rfl)
theorem dX10_byteOr_20 : decode cX10_byteOr 20 = .ok (.goto 4, 3) := dk_167 0 4 (dk_at dksX10_byteOr_0 20 rfl rfl)
theorem dX10_byteOr_23 : decode cX10_byteOr 23 = .ok (.iload_n 2, 1) := dk_28 (dk_at dksX10_byteOr_0 23 rfl rfl)
theorem dX10_byteOr_24 : decode cX10_byteOr 24 = .ok (.ireturn, 1) := dk_172 (dk_at dksX10_byteOr_1 0 rfl rfl)
abbrev cX10_compute : ByteArray := prog_9_method_5_code
def yX10_compute : MethodName := ⟨RX10, "compute", "(I)Z"⟩
def dkwX10_compute_7 : List UInt8 := [180, 0, 9, 28, 46, 167, 0, 4, 29, 79, 29, 155, 0, 7, 4, 167, 0, 4, 3, 172]
abbrev dktX10_compute_7 : List UInt8 := dkwX10_compute_7 ++ []
def dkwX10_compute_6 : List UInt8 := [29, 42, 180, 0, 22, 27, 182, 0, 83, 126, 62, 167, 0, 3, 42, 180, 0, 9, 28, 29, 156, 0, 12, 42]
abbrev dktX10_compute_6 : List UInt8 := dkwX10_compute_6 ++ dktX10_compute_7
def dkwX10_compute_5 : List UInt8 := [182, 0, 89, 62, 167, 0, 34, 42, 180, 0, 9, 42, 180, 0, 22, 27, 182, 0, 104, 46, 62, 167, 0, 17]
abbrev dktX10_compute_5 : List UInt8 := dkwX10_compute_5 ++ dktX10_compute_6
def dkwX10_compute_4 : List UInt8 := [162, 0, 7, 4, 167, 0, 4, 3, 181, 0, 62, 167, 0, 51, 42, 42, 180, 0, 22, 27, 182, 0, 83, 2]
abbrev dktX10_compute_4 : List UInt8 := dkwX10_compute_4 ++ dktX10_compute_5
def dkwX10_compute_3 : List UInt8 := [182, 0, 104, 46, 96, 17, 1, 0, 112, 62, 167, 0, 75, 42, 29, 42, 180, 0, 22, 27, 182, 0, 83]
abbrev dktX10_compute_3 : List UInt8 := dkwX10_compute_3 ++ dktX10_compute_4
def dkwX10_compute_2 : List UInt8 := [42, 180, 0, 22, 27, 182, 0, 83, 62, 167, 0, 98, 29, 42, 180, 0, 9, 42, 180, 0, 22, 27]
abbrev dktX10_compute_2 : List UInt8 := dkwX10_compute_2 ++ dktX10_compute_3
def dkwX10_compute_1 : List UInt8 := [170, 0, 0, 0, 0, 0, 0, 171, 0, 0, 0, 1, 0, 0, 0, 12, 0, 0, 0, 64, 0, 0, 0, 76, 0, 0, 0, 99, 0, 0, 0, 171, 0, 0, 0, 171, 0, 0, 0, 171, 0, 0, 0, 171, 0, 0, 0, 171, 0, 0, 0, 171, 0, 0, 0, 123, 0, 0, 0, 140, 0, 0, 0, 157]
abbrev dktX10_compute_1 : List UInt8 := dkwX10_compute_1 ++ dktX10_compute_2
def dkwX10_compute_0 : List UInt8 := [42, 180, 0, 22, 27, 182, 0, 86, 61, 42, 180, 0, 9, 28, 46, 62, 42, 180, 0, 22, 27, 182, 0, 56]
abbrev dktX10_compute_0 : List UInt8 := dkwX10_compute_0 ++ dktX10_compute_1
theorem dksX10_compute_0 : cX10_compute.data.toList.drop 0 = dktX10_compute_0 := by decide +kernel
theorem dksX10_compute_1 : cX10_compute.data.toList.drop 24 = dktX10_compute_1 := dk_seg dksX10_compute_0 24 rfl rfl
theorem dksX10_compute_2 : cX10_compute.data.toList.drop 88 = dktX10_compute_2 := dk_seg dksX10_compute_1 64 rfl rfl
theorem dksX10_compute_3 : cX10_compute.data.toList.drop 110 = dktX10_compute_3 := dk_seg dksX10_compute_2 22 rfl rfl
theorem dksX10_compute_4 : cX10_compute.data.toList.drop 133 = dktX10_compute_4 := dk_seg dksX10_compute_3 23 rfl rfl
theorem dksX10_compute_5 : cX10_compute.data.toList.drop 157 = dktX10_compute_5 := dk_seg dksX10_compute_4 24 rfl rfl
theorem dksX10_compute_6 : cX10_compute.data.toList.drop 181 = dktX10_compute_6 := dk_seg dksX10_compute_5 24 rfl rfl
theorem dksX10_compute_7 : cX10_compute.data.toList.drop 205 = dktX10_compute_7 := dk_seg dksX10_compute_6 24 rfl rfl
theorem dX10_compute_0 : decode cX10_compute 0 = .ok (.aload_n 0, 1) := dk_42 (dk_at dksX10_compute_0 0 rfl rfl)
theorem dX10_compute_1 : decode cX10_compute 1 = .ok (.getfield 22, 3) := dk_180 0 22 (dk_at dksX10_compute_0 1 rfl rfl)
theorem dX10_compute_4 : decode cX10_compute 4 = .ok (.iload_n 1, 1) := dk_27 (dk_at dksX10_compute_0 4 rfl rfl)
theorem dX10_compute_5 : decode cX10_compute 5 = .ok (.invokevirtual 86, 3) := dk_182 0 86 (dk_at dksX10_compute_0 5 rfl rfl)
theorem dX10_compute_8 : decode cX10_compute 8 = .ok (.istore_n 2, 1) := dk_61 (dk_at dksX10_compute_0 8 rfl rfl)
theorem dX10_compute_9 : decode cX10_compute 9 = .ok (.aload_n 0, 1) := dk_42 (dk_at dksX10_compute_0 9 rfl rfl)
theorem dX10_compute_10 : decode cX10_compute 10 = .ok (.getfield 9, 3) := dk_180 0 9 (dk_at dksX10_compute_0 10 rfl rfl)
theorem dX10_compute_13 : decode cX10_compute 13 = .ok (.iload_n 2, 1) := dk_28 (dk_at dksX10_compute_0 13 rfl rfl)
theorem dX10_compute_14 : decode cX10_compute 14 = .ok (.iaload, 1) := dk_46 (dk_at dksX10_compute_0 14 rfl rfl)
theorem dX10_compute_15 : decode cX10_compute 15 = .ok (.istore_n 3, 1) := dk_62 (dk_at dksX10_compute_0 15 rfl rfl)
theorem dX10_compute_16 : decode cX10_compute 16 = .ok (.aload_n 0, 1) := dk_42 (dk_at dksX10_compute_0 16 rfl rfl)
theorem dX10_compute_17 : decode cX10_compute 17 = .ok (.getfield 22, 3) := dk_180 0 22 (dk_at dksX10_compute_0 17 rfl rfl)
theorem dX10_compute_20 : decode cX10_compute 20 = .ok (.iload_n 1, 1) := dk_27 (dk_at dksX10_compute_0 20 rfl rfl)
theorem dX10_compute_21 : decode cX10_compute 21 = .ok (.invokevirtual 56, 3) := dk_182 0 56 (dk_at dksX10_compute_0 21 rfl rfl)
theorem dX10_compute_24 : decode cX10_compute 24 = .ok (.tableswitch 171 1 12 #[64, 76, 99, 171, 171, 171, 171, 171, 171, 123, 140, 157], 64) := by decide +kernel
theorem dX10_compute_88 : decode cX10_compute 88 = .ok (.aload_n 0, 1) := dk_42 (dk_at dksX10_compute_2 0 rfl rfl)
theorem dX10_compute_89 : decode cX10_compute 89 = .ok (.getfield 22, 3) := dk_180 0 22 (dk_at dksX10_compute_2 1 rfl rfl)
theorem dX10_compute_92 : decode cX10_compute 92 = .ok (.iload_n 1, 1) := dk_27 (dk_at dksX10_compute_2 4 rfl rfl)
theorem dX10_compute_93 : decode cX10_compute 93 = .ok (.invokevirtual 83, 3) := dk_182 0 83 (dk_at dksX10_compute_2 5 rfl rfl)
theorem dX10_compute_96 : decode cX10_compute 96 = .ok (.istore_n 3, 1) := dk_62 (dk_at dksX10_compute_2 8 rfl rfl)
theorem dX10_compute_97 : decode cX10_compute 97 = .ok (.goto 98, 3) := dk_167 0 98 (dk_at dksX10_compute_2 9 rfl rfl)
theorem dX10_compute_100 : decode cX10_compute 100 = .ok (.iload_n 3, 1) := dk_29 (dk_at dksX10_compute_2 12 rfl rfl)
theorem dX10_compute_101 : decode cX10_compute 101 = .ok (.aload_n 0, 1) := dk_42 (dk_at dksX10_compute_2 13 rfl rfl)
theorem dX10_compute_102 : decode cX10_compute 102 = .ok (.getfield 9, 3) := dk_180 0 9 (dk_at dksX10_compute_2 14 rfl rfl)
theorem dX10_compute_105 : decode cX10_compute 105 = .ok (.aload_n 0, 1) := dk_42 (dk_at dksX10_compute_2 17 rfl rfl)
theorem dX10_compute_106 : decode cX10_compute 106 = .ok (.getfield 22, 3) := dk_180 0 22 (dk_at dksX10_compute_2 18 rfl rfl)
theorem dX10_compute_109 : decode cX10_compute 109 = .ok (.iload_n 1, 1) := dk_27 (dk_at dksX10_compute_2 21 rfl rfl)
theorem dX10_compute_110 : decode cX10_compute 110 = .ok (.invokevirtual 104, 3) := dk_182 0 104 (dk_at dksX10_compute_3 0 rfl rfl)
theorem dX10_compute_113 : decode cX10_compute 113 = .ok (.iaload, 1) := dk_46 (dk_at dksX10_compute_3 3 rfl rfl)
theorem dX10_compute_114 : decode cX10_compute 114 = .ok (.iadd, 1) := dk_96 (dk_at dksX10_compute_3 4 rfl rfl)
theorem dX10_compute_115 : decode cX10_compute 115 = .ok (.sipush 256, 3) := dk_17 1 0 (dk_at dksX10_compute_3 5 rfl rfl)
theorem dX10_compute_118 : decode cX10_compute 118 = .ok (.irem, 1) := dk_112 (dk_at dksX10_compute_3 8 rfl rfl)
theorem dX10_compute_119 : decode cX10_compute 119 = .ok (.istore_n 3, 1) := dk_62 (dk_at dksX10_compute_3 9 rfl rfl)
theorem dX10_compute_120 : decode cX10_compute 120 = .ok (.goto 75, 3) := dk_167 0 75 (dk_at dksX10_compute_3 10 rfl rfl)
theorem dX10_compute_123 : decode cX10_compute 123 = .ok (.aload_n 0, 1) := dk_42 (dk_at dksX10_compute_3 13 rfl rfl)
theorem dX10_compute_124 : decode cX10_compute 124 = .ok (.iload_n 3, 1) := dk_29 (dk_at dksX10_compute_3 14 rfl rfl)
theorem dX10_compute_125 : decode cX10_compute 125 = .ok (.aload_n 0, 1) := dk_42 (dk_at dksX10_compute_3 15 rfl rfl)
theorem dX10_compute_126 : decode cX10_compute 126 = .ok (.getfield 22, 3) := dk_180 0 22 (dk_at dksX10_compute_3 16 rfl rfl)
theorem dX10_compute_129 : decode cX10_compute 129 = .ok (.iload_n 1, 1) := dk_27 (dk_at dksX10_compute_3 19 rfl rfl)
theorem dX10_compute_130 : decode cX10_compute 130 = .ok (.invokevirtual 83, 3) := dk_182 0 83 (dk_at dksX10_compute_3 20 rfl rfl)
theorem dX10_compute_133 : decode cX10_compute 133 = .ok (.if_icmp .ge 7, 3) := dk_162 0 7 (dk_at dksX10_compute_4 0 rfl rfl)
theorem dX10_compute_136 : decode cX10_compute 136 = .ok (.iconst 1, 1) := dk_4 (dk_at dksX10_compute_4 3 rfl rfl)
theorem dX10_compute_137 : decode cX10_compute 137 = .ok (.goto 4, 3) := dk_167 0 4 (dk_at dksX10_compute_4 4 rfl rfl)
theorem dX10_compute_140 : decode cX10_compute 140 = .ok (.iconst 0, 1) := dk_3 (dk_at dksX10_compute_4 7 rfl rfl)
theorem dX10_compute_141 : decode cX10_compute 141 = .ok (.putfield 62, 3) := dk_181 0 62 (dk_at dksX10_compute_4 8 rfl rfl)
theorem dX10_compute_144 : decode cX10_compute 144 = .ok (.goto 51, 3) := dk_167 0 51 (dk_at dksX10_compute_4 11 rfl rfl)
theorem dX10_compute_147 : decode cX10_compute 147 = .ok (.aload_n 0, 1) := dk_42 (dk_at dksX10_compute_4 14 rfl rfl)
theorem dX10_compute_148 : decode cX10_compute 148 = .ok (.aload_n 0, 1) := dk_42 (dk_at dksX10_compute_4 15 rfl rfl)
theorem dX10_compute_149 : decode cX10_compute 149 = .ok (.getfield 22, 3) := dk_180 0 22 (dk_at dksX10_compute_4 16 rfl rfl)
theorem dX10_compute_152 : decode cX10_compute 152 = .ok (.iload_n 1, 1) := dk_27 (dk_at dksX10_compute_4 19 rfl rfl)
theorem dX10_compute_153 : decode cX10_compute 153 = .ok (.invokevirtual 83, 3) := dk_182 0 83 (dk_at dksX10_compute_4 20 rfl rfl)
theorem dX10_compute_156 : decode cX10_compute 156 = .ok (.iconst (-1), 1) := dk_2 (dk_at dksX10_compute_4 23 rfl rfl)
theorem dX10_compute_157 : decode cX10_compute 157 = .ok (.invokevirtual 89, 3) := dk_182 0 89 (dk_at dksX10_compute_5 0 rfl rfl)
theorem dX10_compute_160 : decode cX10_compute 160 = .ok (.istore_n 3, 1) := dk_62 (dk_at dksX10_compute_5 3 rfl rfl)
theorem dX10_compute_161 : decode cX10_compute 161 = .ok (.goto 34, 3) := dk_167 0 34 (dk_at dksX10_compute_5 4 rfl rfl)
theorem dX10_compute_164 : decode cX10_compute 164 = .ok (.aload_n 0, 1) := dk_42 (dk_at dksX10_compute_5 7 rfl rfl)
theorem dX10_compute_165 : decode cX10_compute 165 = .ok (.getfield 9, 3) := dk_180 0 9 (dk_at dksX10_compute_5 8 rfl rfl)
theorem dX10_compute_168 : decode cX10_compute 168 = .ok (.aload_n 0, 1) := dk_42 (dk_at dksX10_compute_5 11 rfl rfl)
theorem dX10_compute_169 : decode cX10_compute 169 = .ok (.getfield 22, 3) := dk_180 0 22 (dk_at dksX10_compute_5 12 rfl rfl)
theorem dX10_compute_172 : decode cX10_compute 172 = .ok (.iload_n 1, 1) := dk_27 (dk_at dksX10_compute_5 15 rfl rfl)
theorem dX10_compute_173 : decode cX10_compute 173 = .ok (.invokevirtual 104, 3) := dk_182 0 104 (dk_at dksX10_compute_5 16 rfl rfl)
theorem dX10_compute_176 : decode cX10_compute 176 = .ok (.iaload, 1) := dk_46 (dk_at dksX10_compute_5 19 rfl rfl)
theorem dX10_compute_177 : decode cX10_compute 177 = .ok (.istore_n 3, 1) := dk_62 (dk_at dksX10_compute_5 20 rfl rfl)
theorem dX10_compute_178 : decode cX10_compute 178 = .ok (.goto 17, 3) := dk_167 0 17 (dk_at dksX10_compute_5 21 rfl rfl)
theorem dX10_compute_181 : decode cX10_compute 181 = .ok (.iload_n 3, 1) := dk_29 (dk_at dksX10_compute_6 0 rfl rfl)
theorem dX10_compute_182 : decode cX10_compute 182 = .ok (.aload_n 0, 1) := dk_42 (dk_at dksX10_compute_6 1 rfl rfl)
theorem dX10_compute_183 : decode cX10_compute 183 = .ok (.getfield 22, 3) := dk_180 0 22 (dk_at dksX10_compute_6 2 rfl rfl)
theorem dX10_compute_186 : decode cX10_compute 186 = .ok (.iload_n 1, 1) := dk_27 (dk_at dksX10_compute_6 5 rfl rfl)
theorem dX10_compute_187 : decode cX10_compute 187 = .ok (.invokevirtual 83, 3) := dk_182 0 83 (dk_at dksX10_compute_6 6 rfl rfl)
theorem dX10_compute_190 : decode cX10_compute 190 = .ok (.iand, 1) := dk_126 (dk_at dksX10_compute_6 9 rfl rfl)
theorem dX10_compute_191 : decode cX10_compute 191 = .ok (.istore_n 3, 1) := dk_62 (dk_at dksX10_compute_6 10 rfl rfl)
theorem dX10_compute_192 : decode cX10_compute 192 = .ok (.goto 3, 3) := dk_167 0 3 (dk_at dksX10_compute_6 11 rfl rfl)
theorem dX10_compute_195 : decode cX10_compute 195 = .ok (.aload_n 0, 1) := dk_42 (dk_at dksX10_compute_6 14 rfl rfl)
theorem dX10_compute_196 : decode cX10_compute 196 = .ok (.getfield 9, 3) := dk_180 0 9 (dk_at dksX10_compute_6 15 rfl rfl)
theorem dX10_compute_199 : decode cX10_compute 199 = .ok (.iload_n 2, 1) := dk_28 (dk_at dksX10_compute_6 18 rfl rfl)
theorem dX10_compute_200 : decode cX10_compute 200 = .ok (.iload_n 3, 1) := dk_29 (dk_at dksX10_compute_6 19 rfl rfl)
theorem dX10_compute_201 : decode cX10_compute 201 = .ok (.ifCond .ge 12, 3) := dk_156 0 12 (dk_at dksX10_compute_6 20 rfl rfl)
theorem dX10_compute_204 : decode cX10_compute 204 = .ok (.aload_n 0, 1) := dk_42 (dk_at dksX10_compute_6 23 rfl rfl)
theorem dX10_compute_205 : decode cX10_compute 205 = .ok (.getfield 9, 3) := dk_180 0 9 (dk_at dksX10_compute_7 0 rfl rfl)
theorem dX10_compute_208 : decode cX10_compute 208 = .ok (.iload_n 2, 1) := dk_28 (dk_at dksX10_compute_7 3 rfl rfl)
theorem dX10_compute_209 : decode cX10_compute 209 = .ok (.iaload, 1) := dk_46 (dk_at dksX10_compute_7 4 rfl rfl)
theorem dX10_compute_210 : decode cX10_compute 210 = .ok (.goto 4, 3) := dk_167 0 4 (dk_at dksX10_compute_7 5 rfl rfl)
theorem dX10_compute_213 : decode cX10_compute 213 = .ok (.iload_n 3, 1) := dk_29 (dk_at dksX10_compute_7 8 rfl rfl)
theorem dX10_compute_214 : decode cX10_compute 214 = .ok (.iastore, 1) := dk_79 (dk_at dksX10_compute_7 9 rfl rfl)
theorem dX10_compute_215 : decode cX10_compute 215 = .ok (.iload_n 3, 1) := dk_29 (dk_at dksX10_compute_7 10 rfl rfl)
theorem dX10_compute_216 : decode cX10_compute 216 = .ok (.ifCond .lt 7, 3) := dk_155 0 7 (dk_at dksX10_compute_7 11 rfl rfl)
theorem dX10_compute_219 : decode cX10_compute 219 = .ok (.iconst 1, 1) := dk_4 (dk_at dksX10_compute_7 14 rfl rfl)
theorem dX10_compute_220 : decode cX10_compute 220 = .ok (.goto 4, 3) := dk_167 0 4 (dk_at dksX10_compute_7 15 rfl rfl)
theorem dX10_compute_223 : decode cX10_compute 223 = .ok (.iconst 0, 1) := dk_3 (dk_at dksX10_compute_7 18 rfl rfl)
theorem dX10_compute_224 : decode cX10_compute 224 = .ok (.ireturn, 1) := dk_172 (dk_at dksX10_compute_7 19 rfl rfl)
theorem q116 : (Jvm.Cond.initialized "CodeRecovery$Run") ∈ lw_all := lw_g (lw_at lw_m1 39 rfl) rfl
theorem q133 : (Jvm.Cond.fieldLinkNest "CodeRecovery$Run" (50 : Nat) "CodeRecovery$Image" "bytes" "[I" "CodeRecovery") ∈ lw_tbl := lw_at lw_m1 56 rfl
theorem q411 : (Jvm.Cond.selects "CodeRecovery$Run" ({ cls := "java/lang/Object", name := "getClass", desc := "()Ljava/lang/Class;" } : Jvm.MethodName) ({ cls := "java/lang/Object", name := "getClass", desc := "()Ljava/lang/Class;" } : Jvm.MethodName)) ∈ lw_all := lw_g (lw_at lw_m2 94 rfl) rfl
theorem q828 : (Jvm.Cond.selects "CodeRecovery$Run" ({ cls := "java/lang/Object", name := "equals", desc := "(Ljava/lang/Object;)Z" } : Jvm.MethodName) ({ cls := "java/lang/Object", name := "equals", desc := "(Ljava/lang/Object;)Z" } : Jvm.MethodName)) ∈ lw_all := lw_g (lw_at lw_m4 31 rfl) rfl
theorem q1525 : (Jvm.Cond.instantiable "CodeRecovery$Run" (6 : Nat)) ∈ lw_all := lw_g (lw_at lw_m7 8 rfl) rfl
theorem q1527 : (Jvm.Cond.instanceMethod ({ cls := "CodeRecovery$Run", name := "<init>", desc := "(LCodeRecovery$Image;I)V" } : Jvm.MethodName)) ∈ lw_all := lw_g (lw_at lw_m7 10 rfl) rfl
theorem q1528 : (Jvm.Cond.code ({ cls := "CodeRecovery$Run", name := "<init>", desc := "(LCodeRecovery$Image;I)V" } : Jvm.MethodName) prog_9_method_1_code (4 : Nat) (Option.none : Option Jvm.ClassFile.FieldType)) ∈ lw_all := lw_g (lw_at lw_m7 11 rfl) rfl
theorem q1529 : (Jvm.Cond.methodLink "CodeRecovery$Run" (3 : Nat) ({ cls := "java/lang/Object", name := "<init>", desc := "()V" } : Jvm.MethodName)) ∈ lw_all := lw_g (lw_at lw_m7 12 rfl) rfl
theorem q1530 : (Jvm.Cond.classLink "CodeRecovery$Run" (15 : Nat) "java/util/ArrayDeque") ∈ lw_all := lw_g (lw_at lw_m7 13 rfl) rfl
theorem q1531 : (Jvm.Cond.methodLink "CodeRecovery$Run" (17 : Nat) ({ cls := "java/util/ArrayDeque", name := "<init>", desc := "()V" } : Jvm.MethodName)) ∈ lw_all := lw_g (lw_at lw_m7 14 rfl) rfl
theorem q1532 : (Jvm.Cond.methodLink "CodeRecovery$Run" (26 : Nat) ({ cls := "CodeRecovery$Image", name := "size", desc := "()I" } : Jvm.MethodName)) ∈ lw_all := lw_g (lw_at lw_m7 15 rfl) rfl
theorem q1533 : (Jvm.Cond.methodLink "CodeRecovery$Run" (39 : Nat) ({ cls := "CodeRecovery$Image", name := "isValid", desc := "(I)Z" } : Jvm.MethodName)) ∈ lw_all := lw_g (lw_at lw_m7 16 rfl) rfl
theorem q1534 : (Jvm.Cond.methodLink "CodeRecovery$Run" (43 : Nat) ({ cls := "CodeRecovery$Run", name := "execute", desc := "(I)I" } : Jvm.MethodName)) ∈ lw_all := lw_g (lw_at lw_m7 17 rfl) rfl
theorem q1535 : (Jvm.Cond.privateMethod ({ cls := "CodeRecovery$Run", name := "execute", desc := "(I)I" } : Jvm.MethodName)) ∈ lw_tbl := lw_at lw_m7 18 rfl
theorem q1536 : (Jvm.Cond.instanceMethod ({ cls := "CodeRecovery$Run", name := "execute", desc := "(I)I" } : Jvm.MethodName)) ∈ lw_all := lw_g (lw_at lw_m7 19 rfl) rfl
theorem q1537 : (Jvm.Cond.code ({ cls := "CodeRecovery$Run", name := "execute", desc := "(I)I" } : Jvm.MethodName) prog_9_method_3_code (3 : Nat) (Option.some Jvm.ClassFile.FieldType.int)) ∈ lw_all := lw_g (lw_at lw_m7 20 rfl) rfl
theorem q1538 : (Jvm.Cond.methodLink "CodeRecovery$Run" (53 : Nat) ({ cls := "CodeRecovery$Image", name := "length", desc := "(I)I" } : Jvm.MethodName)) ∈ lw_all := lw_g (lw_at lw_m7 21 rfl) rfl
theorem q1539 : (Jvm.Cond.methodLink "CodeRecovery$Run" (56 : Nat) ({ cls := "CodeRecovery$Image", name := "kind", desc := "(I)I" } : Jvm.MethodName)) ∈ lw_all := lw_g (lw_at lw_m7 22 rfl) rfl
theorem q1540 : (Jvm.Cond.methodLink "CodeRecovery$Run" (59 : Nat) ({ cls := "CodeRecovery$Image", name := "target", desc := "(I)I" } : Jvm.MethodName)) ∈ lw_all := lw_g (lw_at lw_m7 23 rfl) rfl
theorem q1541 : (Jvm.Cond.methodLink "CodeRecovery$Run" (66 : Nat) ({ cls := "CodeRecovery$Run", name := "call", desc := "(II)I" } : Jvm.MethodName)) ∈ lw_all := lw_g (lw_at lw_m7 24 rfl) rfl
theorem q1542 : (Jvm.Cond.privateMethod ({ cls := "CodeRecovery$Run", name := "call", desc := "(II)I" } : Jvm.MethodName)) ∈ lw_tbl := lw_at lw_m7 25 rfl
theorem q1543 : (Jvm.Cond.instanceMethod ({ cls := "CodeRecovery$Run", name := "call", desc := "(II)I" } : Jvm.MethodName)) ∈ lw_all := lw_g (lw_at lw_m7 26 rfl) rfl
theorem q1544 : (Jvm.Cond.code ({ cls := "CodeRecovery$Run", name := "call", desc := "(II)I" } : Jvm.MethodName) prog_9_method_4_code (3 : Nat) (Option.some Jvm.ClassFile.FieldType.int)) ∈ lw_all := lw_g (lw_at lw_m7 27 rfl) rfl
theorem q1545 : (Jvm.Cond.methodLink "CodeRecovery$Run" (95 : Nat) ({ cls := "java/util/ArrayDeque", name := "size", desc := "()I" } : Jvm.MethodName)) ∈ lw_all := lw_g (lw_at lw_m7 28 rfl) rfl
theorem q1552 : (Jvm.Cond.methodLink "CodeRecovery$Run" (96 : Nat) ({ cls := "java/lang/Integer", name := "valueOf", desc := "(I)Ljava/lang/Integer;" } : Jvm.MethodName)) ∈ lw_all := lw_g (lw_at lw_m7 35 rfl) rfl
theorem q1553 : (Jvm.Cond.methodLink "CodeRecovery$Run" (100 : Nat) ({ cls := "java/util/ArrayDeque", name := "addLast", desc := "(Ljava/lang/Object;)V" } : Jvm.MethodName)) ∈ lw_all := lw_g (lw_at lw_m7 36 rfl) rfl
theorem q1554 : (Jvm.Cond.methodLink "CodeRecovery$Run" (70 : Nat) ({ cls := "java/util/ArrayDeque", name := "isEmpty", desc := "()Z" } : Jvm.MethodName)) ∈ lw_all := lw_g (lw_at lw_m7 37 rfl) rfl
theorem q1555 : (Jvm.Cond.methodLink "CodeRecovery$Run" (74 : Nat) ({ cls := "java/util/ArrayDeque", name := "removeLast", desc := "()Ljava/lang/Object;" } : Jvm.MethodName)) ∈ lw_all := lw_g (lw_at lw_m7 38 rfl) rfl
theorem q1566 : (Jvm.Cond.classLink "CodeRecovery$Run" (78 : Nat) "java/lang/Integer") ∈ lw_all := lw_g (lw_at lw_m7 49 rfl) rfl
theorem q1567 : (Jvm.Cond.methodLink "CodeRecovery$Run" (80 : Nat) ({ cls := "java/lang/Integer", name := "intValue", desc := "()I" } : Jvm.MethodName)) ∈ lw_all := lw_g (lw_at lw_m7 50 rfl) rfl
theorem q1568 : (Jvm.Cond.methodLink "CodeRecovery$Run" (83 : Nat) ({ cls := "CodeRecovery$Image", name := "operand", desc := "(I)I" } : Jvm.MethodName)) ∈ lw_all := lw_g (lw_at lw_m7 51 rfl) rfl
theorem q1569 : (Jvm.Cond.methodLink "CodeRecovery$Run" (86 : Nat) ({ cls := "CodeRecovery$Image", name := "first", desc := "(I)I" } : Jvm.MethodName)) ∈ lw_all := lw_g (lw_at lw_m7 52 rfl) rfl
theorem q1570 : (Jvm.Cond.methodLink "CodeRecovery$Run" (89 : Nat) ({ cls := "CodeRecovery$Run", name := "byteOr", desc := "(II)I" } : Jvm.MethodName)) ∈ lw_all := lw_g (lw_at lw_m7 53 rfl) rfl
theorem q1571 : (Jvm.Cond.privateMethod ({ cls := "CodeRecovery$Run", name := "byteOr", desc := "(II)I" } : Jvm.MethodName)) ∈ lw_tbl := lw_at lw_m7 54 rfl
theorem q1572 : (Jvm.Cond.instanceMethod ({ cls := "CodeRecovery$Run", name := "byteOr", desc := "(II)I" } : Jvm.MethodName)) ∈ lw_all := lw_g (lw_at lw_m7 55 rfl) rfl
theorem q1573 : (Jvm.Cond.code ({ cls := "CodeRecovery$Run", name := "byteOr", desc := "(II)I" } : Jvm.MethodName) prog_9_method_2_code (3 : Nat) (Option.some Jvm.ClassFile.FieldType.int)) ∈ lw_all := lw_g (lw_at lw_m7 56 rfl) rfl
theorem q1574 : (Jvm.Cond.methodLink "CodeRecovery$Run" (47 : Nat) ({ cls := "CodeRecovery$Image", name := "contains", desc := "(I)Z" } : Jvm.MethodName)) ∈ lw_all := lw_g (lw_at lw_m7 57 rfl) rfl
theorem q1575 : (Jvm.Cond.methodLink "CodeRecovery$Run" (92 : Nat) ({ cls := "CodeRecovery$Run", name := "compute", desc := "(I)Z" } : Jvm.MethodName)) ∈ lw_all := lw_g (lw_at lw_m7 58 rfl) rfl
theorem q1576 : (Jvm.Cond.privateMethod ({ cls := "CodeRecovery$Run", name := "compute", desc := "(I)Z" } : Jvm.MethodName)) ∈ lw_tbl := lw_at lw_m7 59 rfl
theorem q1577 : (Jvm.Cond.instanceMethod ({ cls := "CodeRecovery$Run", name := "compute", desc := "(I)Z" } : Jvm.MethodName)) ∈ lw_all := lw_g (lw_at lw_m7 60 rfl) rfl
theorem q1578 : (Jvm.Cond.code ({ cls := "CodeRecovery$Run", name := "compute", desc := "(I)Z" } : Jvm.MethodName) prog_9_method_5_code (4 : Nat) (Option.some Jvm.ClassFile.FieldType.boolean)) ∈ lw_all := lw_g (lw_at lw_m7 61 rfl) rfl
theorem q1579 : (Jvm.Cond.methodLink "CodeRecovery$Run" (104 : Nat) ({ cls := "CodeRecovery$Image", name := "second", desc := "(I)I" } : Jvm.MethodName)) ∈ lw_all := lw_g (lw_at lw_m7 62 rfl) rfl
theorem q1580 : (Jvm.Cond.fieldLink "CodeRecovery$Run" (22 : Nat) "CodeRecovery$Run" "image" "LCodeRecovery$Image;") ∈ lw_all := lw_g (lw_at lw_m7 63 rfl) rfl
theorem q1581 : (Jvm.Cond.fieldLink "CodeRecovery$Run" (9 : Nat) "CodeRecovery$Run" "registers" "[I") ∈ lw_all := lw_g (lw_at lw_m7 64 rfl) rfl
theorem q1583 : (Jvm.Cond.fieldLink "CodeRecovery$Run" (32 : Nat) "CodeRecovery$Run" "executions" "[I") ∈ lw_all := lw_g (lw_at lw_m7 66 rfl) rfl
theorem q1585 : (Jvm.Cond.fieldLink "CodeRecovery$Run" (18 : Nat) "CodeRecovery$Run" "stack" "Ljava/util/ArrayDeque;") ∈ lw_all := lw_g (lw_at lw_m7 68 rfl) rfl
theorem q1586 : (Jvm.Cond.fieldLink "CodeRecovery$Run" (62 : Nat) "CodeRecovery$Run" "flag" "Z") ∈ lw_all := lw_g (lw_at lw_m7 69 rfl) rfl
theorem q1587 : (Jvm.Cond.fieldLink "CodeRecovery$Run" (35 : Nat) "CodeRecovery$Run" "executed" "I") ∈ lw_all := lw_g (lw_at lw_m7 70 rfl) rfl
theorem q1589 : (Jvm.Cond.laysFinal "CodeRecovery$Run" "CodeRecovery$Run" "image" "LCodeRecovery$Image;") ∈ lw_all := lw_g (lw_at lw_m7 72 rfl) rfl
theorem q1590 : (Jvm.Cond.soleField "CodeRecovery$Run" "image") ∈ lw_all := lw_g (lw_at lw_m7 73 rfl) rfl
theorem q1591 : (Jvm.Cond.laysFinal "CodeRecovery$Run" "CodeRecovery$Run" "registers" "[I") ∈ lw_all := lw_g (lw_at lw_m7 74 rfl) rfl
theorem q1592 : (Jvm.Cond.soleField "CodeRecovery$Run" "registers") ∈ lw_all := lw_g (lw_at lw_m7 75 rfl) rfl
theorem q1593 : (Jvm.Cond.laysFinal "CodeRecovery$Run" "CodeRecovery$Run" "executions" "[I") ∈ lw_all := lw_g (lw_at lw_m7 76 rfl) rfl
theorem q1594 : (Jvm.Cond.soleField "CodeRecovery$Run" "executions") ∈ lw_all := lw_g (lw_at lw_m7 77 rfl) rfl
theorem q1595 : (Jvm.Cond.laysFinal "CodeRecovery$Run" "CodeRecovery$Run" "stack" "Ljava/util/ArrayDeque;") ∈ lw_all := lw_g (lw_at lw_m7 78 rfl) rfl
theorem q1596 : (Jvm.Cond.soleField "CodeRecovery$Run" "stack") ∈ lw_all := lw_g (lw_at lw_m7 79 rfl) rfl
theorem q1597 : (Jvm.Cond.lays "CodeRecovery$Run" "CodeRecovery$Run" "flag" "Z") ∈ lw_all := lw_g (lw_at lw_m7 80 rfl) rfl
theorem q1598 : (Jvm.Cond.soleField "CodeRecovery$Run" "flag") ∈ lw_all := lw_g (lw_at lw_m7 81 rfl) rfl
theorem q1599 : (Jvm.Cond.lays "CodeRecovery$Run" "CodeRecovery$Run" "executed" "I") ∈ lw_all := lw_g (lw_at lw_m7 82 rfl) rfl
theorem q1600 : (Jvm.Cond.soleField "CodeRecovery$Run" "executed") ∈ lw_all := lw_g (lw_at lw_m7 83 rfl) rfl
theorem q1601 : (Jvm.Cond.superclass "CodeRecovery$Run" "java/lang/Object") ∈ lw_all := lw_g (lw_at lw_m7 84 rfl) rfl
theorem q2211 : (Jvm.Cond.castable "CodeRecovery$Run" "java/lang/Object") ∈ lw_tbl := lw_at lw_m9 214 rfl
theorem in_X10 : ∀ w ∈ wsX100, w ∈ lw_all := lw_in wsX100 [1589, 1591, 1593, 1595, 1597, 1599] (by decide +kernel) (by decide +kernel)
