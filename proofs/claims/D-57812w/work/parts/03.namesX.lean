/-! HedgeMessagesLaw -/
set_option maxRecDepth 100000
def RX0 : String := "HedgeMessagesLaw"
abbrev cX0_append : ByteArray := method_3_code
def yX0_append : MethodName := ⟨RX0, "append", "(LHedgeMessages;IIIII[J)I"⟩
def dkwX0_append_1 : List UInt8 := [172]
abbrev dktX0_append_1 : List UInt8 := dkwX0_append_1 ++ []
def dkwX0_append_0 : List UInt8 := [25, 6, 3, 42, 27, 28, 29, 21, 4, 21, 5, 182, 0, 7, 133, 80, 167, 0, 7, 58, 7, 4, 172, 3]
abbrev dktX0_append_0 : List UInt8 := dkwX0_append_0 ++ dktX0_append_1
theorem dksX0_append_0 : cX0_append.data.toList.drop 0 = dktX0_append_0 := by decide +kernel
theorem dksX0_append_1 : cX0_append.data.toList.drop 24 = dktX0_append_1 := dk_seg dksX0_append_0 24 rfl rfl
theorem dX0_append_0 : decode cX0_append 0 = .ok (.aload 6, 2) := dk_25 6 (dk_at dksX0_append_0 0 rfl rfl)
theorem dX0_append_2 : decode cX0_append 2 = .ok (.iconst 0, 1) := dk_3 (dk_at dksX0_append_0 2 rfl rfl)
theorem dX0_append_3 : decode cX0_append 3 = .ok (.aload_n 0, 1) := dk_42 (dk_at dksX0_append_0 3 rfl rfl)
theorem dX0_append_4 : decode cX0_append 4 = .ok (.iload_n 1, 1) := dk_27 (dk_at dksX0_append_0 4 rfl rfl)
theorem dX0_append_5 : decode cX0_append 5 = .ok (.iload_n 2, 1) := dk_28 (dk_at dksX0_append_0 5 rfl rfl)
theorem dX0_append_6 : decode cX0_append 6 = .ok (.iload_n 3, 1) := dk_29 (dk_at dksX0_append_0 6 rfl rfl)
theorem dX0_append_7 : decode cX0_append 7 = .ok (.iload 4, 2) := dk_21 4 (dk_at dksX0_append_0 7 rfl rfl)
theorem dX0_append_9 : decode cX0_append 9 = .ok (.iload 5, 2) := dk_21 5 (dk_at dksX0_append_0 9 rfl rfl)
theorem dX0_append_11 : decode cX0_append 11 = .ok (.invokevirtual 7, 3) := dk_182 0 7 (dk_at dksX0_append_0 11 rfl rfl)
theorem dX0_append_14 : decode cX0_append 14 = .ok (.i2l, 1) := dk_133 (dk_at dksX0_append_0 14 rfl rfl)
theorem dX0_append_15 : decode cX0_append 15 = .ok (.lastore, 1) := dk_80 (dk_at dksX0_append_0 15 rfl rfl)
theorem dX0_append_16 : decode cX0_append 16 = .ok (.goto 7, 3) := dk_167 0 7 (dk_at dksX0_append_0 16 rfl rfl)
theorem dX0_append_19 : decode cX0_append 19 = .ok (.astore 7, 2) := dk_58 7 (dk_at dksX0_append_0 19 rfl rfl)
theorem dX0_append_21 : decode cX0_append 21 = .ok (.iconst 1, 1) := dk_4 (dk_at dksX0_append_0 21 rfl rfl)
theorem dX0_append_22 : decode cX0_append 22 = .ok (.ireturn, 1) := dk_172 (dk_at dksX0_append_0 22 rfl rfl)
theorem dX0_append_23 : decode cX0_append 23 = .ok (.iconst 0, 1) := dk_3 (dk_at dksX0_append_0 23 rfl rfl)
theorem dX0_append_24 : decode cX0_append 24 = .ok (.ireturn, 1) := dk_172 (dk_at dksX0_append_1 0 rfl rfl)
abbrev cX0_truncate : ByteArray := method_4_code
def yX0_truncate : MethodName := ⟨RX0, "truncate", "(LHedgeMessages;I[J)I"⟩
def dkwX0_truncate_0 : List UInt8 := [44, 3, 42, 27, 182, 0, 15, 133, 80, 167, 0, 6, 78, 4, 172, 3, 172]
abbrev dktX0_truncate_0 : List UInt8 := dkwX0_truncate_0 ++ []
theorem dksX0_truncate_0 : cX0_truncate.data.toList.drop 0 = dktX0_truncate_0 := by decide +kernel
theorem dX0_truncate_0 : decode cX0_truncate 0 = .ok (.aload_n 2, 1) := dk_44 (dk_at dksX0_truncate_0 0 rfl rfl)
theorem dX0_truncate_1 : decode cX0_truncate 1 = .ok (.iconst 0, 1) := dk_3 (dk_at dksX0_truncate_0 1 rfl rfl)
theorem dX0_truncate_2 : decode cX0_truncate 2 = .ok (.aload_n 0, 1) := dk_42 (dk_at dksX0_truncate_0 2 rfl rfl)
theorem dX0_truncate_3 : decode cX0_truncate 3 = .ok (.iload_n 1, 1) := dk_27 (dk_at dksX0_truncate_0 3 rfl rfl)
theorem dX0_truncate_4 : decode cX0_truncate 4 = .ok (.invokevirtual 15, 3) := dk_182 0 15 (dk_at dksX0_truncate_0 4 rfl rfl)
theorem dX0_truncate_7 : decode cX0_truncate 7 = .ok (.i2l, 1) := dk_133 (dk_at dksX0_truncate_0 7 rfl rfl)
theorem dX0_truncate_8 : decode cX0_truncate 8 = .ok (.lastore, 1) := dk_80 (dk_at dksX0_truncate_0 8 rfl rfl)
theorem dX0_truncate_9 : decode cX0_truncate 9 = .ok (.goto 6, 3) := dk_167 0 6 (dk_at dksX0_truncate_0 9 rfl rfl)
theorem dX0_truncate_12 : decode cX0_truncate 12 = .ok (.astore_n 3, 1) := dk_78 (dk_at dksX0_truncate_0 12 rfl rfl)
theorem dX0_truncate_13 : decode cX0_truncate 13 = .ok (.iconst 1, 1) := dk_4 (dk_at dksX0_truncate_0 13 rfl rfl)
theorem dX0_truncate_14 : decode cX0_truncate 14 = .ok (.ireturn, 1) := dk_172 (dk_at dksX0_truncate_0 14 rfl rfl)
theorem dX0_truncate_15 : decode cX0_truncate 15 = .ok (.iconst 0, 1) := dk_3 (dk_at dksX0_truncate_0 15 rfl rfl)
theorem dX0_truncate_16 : decode cX0_truncate 16 = .ok (.ireturn, 1) := dk_172 (dk_at dksX0_truncate_0 16 rfl rfl)
abbrev cX0_load : ByteArray := method_5_code
def yX0_load : MethodName := ⟨RX0, "load", "(LHedgeMessages;[J)I"⟩
def dkwX0_load_0 : List UInt8 := [43, 3, 42, 182, 0, 21, 133, 80, 167, 0, 6, 77, 4, 172, 3, 172]
abbrev dktX0_load_0 : List UInt8 := dkwX0_load_0 ++ []
theorem dksX0_load_0 : cX0_load.data.toList.drop 0 = dktX0_load_0 := by decide +kernel
theorem dX0_load_0 : decode cX0_load 0 = .ok (.aload_n 1, 1) := dk_43 (dk_at dksX0_load_0 0 rfl rfl)
theorem dX0_load_1 : decode cX0_load 1 = .ok (.iconst 0, 1) := dk_3 (dk_at dksX0_load_0 1 rfl rfl)
theorem dX0_load_2 : decode cX0_load 2 = .ok (.aload_n 0, 1) := dk_42 (dk_at dksX0_load_0 2 rfl rfl)
theorem dX0_load_3 : decode cX0_load 3 = .ok (.invokevirtual 21, 3) := dk_182 0 21 (dk_at dksX0_load_0 3 rfl rfl)
theorem dX0_load_6 : decode cX0_load 6 = .ok (.i2l, 1) := dk_133 (dk_at dksX0_load_0 6 rfl rfl)
theorem dX0_load_7 : decode cX0_load 7 = .ok (.lastore, 1) := dk_80 (dk_at dksX0_load_0 7 rfl rfl)
theorem dX0_load_8 : decode cX0_load 8 = .ok (.goto 6, 3) := dk_167 0 6 (dk_at dksX0_load_0 8 rfl rfl)
theorem dX0_load_11 : decode cX0_load 11 = .ok (.astore_n 2, 1) := dk_77 (dk_at dksX0_load_0 11 rfl rfl)
theorem dX0_load_12 : decode cX0_load 12 = .ok (.iconst 1, 1) := dk_4 (dk_at dksX0_load_0 12 rfl rfl)
theorem dX0_load_13 : decode cX0_load 13 = .ok (.ireturn, 1) := dk_172 (dk_at dksX0_load_0 13 rfl rfl)
theorem dX0_load_14 : decode cX0_load 14 = .ok (.iconst 0, 1) := dk_3 (dk_at dksX0_load_0 14 rfl rfl)
theorem dX0_load_15 : decode cX0_load 15 = .ok (.ireturn, 1) := dk_172 (dk_at dksX0_load_0 15 rfl rfl)
abbrev cX0_executeCommands : ByteArray := method_6_code
def yX0_executeCommands : MethodName := ⟨RX0, "executeCommands", "(LHedgeMessages;[J)I"⟩
def dkwX0_executeCommands_0 : List UInt8 := [43, 3, 42, 182, 0, 25, 133, 80, 167, 0, 6, 77, 4, 172, 3, 172]
abbrev dktX0_executeCommands_0 : List UInt8 := dkwX0_executeCommands_0 ++ []
theorem dksX0_executeCommands_0 : cX0_executeCommands.data.toList.drop 0 = dktX0_executeCommands_0 := by decide +kernel
theorem dX0_executeCommands_0 : decode cX0_executeCommands 0 = .ok (.aload_n 1, 1) := dk_43 (dk_at dksX0_executeCommands_0 0 rfl rfl)
theorem dX0_executeCommands_1 : decode cX0_executeCommands 1 = .ok (.iconst 0, 1) := dk_3 (dk_at dksX0_executeCommands_0 1 rfl rfl)
theorem dX0_executeCommands_2 : decode cX0_executeCommands 2 = .ok (.aload_n 0, 1) := dk_42 (dk_at dksX0_executeCommands_0 2 rfl rfl)
theorem dX0_executeCommands_3 : decode cX0_executeCommands 3 = .ok (.invokevirtual 25, 3) := dk_182 0 25 (dk_at dksX0_executeCommands_0 3 rfl rfl)
theorem dX0_executeCommands_6 : decode cX0_executeCommands 6 = .ok (.i2l, 1) := dk_133 (dk_at dksX0_executeCommands_0 6 rfl rfl)
theorem dX0_executeCommands_7 : decode cX0_executeCommands 7 = .ok (.lastore, 1) := dk_80 (dk_at dksX0_executeCommands_0 7 rfl rfl)
theorem dX0_executeCommands_8 : decode cX0_executeCommands 8 = .ok (.goto 6, 3) := dk_167 0 6 (dk_at dksX0_executeCommands_0 8 rfl rfl)
theorem dX0_executeCommands_11 : decode cX0_executeCommands 11 = .ok (.astore_n 2, 1) := dk_77 (dk_at dksX0_executeCommands_0 11 rfl rfl)
theorem dX0_executeCommands_12 : decode cX0_executeCommands 12 = .ok (.iconst 1, 1) := dk_4 (dk_at dksX0_executeCommands_0 12 rfl rfl)
theorem dX0_executeCommands_13 : decode cX0_executeCommands 13 = .ok (.ireturn, 1) := dk_172 (dk_at dksX0_executeCommands_0 13 rfl rfl)
theorem dX0_executeCommands_14 : decode cX0_executeCommands 14 = .ok (.iconst 0, 1) := dk_3 (dk_at dksX0_executeCommands_0 14 rfl rfl)
theorem dX0_executeCommands_15 : decode cX0_executeCommands 15 = .ok (.ireturn, 1) := dk_172 (dk_at dksX0_executeCommands_0 15 rfl rfl)
abbrev cX0_letterAt : ByteArray := method_7_code
def yX0_letterAt : MethodName := ⟨RX0, "letterAt", "(LHedgeMessages;I[J)I"⟩
def dkwX0_letterAt_0 : List UInt8 := [44, 3, 42, 27, 182, 0, 28, 133, 80, 167, 0, 6, 78, 4, 172, 3, 172]
abbrev dktX0_letterAt_0 : List UInt8 := dkwX0_letterAt_0 ++ []
theorem dksX0_letterAt_0 : cX0_letterAt.data.toList.drop 0 = dktX0_letterAt_0 := by decide +kernel
theorem dX0_letterAt_0 : decode cX0_letterAt 0 = .ok (.aload_n 2, 1) := dk_44 (dk_at dksX0_letterAt_0 0 rfl rfl)
theorem dX0_letterAt_1 : decode cX0_letterAt 1 = .ok (.iconst 0, 1) := dk_3 (dk_at dksX0_letterAt_0 1 rfl rfl)
theorem dX0_letterAt_2 : decode cX0_letterAt 2 = .ok (.aload_n 0, 1) := dk_42 (dk_at dksX0_letterAt_0 2 rfl rfl)
theorem dX0_letterAt_3 : decode cX0_letterAt 3 = .ok (.iload_n 1, 1) := dk_27 (dk_at dksX0_letterAt_0 3 rfl rfl)
theorem dX0_letterAt_4 : decode cX0_letterAt 4 = .ok (.invokevirtual 28, 3) := dk_182 0 28 (dk_at dksX0_letterAt_0 4 rfl rfl)
theorem dX0_letterAt_7 : decode cX0_letterAt 7 = .ok (.i2l, 1) := dk_133 (dk_at dksX0_letterAt_0 7 rfl rfl)
theorem dX0_letterAt_8 : decode cX0_letterAt 8 = .ok (.lastore, 1) := dk_80 (dk_at dksX0_letterAt_0 8 rfl rfl)
theorem dX0_letterAt_9 : decode cX0_letterAt 9 = .ok (.goto 6, 3) := dk_167 0 6 (dk_at dksX0_letterAt_0 9 rfl rfl)
theorem dX0_letterAt_12 : decode cX0_letterAt 12 = .ok (.astore_n 3, 1) := dk_78 (dk_at dksX0_letterAt_0 12 rfl rfl)
theorem dX0_letterAt_13 : decode cX0_letterAt 13 = .ok (.iconst 1, 1) := dk_4 (dk_at dksX0_letterAt_0 13 rfl rfl)
theorem dX0_letterAt_14 : decode cX0_letterAt 14 = .ok (.ireturn, 1) := dk_172 (dk_at dksX0_letterAt_0 14 rfl rfl)
theorem dX0_letterAt_15 : decode cX0_letterAt 15 = .ok (.iconst 0, 1) := dk_3 (dk_at dksX0_letterAt_0 15 rfl rfl)
theorem dX0_letterAt_16 : decode cX0_letterAt 16 = .ok (.ireturn, 1) := dk_172 (dk_at dksX0_letterAt_0 16 rfl rfl)
abbrev cX0_ownerAt : ByteArray := method_8_code
def yX0_ownerAt : MethodName := ⟨RX0, "ownerAt", "(LHedgeMessages;I[J)I"⟩
def dkwX0_ownerAt_0 : List UInt8 := [44, 3, 42, 27, 182, 0, 33, 133, 80, 167, 0, 6, 78, 4, 172, 3, 172]
abbrev dktX0_ownerAt_0 : List UInt8 := dkwX0_ownerAt_0 ++ []
theorem dksX0_ownerAt_0 : cX0_ownerAt.data.toList.drop 0 = dktX0_ownerAt_0 := by decide +kernel
theorem dX0_ownerAt_0 : decode cX0_ownerAt 0 = .ok (.aload_n 2, 1) := dk_44 (dk_at dksX0_ownerAt_0 0 rfl rfl)
theorem dX0_ownerAt_1 : decode cX0_ownerAt 1 = .ok (.iconst 0, 1) := dk_3 (dk_at dksX0_ownerAt_0 1 rfl rfl)
theorem dX0_ownerAt_2 : decode cX0_ownerAt 2 = .ok (.aload_n 0, 1) := dk_42 (dk_at dksX0_ownerAt_0 2 rfl rfl)
theorem dX0_ownerAt_3 : decode cX0_ownerAt 3 = .ok (.iload_n 1, 1) := dk_27 (dk_at dksX0_ownerAt_0 3 rfl rfl)
theorem dX0_ownerAt_4 : decode cX0_ownerAt 4 = .ok (.invokevirtual 33, 3) := dk_182 0 33 (dk_at dksX0_ownerAt_0 4 rfl rfl)
theorem dX0_ownerAt_7 : decode cX0_ownerAt 7 = .ok (.i2l, 1) := dk_133 (dk_at dksX0_ownerAt_0 7 rfl rfl)
theorem dX0_ownerAt_8 : decode cX0_ownerAt 8 = .ok (.lastore, 1) := dk_80 (dk_at dksX0_ownerAt_0 8 rfl rfl)
theorem dX0_ownerAt_9 : decode cX0_ownerAt 9 = .ok (.goto 6, 3) := dk_167 0 6 (dk_at dksX0_ownerAt_0 9 rfl rfl)
theorem dX0_ownerAt_12 : decode cX0_ownerAt 12 = .ok (.astore_n 3, 1) := dk_78 (dk_at dksX0_ownerAt_0 12 rfl rfl)
theorem dX0_ownerAt_13 : decode cX0_ownerAt 13 = .ok (.iconst 1, 1) := dk_4 (dk_at dksX0_ownerAt_0 13 rfl rfl)
theorem dX0_ownerAt_14 : decode cX0_ownerAt 14 = .ok (.ireturn, 1) := dk_172 (dk_at dksX0_ownerAt_0 14 rfl rfl)
theorem dX0_ownerAt_15 : decode cX0_ownerAt 15 = .ok (.iconst 0, 1) := dk_3 (dk_at dksX0_ownerAt_0 15 rfl rfl)
theorem dX0_ownerAt_16 : decode cX0_ownerAt 16 = .ok (.ireturn, 1) := dk_172 (dk_at dksX0_ownerAt_0 16 rfl rfl)
abbrev cX0_lengthAt : ByteArray := method_9_code
def yX0_lengthAt : MethodName := ⟨RX0, "lengthAt", "(LHedgeMessages;I[J)I"⟩
def dkwX0_lengthAt_0 : List UInt8 := [44, 3, 42, 27, 182, 0, 36, 133, 80, 167, 0, 6, 78, 4, 172, 3, 172]
abbrev dktX0_lengthAt_0 : List UInt8 := dkwX0_lengthAt_0 ++ []
theorem dksX0_lengthAt_0 : cX0_lengthAt.data.toList.drop 0 = dktX0_lengthAt_0 := by decide +kernel
theorem dX0_lengthAt_0 : decode cX0_lengthAt 0 = .ok (.aload_n 2, 1) := dk_44 (dk_at dksX0_lengthAt_0 0 rfl rfl)
theorem dX0_lengthAt_1 : decode cX0_lengthAt 1 = .ok (.iconst 0, 1) := dk_3 (dk_at dksX0_lengthAt_0 1 rfl rfl)
theorem dX0_lengthAt_2 : decode cX0_lengthAt 2 = .ok (.aload_n 0, 1) := dk_42 (dk_at dksX0_lengthAt_0 2 rfl rfl)
theorem dX0_lengthAt_3 : decode cX0_lengthAt 3 = .ok (.iload_n 1, 1) := dk_27 (dk_at dksX0_lengthAt_0 3 rfl rfl)
theorem dX0_lengthAt_4 : decode cX0_lengthAt 4 = .ok (.invokevirtual 36, 3) := dk_182 0 36 (dk_at dksX0_lengthAt_0 4 rfl rfl)
theorem dX0_lengthAt_7 : decode cX0_lengthAt 7 = .ok (.i2l, 1) := dk_133 (dk_at dksX0_lengthAt_0 7 rfl rfl)
theorem dX0_lengthAt_8 : decode cX0_lengthAt 8 = .ok (.lastore, 1) := dk_80 (dk_at dksX0_lengthAt_0 8 rfl rfl)
theorem dX0_lengthAt_9 : decode cX0_lengthAt 9 = .ok (.goto 6, 3) := dk_167 0 6 (dk_at dksX0_lengthAt_0 9 rfl rfl)
theorem dX0_lengthAt_12 : decode cX0_lengthAt 12 = .ok (.astore_n 3, 1) := dk_78 (dk_at dksX0_lengthAt_0 12 rfl rfl)
theorem dX0_lengthAt_13 : decode cX0_lengthAt 13 = .ok (.iconst 1, 1) := dk_4 (dk_at dksX0_lengthAt_0 13 rfl rfl)
theorem dX0_lengthAt_14 : decode cX0_lengthAt 14 = .ok (.ireturn, 1) := dk_172 (dk_at dksX0_lengthAt_0 14 rfl rfl)
theorem dX0_lengthAt_15 : decode cX0_lengthAt 15 = .ok (.iconst 0, 1) := dk_3 (dk_at dksX0_lengthAt_0 15 rfl rfl)
theorem dX0_lengthAt_16 : decode cX0_lengthAt 16 = .ok (.ireturn, 1) := dk_172 (dk_at dksX0_lengthAt_0 16 rfl rfl)
abbrev cX0_isReserved : ByteArray := method_10_code
def yX0_isReserved : MethodName := ⟨RX0, "isReserved", "(LHedgeMessages;I[J)I"⟩
def dkwX0_isReserved_0 : List UInt8 := [44, 3, 42, 27, 182, 0, 39, 153, 0, 7, 10, 167, 0, 4, 9, 80, 167, 0, 6, 78, 4, 172, 3, 172]
abbrev dktX0_isReserved_0 : List UInt8 := dkwX0_isReserved_0 ++ []
theorem dksX0_isReserved_0 : cX0_isReserved.data.toList.drop 0 = dktX0_isReserved_0 := by decide +kernel
theorem dX0_isReserved_0 : decode cX0_isReserved 0 = .ok (.aload_n 2, 1) := dk_44 (dk_at dksX0_isReserved_0 0 rfl rfl)
theorem dX0_isReserved_1 : decode cX0_isReserved 1 = .ok (.iconst 0, 1) := dk_3 (dk_at dksX0_isReserved_0 1 rfl rfl)
theorem dX0_isReserved_2 : decode cX0_isReserved 2 = .ok (.aload_n 0, 1) := dk_42 (dk_at dksX0_isReserved_0 2 rfl rfl)
theorem dX0_isReserved_3 : decode cX0_isReserved 3 = .ok (.iload_n 1, 1) := dk_27 (dk_at dksX0_isReserved_0 3 rfl rfl)
theorem dX0_isReserved_4 : decode cX0_isReserved 4 = .ok (.invokevirtual 39, 3) := dk_182 0 39 (dk_at dksX0_isReserved_0 4 rfl rfl)
theorem dX0_isReserved_7 : decode cX0_isReserved 7 = .ok (.ifCond .eq 7, 3) := dk_153 0 7 (dk_at dksX0_isReserved_0 7 rfl rfl)
theorem dX0_isReserved_10 : decode cX0_isReserved 10 = .ok (.lconst 1, 1) := dk_10 (dk_at dksX0_isReserved_0 10 rfl rfl)
theorem dX0_isReserved_11 : decode cX0_isReserved 11 = .ok (.goto 4, 3) := dk_167 0 4 (dk_at dksX0_isReserved_0 11 rfl rfl)
theorem dX0_isReserved_14 : decode cX0_isReserved 14 = .ok (.lconst 0, 1) := dk_9 (dk_at dksX0_isReserved_0 14 rfl rfl)
theorem dX0_isReserved_15 : decode cX0_isReserved 15 = .ok (.lastore, 1) := dk_80 (dk_at dksX0_isReserved_0 15 rfl rfl)
theorem dX0_isReserved_16 : decode cX0_isReserved 16 = .ok (.goto 6, 3) := dk_167 0 6 (dk_at dksX0_isReserved_0 16 rfl rfl)
theorem dX0_isReserved_19 : decode cX0_isReserved 19 = .ok (.astore_n 3, 1) := dk_78 (dk_at dksX0_isReserved_0 19 rfl rfl)
theorem dX0_isReserved_20 : decode cX0_isReserved 20 = .ok (.iconst 1, 1) := dk_4 (dk_at dksX0_isReserved_0 20 rfl rfl)
theorem dX0_isReserved_21 : decode cX0_isReserved 21 = .ok (.ireturn, 1) := dk_172 (dk_at dksX0_isReserved_0 21 rfl rfl)
theorem dX0_isReserved_22 : decode cX0_isReserved 22 = .ok (.iconst 0, 1) := dk_3 (dk_at dksX0_isReserved_0 22 rfl rfl)
theorem dX0_isReserved_23 : decode cX0_isReserved 23 = .ok (.ireturn, 1) := dk_172 (dk_at dksX0_isReserved_0 23 rfl rfl)
abbrev cX0_nestDays : ByteArray := method_11_code
def yX0_nestDays : MethodName := ⟨RX0, "nestDays", "(LHedgeMessages;I[J)I"⟩
def dkwX0_nestDays_0 : List UInt8 := [44, 3, 42, 27, 182, 0, 43, 133, 80, 167, 0, 6, 78, 4, 172, 3, 172]
abbrev dktX0_nestDays_0 : List UInt8 := dkwX0_nestDays_0 ++ []
theorem dksX0_nestDays_0 : cX0_nestDays.data.toList.drop 0 = dktX0_nestDays_0 := by decide +kernel
theorem dX0_nestDays_0 : decode cX0_nestDays 0 = .ok (.aload_n 2, 1) := dk_44 (dk_at dksX0_nestDays_0 0 rfl rfl)
theorem dX0_nestDays_1 : decode cX0_nestDays 1 = .ok (.iconst 0, 1) := dk_3 (dk_at dksX0_nestDays_0 1 rfl rfl)
theorem dX0_nestDays_2 : decode cX0_nestDays 2 = .ok (.aload_n 0, 1) := dk_42 (dk_at dksX0_nestDays_0 2 rfl rfl)
theorem dX0_nestDays_3 : decode cX0_nestDays 3 = .ok (.iload_n 1, 1) := dk_27 (dk_at dksX0_nestDays_0 3 rfl rfl)
theorem dX0_nestDays_4 : decode cX0_nestDays 4 = .ok (.invokevirtual 43, 3) := dk_182 0 43 (dk_at dksX0_nestDays_0 4 rfl rfl)
theorem dX0_nestDays_7 : decode cX0_nestDays 7 = .ok (.i2l, 1) := dk_133 (dk_at dksX0_nestDays_0 7 rfl rfl)
theorem dX0_nestDays_8 : decode cX0_nestDays 8 = .ok (.lastore, 1) := dk_80 (dk_at dksX0_nestDays_0 8 rfl rfl)
theorem dX0_nestDays_9 : decode cX0_nestDays 9 = .ok (.goto 6, 3) := dk_167 0 6 (dk_at dksX0_nestDays_0 9 rfl rfl)
theorem dX0_nestDays_12 : decode cX0_nestDays 12 = .ok (.astore_n 3, 1) := dk_78 (dk_at dksX0_nestDays_0 12 rfl rfl)
theorem dX0_nestDays_13 : decode cX0_nestDays 13 = .ok (.iconst 1, 1) := dk_4 (dk_at dksX0_nestDays_0 13 rfl rfl)
theorem dX0_nestDays_14 : decode cX0_nestDays 14 = .ok (.ireturn, 1) := dk_172 (dk_at dksX0_nestDays_0 14 rfl rfl)
theorem dX0_nestDays_15 : decode cX0_nestDays 15 = .ok (.iconst 0, 1) := dk_3 (dk_at dksX0_nestDays_0 15 rfl rfl)
theorem dX0_nestDays_16 : decode cX0_nestDays 16 = .ok (.ireturn, 1) := dk_172 (dk_at dksX0_nestDays_0 16 rfl rfl)
abbrev cX0_isProtected : ByteArray := method_12_code
def yX0_isProtected : MethodName := ⟨RX0, "isProtected", "(LHedgeMessages;I[J)I"⟩
def dkwX0_isProtected_0 : List UInt8 := [44, 3, 42, 27, 182, 0, 46, 153, 0, 7, 10, 167, 0, 4, 9, 80, 167, 0, 6, 78, 4, 172, 3, 172]
abbrev dktX0_isProtected_0 : List UInt8 := dkwX0_isProtected_0 ++ []
theorem dksX0_isProtected_0 : cX0_isProtected.data.toList.drop 0 = dktX0_isProtected_0 := by decide +kernel
theorem dX0_isProtected_0 : decode cX0_isProtected 0 = .ok (.aload_n 2, 1) := dk_44 (dk_at dksX0_isProtected_0 0 rfl rfl)
theorem dX0_isProtected_1 : decode cX0_isProtected 1 = .ok (.iconst 0, 1) := dk_3 (dk_at dksX0_isProtected_0 1 rfl rfl)
theorem dX0_isProtected_2 : decode cX0_isProtected 2 = .ok (.aload_n 0, 1) := dk_42 (dk_at dksX0_isProtected_0 2 rfl rfl)
theorem dX0_isProtected_3 : decode cX0_isProtected 3 = .ok (.iload_n 1, 1) := dk_27 (dk_at dksX0_isProtected_0 3 rfl rfl)
theorem dX0_isProtected_4 : decode cX0_isProtected 4 = .ok (.invokevirtual 46, 3) := dk_182 0 46 (dk_at dksX0_isProtected_0 4 rfl rfl)
theorem dX0_isProtected_7 : decode cX0_isProtected 7 = .ok (.ifCond .eq 7, 3) := dk_153 0 7 (dk_at dksX0_isProtected_0 7 rfl rfl)
theorem dX0_isProtected_10 : decode cX0_isProtected 10 = .ok (.lconst 1, 1) := dk_10 (dk_at dksX0_isProtected_0 10 rfl rfl)
theorem dX0_isProtected_11 : decode cX0_isProtected 11 = .ok (.goto 4, 3) := dk_167 0 4 (dk_at dksX0_isProtected_0 11 rfl rfl)
theorem dX0_isProtected_14 : decode cX0_isProtected 14 = .ok (.lconst 0, 1) := dk_9 (dk_at dksX0_isProtected_0 14 rfl rfl)
theorem dX0_isProtected_15 : decode cX0_isProtected 15 = .ok (.lastore, 1) := dk_80 (dk_at dksX0_isProtected_0 15 rfl rfl)
theorem dX0_isProtected_16 : decode cX0_isProtected 16 = .ok (.goto 6, 3) := dk_167 0 6 (dk_at dksX0_isProtected_0 16 rfl rfl)
theorem dX0_isProtected_19 : decode cX0_isProtected 19 = .ok (.astore_n 3, 1) := dk_78 (dk_at dksX0_isProtected_0 19 rfl rfl)
theorem dX0_isProtected_20 : decode cX0_isProtected 20 = .ok (.iconst 1, 1) := dk_4 (dk_at dksX0_isProtected_0 20 rfl rfl)
theorem dX0_isProtected_21 : decode cX0_isProtected 21 = .ok (.ireturn, 1) := dk_172 (dk_at dksX0_isProtected_0 21 rfl rfl)
theorem dX0_isProtected_22 : decode cX0_isProtected 22 = .ok (.iconst 0, 1) := dk_3 (dk_at dksX0_isProtected_0 22 rfl rfl)
theorem dX0_isProtected_23 : decode cX0_isProtected 23 = .ok (.ireturn, 1) := dk_172 (dk_at dksX0_isProtected_0 23 rfl rfl)
abbrev cX0_pendingCount : ByteArray := method_13_code
def yX0_pendingCount : MethodName := ⟨RX0, "pendingCount", "(LHedgeMessages;I[J)I"⟩
def dkwX0_pendingCount_0 : List UInt8 := [44, 3, 42, 27, 182, 0, 49, 133, 80, 167, 0, 6, 78, 4, 172, 3, 172]
abbrev dktX0_pendingCount_0 : List UInt8 := dkwX0_pendingCount_0 ++ []
theorem dksX0_pendingCount_0 : cX0_pendingCount.data.toList.drop 0 = dktX0_pendingCount_0 := by decide +kernel
theorem dX0_pendingCount_0 : decode cX0_pendingCount 0 = .ok (.aload_n 2, 1) := dk_44 (dk_at dksX0_pendingCount_0 0 rfl rfl)
theorem dX0_pendingCount_1 : decode cX0_pendingCount 1 = .ok (.iconst 0, 1) := dk_3 (dk_at dksX0_pendingCount_0 1 rfl rfl)
theorem dX0_pendingCount_2 : decode cX0_pendingCount 2 = .ok (.aload_n 0, 1) := dk_42 (dk_at dksX0_pendingCount_0 2 rfl rfl)
theorem dX0_pendingCount_3 : decode cX0_pendingCount 3 = .ok (.iload_n 1, 1) := dk_27 (dk_at dksX0_pendingCount_0 3 rfl rfl)
theorem dX0_pendingCount_4 : decode cX0_pendingCount 4 = .ok (.invokevirtual 49, 3) := dk_182 0 49 (dk_at dksX0_pendingCount_0 4 rfl rfl)
theorem dX0_pendingCount_7 : decode cX0_pendingCount 7 = .ok (.i2l, 1) := dk_133 (dk_at dksX0_pendingCount_0 7 rfl rfl)
theorem dX0_pendingCount_8 : decode cX0_pendingCount 8 = .ok (.lastore, 1) := dk_80 (dk_at dksX0_pendingCount_0 8 rfl rfl)
theorem dX0_pendingCount_9 : decode cX0_pendingCount 9 = .ok (.goto 6, 3) := dk_167 0 6 (dk_at dksX0_pendingCount_0 9 rfl rfl)
theorem dX0_pendingCount_12 : decode cX0_pendingCount 12 = .ok (.astore_n 3, 1) := dk_78 (dk_at dksX0_pendingCount_0 12 rfl rfl)
theorem dX0_pendingCount_13 : decode cX0_pendingCount 13 = .ok (.iconst 1, 1) := dk_4 (dk_at dksX0_pendingCount_0 13 rfl rfl)
theorem dX0_pendingCount_14 : decode cX0_pendingCount 14 = .ok (.ireturn, 1) := dk_172 (dk_at dksX0_pendingCount_0 14 rfl rfl)
theorem dX0_pendingCount_15 : decode cX0_pendingCount 15 = .ok (.iconst 0, 1) := dk_3 (dk_at dksX0_pendingCount_0 15 rfl rfl)
theorem dX0_pendingCount_16 : decode cX0_pendingCount 16 = .ok (.ireturn, 1) := dk_172 (dk_at dksX0_pendingCount_0 16 rfl rfl)
abbrev cX0_pendingLetter : ByteArray := method_14_code
def yX0_pendingLetter : MethodName := ⟨RX0, "pendingLetter", "(LHedgeMessages;III[J)I"⟩
def dkwX0_pendingLetter_0 : List UInt8 := [25, 4, 3, 42, 27, 28, 29, 182, 0, 52, 133, 80, 167, 0, 7, 58, 5, 4, 172, 3, 172]
abbrev dktX0_pendingLetter_0 : List UInt8 := dkwX0_pendingLetter_0 ++ []
theorem dksX0_pendingLetter_0 : cX0_pendingLetter.data.toList.drop 0 = dktX0_pendingLetter_0 := by decide +kernel
theorem dX0_pendingLetter_0 : decode cX0_pendingLetter 0 = .ok (.aload 4, 2) := dk_25 4 (dk_at dksX0_pendingLetter_0 0 rfl rfl)
theorem dX0_pendingLetter_2 : decode cX0_pendingLetter 2 = .ok (.iconst 0, 1) := dk_3 (dk_at dksX0_pendingLetter_0 2 rfl rfl)
theorem dX0_pendingLetter_3 : decode cX0_pendingLetter 3 = .ok (.aload_n 0, 1) := dk_42 (dk_at dksX0_pendingLetter_0 3 rfl rfl)
theorem dX0_pendingLetter_4 : decode cX0_pendingLetter 4 = .ok (.iload_n 1, 1) := dk_27 (dk_at dksX0_pendingLetter_0 4 rfl rfl)
theorem dX0_pendingLetter_5 : decode cX0_pendingLetter 5 = .ok (.iload_n 2, 1) := dk_28 (dk_at dksX0_pendingLetter_0 5 rfl rfl)
theorem dX0_pendingLetter_6 : decode cX0_pendingLetter 6 = .ok (.iload_n 3, 1) := dk_29 (dk_at dksX0_pendingLetter_0 6 rfl rfl)
theorem dX0_pendingLetter_7 : decode cX0_pendingLetter 7 = .ok (.invokevirtual 52, 3) := dk_182 0 52 (dk_at dksX0_pendingLetter_0 7 rfl rfl)
theorem dX0_pendingLetter_10 : decode cX0_pendingLetter 10 = .ok (.i2l, 1) := dk_133 (dk_at dksX0_pendingLetter_0 10 rfl rfl)
theorem dX0_pendingLetter_11 : decode cX0_pendingLetter 11 = .ok (.lastore, 1) := dk_80 (dk_at dksX0_pendingLetter_0 11 rfl rfl)
theorem dX0_pendingLetter_12 : decode cX0_pendingLetter 12 = .ok (.goto 7, 3) := dk_167 0 7 (dk_at dksX0_pendingLetter_0 12 rfl rfl)
theorem dX0_pendingLetter_15 : decode cX0_pendingLetter 15 = .ok (.astore 5, 2) := dk_58 5 (dk_at dksX0_pendingLetter_0 15 rfl rfl)
theorem dX0_pendingLetter_17 : decode cX0_pendingLetter 17 = .ok (.iconst 1, 1) := dk_4 (dk_at dksX0_pendingLetter_0 17 rfl rfl)
theorem dX0_pendingLetter_18 : decode cX0_pendingLetter 18 = .ok (.ireturn, 1) := dk_172 (dk_at dksX0_pendingLetter_0 18 rfl rfl)
theorem dX0_pendingLetter_19 : decode cX0_pendingLetter 19 = .ok (.iconst 0, 1) := dk_3 (dk_at dksX0_pendingLetter_0 19 rfl rfl)
theorem dX0_pendingLetter_20 : decode cX0_pendingLetter 20 = .ok (.ireturn, 1) := dk_172 (dk_at dksX0_pendingLetter_0 20 rfl rfl)
abbrev cX0_lettersWritten : ByteArray := method_15_code
def yX0_lettersWritten : MethodName := ⟨RX0, "lettersWritten", "(LHedgeMessages;I[J)I"⟩
def dkwX0_lettersWritten_0 : List UInt8 := [44, 3, 42, 27, 182, 0, 56, 133, 80, 167, 0, 6, 78, 4, 172, 3, 172]
abbrev dktX0_lettersWritten_0 : List UInt8 := dkwX0_lettersWritten_0 ++ []
theorem dksX0_lettersWritten_0 : cX0_lettersWritten.data.toList.drop 0 = dktX0_lettersWritten_0 := by decide +kernel
theorem dX0_lettersWritten_0 : decode cX0_lettersWritten 0 = .ok (.aload_n 2, 1) := dk_44 (dk_at dksX0_lettersWritten_0 0 rfl rfl)
theorem dX0_lettersWritten_1 : decode cX0_lettersWritten 1 = .ok (.iconst 0, 1) := dk_3 (dk_at dksX0_lettersWritten_0 1 rfl rfl)
theorem dX0_lettersWritten_2 : decode cX0_lettersWritten 2 = .ok (.aload_n 0, 1) := dk_42 (dk_at dksX0_lettersWritten_0 2 rfl rfl)
theorem dX0_lettersWritten_3 : decode cX0_lettersWritten 3 = .ok (.iload_n 1, 1) := dk_27 (dk_at dksX0_lettersWritten_0 3 rfl rfl)
theorem dX0_lettersWritten_4 : decode cX0_lettersWritten 4 = .ok (.invokevirtual 56, 3) := dk_182 0 56 (dk_at dksX0_lettersWritten_0 4 rfl rfl)
theorem dX0_lettersWritten_7 : decode cX0_lettersWritten 7 = .ok (.i2l, 1) := dk_133 (dk_at dksX0_lettersWritten_0 7 rfl rfl)
theorem dX0_lettersWritten_8 : decode cX0_lettersWritten 8 = .ok (.lastore, 1) := dk_80 (dk_at dksX0_lettersWritten_0 8 rfl rfl)
theorem dX0_lettersWritten_9 : decode cX0_lettersWritten 9 = .ok (.goto 6, 3) := dk_167 0 6 (dk_at dksX0_lettersWritten_0 9 rfl rfl)
theorem dX0_lettersWritten_12 : decode cX0_lettersWritten 12 = .ok (.astore_n 3, 1) := dk_78 (dk_at dksX0_lettersWritten_0 12 rfl rfl)
theorem dX0_lettersWritten_13 : decode cX0_lettersWritten 13 = .ok (.iconst 1, 1) := dk_4 (dk_at dksX0_lettersWritten_0 13 rfl rfl)
theorem dX0_lettersWritten_14 : decode cX0_lettersWritten 14 = .ok (.ireturn, 1) := dk_172 (dk_at dksX0_lettersWritten_0 14 rfl rfl)
theorem dX0_lettersWritten_15 : decode cX0_lettersWritten 15 = .ok (.iconst 0, 1) := dk_3 (dk_at dksX0_lettersWritten_0 15 rfl rfl)
theorem dX0_lettersWritten_16 : decode cX0_lettersWritten 16 = .ok (.ireturn, 1) := dk_172 (dk_at dksX0_lettersWritten_0 16 rfl rfl)
abbrev cX0_startSlot : ByteArray := method_16_code
def yX0_startSlot : MethodName := ⟨RX0, "startSlot", "(LHedgeMessages;I[J)I"⟩
def dkwX0_startSlot_0 : List UInt8 := [44, 3, 42, 27, 182, 0, 59, 133, 80, 167, 0, 6, 78, 4, 172, 3, 172]
abbrev dktX0_startSlot_0 : List UInt8 := dkwX0_startSlot_0 ++ []
theorem dksX0_startSlot_0 : cX0_startSlot.data.toList.drop 0 = dktX0_startSlot_0 := by decide +kernel
theorem dX0_startSlot_0 : decode cX0_startSlot 0 = .ok (.aload_n 2, 1) := dk_44 (dk_at dksX0_startSlot_0 0 rfl rfl)
theorem dX0_startSlot_1 : decode cX0_startSlot 1 = .ok (.iconst 0, 1) := dk_3 (dk_at dksX0_startSlot_0 1 rfl rfl)
theorem dX0_startSlot_2 : decode cX0_startSlot 2 = .ok (.aload_n 0, 1) := dk_42 (dk_at dksX0_startSlot_0 2 rfl rfl)
theorem dX0_startSlot_3 : decode cX0_startSlot 3 = .ok (.iload_n 1, 1) := dk_27 (dk_at dksX0_startSlot_0 3 rfl rfl)
theorem dX0_startSlot_4 : decode cX0_startSlot 4 = .ok (.invokevirtual 59, 3) := dk_182 0 59 (dk_at dksX0_startSlot_0 4 rfl rfl)
theorem dX0_startSlot_7 : decode cX0_startSlot 7 = .ok (.i2l, 1) := dk_133 (dk_at dksX0_startSlot_0 7 rfl rfl)
theorem dX0_startSlot_8 : decode cX0_startSlot 8 = .ok (.lastore, 1) := dk_80 (dk_at dksX0_startSlot_0 8 rfl rfl)
theorem dX0_startSlot_9 : decode cX0_startSlot 9 = .ok (.goto 6, 3) := dk_167 0 6 (dk_at dksX0_startSlot_0 9 rfl rfl)
theorem dX0_startSlot_12 : decode cX0_startSlot 12 = .ok (.astore_n 3, 1) := dk_78 (dk_at dksX0_startSlot_0 12 rfl rfl)
theorem dX0_startSlot_13 : decode cX0_startSlot 13 = .ok (.iconst 1, 1) := dk_4 (dk_at dksX0_startSlot_0 13 rfl rfl)
theorem dX0_startSlot_14 : decode cX0_startSlot 14 = .ok (.ireturn, 1) := dk_172 (dk_at dksX0_startSlot_0 14 rfl rfl)
theorem dX0_startSlot_15 : decode cX0_startSlot 15 = .ok (.iconst 0, 1) := dk_3 (dk_at dksX0_startSlot_0 15 rfl rfl)
theorem dX0_startSlot_16 : decode cX0_startSlot 16 = .ok (.ireturn, 1) := dk_172 (dk_at dksX0_startSlot_0 16 rfl rfl)
abbrev cX0_postedCount : ByteArray := method_17_code
def yX0_postedCount : MethodName := ⟨RX0, "postedCount", "(LHedgeMessages;I[J)I"⟩
def dkwX0_postedCount_0 : List UInt8 := [44, 3, 42, 27, 182, 0, 62, 133, 80, 167, 0, 6, 78, 4, 172, 3, 172]
abbrev dktX0_postedCount_0 : List UInt8 := dkwX0_postedCount_0 ++ []
theorem dksX0_postedCount_0 : cX0_postedCount.data.toList.drop 0 = dktX0_postedCount_0 := by decide +kernel
theorem dX0_postedCount_0 : decode cX0_postedCount 0 = .ok (.aload_n 2, 1) := dk_44 (dk_at dksX0_postedCount_0 0 rfl rfl)
theorem dX0_postedCount_1 : decode cX0_postedCount 1 = .ok (.iconst 0, 1) := dk_3 (dk_at dksX0_postedCount_0 1 rfl rfl)
theorem dX0_postedCount_2 : decode cX0_postedCount 2 = .ok (.aload_n 0, 1) := dk_42 (dk_at dksX0_postedCount_0 2 rfl rfl)
theorem dX0_postedCount_3 : decode cX0_postedCount 3 = .ok (.iload_n 1, 1) := dk_27 (dk_at dksX0_postedCount_0 3 rfl rfl)
theorem dX0_postedCount_4 : decode cX0_postedCount 4 = .ok (.invokevirtual 62, 3) := dk_182 0 62 (dk_at dksX0_postedCount_0 4 rfl rfl)
theorem dX0_postedCount_7 : decode cX0_postedCount 7 = .ok (.i2l, 1) := dk_133 (dk_at dksX0_postedCount_0 7 rfl rfl)
theorem dX0_postedCount_8 : decode cX0_postedCount 8 = .ok (.lastore, 1) := dk_80 (dk_at dksX0_postedCount_0 8 rfl rfl)
theorem dX0_postedCount_9 : decode cX0_postedCount 9 = .ok (.goto 6, 3) := dk_167 0 6 (dk_at dksX0_postedCount_0 9 rfl rfl)
theorem dX0_postedCount_12 : decode cX0_postedCount 12 = .ok (.astore_n 3, 1) := dk_78 (dk_at dksX0_postedCount_0 12 rfl rfl)
theorem dX0_postedCount_13 : decode cX0_postedCount 13 = .ok (.iconst 1, 1) := dk_4 (dk_at dksX0_postedCount_0 13 rfl rfl)
theorem dX0_postedCount_14 : decode cX0_postedCount 14 = .ok (.ireturn, 1) := dk_172 (dk_at dksX0_postedCount_0 14 rfl rfl)
theorem dX0_postedCount_15 : decode cX0_postedCount 15 = .ok (.iconst 0, 1) := dk_3 (dk_at dksX0_postedCount_0 15 rfl rfl)
theorem dX0_postedCount_16 : decode cX0_postedCount 16 = .ok (.ireturn, 1) := dk_172 (dk_at dksX0_postedCount_0 16 rfl rfl)
abbrev cX0_nextStartSlot : ByteArray := method_18_code
def yX0_nextStartSlot : MethodName := ⟨RX0, "nextStartSlot", "(LHedgeMessages;I[J)I"⟩
def dkwX0_nextStartSlot_0 : List UInt8 := [44, 3, 42, 27, 182, 0, 65, 133, 80, 167, 0, 6, 78, 4, 172, 3, 172]
abbrev dktX0_nextStartSlot_0 : List UInt8 := dkwX0_nextStartSlot_0 ++ []
theorem dksX0_nextStartSlot_0 : cX0_nextStartSlot.data.toList.drop 0 = dktX0_nextStartSlot_0 := by decide +kernel
theorem dX0_nextStartSlot_0 : decode cX0_nextStartSlot 0 = .ok (.aload_n 2, 1) := dk_44 (dk_at dksX0_nextStartSlot_0 0 rfl rfl)
theorem dX0_nextStartSlot_1 : decode cX0_nextStartSlot 1 = .ok (.iconst 0, 1) := dk_3 (dk_at dksX0_nextStartSlot_0 1 rfl rfl)
theorem dX0_nextStartSlot_2 : decode cX0_nextStartSlot 2 = .ok (.aload_n 0, 1) := dk_42 (dk_at dksX0_nextStartSlot_0 2 rfl rfl)
theorem dX0_nextStartSlot_3 : decode cX0_nextStartSlot 3 = .ok (.iload_n 1, 1) := dk_27 (dk_at dksX0_nextStartSlot_0 3 rfl rfl)
theorem dX0_nextStartSlot_4 : decode cX0_nextStartSlot 4 = .ok (.invokevirtual 65, 3) := dk_182 0 65 (dk_at dksX0_nextStartSlot_0 4 rfl rfl)
theorem dX0_nextStartSlot_7 : decode cX0_nextStartSlot 7 = .ok (.i2l, 1) := dk_133 (dk_at dksX0_nextStartSlot_0 7 rfl rfl)
theorem dX0_nextStartSlot_8 : decode cX0_nextStartSlot 8 = .ok (.lastore, 1) := dk_80 (dk_at dksX0_nextStartSlot_0 8 rfl rfl)
theorem dX0_nextStartSlot_9 : decode cX0_nextStartSlot 9 = .ok (.goto 6, 3) := dk_167 0 6 (dk_at dksX0_nextStartSlot_0 9 rfl rfl)
theorem dX0_nextStartSlot_12 : decode cX0_nextStartSlot 12 = .ok (.astore_n 3, 1) := dk_78 (dk_at dksX0_nextStartSlot_0 12 rfl rfl)
theorem dX0_nextStartSlot_13 : decode cX0_nextStartSlot 13 = .ok (.iconst 1, 1) := dk_4 (dk_at dksX0_nextStartSlot_0 13 rfl rfl)
theorem dX0_nextStartSlot_14 : decode cX0_nextStartSlot 14 = .ok (.ireturn, 1) := dk_172 (dk_at dksX0_nextStartSlot_0 14 rfl rfl)
theorem dX0_nextStartSlot_15 : decode cX0_nextStartSlot 15 = .ok (.iconst 0, 1) := dk_3 (dk_at dksX0_nextStartSlot_0 15 rfl rfl)
theorem dX0_nextStartSlot_16 : decode cX0_nextStartSlot 16 = .ok (.ireturn, 1) := dk_172 (dk_at dksX0_nextStartSlot_0 16 rfl rfl)
abbrev cX0_plantReason : ByteArray := method_19_code
def yX0_plantReason : MethodName := ⟨RX0, "plantReason", "(LHedgeMessages;I[J)I"⟩
def dkwX0_plantReason_0 : List UInt8 := [44, 3, 42, 27, 182, 0, 68, 133, 80, 167, 0, 6, 78, 4, 172, 3, 172]
abbrev dktX0_plantReason_0 : List UInt8 := dkwX0_plantReason_0 ++ []
theorem dksX0_plantReason_0 : cX0_plantReason.data.toList.drop 0 = dktX0_plantReason_0 := by decide +kernel
theorem dX0_plantReason_0 : decode cX0_plantReason 0 = .ok (.aload_n 2, 1) := dk_44 (dk_at dksX0_plantReason_0 0 rfl rfl)
theorem dX0_plantReason_1 : decode cX0_plantReason 1 = .ok (.iconst 0, 1) := dk_3 (dk_at dksX0_plantReason_0 1 rfl rfl)
theorem dX0_plantReason_2 : decode cX0_plantReason 2 = .ok (.aload_n 0, 1) := dk_42 (dk_at dksX0_plantReason_0 2 rfl rfl)
theorem dX0_plantReason_3 : decode cX0_plantReason 3 = .ok (.iload_n 1, 1) := dk_27 (dk_at dksX0_plantReason_0 3 rfl rfl)
theorem dX0_plantReason_4 : decode cX0_plantReason 4 = .ok (.invokevirtual 68, 3) := dk_182 0 68 (dk_at dksX0_plantReason_0 4 rfl rfl)
theorem dX0_plantReason_7 : decode cX0_plantReason 7 = .ok (.i2l, 1) := dk_133 (dk_at dksX0_plantReason_0 7 rfl rfl)
theorem dX0_plantReason_8 : decode cX0_plantReason 8 = .ok (.lastore, 1) := dk_80 (dk_at dksX0_plantReason_0 8 rfl rfl)
theorem dX0_plantReason_9 : decode cX0_plantReason 9 = .ok (.goto 6, 3) := dk_167 0 6 (dk_at dksX0_plantReason_0 9 rfl rfl)
theorem dX0_plantReason_12 : decode cX0_plantReason 12 = .ok (.astore_n 3, 1) := dk_78 (dk_at dksX0_plantReason_0 12 rfl rfl)
theorem dX0_plantReason_13 : decode cX0_plantReason 13 = .ok (.iconst 1, 1) := dk_4 (dk_at dksX0_plantReason_0 13 rfl rfl)
theorem dX0_plantReason_14 : decode cX0_plantReason 14 = .ok (.ireturn, 1) := dk_172 (dk_at dksX0_plantReason_0 14 rfl rfl)
theorem dX0_plantReason_15 : decode cX0_plantReason 15 = .ok (.iconst 0, 1) := dk_3 (dk_at dksX0_plantReason_0 15 rfl rfl)
theorem dX0_plantReason_16 : decode cX0_plantReason 16 = .ok (.ireturn, 1) := dk_172 (dk_at dksX0_plantReason_0 16 rfl rfl)
abbrev cX0_removeReason : ByteArray := method_20_code
def yX0_removeReason : MethodName := ⟨RX0, "removeReason", "(LHedgeMessages;I[J)I"⟩
def dkwX0_removeReason_0 : List UInt8 := [44, 3, 42, 27, 182, 0, 71, 133, 80, 167, 0, 6, 78, 4, 172, 3, 172]
abbrev dktX0_removeReason_0 : List UInt8 := dkwX0_removeReason_0 ++ []
theorem dksX0_removeReason_0 : cX0_removeReason.data.toList.drop 0 = dktX0_removeReason_0 := by decide +kernel
theorem dX0_removeReason_0 : decode cX0_removeReason 0 = .ok (.aload_n 2, 1) := dk_44 (dk_at dksX0_removeReason_0 0 rfl rfl)
theorem dX0_removeReason_1 : decode cX0_removeReason 1 = .ok (.iconst 0, 1) := dk_3 (dk_at dksX0_removeReason_0 1 rfl rfl)
theorem dX0_removeReason_2 : decode cX0_removeReason 2 = .ok (.aload_n 0, 1) := dk_42 (dk_at dksX0_removeReason_0 2 rfl rfl)
theorem dX0_removeReason_3 : decode cX0_removeReason 3 = .ok (.iload_n 1, 1) := dk_27 (dk_at dksX0_removeReason_0 3 rfl rfl)
theorem dX0_removeReason_4 : decode cX0_removeReason 4 = .ok (.invokevirtual 71, 3) := dk_182 0 71 (dk_at dksX0_removeReason_0 4 rfl rfl)
theorem dX0_removeReason_7 : decode cX0_removeReason 7 = .ok (.i2l, 1) := dk_133 (dk_at dksX0_removeReason_0 7 rfl rfl)
theorem dX0_removeReason_8 : decode cX0_removeReason 8 = .ok (.lastore, 1) := dk_80 (dk_at dksX0_removeReason_0 8 rfl rfl)
theorem dX0_removeReason_9 : decode cX0_removeReason 9 = .ok (.goto 6, 3) := dk_167 0 6 (dk_at dksX0_removeReason_0 9 rfl rfl)
theorem dX0_removeReason_12 : decode cX0_removeReason 12 = .ok (.astore_n 3, 1) := dk_78 (dk_at dksX0_removeReason_0 12 rfl rfl)
theorem dX0_removeReason_13 : decode cX0_removeReason 13 = .ok (.iconst 1, 1) := dk_4 (dk_at dksX0_removeReason_0 13 rfl rfl)
theorem dX0_removeReason_14 : decode cX0_removeReason 14 = .ok (.ireturn, 1) := dk_172 (dk_at dksX0_removeReason_0 14 rfl rfl)
theorem dX0_removeReason_15 : decode cX0_removeReason 15 = .ok (.iconst 0, 1) := dk_3 (dk_at dksX0_removeReason_0 15 rfl rfl)
theorem dX0_removeReason_16 : decode cX0_removeReason 16 = .ok (.ireturn, 1) := dk_172 (dk_at dksX0_removeReason_0 16 rfl rfl)
abbrev cX0_trimReason : ByteArray := method_21_code
def yX0_trimReason : MethodName := ⟨RX0, "trimReason", "(LHedgeMessages;I[J)I"⟩
def dkwX0_trimReason_0 : List UInt8 := [44, 3, 42, 27, 182, 0, 74, 133, 80, 167, 0, 6, 78, 4, 172, 3, 172]
abbrev dktX0_trimReason_0 : List UInt8 := dkwX0_trimReason_0 ++ []
theorem dksX0_trimReason_0 : cX0_trimReason.data.toList.drop 0 = dktX0_trimReason_0 := by decide +kernel
theorem dX0_trimReason_0 : decode cX0_trimReason 0 = .ok (.aload_n 2, 1) := dk_44 (dk_at dksX0_trimReason_0 0 rfl rfl)
theorem dX0_trimReason_1 : decode cX0_trimReason 1 = .ok (.iconst 0, 1) := dk_3 (dk_at dksX0_trimReason_0 1 rfl rfl)
theorem dX0_trimReason_2 : decode cX0_trimReason 2 = .ok (.aload_n 0, 1) := dk_42 (dk_at dksX0_trimReason_0 2 rfl rfl)
theorem dX0_trimReason_3 : decode cX0_trimReason 3 = .ok (.iload_n 1, 1) := dk_27 (dk_at dksX0_trimReason_0 3 rfl rfl)
theorem dX0_trimReason_4 : decode cX0_trimReason 4 = .ok (.invokevirtual 74, 3) := dk_182 0 74 (dk_at dksX0_trimReason_0 4 rfl rfl)
theorem dX0_trimReason_7 : decode cX0_trimReason 7 = .ok (.i2l, 1) := dk_133 (dk_at dksX0_trimReason_0 7 rfl rfl)
theorem dX0_trimReason_8 : decode cX0_trimReason 8 = .ok (.lastore, 1) := dk_80 (dk_at dksX0_trimReason_0 8 rfl rfl)
theorem dX0_trimReason_9 : decode cX0_trimReason 9 = .ok (.goto 6, 3) := dk_167 0 6 (dk_at dksX0_trimReason_0 9 rfl rfl)
theorem dX0_trimReason_12 : decode cX0_trimReason 12 = .ok (.astore_n 3, 1) := dk_78 (dk_at dksX0_trimReason_0 12 rfl rfl)
theorem dX0_trimReason_13 : decode cX0_trimReason 13 = .ok (.iconst 1, 1) := dk_4 (dk_at dksX0_trimReason_0 13 rfl rfl)
theorem dX0_trimReason_14 : decode cX0_trimReason 14 = .ok (.ireturn, 1) := dk_172 (dk_at dksX0_trimReason_0 14 rfl rfl)
theorem dX0_trimReason_15 : decode cX0_trimReason 15 = .ok (.iconst 0, 1) := dk_3 (dk_at dksX0_trimReason_0 15 rfl rfl)
theorem dX0_trimReason_16 : decode cX0_trimReason 16 = .ok (.ireturn, 1) := dk_172 (dk_at dksX0_trimReason_0 16 rfl rfl)
abbrev cX0_writeReason : ByteArray := method_22_code
def yX0_writeReason : MethodName := ⟨RX0, "writeReason", "(LHedgeMessages;I[J)I"⟩
def dkwX0_writeReason_0 : List UInt8 := [44, 3, 42, 27, 182, 0, 77, 133, 80, 167, 0, 6, 78, 4, 172, 3, 172]
abbrev dktX0_writeReason_0 : List UInt8 := dkwX0_writeReason_0 ++ []
theorem dksX0_writeReason_0 : cX0_writeReason.data.toList.drop 0 = dktX0_writeReason_0 := by decide +kernel
theorem dX0_writeReason_0 : decode cX0_writeReason 0 = .ok (.aload_n 2, 1) := dk_44 (dk_at dksX0_writeReason_0 0 rfl rfl)
theorem dX0_writeReason_1 : decode cX0_writeReason 1 = .ok (.iconst 0, 1) := dk_3 (dk_at dksX0_writeReason_0 1 rfl rfl)
theorem dX0_writeReason_2 : decode cX0_writeReason 2 = .ok (.aload_n 0, 1) := dk_42 (dk_at dksX0_writeReason_0 2 rfl rfl)
theorem dX0_writeReason_3 : decode cX0_writeReason 3 = .ok (.iload_n 1, 1) := dk_27 (dk_at dksX0_writeReason_0 3 rfl rfl)
theorem dX0_writeReason_4 : decode cX0_writeReason 4 = .ok (.invokevirtual 77, 3) := dk_182 0 77 (dk_at dksX0_writeReason_0 4 rfl rfl)
theorem dX0_writeReason_7 : decode cX0_writeReason 7 = .ok (.i2l, 1) := dk_133 (dk_at dksX0_writeReason_0 7 rfl rfl)
theorem dX0_writeReason_8 : decode cX0_writeReason 8 = .ok (.lastore, 1) := dk_80 (dk_at dksX0_writeReason_0 8 rfl rfl)
theorem dX0_writeReason_9 : decode cX0_writeReason 9 = .ok (.goto 6, 3) := dk_167 0 6 (dk_at dksX0_writeReason_0 9 rfl rfl)
theorem dX0_writeReason_12 : decode cX0_writeReason 12 = .ok (.astore_n 3, 1) := dk_78 (dk_at dksX0_writeReason_0 12 rfl rfl)
theorem dX0_writeReason_13 : decode cX0_writeReason 13 = .ok (.iconst 1, 1) := dk_4 (dk_at dksX0_writeReason_0 13 rfl rfl)
theorem dX0_writeReason_14 : decode cX0_writeReason 14 = .ok (.ireturn, 1) := dk_172 (dk_at dksX0_writeReason_0 14 rfl rfl)
theorem dX0_writeReason_15 : decode cX0_writeReason 15 = .ok (.iconst 0, 1) := dk_3 (dk_at dksX0_writeReason_0 15 rfl rfl)
theorem dX0_writeReason_16 : decode cX0_writeReason 16 = .ok (.ireturn, 1) := dk_172 (dk_at dksX0_writeReason_0 16 rfl rfl)
abbrev cX0_keepReason : ByteArray := method_23_code
def yX0_keepReason : MethodName := ⟨RX0, "keepReason", "(LHedgeMessages;I[J)I"⟩
def dkwX0_keepReason_0 : List UInt8 := [44, 3, 42, 27, 182, 0, 80, 133, 80, 167, 0, 6, 78, 4, 172, 3, 172]
abbrev dktX0_keepReason_0 : List UInt8 := dkwX0_keepReason_0 ++ []
theorem dksX0_keepReason_0 : cX0_keepReason.data.toList.drop 0 = dktX0_keepReason_0 := by decide +kernel
theorem dX0_keepReason_0 : decode cX0_keepReason 0 = .ok (.aload_n 2, 1) := dk_44 (dk_at dksX0_keepReason_0 0 rfl rfl)
theorem dX0_keepReason_1 : decode cX0_keepReason 1 = .ok (.iconst 0, 1) := dk_3 (dk_at dksX0_keepReason_0 1 rfl rfl)
theorem dX0_keepReason_2 : decode cX0_keepReason 2 = .ok (.aload_n 0, 1) := dk_42 (dk_at dksX0_keepReason_0 2 rfl rfl)
theorem dX0_keepReason_3 : decode cX0_keepReason 3 = .ok (.iload_n 1, 1) := dk_27 (dk_at dksX0_keepReason_0 3 rfl rfl)
theorem dX0_keepReason_4 : decode cX0_keepReason 4 = .ok (.invokevirtual 80, 3) := dk_182 0 80 (dk_at dksX0_keepReason_0 4 rfl rfl)
theorem dX0_keepReason_7 : decode cX0_keepReason 7 = .ok (.i2l, 1) := dk_133 (dk_at dksX0_keepReason_0 7 rfl rfl)
theorem dX0_keepReason_8 : decode cX0_keepReason 8 = .ok (.lastore, 1) := dk_80 (dk_at dksX0_keepReason_0 8 rfl rfl)
theorem dX0_keepReason_9 : decode cX0_keepReason 9 = .ok (.goto 6, 3) := dk_167 0 6 (dk_at dksX0_keepReason_0 9 rfl rfl)
theorem dX0_keepReason_12 : decode cX0_keepReason 12 = .ok (.astore_n 3, 1) := dk_78 (dk_at dksX0_keepReason_0 12 rfl rfl)
theorem dX0_keepReason_13 : decode cX0_keepReason 13 = .ok (.iconst 1, 1) := dk_4 (dk_at dksX0_keepReason_0 13 rfl rfl)
theorem dX0_keepReason_14 : decode cX0_keepReason 14 = .ok (.ireturn, 1) := dk_172 (dk_at dksX0_keepReason_0 14 rfl rfl)
theorem dX0_keepReason_15 : decode cX0_keepReason 15 = .ok (.iconst 0, 1) := dk_3 (dk_at dksX0_keepReason_0 15 rfl rfl)
theorem dX0_keepReason_16 : decode cX0_keepReason 16 = .ok (.ireturn, 1) := dk_172 (dk_at dksX0_keepReason_0 16 rfl rfl)
abbrev cX0_daysUntilPruned : ByteArray := method_24_code
def yX0_daysUntilPruned : MethodName := ⟨RX0, "daysUntilPruned", "(LHedgeMessages;I[J)I"⟩
def dkwX0_daysUntilPruned_0 : List UInt8 := [44, 3, 42, 27, 182, 0, 83, 133, 80, 167, 0, 6, 78, 4, 172, 3, 172]
abbrev dktX0_daysUntilPruned_0 : List UInt8 := dkwX0_daysUntilPruned_0 ++ []
theorem dksX0_daysUntilPruned_0 : cX0_daysUntilPruned.data.toList.drop 0 = dktX0_daysUntilPruned_0 := by decide +kernel
theorem dX0_daysUntilPruned_0 : decode cX0_daysUntilPruned 0 = .ok (.aload_n 2, 1) := dk_44 (dk_at dksX0_daysUntilPruned_0 0 rfl rfl)
theorem dX0_daysUntilPruned_1 : decode cX0_daysUntilPruned 1 = .ok (.iconst 0, 1) := dk_3 (dk_at dksX0_daysUntilPruned_0 1 rfl rfl)
theorem dX0_daysUntilPruned_2 : decode cX0_daysUntilPruned 2 = .ok (.aload_n 0, 1) := dk_42 (dk_at dksX0_daysUntilPruned_0 2 rfl rfl)
theorem dX0_daysUntilPruned_3 : decode cX0_daysUntilPruned 3 = .ok (.iload_n 1, 1) := dk_27 (dk_at dksX0_daysUntilPruned_0 3 rfl rfl)
theorem dX0_daysUntilPruned_4 : decode cX0_daysUntilPruned 4 = .ok (.invokevirtual 83, 3) := dk_182 0 83 (dk_at dksX0_daysUntilPruned_0 4 rfl rfl)
theorem dX0_daysUntilPruned_7 : decode cX0_daysUntilPruned 7 = .ok (.i2l, 1) := dk_133 (dk_at dksX0_daysUntilPruned_0 7 rfl rfl)
theorem dX0_daysUntilPruned_8 : decode cX0_daysUntilPruned 8 = .ok (.lastore, 1) := dk_80 (dk_at dksX0_daysUntilPruned_0 8 rfl rfl)
theorem dX0_daysUntilPruned_9 : decode cX0_daysUntilPruned 9 = .ok (.goto 6, 3) := dk_167 0 6 (dk_at dksX0_daysUntilPruned_0 9 rfl rfl)
theorem dX0_daysUntilPruned_12 : decode cX0_daysUntilPruned 12 = .ok (.astore_n 3, 1) := dk_78 (dk_at dksX0_daysUntilPruned_0 12 rfl rfl)
theorem dX0_daysUntilPruned_13 : decode cX0_daysUntilPruned 13 = .ok (.iconst 1, 1) := dk_4 (dk_at dksX0_daysUntilPruned_0 13 rfl rfl)
theorem dX0_daysUntilPruned_14 : decode cX0_daysUntilPruned 14 = .ok (.ireturn, 1) := dk_172 (dk_at dksX0_daysUntilPruned_0 14 rfl rfl)
theorem dX0_daysUntilPruned_15 : decode cX0_daysUntilPruned 15 = .ok (.iconst 0, 1) := dk_3 (dk_at dksX0_daysUntilPruned_0 15 rfl rfl)
theorem dX0_daysUntilPruned_16 : decode cX0_daysUntilPruned 16 = .ok (.ireturn, 1) := dk_172 (dk_at dksX0_daysUntilPruned_0 16 rfl rfl)
abbrev cX0_deliveredAfter : ByteArray := method_25_code
def yX0_deliveredAfter : MethodName := ⟨RX0, "deliveredAfter", "(LHedgeMessages;II[J)I"⟩
def dkwX0_deliveredAfter_0 : List UInt8 := [45, 3, 42, 27, 28, 182, 0, 86, 133, 80, 167, 0, 7, 58, 4, 4, 172, 3, 172]
abbrev dktX0_deliveredAfter_0 : List UInt8 := dkwX0_deliveredAfter_0 ++ []
theorem dksX0_deliveredAfter_0 : cX0_deliveredAfter.data.toList.drop 0 = dktX0_deliveredAfter_0 := by decide +kernel
theorem dX0_deliveredAfter_0 : decode cX0_deliveredAfter 0 = .ok (.aload_n 3, 1) := dk_45 (dk_at dksX0_deliveredAfter_0 0 rfl rfl)
theorem dX0_deliveredAfter_1 : decode cX0_deliveredAfter 1 = .ok (.iconst 0, 1) := dk_3 (dk_at dksX0_deliveredAfter_0 1 rfl rfl)
theorem dX0_deliveredAfter_2 : decode cX0_deliveredAfter 2 = .ok (.aload_n 0, 1) := dk_42 (dk_at dksX0_deliveredAfter_0 2 rfl rfl)
theorem dX0_deliveredAfter_3 : decode cX0_deliveredAfter 3 = .ok (.iload_n 1, 1) := dk_27 (dk_at dksX0_deliveredAfter_0 3 rfl rfl)
theorem dX0_deliveredAfter_4 : decode cX0_deliveredAfter 4 = .ok (.iload_n 2, 1) := dk_28 (dk_at dksX0_deliveredAfter_0 4 rfl rfl)
theorem dX0_deliveredAfter_5 : decode cX0_deliveredAfter 5 = .ok (.invokevirtual 86, 3) := dk_182 0 86 (dk_at dksX0_deliveredAfter_0 5 rfl rfl)
theorem dX0_deliveredAfter_8 : decode cX0_deliveredAfter 8 = .ok (.i2l, 1) := dk_133 (dk_at dksX0_deliveredAfter_0 8 rfl rfl)
theorem dX0_deliveredAfter_9 : decode cX0_deliveredAfter 9 = .ok (.lastore, 1) := dk_80 (dk_at dksX0_deliveredAfter_0 9 rfl rfl)
theorem dX0_deliveredAfter_10 : decode cX0_deliveredAfter 10 = .ok (.goto 7, 3) := dk_167 0 7 (dk_at dksX0_deliveredAfter_0 10 rfl rfl)
theorem dX0_deliveredAfter_13 : decode cX0_deliveredAfter 13 = .ok (.astore 4, 2) := dk_58 4 (dk_at dksX0_deliveredAfter_0 13 rfl rfl)
theorem dX0_deliveredAfter_15 : decode cX0_deliveredAfter 15 = .ok (.iconst 1, 1) := dk_4 (dk_at dksX0_deliveredAfter_0 15 rfl rfl)
theorem dX0_deliveredAfter_16 : decode cX0_deliveredAfter 16 = .ok (.ireturn, 1) := dk_172 (dk_at dksX0_deliveredAfter_0 16 rfl rfl)
theorem dX0_deliveredAfter_17 : decode cX0_deliveredAfter 17 = .ok (.iconst 0, 1) := dk_3 (dk_at dksX0_deliveredAfter_0 17 rfl rfl)
theorem dX0_deliveredAfter_18 : decode cX0_deliveredAfter 18 = .ok (.ireturn, 1) := dk_172 (dk_at dksX0_deliveredAfter_0 18 rfl rfl)
abbrev cX0_pendingAfter : ByteArray := method_26_code
def yX0_pendingAfter : MethodName := ⟨RX0, "pendingAfter", "(LHedgeMessages;II[J)I"⟩
def dkwX0_pendingAfter_0 : List UInt8 := [45, 3, 42, 27, 28, 182, 0, 90, 133, 80, 167, 0, 7, 58, 4, 4, 172, 3, 172]
abbrev dktX0_pendingAfter_0 : List UInt8 := dkwX0_pendingAfter_0 ++ []
theorem dksX0_pendingAfter_0 : cX0_pendingAfter.data.toList.drop 0 = dktX0_pendingAfter_0 := by decide +kernel
theorem dX0_pendingAfter_0 : decode cX0_pendingAfter 0 = .ok (.aload_n 3, 1) := dk_45 (dk_at dksX0_pendingAfter_0 0 rfl rfl)
theorem dX0_pendingAfter_1 : decode cX0_pendingAfter 1 = .ok (.iconst 0, 1) := dk_3 (dk_at dksX0_pendingAfter_0 1 rfl rfl)
theorem dX0_pendingAfter_2 : decode cX0_pendingAfter 2 = .ok (.aload_n 0, 1) := dk_42 (dk_at dksX0_pendingAfter_0 2 rfl rfl)
theorem dX0_pendingAfter_3 : decode cX0_pendingAfter 3 = .ok (.iload_n 1, 1) := dk_27 (dk_at dksX0_pendingAfter_0 3 rfl rfl)
theorem dX0_pendingAfter_4 : decode cX0_pendingAfter 4 = .ok (.iload_n 2, 1) := dk_28 (dk_at dksX0_pendingAfter_0 4 rfl rfl)
theorem dX0_pendingAfter_5 : decode cX0_pendingAfter 5 = .ok (.invokevirtual 90, 3) := dk_182 0 90 (dk_at dksX0_pendingAfter_0 5 rfl rfl)
theorem dX0_pendingAfter_8 : decode cX0_pendingAfter 8 = .ok (.i2l, 1) := dk_133 (dk_at dksX0_pendingAfter_0 8 rfl rfl)
theorem dX0_pendingAfter_9 : decode cX0_pendingAfter 9 = .ok (.lastore, 1) := dk_80 (dk_at dksX0_pendingAfter_0 9 rfl rfl)
theorem dX0_pendingAfter_10 : decode cX0_pendingAfter 10 = .ok (.goto 7, 3) := dk_167 0 7 (dk_at dksX0_pendingAfter_0 10 rfl rfl)
theorem dX0_pendingAfter_13 : decode cX0_pendingAfter 13 = .ok (.astore 4, 2) := dk_58 4 (dk_at dksX0_pendingAfter_0 13 rfl rfl)
theorem dX0_pendingAfter_15 : decode cX0_pendingAfter 15 = .ok (.iconst 1, 1) := dk_4 (dk_at dksX0_pendingAfter_0 15 rfl rfl)
theorem dX0_pendingAfter_16 : decode cX0_pendingAfter 16 = .ok (.ireturn, 1) := dk_172 (dk_at dksX0_pendingAfter_0 16 rfl rfl)
theorem dX0_pendingAfter_17 : decode cX0_pendingAfter 17 = .ok (.iconst 0, 1) := dk_3 (dk_at dksX0_pendingAfter_0 17 rfl rfl)
theorem dX0_pendingAfter_18 : decode cX0_pendingAfter 18 = .ok (.ireturn, 1) := dk_172 (dk_at dksX0_pendingAfter_0 18 rfl rfl)
abbrev cX0_leastWorkLimit : ByteArray := method_27_code
def yX0_leastWorkLimit : MethodName := ⟨RX0, "leastWorkLimit", "(LHedgeMessages;II[J)I"⟩
def dkwX0_leastWorkLimit_0 : List UInt8 := [45, 3, 42, 27, 28, 182, 0, 93, 133, 80, 167, 0, 7, 58, 4, 4, 172, 3, 172]
abbrev dktX0_leastWorkLimit_0 : List UInt8 := dkwX0_leastWorkLimit_0 ++ []
theorem dksX0_leastWorkLimit_0 : cX0_leastWorkLimit.data.toList.drop 0 = dktX0_leastWorkLimit_0 := by decide +kernel
theorem dX0_leastWorkLimit_0 : decode cX0_leastWorkLimit 0 = .ok (.aload_n 3, 1) := dk_45 (dk_at dksX0_leastWorkLimit_0 0 rfl rfl)
theorem dX0_leastWorkLimit_1 : decode cX0_leastWorkLimit 1 = .ok (.iconst 0, 1) := dk_3 (dk_at dksX0_leastWorkLimit_0 1 rfl rfl)
theorem dX0_leastWorkLimit_2 : decode cX0_leastWorkLimit 2 = .ok (.aload_n 0, 1) := dk_42 (dk_at dksX0_leastWorkLimit_0 2 rfl rfl)
theorem dX0_leastWorkLimit_3 : decode cX0_leastWorkLimit 3 = .ok (.iload_n 1, 1) := dk_27 (dk_at dksX0_leastWorkLimit_0 3 rfl rfl)
theorem dX0_leastWorkLimit_4 : decode cX0_leastWorkLimit 4 = .ok (.iload_n 2, 1) := dk_28 (dk_at dksX0_leastWorkLimit_0 4 rfl rfl)
theorem dX0_leastWorkLimit_5 : decode cX0_leastWorkLimit 5 = .ok (.invokevirtual 93, 3) := dk_182 0 93 (dk_at dksX0_leastWorkLimit_0 5 rfl rfl)
theorem dX0_leastWorkLimit_8 : decode cX0_leastWorkLimit 8 = .ok (.i2l, 1) := dk_133 (dk_at dksX0_leastWorkLimit_0 8 rfl rfl)
theorem dX0_leastWorkLimit_9 : decode cX0_leastWorkLimit 9 = .ok (.lastore, 1) := dk_80 (dk_at dksX0_leastWorkLimit_0 9 rfl rfl)
theorem dX0_leastWorkLimit_10 : decode cX0_leastWorkLimit 10 = .ok (.goto 7, 3) := dk_167 0 7 (dk_at dksX0_leastWorkLimit_0 10 rfl rfl)
theorem dX0_leastWorkLimit_13 : decode cX0_leastWorkLimit 13 = .ok (.astore 4, 2) := dk_58 4 (dk_at dksX0_leastWorkLimit_0 13 rfl rfl)
theorem dX0_leastWorkLimit_15 : decode cX0_leastWorkLimit 15 = .ok (.iconst 1, 1) := dk_4 (dk_at dksX0_leastWorkLimit_0 15 rfl rfl)
theorem dX0_leastWorkLimit_16 : decode cX0_leastWorkLimit 16 = .ok (.ireturn, 1) := dk_172 (dk_at dksX0_leastWorkLimit_0 16 rfl rfl)
theorem dX0_leastWorkLimit_17 : decode cX0_leastWorkLimit 17 = .ok (.iconst 0, 1) := dk_3 (dk_at dksX0_leastWorkLimit_0 17 rfl rfl)
theorem dX0_leastWorkLimit_18 : decode cX0_leastWorkLimit 18 = .ok (.ireturn, 1) := dk_172 (dk_at dksX0_leastWorkLimit_0 18 rfl rfl)
abbrev cX0_messagesQueued : ByteArray := method_28_code
def yX0_messagesQueued : MethodName := ⟨RX0, "messagesQueued", "(LHedgeMessages;I[J)I"⟩
def dkwX0_messagesQueued_0 : List UInt8 := [44, 3, 42, 27, 182, 0, 96, 133, 80, 167, 0, 6, 78, 4, 172, 3, 172]
abbrev dktX0_messagesQueued_0 : List UInt8 := dkwX0_messagesQueued_0 ++ []
theorem dksX0_messagesQueued_0 : cX0_messagesQueued.data.toList.drop 0 = dktX0_messagesQueued_0 := by decide +kernel
theorem dX0_messagesQueued_0 : decode cX0_messagesQueued 0 = .ok (.aload_n 2, 1) := dk_44 (dk_at dksX0_messagesQueued_0 0 rfl rfl)
theorem dX0_messagesQueued_1 : decode cX0_messagesQueued 1 = .ok (.iconst 0, 1) := dk_3 (dk_at dksX0_messagesQueued_0 1 rfl rfl)
theorem dX0_messagesQueued_2 : decode cX0_messagesQueued 2 = .ok (.aload_n 0, 1) := dk_42 (dk_at dksX0_messagesQueued_0 2 rfl rfl)
theorem dX0_messagesQueued_3 : decode cX0_messagesQueued 3 = .ok (.iload_n 1, 1) := dk_27 (dk_at dksX0_messagesQueued_0 3 rfl rfl)
theorem dX0_messagesQueued_4 : decode cX0_messagesQueued 4 = .ok (.invokevirtual 96, 3) := dk_182 0 96 (dk_at dksX0_messagesQueued_0 4 rfl rfl)
theorem dX0_messagesQueued_7 : decode cX0_messagesQueued 7 = .ok (.i2l, 1) := dk_133 (dk_at dksX0_messagesQueued_0 7 rfl rfl)
theorem dX0_messagesQueued_8 : decode cX0_messagesQueued 8 = .ok (.lastore, 1) := dk_80 (dk_at dksX0_messagesQueued_0 8 rfl rfl)
theorem dX0_messagesQueued_9 : decode cX0_messagesQueued 9 = .ok (.goto 6, 3) := dk_167 0 6 (dk_at dksX0_messagesQueued_0 9 rfl rfl)
theorem dX0_messagesQueued_12 : decode cX0_messagesQueued 12 = .ok (.astore_n 3, 1) := dk_78 (dk_at dksX0_messagesQueued_0 12 rfl rfl)
theorem dX0_messagesQueued_13 : decode cX0_messagesQueued 13 = .ok (.iconst 1, 1) := dk_4 (dk_at dksX0_messagesQueued_0 13 rfl rfl)
theorem dX0_messagesQueued_14 : decode cX0_messagesQueued 14 = .ok (.ireturn, 1) := dk_172 (dk_at dksX0_messagesQueued_0 14 rfl rfl)
theorem dX0_messagesQueued_15 : decode cX0_messagesQueued 15 = .ok (.iconst 0, 1) := dk_3 (dk_at dksX0_messagesQueued_0 15 rfl rfl)
theorem dX0_messagesQueued_16 : decode cX0_messagesQueued 16 = .ok (.ireturn, 1) := dk_172 (dk_at dksX0_messagesQueued_0 16 rfl rfl)
abbrev cX0_messagesDelivered : ByteArray := method_29_code
def yX0_messagesDelivered : MethodName := ⟨RX0, "messagesDelivered", "(LHedgeMessages;I[J)I"⟩
def dkwX0_messagesDelivered_0 : List UInt8 := [44, 3, 42, 27, 182, 0, 99, 133, 80, 167, 0, 6, 78, 4, 172, 3, 172]
abbrev dktX0_messagesDelivered_0 : List UInt8 := dkwX0_messagesDelivered_0 ++ []
theorem dksX0_messagesDelivered_0 : cX0_messagesDelivered.data.toList.drop 0 = dktX0_messagesDelivered_0 := by decide +kernel
theorem dX0_messagesDelivered_0 : decode cX0_messagesDelivered 0 = .ok (.aload_n 2, 1) := dk_44 (dk_at dksX0_messagesDelivered_0 0 rfl rfl)
theorem dX0_messagesDelivered_1 : decode cX0_messagesDelivered 1 = .ok (.iconst 0, 1) := dk_3 (dk_at dksX0_messagesDelivered_0 1 rfl rfl)
theorem dX0_messagesDelivered_2 : decode cX0_messagesDelivered 2 = .ok (.aload_n 0, 1) := dk_42 (dk_at dksX0_messagesDelivered_0 2 rfl rfl)
theorem dX0_messagesDelivered_3 : decode cX0_messagesDelivered 3 = .ok (.iload_n 1, 1) := dk_27 (dk_at dksX0_messagesDelivered_0 3 rfl rfl)
theorem dX0_messagesDelivered_4 : decode cX0_messagesDelivered 4 = .ok (.invokevirtual 99, 3) := dk_182 0 99 (dk_at dksX0_messagesDelivered_0 4 rfl rfl)
theorem dX0_messagesDelivered_7 : decode cX0_messagesDelivered 7 = .ok (.i2l, 1) := dk_133 (dk_at dksX0_messagesDelivered_0 7 rfl rfl)
theorem dX0_messagesDelivered_8 : decode cX0_messagesDelivered 8 = .ok (.lastore, 1) := dk_80 (dk_at dksX0_messagesDelivered_0 8 rfl rfl)
theorem dX0_messagesDelivered_9 : decode cX0_messagesDelivered 9 = .ok (.goto 6, 3) := dk_167 0 6 (dk_at dksX0_messagesDelivered_0 9 rfl rfl)
theorem dX0_messagesDelivered_12 : decode cX0_messagesDelivered 12 = .ok (.astore_n 3, 1) := dk_78 (dk_at dksX0_messagesDelivered_0 12 rfl rfl)
theorem dX0_messagesDelivered_13 : decode cX0_messagesDelivered 13 = .ok (.iconst 1, 1) := dk_4 (dk_at dksX0_messagesDelivered_0 13 rfl rfl)
theorem dX0_messagesDelivered_14 : decode cX0_messagesDelivered 14 = .ok (.ireturn, 1) := dk_172 (dk_at dksX0_messagesDelivered_0 14 rfl rfl)
theorem dX0_messagesDelivered_15 : decode cX0_messagesDelivered 15 = .ok (.iconst 0, 1) := dk_3 (dk_at dksX0_messagesDelivered_0 15 rfl rfl)
theorem dX0_messagesDelivered_16 : decode cX0_messagesDelivered 16 = .ok (.ireturn, 1) := dk_172 (dk_at dksX0_messagesDelivered_0 16 rfl rfl)
abbrev cX0_messagesFailed : ByteArray := method_30_code
def yX0_messagesFailed : MethodName := ⟨RX0, "messagesFailed", "(LHedgeMessages;I[J)I"⟩
def dkwX0_messagesFailed_0 : List UInt8 := [44, 3, 42, 27, 182, 0, 102, 133, 80, 167, 0, 6, 78, 4, 172, 3, 172]
abbrev dktX0_messagesFailed_0 : List UInt8 := dkwX0_messagesFailed_0 ++ []
theorem dksX0_messagesFailed_0 : cX0_messagesFailed.data.toList.drop 0 = dktX0_messagesFailed_0 := by decide +kernel
theorem dX0_messagesFailed_0 : decode cX0_messagesFailed 0 = .ok (.aload_n 2, 1) := dk_44 (dk_at dksX0_messagesFailed_0 0 rfl rfl)
theorem dX0_messagesFailed_1 : decode cX0_messagesFailed 1 = .ok (.iconst 0, 1) := dk_3 (dk_at dksX0_messagesFailed_0 1 rfl rfl)
theorem dX0_messagesFailed_2 : decode cX0_messagesFailed 2 = .ok (.aload_n 0, 1) := dk_42 (dk_at dksX0_messagesFailed_0 2 rfl rfl)
theorem dX0_messagesFailed_3 : decode cX0_messagesFailed 3 = .ok (.iload_n 1, 1) := dk_27 (dk_at dksX0_messagesFailed_0 3 rfl rfl)
theorem dX0_messagesFailed_4 : decode cX0_messagesFailed 4 = .ok (.invokevirtual 102, 3) := dk_182 0 102 (dk_at dksX0_messagesFailed_0 4 rfl rfl)
theorem dX0_messagesFailed_7 : decode cX0_messagesFailed 7 = .ok (.i2l, 1) := dk_133 (dk_at dksX0_messagesFailed_0 7 rfl rfl)
theorem dX0_messagesFailed_8 : decode cX0_messagesFailed 8 = .ok (.lastore, 1) := dk_80 (dk_at dksX0_messagesFailed_0 8 rfl rfl)
theorem dX0_messagesFailed_9 : decode cX0_messagesFailed 9 = .ok (.goto 6, 3) := dk_167 0 6 (dk_at dksX0_messagesFailed_0 9 rfl rfl)
theorem dX0_messagesFailed_12 : decode cX0_messagesFailed 12 = .ok (.astore_n 3, 1) := dk_78 (dk_at dksX0_messagesFailed_0 12 rfl rfl)
theorem dX0_messagesFailed_13 : decode cX0_messagesFailed 13 = .ok (.iconst 1, 1) := dk_4 (dk_at dksX0_messagesFailed_0 13 rfl rfl)
theorem dX0_messagesFailed_14 : decode cX0_messagesFailed 14 = .ok (.ireturn, 1) := dk_172 (dk_at dksX0_messagesFailed_0 14 rfl rfl)
theorem dX0_messagesFailed_15 : decode cX0_messagesFailed 15 = .ok (.iconst 0, 1) := dk_3 (dk_at dksX0_messagesFailed_0 15 rfl rfl)
theorem dX0_messagesFailed_16 : decode cX0_messagesFailed 16 = .ok (.ireturn, 1) := dk_172 (dk_at dksX0_messagesFailed_0 16 rfl rfl)
abbrev cX0_messagesDropped : ByteArray := method_31_code
def yX0_messagesDropped : MethodName := ⟨RX0, "messagesDropped", "(LHedgeMessages;I[J)I"⟩
def dkwX0_messagesDropped_0 : List UInt8 := [44, 3, 42, 27, 182, 0, 105, 133, 80, 167, 0, 6, 78, 4, 172, 3, 172]
abbrev dktX0_messagesDropped_0 : List UInt8 := dkwX0_messagesDropped_0 ++ []
theorem dksX0_messagesDropped_0 : cX0_messagesDropped.data.toList.drop 0 = dktX0_messagesDropped_0 := by decide +kernel
theorem dX0_messagesDropped_0 : decode cX0_messagesDropped 0 = .ok (.aload_n 2, 1) := dk_44 (dk_at dksX0_messagesDropped_0 0 rfl rfl)
theorem dX0_messagesDropped_1 : decode cX0_messagesDropped 1 = .ok (.iconst 0, 1) := dk_3 (dk_at dksX0_messagesDropped_0 1 rfl rfl)
theorem dX0_messagesDropped_2 : decode cX0_messagesDropped 2 = .ok (.aload_n 0, 1) := dk_42 (dk_at dksX0_messagesDropped_0 2 rfl rfl)
theorem dX0_messagesDropped_3 : decode cX0_messagesDropped 3 = .ok (.iload_n 1, 1) := dk_27 (dk_at dksX0_messagesDropped_0 3 rfl rfl)
theorem dX0_messagesDropped_4 : decode cX0_messagesDropped 4 = .ok (.invokevirtual 105, 3) := dk_182 0 105 (dk_at dksX0_messagesDropped_0 4 rfl rfl)
theorem dX0_messagesDropped_7 : decode cX0_messagesDropped 7 = .ok (.i2l, 1) := dk_133 (dk_at dksX0_messagesDropped_0 7 rfl rfl)
theorem dX0_messagesDropped_8 : decode cX0_messagesDropped 8 = .ok (.lastore, 1) := dk_80 (dk_at dksX0_messagesDropped_0 8 rfl rfl)
theorem dX0_messagesDropped_9 : decode cX0_messagesDropped 9 = .ok (.goto 6, 3) := dk_167 0 6 (dk_at dksX0_messagesDropped_0 9 rfl rfl)
theorem dX0_messagesDropped_12 : decode cX0_messagesDropped 12 = .ok (.astore_n 3, 1) := dk_78 (dk_at dksX0_messagesDropped_0 12 rfl rfl)
theorem dX0_messagesDropped_13 : decode cX0_messagesDropped 13 = .ok (.iconst 1, 1) := dk_4 (dk_at dksX0_messagesDropped_0 13 rfl rfl)
theorem dX0_messagesDropped_14 : decode cX0_messagesDropped 14 = .ok (.ireturn, 1) := dk_172 (dk_at dksX0_messagesDropped_0 14 rfl rfl)
theorem dX0_messagesDropped_15 : decode cX0_messagesDropped 15 = .ok (.iconst 0, 1) := dk_3 (dk_at dksX0_messagesDropped_0 15 rfl rfl)
theorem dX0_messagesDropped_16 : decode cX0_messagesDropped 16 = .ok (.ireturn, 1) := dk_172 (dk_at dksX0_messagesDropped_0 16 rfl rfl)
abbrev cX0_plant : ByteArray := method_32_code
def yX0_plant : MethodName := ⟨RX0, "plant", "(LHedgeMessages;II[J)I"⟩
def dkwX0_plant_1 : List UInt8 := [172, 3, 172]
abbrev dktX0_plant_1 : List UInt8 := dkwX0_plant_1 ++ []
def dkwX0_plant_0 : List UInt8 := [45, 3, 42, 27, 28, 182, 0, 108, 133, 80, 167, 0, 15, 58, 4, 4, 172, 58, 4, 5, 172, 58, 4, 6]
abbrev dktX0_plant_0 : List UInt8 := dkwX0_plant_0 ++ dktX0_plant_1
theorem dksX0_plant_0 : cX0_plant.data.toList.drop 0 = dktX0_plant_0 := by decide +kernel
theorem dksX0_plant_1 : cX0_plant.data.toList.drop 24 = dktX0_plant_1 := dk_seg dksX0_plant_0 24 rfl rfl
theorem dX0_plant_0 : decode cX0_plant 0 = .ok (.aload_n 3, 1) := dk_45 (dk_at dksX0_plant_0 0 rfl rfl)
theorem dX0_plant_1 : decode cX0_plant 1 = .ok (.iconst 0, 1) := dk_3 (dk_at dksX0_plant_0 1 rfl rfl)
theorem dX0_plant_2 : decode cX0_plant 2 = .ok (.aload_n 0, 1) := dk_42 (dk_at dksX0_plant_0 2 rfl rfl)
theorem dX0_plant_3 : decode cX0_plant 3 = .ok (.iload_n 1, 1) := dk_27 (dk_at dksX0_plant_0 3 rfl rfl)
theorem dX0_plant_4 : decode cX0_plant 4 = .ok (.iload_n 2, 1) := dk_28 (dk_at dksX0_plant_0 4 rfl rfl)
theorem dX0_plant_5 : decode cX0_plant 5 = .ok (.invokevirtual 108, 3) := dk_182 0 108 (dk_at dksX0_plant_0 5 rfl rfl)
theorem dX0_plant_8 : decode cX0_plant 8 = .ok (.i2l, 1) := dk_133 (dk_at dksX0_plant_0 8 rfl rfl)
theorem dX0_plant_9 : decode cX0_plant 9 = .ok (.lastore, 1) := dk_80 (dk_at dksX0_plant_0 9 rfl rfl)
theorem dX0_plant_10 : decode cX0_plant 10 = .ok (.goto 15, 3) := dk_167 0 15 (dk_at dksX0_plant_0 10 rfl rfl)
theorem dX0_plant_13 : decode cX0_plant 13 = .ok (.astore 4, 2) := dk_58 4 (dk_at dksX0_plant_0 13 rfl rfl)
theorem dX0_plant_15 : decode cX0_plant 15 = .ok (.iconst 1, 1) := dk_4 (dk_at dksX0_plant_0 15 rfl rfl)
theorem dX0_plant_16 : decode cX0_plant 16 = .ok (.ireturn, 1) := dk_172 (dk_at dksX0_plant_0 16 rfl rfl)
theorem dX0_plant_17 : decode cX0_plant 17 = .ok (.astore 4, 2) := dk_58 4 (dk_at dksX0_plant_0 17 rfl rfl)
theorem dX0_plant_19 : decode cX0_plant 19 = .ok (.iconst 2, 1) := dk_5 (dk_at dksX0_plant_0 19 rfl rfl)
theorem dX0_plant_20 : decode cX0_plant 20 = .ok (.ireturn, 1) := dk_172 (dk_at dksX0_plant_0 20 rfl rfl)
theorem dX0_plant_21 : decode cX0_plant 21 = .ok (.astore 4, 2) := dk_58 4 (dk_at dksX0_plant_0 21 rfl rfl)
theorem dX0_plant_23 : decode cX0_plant 23 = .ok (.iconst 3, 1) := dk_6 (dk_at dksX0_plant_0 23 rfl rfl)
theorem dX0_plant_24 : decode cX0_plant 24 = .ok (.ireturn, 1) := dk_172 (dk_at dksX0_plant_1 0 rfl rfl)
theorem dX0_plant_25 : decode cX0_plant 25 = .ok (.iconst 0, 1) := dk_3 (dk_at dksX0_plant_1 1 rfl rfl)
theorem dX0_plant_26 : decode cX0_plant 26 = .ok (.ireturn, 1) := dk_172 (dk_at dksX0_plant_1 2 rfl rfl)
abbrev cX0_remove : ByteArray := method_33_code
def yX0_remove : MethodName := ⟨RX0, "remove", "(LHedgeMessages;I[J)I"⟩
def dkwX0_remove_0 : List UInt8 := [44, 3, 42, 27, 182, 0, 111, 133, 80, 167, 0, 9, 78, 4, 172, 78, 5, 172, 3, 172]
abbrev dktX0_remove_0 : List UInt8 := dkwX0_remove_0 ++ []
theorem dksX0_remove_0 : cX0_remove.data.toList.drop 0 = dktX0_remove_0 := by decide +kernel
theorem dX0_remove_0 : decode cX0_remove 0 = .ok (.aload_n 2, 1) := dk_44 (dk_at dksX0_remove_0 0 rfl rfl)
theorem dX0_remove_1 : decode cX0_remove 1 = .ok (.iconst 0, 1) := dk_3 (dk_at dksX0_remove_0 1 rfl rfl)
theorem dX0_remove_2 : decode cX0_remove 2 = .ok (.aload_n 0, 1) := dk_42 (dk_at dksX0_remove_0 2 rfl rfl)
theorem dX0_remove_3 : decode cX0_remove 3 = .ok (.iload_n 1, 1) := dk_27 (dk_at dksX0_remove_0 3 rfl rfl)
theorem dX0_remove_4 : decode cX0_remove 4 = .ok (.invokevirtual 111, 3) := dk_182 0 111 (dk_at dksX0_remove_0 4 rfl rfl)
theorem dX0_remove_7 : decode cX0_remove 7 = .ok (.i2l, 1) := dk_133 (dk_at dksX0_remove_0 7 rfl rfl)
theorem dX0_remove_8 : decode cX0_remove 8 = .ok (.lastore, 1) := dk_80 (dk_at dksX0_remove_0 8 rfl rfl)
theorem dX0_remove_9 : decode cX0_remove 9 = .ok (.goto 9, 3) := dk_167 0 9 (dk_at dksX0_remove_0 9 rfl rfl)
theorem dX0_remove_12 : decode cX0_remove 12 = .ok (.astore_n 3, 1) := dk_78 (dk_at dksX0_remove_0 12 rfl rfl)
theorem dX0_remove_13 : decode cX0_remove 13 = .ok (.iconst 1, 1) := dk_4 (dk_at dksX0_remove_0 13 rfl rfl)
theorem dX0_remove_14 : decode cX0_remove 14 = .ok (.ireturn, 1) := dk_172 (dk_at dksX0_remove_0 14 rfl rfl)
theorem dX0_remove_15 : decode cX0_remove 15 = .ok (.astore_n 3, 1) := dk_78 (dk_at dksX0_remove_0 15 rfl rfl)
theorem dX0_remove_16 : decode cX0_remove 16 = .ok (.iconst 2, 1) := dk_5 (dk_at dksX0_remove_0 16 rfl rfl)
theorem dX0_remove_17 : decode cX0_remove 17 = .ok (.ireturn, 1) := dk_172 (dk_at dksX0_remove_0 17 rfl rfl)
theorem dX0_remove_18 : decode cX0_remove 18 = .ok (.iconst 0, 1) := dk_3 (dk_at dksX0_remove_0 18 rfl rfl)
theorem dX0_remove_19 : decode cX0_remove 19 = .ok (.ireturn, 1) := dk_172 (dk_at dksX0_remove_0 19 rfl rfl)
abbrev cX0_trim : ByteArray := method_34_code
def yX0_trim : MethodName := ⟨RX0, "trim", "(LHedgeMessages;II[J)I"⟩
def dkwX0_trim_1 : List UInt8 := [172, 3, 172]
abbrev dktX0_trim_1 : List UInt8 := dkwX0_trim_1 ++ []
def dkwX0_trim_0 : List UInt8 := [45, 3, 42, 27, 28, 182, 0, 114, 133, 80, 167, 0, 15, 58, 4, 4, 172, 58, 4, 5, 172, 58, 4, 6]
abbrev dktX0_trim_0 : List UInt8 := dkwX0_trim_0 ++ dktX0_trim_1
theorem dksX0_trim_0 : cX0_trim.data.toList.drop 0 = dktX0_trim_0 := by decide +kernel
theorem dksX0_trim_1 : cX0_trim.data.toList.drop 24 = dktX0_trim_1 := dk_seg dksX0_trim_0 24 rfl rfl
theorem dX0_trim_0 : decode cX0_trim 0 = .ok (.aload_n 3, 1) := dk_45 (dk_at dksX0_trim_0 0 rfl rfl)
theorem dX0_trim_1 : decode cX0_trim 1 = .ok (.iconst 0, 1) := dk_3 (dk_at dksX0_trim_0 1 rfl rfl)
theorem dX0_trim_2 : decode cX0_trim 2 = .ok (.aload_n 0, 1) := dk_42 (dk_at dksX0_trim_0 2 rfl rfl)
theorem dX0_trim_3 : decode cX0_trim 3 = .ok (.iload_n 1, 1) := dk_27 (dk_at dksX0_trim_0 3 rfl rfl)
theorem dX0_trim_4 : decode cX0_trim 4 = .ok (.iload_n 2, 1) := dk_28 (dk_at dksX0_trim_0 4 rfl rfl)
theorem dX0_trim_5 : decode cX0_trim 5 = .ok (.invokevirtual 114, 3) := dk_182 0 114 (dk_at dksX0_trim_0 5 rfl rfl)
theorem dX0_trim_8 : decode cX0_trim 8 = .ok (.i2l, 1) := dk_133 (dk_at dksX0_trim_0 8 rfl rfl)
theorem dX0_trim_9 : decode cX0_trim 9 = .ok (.lastore, 1) := dk_80 (dk_at dksX0_trim_0 9 rfl rfl)
theorem dX0_trim_10 : decode cX0_trim 10 = .ok (.goto 15, 3) := dk_167 0 15 (dk_at dksX0_trim_0 10 rfl rfl)
theorem dX0_trim_13 : decode cX0_trim 13 = .ok (.astore 4, 2) := dk_58 4 (dk_at dksX0_trim_0 13 rfl rfl)
theorem dX0_trim_15 : decode cX0_trim 15 = .ok (.iconst 1, 1) := dk_4 (dk_at dksX0_trim_0 15 rfl rfl)
theorem dX0_trim_16 : decode cX0_trim 16 = .ok (.ireturn, 1) := dk_172 (dk_at dksX0_trim_0 16 rfl rfl)
theorem dX0_trim_17 : decode cX0_trim 17 = .ok (.astore 4, 2) := dk_58 4 (dk_at dksX0_trim_0 17 rfl rfl)
theorem dX0_trim_19 : decode cX0_trim 19 = .ok (.iconst 2, 1) := dk_5 (dk_at dksX0_trim_0 19 rfl rfl)
theorem dX0_trim_20 : decode cX0_trim 20 = .ok (.ireturn, 1) := dk_172 (dk_at dksX0_trim_0 20 rfl rfl)
theorem dX0_trim_21 : decode cX0_trim 21 = .ok (.astore 4, 2) := dk_58 4 (dk_at dksX0_trim_0 21 rfl rfl)
theorem dX0_trim_23 : decode cX0_trim 23 = .ok (.iconst 3, 1) := dk_6 (dk_at dksX0_trim_0 23 rfl rfl)
theorem dX0_trim_24 : decode cX0_trim 24 = .ok (.ireturn, 1) := dk_172 (dk_at dksX0_trim_1 0 rfl rfl)
theorem dX0_trim_25 : decode cX0_trim 25 = .ok (.iconst 0, 1) := dk_3 (dk_at dksX0_trim_1 1 rfl rfl)
theorem dX0_trim_26 : decode cX0_trim 26 = .ok (.ireturn, 1) := dk_172 (dk_at dksX0_trim_1 2 rfl rfl)
abbrev cX0_addNest : ByteArray := method_35_code
def yX0_addNest : MethodName := ⟨RX0, "addNest", "(LHedgeMessages;II[J)I"⟩
def dkwX0_addNest_1 : List UInt8 := [172, 3, 172]
abbrev dktX0_addNest_1 : List UInt8 := dkwX0_addNest_1 ++ []
def dkwX0_addNest_0 : List UInt8 := [45, 3, 42, 27, 28, 182, 0, 117, 133, 80, 167, 0, 15, 58, 4, 4, 172, 58, 4, 5, 172, 58, 4, 6]
abbrev dktX0_addNest_0 : List UInt8 := dkwX0_addNest_0 ++ dktX0_addNest_1
theorem dksX0_addNest_0 : cX0_addNest.data.toList.drop 0 = dktX0_addNest_0 := by decide +kernel
theorem dksX0_addNest_1 : cX0_addNest.data.toList.drop 24 = dktX0_addNest_1 := dk_seg dksX0_addNest_0 24 rfl rfl
theorem dX0_addNest_0 : decode cX0_addNest 0 = .ok (.aload_n 3, 1) := dk_45 (dk_at dksX0_addNest_0 0 rfl rfl)
theorem dX0_addNest_1 : decode cX0_addNest 1 = .ok (.iconst 0, 1) := dk_3 (dk_at dksX0_addNest_0 1 rfl rfl)
theorem dX0_addNest_2 : decode cX0_addNest 2 = .ok (.aload_n 0, 1) := dk_42 (dk_at dksX0_addNest_0 2 rfl rfl)
theorem dX0_addNest_3 : decode cX0_addNest 3 = .ok (.iload_n 1, 1) := dk_27 (dk_at dksX0_addNest_0 3 rfl rfl)
theorem dX0_addNest_4 : decode cX0_addNest 4 = .ok (.iload_n 2, 1) := dk_28 (dk_at dksX0_addNest_0 4 rfl rfl)
theorem dX0_addNest_5 : decode cX0_addNest 5 = .ok (.invokevirtual 117, 3) := dk_182 0 117 (dk_at dksX0_addNest_0 5 rfl rfl)
theorem dX0_addNest_8 : decode cX0_addNest 8 = .ok (.i2l, 1) := dk_133 (dk_at dksX0_addNest_0 8 rfl rfl)
theorem dX0_addNest_9 : decode cX0_addNest 9 = .ok (.lastore, 1) := dk_80 (dk_at dksX0_addNest_0 9 rfl rfl)
theorem dX0_addNest_10 : decode cX0_addNest 10 = .ok (.goto 15, 3) := dk_167 0 15 (dk_at dksX0_addNest_0 10 rfl rfl)
theorem dX0_addNest_13 : decode cX0_addNest 13 = .ok (.astore 4, 2) := dk_58 4 (dk_at dksX0_addNest_0 13 rfl rfl)
theorem dX0_addNest_15 : decode cX0_addNest 15 = .ok (.iconst 1, 1) := dk_4 (dk_at dksX0_addNest_0 15 rfl rfl)
theorem dX0_addNest_16 : decode cX0_addNest 16 = .ok (.ireturn, 1) := dk_172 (dk_at dksX0_addNest_0 16 rfl rfl)
theorem dX0_addNest_17 : decode cX0_addNest 17 = .ok (.astore 4, 2) := dk_58 4 (dk_at dksX0_addNest_0 17 rfl rfl)
theorem dX0_addNest_19 : decode cX0_addNest 19 = .ok (.iconst 2, 1) := dk_5 (dk_at dksX0_addNest_0 19 rfl rfl)
theorem dX0_addNest_20 : decode cX0_addNest 20 = .ok (.ireturn, 1) := dk_172 (dk_at dksX0_addNest_0 20 rfl rfl)
theorem dX0_addNest_21 : decode cX0_addNest 21 = .ok (.astore 4, 2) := dk_58 4 (dk_at dksX0_addNest_0 21 rfl rfl)
theorem dX0_addNest_23 : decode cX0_addNest 23 = .ok (.iconst 3, 1) := dk_6 (dk_at dksX0_addNest_0 23 rfl rfl)
theorem dX0_addNest_24 : decode cX0_addNest 24 = .ok (.ireturn, 1) := dk_172 (dk_at dksX0_addNest_1 0 rfl rfl)
theorem dX0_addNest_25 : decode cX0_addNest 25 = .ok (.iconst 0, 1) := dk_3 (dk_at dksX0_addNest_1 1 rfl rfl)
theorem dX0_addNest_26 : decode cX0_addNest 26 = .ok (.ireturn, 1) := dk_172 (dk_at dksX0_addNest_1 2 rfl rfl)
abbrev cX0_queueMessage : ByteArray := method_36_code
def yX0_queueMessage : MethodName := ⟨RX0, "queueMessage", "(LHedgeMessages;I[J)I"⟩
def dkwX0_queueMessage_0 : List UInt8 := [44, 3, 42, 27, 182, 0, 120, 133, 80, 167, 0, 9, 78, 4, 172, 78, 5, 172, 3, 172]
abbrev dktX0_queueMessage_0 : List UInt8 := dkwX0_queueMessage_0 ++ []
theorem dksX0_queueMessage_0 : cX0_queueMessage.data.toList.drop 0 = dktX0_queueMessage_0 := by decide +kernel
theorem dX0_queueMessage_0 : decode cX0_queueMessage 0 = .ok (.aload_n 2, 1) := dk_44 (dk_at dksX0_queueMessage_0 0 rfl rfl)
theorem dX0_queueMessage_1 : decode cX0_queueMessage 1 = .ok (.iconst 0, 1) := dk_3 (dk_at dksX0_queueMessage_0 1 rfl rfl)
theorem dX0_queueMessage_2 : decode cX0_queueMessage 2 = .ok (.aload_n 0, 1) := dk_42 (dk_at dksX0_queueMessage_0 2 rfl rfl)
theorem dX0_queueMessage_3 : decode cX0_queueMessage 3 = .ok (.iload_n 1, 1) := dk_27 (dk_at dksX0_queueMessage_0 3 rfl rfl)
theorem dX0_queueMessage_4 : decode cX0_queueMessage 4 = .ok (.invokevirtual 120, 3) := dk_182 0 120 (dk_at dksX0_queueMessage_0 4 rfl rfl)
theorem dX0_queueMessage_7 : decode cX0_queueMessage 7 = .ok (.i2l, 1) := dk_133 (dk_at dksX0_queueMessage_0 7 rfl rfl)
theorem dX0_queueMessage_8 : decode cX0_queueMessage 8 = .ok (.lastore, 1) := dk_80 (dk_at dksX0_queueMessage_0 8 rfl rfl)
theorem dX0_queueMessage_9 : decode cX0_queueMessage 9 = .ok (.goto 9, 3) := dk_167 0 9 (dk_at dksX0_queueMessage_0 9 rfl rfl)
theorem dX0_queueMessage_12 : decode cX0_queueMessage 12 = .ok (.astore_n 3, 1) := dk_78 (dk_at dksX0_queueMessage_0 12 rfl rfl)
theorem dX0_queueMessage_13 : decode cX0_queueMessage 13 = .ok (.iconst 1, 1) := dk_4 (dk_at dksX0_queueMessage_0 13 rfl rfl)
theorem dX0_queueMessage_14 : decode cX0_queueMessage 14 = .ok (.ireturn, 1) := dk_172 (dk_at dksX0_queueMessage_0 14 rfl rfl)
theorem dX0_queueMessage_15 : decode cX0_queueMessage 15 = .ok (.astore_n 3, 1) := dk_78 (dk_at dksX0_queueMessage_0 15 rfl rfl)
theorem dX0_queueMessage_16 : decode cX0_queueMessage 16 = .ok (.iconst 2, 1) := dk_5 (dk_at dksX0_queueMessage_0 16 rfl rfl)
theorem dX0_queueMessage_17 : decode cX0_queueMessage 17 = .ok (.ireturn, 1) := dk_172 (dk_at dksX0_queueMessage_0 17 rfl rfl)
theorem dX0_queueMessage_18 : decode cX0_queueMessage 18 = .ok (.iconst 0, 1) := dk_3 (dk_at dksX0_queueMessage_0 18 rfl rfl)
theorem dX0_queueMessage_19 : decode cX0_queueMessage 19 = .ok (.ireturn, 1) := dk_172 (dk_at dksX0_queueMessage_0 19 rfl rfl)
abbrev cX0_cancelMessage : ByteArray := method_37_code
def yX0_cancelMessage : MethodName := ⟨RX0, "cancelMessage", "(LHedgeMessages;II[J)I"⟩
def dkwX0_cancelMessage_0 : List UInt8 := [45, 3, 42, 27, 28, 182, 0, 123, 133, 80, 167, 0, 11, 58, 4, 4, 172, 58, 4, 5, 172, 3, 172]
abbrev dktX0_cancelMessage_0 : List UInt8 := dkwX0_cancelMessage_0 ++ []
theorem dksX0_cancelMessage_0 : cX0_cancelMessage.data.toList.drop 0 = dktX0_cancelMessage_0 := by decide +kernel
theorem dX0_cancelMessage_0 : decode cX0_cancelMessage 0 = .ok (.aload_n 3, 1) := dk_45 (dk_at dksX0_cancelMessage_0 0 rfl rfl)
theorem dX0_cancelMessage_1 : decode cX0_cancelMessage 1 = .ok (.iconst 0, 1) := dk_3 (dk_at dksX0_cancelMessage_0 1 rfl rfl)
theorem dX0_cancelMessage_2 : decode cX0_cancelMessage 2 = .ok (.aload_n 0, 1) := dk_42 (dk_at dksX0_cancelMessage_0 2 rfl rfl)
theorem dX0_cancelMessage_3 : decode cX0_cancelMessage 3 = .ok (.iload_n 1, 1) := dk_27 (dk_at dksX0_cancelMessage_0 3 rfl rfl)
theorem dX0_cancelMessage_4 : decode cX0_cancelMessage 4 = .ok (.iload_n 2, 1) := dk_28 (dk_at dksX0_cancelMessage_0 4 rfl rfl)
theorem dX0_cancelMessage_5 : decode cX0_cancelMessage 5 = .ok (.invokevirtual 123, 3) := dk_182 0 123 (dk_at dksX0_cancelMessage_0 5 rfl rfl)
theorem dX0_cancelMessage_8 : decode cX0_cancelMessage 8 = .ok (.i2l, 1) := dk_133 (dk_at dksX0_cancelMessage_0 8 rfl rfl)
theorem dX0_cancelMessage_9 : decode cX0_cancelMessage 9 = .ok (.lastore, 1) := dk_80 (dk_at dksX0_cancelMessage_0 9 rfl rfl)
theorem dX0_cancelMessage_10 : decode cX0_cancelMessage 10 = .ok (.goto 11, 3) := dk_167 0 11 (dk_at dksX0_cancelMessage_0 10 rfl rfl)
theorem dX0_cancelMessage_13 : decode cX0_cancelMessage 13 = .ok (.astore 4, 2) := dk_58 4 (dk_at dksX0_cancelMessage_0 13 rfl rfl)
theorem dX0_cancelMessage_15 : decode cX0_cancelMessage 15 = .ok (.iconst 1, 1) := dk_4 (dk_at dksX0_cancelMessage_0 15 rfl rfl)
theorem dX0_cancelMessage_16 : decode cX0_cancelMessage 16 = .ok (.ireturn, 1) := dk_172 (dk_at dksX0_cancelMessage_0 16 rfl rfl)
theorem dX0_cancelMessage_17 : decode cX0_cancelMessage 17 = .ok (.astore 4, 2) := dk_58 4 (dk_at dksX0_cancelMessage_0 17 rfl rfl)
theorem dX0_cancelMessage_19 : decode cX0_cancelMessage 19 = .ok (.iconst 2, 1) := dk_5 (dk_at dksX0_cancelMessage_0 19 rfl rfl)
theorem dX0_cancelMessage_20 : decode cX0_cancelMessage 20 = .ok (.ireturn, 1) := dk_172 (dk_at dksX0_cancelMessage_0 20 rfl rfl)
theorem dX0_cancelMessage_21 : decode cX0_cancelMessage 21 = .ok (.iconst 0, 1) := dk_3 (dk_at dksX0_cancelMessage_0 21 rfl rfl)
theorem dX0_cancelMessage_22 : decode cX0_cancelMessage 22 = .ok (.ireturn, 1) := dk_172 (dk_at dksX0_cancelMessage_0 22 rfl rfl)
abbrev cX0_setWorkLimit : ByteArray := method_38_code
def yX0_setWorkLimit : MethodName := ⟨RX0, "setWorkLimit", "(LHedgeMessages;I[J)I"⟩
def dkwX0_setWorkLimit_0 : List UInt8 := [44, 3, 42, 27, 182, 0, 126, 133, 80, 167, 0, 6, 78, 4, 172, 3, 172]
abbrev dktX0_setWorkLimit_0 : List UInt8 := dkwX0_setWorkLimit_0 ++ []
theorem dksX0_setWorkLimit_0 : cX0_setWorkLimit.data.toList.drop 0 = dktX0_setWorkLimit_0 := by decide +kernel
theorem dX0_setWorkLimit_0 : decode cX0_setWorkLimit 0 = .ok (.aload_n 2, 1) := dk_44 (dk_at dksX0_setWorkLimit_0 0 rfl rfl)
theorem dX0_setWorkLimit_1 : decode cX0_setWorkLimit 1 = .ok (.iconst 0, 1) := dk_3 (dk_at dksX0_setWorkLimit_0 1 rfl rfl)
theorem dX0_setWorkLimit_2 : decode cX0_setWorkLimit 2 = .ok (.aload_n 0, 1) := dk_42 (dk_at dksX0_setWorkLimit_0 2 rfl rfl)
theorem dX0_setWorkLimit_3 : decode cX0_setWorkLimit 3 = .ok (.iload_n 1, 1) := dk_27 (dk_at dksX0_setWorkLimit_0 3 rfl rfl)
theorem dX0_setWorkLimit_4 : decode cX0_setWorkLimit 4 = .ok (.invokevirtual 126, 3) := dk_182 0 126 (dk_at dksX0_setWorkLimit_0 4 rfl rfl)
theorem dX0_setWorkLimit_7 : decode cX0_setWorkLimit 7 = .ok (.i2l, 1) := dk_133 (dk_at dksX0_setWorkLimit_0 7 rfl rfl)
theorem dX0_setWorkLimit_8 : decode cX0_setWorkLimit 8 = .ok (.lastore, 1) := dk_80 (dk_at dksX0_setWorkLimit_0 8 rfl rfl)
theorem dX0_setWorkLimit_9 : decode cX0_setWorkLimit 9 = .ok (.goto 6, 3) := dk_167 0 6 (dk_at dksX0_setWorkLimit_0 9 rfl rfl)
theorem dX0_setWorkLimit_12 : decode cX0_setWorkLimit 12 = .ok (.astore_n 3, 1) := dk_78 (dk_at dksX0_setWorkLimit_0 12 rfl rfl)
theorem dX0_setWorkLimit_13 : decode cX0_setWorkLimit 13 = .ok (.iconst 1, 1) := dk_4 (dk_at dksX0_setWorkLimit_0 13 rfl rfl)
theorem dX0_setWorkLimit_14 : decode cX0_setWorkLimit 14 = .ok (.ireturn, 1) := dk_172 (dk_at dksX0_setWorkLimit_0 14 rfl rfl)
theorem dX0_setWorkLimit_15 : decode cX0_setWorkLimit 15 = .ok (.iconst 0, 1) := dk_3 (dk_at dksX0_setWorkLimit_0 15 rfl rfl)
theorem dX0_setWorkLimit_16 : decode cX0_setWorkLimit 16 = .ok (.ireturn, 1) := dk_172 (dk_at dksX0_setWorkLimit_0 16 rfl rfl)
abbrev cX0_endDays : ByteArray := method_39_code
def yX0_endDays : MethodName := ⟨RX0, "endDays", "(LHedgeMessages;I[J)I"⟩
def dkwX0_endDays_0 : List UInt8 := [44, 3, 42, 27, 182, 0, 129, 133, 80, 167, 0, 6, 78, 4, 172, 3, 172]
abbrev dktX0_endDays_0 : List UInt8 := dkwX0_endDays_0 ++ []
theorem dksX0_endDays_0 : cX0_endDays.data.toList.drop 0 = dktX0_endDays_0 := by decide +kernel
theorem dX0_endDays_0 : decode cX0_endDays 0 = .ok (.aload_n 2, 1) := dk_44 (dk_at dksX0_endDays_0 0 rfl rfl)
theorem dX0_endDays_1 : decode cX0_endDays 1 = .ok (.iconst 0, 1) := dk_3 (dk_at dksX0_endDays_0 1 rfl rfl)
theorem dX0_endDays_2 : decode cX0_endDays 2 = .ok (.aload_n 0, 1) := dk_42 (dk_at dksX0_endDays_0 2 rfl rfl)
theorem dX0_endDays_3 : decode cX0_endDays 3 = .ok (.iload_n 1, 1) := dk_27 (dk_at dksX0_endDays_0 3 rfl rfl)
theorem dX0_endDays_4 : decode cX0_endDays 4 = .ok (.invokevirtual 129, 3) := dk_182 0 129 (dk_at dksX0_endDays_0 4 rfl rfl)
theorem dX0_endDays_7 : decode cX0_endDays 7 = .ok (.i2l, 1) := dk_133 (dk_at dksX0_endDays_0 7 rfl rfl)
theorem dX0_endDays_8 : decode cX0_endDays 8 = .ok (.lastore, 1) := dk_80 (dk_at dksX0_endDays_0 8 rfl rfl)
theorem dX0_endDays_9 : decode cX0_endDays 9 = .ok (.goto 6, 3) := dk_167 0 6 (dk_at dksX0_endDays_0 9 rfl rfl)
theorem dX0_endDays_12 : decode cX0_endDays 12 = .ok (.astore_n 3, 1) := dk_78 (dk_at dksX0_endDays_0 12 rfl rfl)
theorem dX0_endDays_13 : decode cX0_endDays 13 = .ok (.iconst 1, 1) := dk_4 (dk_at dksX0_endDays_0 13 rfl rfl)
theorem dX0_endDays_14 : decode cX0_endDays 14 = .ok (.ireturn, 1) := dk_172 (dk_at dksX0_endDays_0 14 rfl rfl)
theorem dX0_endDays_15 : decode cX0_endDays 15 = .ok (.iconst 0, 1) := dk_3 (dk_at dksX0_endDays_0 15 rfl rfl)
theorem dX0_endDays_16 : decode cX0_endDays 16 = .ok (.ireturn, 1) := dk_172 (dk_at dksX0_endDays_0 16 rfl rfl)
abbrev cX0_undo : ByteArray := method_40_code
def yX0_undo : MethodName := ⟨RX0, "undo", "(LHedgeMessages;[J)I"⟩
def dkwX0_undo_0 : List UInt8 := [43, 3, 42, 182, 0, 132, 133, 80, 167, 0, 6, 77, 4, 172, 3, 172]
abbrev dktX0_undo_0 : List UInt8 := dkwX0_undo_0 ++ []
theorem dksX0_undo_0 : cX0_undo.data.toList.drop 0 = dktX0_undo_0 := by decide +kernel
theorem dX0_undo_0 : decode cX0_undo 0 = .ok (.aload_n 1, 1) := dk_43 (dk_at dksX0_undo_0 0 rfl rfl)
theorem dX0_undo_1 : decode cX0_undo 1 = .ok (.iconst 0, 1) := dk_3 (dk_at dksX0_undo_0 1 rfl rfl)
theorem dX0_undo_2 : decode cX0_undo 2 = .ok (.aload_n 0, 1) := dk_42 (dk_at dksX0_undo_0 2 rfl rfl)
theorem dX0_undo_3 : decode cX0_undo 3 = .ok (.invokevirtual 132, 3) := dk_182 0 132 (dk_at dksX0_undo_0 3 rfl rfl)
theorem dX0_undo_6 : decode cX0_undo 6 = .ok (.i2l, 1) := dk_133 (dk_at dksX0_undo_0 6 rfl rfl)
theorem dX0_undo_7 : decode cX0_undo 7 = .ok (.lastore, 1) := dk_80 (dk_at dksX0_undo_0 7 rfl rfl)
theorem dX0_undo_8 : decode cX0_undo 8 = .ok (.goto 6, 3) := dk_167 0 6 (dk_at dksX0_undo_0 8 rfl rfl)
theorem dX0_undo_11 : decode cX0_undo 11 = .ok (.astore_n 2, 1) := dk_77 (dk_at dksX0_undo_0 11 rfl rfl)
theorem dX0_undo_12 : decode cX0_undo 12 = .ok (.iconst 1, 1) := dk_4 (dk_at dksX0_undo_0 12 rfl rfl)
theorem dX0_undo_13 : decode cX0_undo 13 = .ok (.ireturn, 1) := dk_172 (dk_at dksX0_undo_0 13 rfl rfl)
theorem dX0_undo_14 : decode cX0_undo 14 = .ok (.iconst 0, 1) := dk_3 (dk_at dksX0_undo_0 14 rfl rfl)
theorem dX0_undo_15 : decode cX0_undo 15 = .ok (.ireturn, 1) := dk_172 (dk_at dksX0_undo_0 15 rfl rfl)
abbrev cX0_restore : ByteArray := method_41_code
def yX0_restore : MethodName := ⟨RX0, "restore", "(LHedgeMessages;[J)I"⟩
def dkwX0_restore_0 : List UInt8 := [43, 3, 42, 182, 0, 135, 133, 80, 167, 0, 6, 77, 4, 172, 3, 172]
abbrev dktX0_restore_0 : List UInt8 := dkwX0_restore_0 ++ []
theorem dksX0_restore_0 : cX0_restore.data.toList.drop 0 = dktX0_restore_0 := by decide +kernel
theorem dX0_restore_0 : decode cX0_restore 0 = .ok (.aload_n 1, 1) := dk_43 (dk_at dksX0_restore_0 0 rfl rfl)
theorem dX0_restore_1 : decode cX0_restore 1 = .ok (.iconst 0, 1) := dk_3 (dk_at dksX0_restore_0 1 rfl rfl)
theorem dX0_restore_2 : decode cX0_restore 2 = .ok (.aload_n 0, 1) := dk_42 (dk_at dksX0_restore_0 2 rfl rfl)
theorem dX0_restore_3 : decode cX0_restore 3 = .ok (.invokevirtual 135, 3) := dk_182 0 135 (dk_at dksX0_restore_0 3 rfl rfl)
theorem dX0_restore_6 : decode cX0_restore 6 = .ok (.i2l, 1) := dk_133 (dk_at dksX0_restore_0 6 rfl rfl)
theorem dX0_restore_7 : decode cX0_restore 7 = .ok (.lastore, 1) := dk_80 (dk_at dksX0_restore_0 7 rfl rfl)
theorem dX0_restore_8 : decode cX0_restore 8 = .ok (.goto 6, 3) := dk_167 0 6 (dk_at dksX0_restore_0 8 rfl rfl)
theorem dX0_restore_11 : decode cX0_restore 11 = .ok (.astore_n 2, 1) := dk_77 (dk_at dksX0_restore_0 11 rfl rfl)
theorem dX0_restore_12 : decode cX0_restore 12 = .ok (.iconst 1, 1) := dk_4 (dk_at dksX0_restore_0 12 rfl rfl)
theorem dX0_restore_13 : decode cX0_restore 13 = .ok (.ireturn, 1) := dk_172 (dk_at dksX0_restore_0 13 rfl rfl)
theorem dX0_restore_14 : decode cX0_restore 14 = .ok (.iconst 0, 1) := dk_3 (dk_at dksX0_restore_0 14 rfl rfl)
theorem dX0_restore_15 : decode cX0_restore 15 = .ok (.ireturn, 1) := dk_172 (dk_at dksX0_restore_0 15 rfl rfl)
theorem q144 : (Jvm.Cond.initialized "HedgeMessagesLaw") ∈ lw_all := lw_g (lw_at lw_m1 0 rfl) rfl
theorem q187 : (Jvm.Cond.classLink "HedgeMessagesLaw" (8 : Nat) "HedgeMessages") ∈ lw_all := lw_g (lw_at lw_m1 43 rfl) rfl
theorem q189 : (Jvm.Cond.methodLink "HedgeMessagesLaw" (138 : Nat) ({ cls := "HedgeMessages", name := "<init>", desc := "()V" } : Jvm.MethodName)) ∈ lw_all := lw_g (lw_at lw_m1 45 rfl) rfl
theorem q860 : (Jvm.Cond.methodLink "HedgeMessagesLaw" (162 : Nat) ({ cls := "HedgeMessages", name := "errorCode", desc := "()I" } : Jvm.MethodName)) ∈ lw_all := lw_g (lw_at lw_m3 236 rfl) rfl
theorem q864 : (Jvm.Cond.methodLink "HedgeMessagesLaw" (166 : Nat) ({ cls := "HedgeMessages", name := "errorPosition", desc := "()I" } : Jvm.MethodName)) ∈ lw_all := lw_g (lw_at lw_m4 0 rfl) rfl
theorem q868 : (Jvm.Cond.methodLink "HedgeMessagesLaw" (170 : Nat) ({ cls := "HedgeMessages", name := "slotCount", desc := "()I" } : Jvm.MethodName)) ∈ lw_all := lw_g (lw_at lw_m4 4 rfl) rfl
theorem q876 : (Jvm.Cond.methodLink "HedgeMessagesLaw" (174 : Nat) ({ cls := "HedgeMessages", name := "day", desc := "()I" } : Jvm.MethodName)) ∈ lw_all := lw_g (lw_at lw_m4 12 rfl) rfl
theorem q880 : (Jvm.Cond.methodLink "HedgeMessagesLaw" (178 : Nat) ({ cls := "HedgeMessages", name := "activeGardener", desc := "()I" } : Jvm.MethodName)) ∈ lw_all := lw_g (lw_at lw_m4 16 rfl) rfl
theorem q888 : (Jvm.Cond.methodLink "HedgeMessagesLaw" (182 : Nat) ({ cls := "HedgeMessages", name := "workLimit", desc := "()I" } : Jvm.MethodName)) ∈ lw_all := lw_g (lw_at lw_m4 24 rfl) rfl
theorem q892 : (Jvm.Cond.methodLink "HedgeMessagesLaw" (186 : Nat) ({ cls := "HedgeMessages", name := "actionsLeft", desc := "()I" } : Jvm.MethodName)) ∈ lw_all := lw_g (lw_at lw_m4 28 rfl) rfl
theorem q896 : (Jvm.Cond.methodLink "HedgeMessagesLaw" (190 : Nat) ({ cls := "HedgeMessages", name := "twigCount", desc := "()I" } : Jvm.MethodName)) ∈ lw_all := lw_g (lw_at lw_m4 32 rfl) rfl
theorem q904 : (Jvm.Cond.methodLink "HedgeMessagesLaw" (212 : Nat) ({ cls := "HedgeMessages", name := "nestCount", desc := "()I" } : Jvm.MethodName)) ∈ lw_all := lw_g (lw_at lw_m4 40 rfl) rfl
theorem q912 : (Jvm.Cond.methodLink "HedgeMessagesLaw" (235 : Nat) ({ cls := "HedgeMessages", name := "longestFreeRun", desc := "()I" } : Jvm.MethodName)) ∈ lw_all := lw_g (lw_at lw_m4 48 rfl) rfl
theorem q951 : (Jvm.Cond.methodLink "HedgeMessagesLaw" (239 : Nat) ({ cls := "HedgeMessages", name := "yardLetterCount", desc := "(I)I" } : Jvm.MethodName)) ∈ lw_all := lw_g (lw_at lw_m4 87 rfl) rfl
theorem q1133 : (Jvm.Cond.methodLink "HedgeMessagesLaw" (258 : Nat) ({ cls := "HedgeMessages", name := "daysUntilInspection", desc := "()I" } : Jvm.MethodName)) ∈ lw_all := lw_g (lw_at lw_m5 29 rfl) rfl
theorem q1137 : (Jvm.Cond.methodLink "HedgeMessagesLaw" (272 : Nat) ({ cls := "HedgeMessages", name := "bestNestSlot", desc := "()I" } : Jvm.MethodName)) ∈ lw_all := lw_g (lw_at lw_m5 33 rfl) rfl
theorem q1178 : (Jvm.Cond.methodLink "HedgeMessagesLaw" (291 : Nat) ({ cls := "HedgeMessages", name := "twigsPlanted", desc := "()I" } : Jvm.MethodName)) ∈ lw_all := lw_g (lw_at lw_m5 74 rfl) rfl
theorem q1182 : (Jvm.Cond.methodLink "HedgeMessagesLaw" (295 : Nat) ({ cls := "HedgeMessages", name := "twigsPruned", desc := "()I" } : Jvm.MethodName)) ∈ lw_all := lw_g (lw_at lw_m5 78 rfl) rfl
theorem q1186 : (Jvm.Cond.methodLink "HedgeMessagesLaw" (299 : Nat) ({ cls := "HedgeMessages", name := "twigsRemoved", desc := "()I" } : Jvm.MethodName)) ∈ lw_all := lw_g (lw_at lw_m5 82 rfl) rfl
theorem q1190 : (Jvm.Cond.methodLink "HedgeMessagesLaw" (303 : Nat) ({ cls := "HedgeMessages", name := "twigImbalance", desc := "()I" } : Jvm.MethodName)) ∈ lw_all := lw_g (lw_at lw_m5 86 rfl) rfl
theorem q1194 : (Jvm.Cond.methodLink "HedgeMessagesLaw" (307 : Nat) ({ cls := "HedgeMessages", name := "messageImbalance", desc := "()I" } : Jvm.MethodName)) ∈ lw_all := lw_g (lw_at lw_m5 90 rfl) rfl
theorem q1228 : (Jvm.Cond.methodLink "HedgeMessagesLaw" (311 : Nat) ({ cls := "HedgeMessages", name := "wrongLetters", desc := "()I" } : Jvm.MethodName)) ∈ lw_all := lw_g (lw_at lw_m5 124 rfl) rfl
theorem q1260 : (Jvm.Cond.methodLink "HedgeMessagesLaw" (315 : Nat) ({ cls := "HedgeMessages", name := "meanLength", desc := "()F" } : Jvm.MethodName)) ∈ lw_all := lw_g (lw_at lw_m5 156 rfl) rfl
theorem q1264 : (Jvm.Cond.methodLink "HedgeMessagesLaw" (320 : Nat) ({ cls := "HedgeMessages", name := "occupancy", desc := "()D" } : Jvm.MethodName)) ∈ lw_all := lw_g (lw_at lw_m5 160 rfl) rfl
theorem q1268 : (Jvm.Cond.methodLink "HedgeMessagesLaw" (352 : Nat) ({ cls := "HedgeMessages", name := "save", desc := "()I" } : Jvm.MethodName)) ∈ lw_all := lw_g (lw_at lw_m5 164 rfl) rfl
theorem q1329 : (Jvm.Cond.methodLink "HedgeMessagesLaw" (359 : Nat) ({ cls := "HedgeMessages", name := "formatHedge", desc := "()I" } : Jvm.MethodName)) ∈ lw_all := lw_g (lw_at lw_m5 225 rfl) rfl
theorem q1420 : (Jvm.Cond.methodLink "HedgeMessagesLaw" (363 : Nat) ({ cls := "HedgeMessages", name := "outputByte", desc := "(I)I" } : Jvm.MethodName)) ∈ lw_all := lw_g (lw_at lw_m6 76 rfl) rfl
theorem q1435 : (Jvm.Cond.methodLink "HedgeMessagesLaw" (142 : Nat) ({ cls := "HedgeMessagesLaw", name := "append", desc := "(LHedgeMessages;IIIII[J)I" } : Jvm.MethodName)) ∈ lw_all := lw_g (lw_at lw_m6 91 rfl) rfl
theorem q1436 : (Jvm.Cond.static ({ cls := "HedgeMessagesLaw", name := "append", desc := "(LHedgeMessages;IIIII[J)I" } : Jvm.MethodName)) ∈ lw_all := lw_g (lw_at lw_m6 92 rfl) rfl
theorem q1437 : (Jvm.Cond.codeWith ({ cls := "HedgeMessagesLaw", name := "append", desc := "(LHedgeMessages;IIIII[J)I" } : Jvm.MethodName) method_3_code (8 : Nat) (Option.some Jvm.ClassFile.FieldType.int) [((0 : Nat), (16 : Nat), (19 : Nat), (13 : Nat))]) ∈ lw_all := lw_g (lw_at lw_m6 93 rfl) rfl
theorem q1438 : (Jvm.Cond.classLink "HedgeMessagesLaw" (13 : Nat) "java/lang/IllegalStateException") ∈ lw_all := lw_g (lw_at lw_m6 94 rfl) rfl
theorem q1439 : (Jvm.Cond.methodLink "HedgeMessagesLaw" (7 : Nat) ({ cls := "HedgeMessages", name := "append", desc := "(IIIII)I" } : Jvm.MethodName)) ∈ lw_all := lw_g (lw_at lw_m6 95 rfl) rfl
theorem q1471 : (Jvm.Cond.methodLink "HedgeMessagesLaw" (151 : Nat) ({ cls := "HedgeMessagesLaw", name := "truncate", desc := "(LHedgeMessages;I[J)I" } : Jvm.MethodName)) ∈ lw_all := lw_g (lw_at lw_m6 127 rfl) rfl
theorem q1472 : (Jvm.Cond.static ({ cls := "HedgeMessagesLaw", name := "truncate", desc := "(LHedgeMessages;I[J)I" } : Jvm.MethodName)) ∈ lw_all := lw_g (lw_at lw_m6 128 rfl) rfl
theorem q1473 : (Jvm.Cond.codeWith ({ cls := "HedgeMessagesLaw", name := "truncate", desc := "(LHedgeMessages;I[J)I" } : Jvm.MethodName) method_4_code (4 : Nat) (Option.some Jvm.ClassFile.FieldType.int) [((0 : Nat), (9 : Nat), (12 : Nat), (19 : Nat))]) ∈ lw_all := lw_g (lw_at lw_m6 129 rfl) rfl
theorem q1474 : (Jvm.Cond.classLink "HedgeMessagesLaw" (19 : Nat) "java/lang/IllegalArgumentException") ∈ lw_all := lw_g (lw_at lw_m6 130 rfl) rfl
theorem q1475 : (Jvm.Cond.methodLink "HedgeMessagesLaw" (15 : Nat) ({ cls := "HedgeMessages", name := "truncate", desc := "(I)I" } : Jvm.MethodName)) ∈ lw_all := lw_g (lw_at lw_m6 131 rfl) rfl
theorem q1487 : (Jvm.Cond.methodLink "HedgeMessagesLaw" (155 : Nat) ({ cls := "HedgeMessagesLaw", name := "load", desc := "(LHedgeMessages;[J)I" } : Jvm.MethodName)) ∈ lw_all := lw_g (lw_at lw_m6 143 rfl) rfl
theorem q1488 : (Jvm.Cond.static ({ cls := "HedgeMessagesLaw", name := "load", desc := "(LHedgeMessages;[J)I" } : Jvm.MethodName)) ∈ lw_all := lw_g (lw_at lw_m6 144 rfl) rfl
theorem q1489 : (Jvm.Cond.codeWith ({ cls := "HedgeMessagesLaw", name := "load", desc := "(LHedgeMessages;[J)I" } : Jvm.MethodName) method_5_code (3 : Nat) (Option.some Jvm.ClassFile.FieldType.int) [((0 : Nat), (8 : Nat), (11 : Nat), (19 : Nat))]) ∈ lw_all := lw_g (lw_at lw_m6 145 rfl) rfl
theorem q1490 : (Jvm.Cond.methodLink "HedgeMessagesLaw" (21 : Nat) ({ cls := "HedgeMessages", name := "load", desc := "()I" } : Jvm.MethodName)) ∈ lw_all := lw_g (lw_at lw_m6 146 rfl) rfl
theorem q1721 : (Jvm.Cond.methodLink "HedgeMessagesLaw" (159 : Nat) ({ cls := "HedgeMessagesLaw", name := "executeCommands", desc := "(LHedgeMessages;[J)I" } : Jvm.MethodName)) ∈ lw_all := lw_g (lw_at lw_m7 137 rfl) rfl
theorem q1722 : (Jvm.Cond.static ({ cls := "HedgeMessagesLaw", name := "executeCommands", desc := "(LHedgeMessages;[J)I" } : Jvm.MethodName)) ∈ lw_all := lw_g (lw_at lw_m7 138 rfl) rfl
theorem q1723 : (Jvm.Cond.codeWith ({ cls := "HedgeMessagesLaw", name := "executeCommands", desc := "(LHedgeMessages;[J)I" } : Jvm.MethodName) method_6_code (3 : Nat) (Option.some Jvm.ClassFile.FieldType.int) [((0 : Nat), (8 : Nat), (11 : Nat), (19 : Nat))]) ∈ lw_all := lw_g (lw_at lw_m7 139 rfl) rfl
theorem q1724 : (Jvm.Cond.methodLink "HedgeMessagesLaw" (25 : Nat) ({ cls := "HedgeMessages", name := "executeCommands", desc := "()I" } : Jvm.MethodName)) ∈ lw_all := lw_g (lw_at lw_m7 140 rfl) rfl
theorem q2031 : (Jvm.Cond.methodLink "HedgeMessagesLaw" (194 : Nat) ({ cls := "HedgeMessagesLaw", name := "letterAt", desc := "(LHedgeMessages;I[J)I" } : Jvm.MethodName)) ∈ lw_all := lw_g (lw_at lw_m8 207 rfl) rfl
theorem q2032 : (Jvm.Cond.static ({ cls := "HedgeMessagesLaw", name := "letterAt", desc := "(LHedgeMessages;I[J)I" } : Jvm.MethodName)) ∈ lw_all := lw_g (lw_at lw_m8 208 rfl) rfl
theorem q2033 : (Jvm.Cond.codeWith ({ cls := "HedgeMessagesLaw", name := "letterAt", desc := "(LHedgeMessages;I[J)I" } : Jvm.MethodName) method_7_code (4 : Nat) (Option.some Jvm.ClassFile.FieldType.int) [((0 : Nat), (9 : Nat), (12 : Nat), (31 : Nat))]) ∈ lw_all := lw_g (lw_at lw_m8 209 rfl) rfl
theorem q2034 : (Jvm.Cond.classLink "HedgeMessagesLaw" (31 : Nat) "java/lang/IndexOutOfBoundsException") ∈ lw_all := lw_g (lw_at lw_m8 210 rfl) rfl
theorem q2035 : (Jvm.Cond.methodLink "HedgeMessagesLaw" (28 : Nat) ({ cls := "HedgeMessages", name := "letterAt", desc := "(I)I" } : Jvm.MethodName)) ∈ lw_all := lw_g (lw_at lw_m8 211 rfl) rfl
theorem q2043 : (Jvm.Cond.methodLink "HedgeMessagesLaw" (197 : Nat) ({ cls := "HedgeMessagesLaw", name := "ownerAt", desc := "(LHedgeMessages;I[J)I" } : Jvm.MethodName)) ∈ lw_all := lw_g (lw_at lw_m8 219 rfl) rfl
theorem q2044 : (Jvm.Cond.static ({ cls := "HedgeMessagesLaw", name := "ownerAt", desc := "(LHedgeMessages;I[J)I" } : Jvm.MethodName)) ∈ lw_all := lw_g (lw_at lw_m8 220 rfl) rfl
theorem q2045 : (Jvm.Cond.codeWith ({ cls := "HedgeMessagesLaw", name := "ownerAt", desc := "(LHedgeMessages;I[J)I" } : Jvm.MethodName) method_8_code (4 : Nat) (Option.some Jvm.ClassFile.FieldType.int) [((0 : Nat), (9 : Nat), (12 : Nat), (31 : Nat))]) ∈ lw_all := lw_g (lw_at lw_m8 221 rfl) rfl
theorem q2046 : (Jvm.Cond.methodLink "HedgeMessagesLaw" (33 : Nat) ({ cls := "HedgeMessages", name := "ownerAt", desc := "(I)I" } : Jvm.MethodName)) ∈ lw_all := lw_g (lw_at lw_m8 222 rfl) rfl
theorem q2050 : (Jvm.Cond.methodLink "HedgeMessagesLaw" (200 : Nat) ({ cls := "HedgeMessagesLaw", name := "lengthAt", desc := "(LHedgeMessages;I[J)I" } : Jvm.MethodName)) ∈ lw_all := lw_g (lw_at lw_m8 226 rfl) rfl
theorem q2051 : (Jvm.Cond.static ({ cls := "HedgeMessagesLaw", name := "lengthAt", desc := "(LHedgeMessages;I[J)I" } : Jvm.MethodName)) ∈ lw_all := lw_g (lw_at lw_m8 227 rfl) rfl
theorem q2052 : (Jvm.Cond.codeWith ({ cls := "HedgeMessagesLaw", name := "lengthAt", desc := "(LHedgeMessages;I[J)I" } : Jvm.MethodName) method_9_code (4 : Nat) (Option.some Jvm.ClassFile.FieldType.int) [((0 : Nat), (9 : Nat), (12 : Nat), (31 : Nat))]) ∈ lw_all := lw_g (lw_at lw_m8 228 rfl) rfl
theorem q2053 : (Jvm.Cond.methodLink "HedgeMessagesLaw" (36 : Nat) ({ cls := "HedgeMessages", name := "lengthAt", desc := "(I)I" } : Jvm.MethodName)) ∈ lw_all := lw_g (lw_at lw_m8 229 rfl) rfl
theorem q2057 : (Jvm.Cond.methodLink "HedgeMessagesLaw" (203 : Nat) ({ cls := "HedgeMessagesLaw", name := "isReserved", desc := "(LHedgeMessages;I[J)I" } : Jvm.MethodName)) ∈ lw_all := lw_g (lw_at lw_m8 233 rfl) rfl
theorem q2058 : (Jvm.Cond.static ({ cls := "HedgeMessagesLaw", name := "isReserved", desc := "(LHedgeMessages;I[J)I" } : Jvm.MethodName)) ∈ lw_all := lw_g (lw_at lw_m8 234 rfl) rfl
theorem q2059 : (Jvm.Cond.codeWith ({ cls := "HedgeMessagesLaw", name := "isReserved", desc := "(LHedgeMessages;I[J)I" } : Jvm.MethodName) method_10_code (4 : Nat) (Option.some Jvm.ClassFile.FieldType.int) [((0 : Nat), (16 : Nat), (19 : Nat), (31 : Nat))]) ∈ lw_all := lw_g (lw_at lw_m8 235 rfl) rfl
theorem q2060 : (Jvm.Cond.methodLink "HedgeMessagesLaw" (39 : Nat) ({ cls := "HedgeMessages", name := "isReserved", desc := "(I)Z" } : Jvm.MethodName)) ∈ lw_all := lw_g (lw_at lw_m8 236 rfl) rfl
theorem q2064 : (Jvm.Cond.methodLink "HedgeMessagesLaw" (206 : Nat) ({ cls := "HedgeMessagesLaw", name := "nestDays", desc := "(LHedgeMessages;I[J)I" } : Jvm.MethodName)) ∈ lw_all := lw_g (lw_at lw_m9 0 rfl) rfl
theorem q2065 : (Jvm.Cond.static ({ cls := "HedgeMessagesLaw", name := "nestDays", desc := "(LHedgeMessages;I[J)I" } : Jvm.MethodName)) ∈ lw_all := lw_g (lw_at lw_m9 1 rfl) rfl
theorem q2066 : (Jvm.Cond.codeWith ({ cls := "HedgeMessagesLaw", name := "nestDays", desc := "(LHedgeMessages;I[J)I" } : Jvm.MethodName) method_11_code (4 : Nat) (Option.some Jvm.ClassFile.FieldType.int) [((0 : Nat), (9 : Nat), (12 : Nat), (31 : Nat))]) ∈ lw_all := lw_g (lw_at lw_m9 2 rfl) rfl
theorem q2067 : (Jvm.Cond.methodLink "HedgeMessagesLaw" (43 : Nat) ({ cls := "HedgeMessages", name := "nestDays", desc := "(I)I" } : Jvm.MethodName)) ∈ lw_all := lw_g (lw_at lw_m9 3 rfl) rfl
theorem q2071 : (Jvm.Cond.methodLink "HedgeMessagesLaw" (209 : Nat) ({ cls := "HedgeMessagesLaw", name := "isProtected", desc := "(LHedgeMessages;I[J)I" } : Jvm.MethodName)) ∈ lw_all := lw_g (lw_at lw_m9 7 rfl) rfl
theorem q2072 : (Jvm.Cond.static ({ cls := "HedgeMessagesLaw", name := "isProtected", desc := "(LHedgeMessages;I[J)I" } : Jvm.MethodName)) ∈ lw_all := lw_g (lw_at lw_m9 8 rfl) rfl
theorem q2073 : (Jvm.Cond.codeWith ({ cls := "HedgeMessagesLaw", name := "isProtected", desc := "(LHedgeMessages;I[J)I" } : Jvm.MethodName) method_12_code (4 : Nat) (Option.some Jvm.ClassFile.FieldType.int) [((0 : Nat), (16 : Nat), (19 : Nat), (31 : Nat))]) ∈ lw_all := lw_g (lw_at lw_m9 9 rfl) rfl
theorem q2074 : (Jvm.Cond.methodLink "HedgeMessagesLaw" (46 : Nat) ({ cls := "HedgeMessages", name := "isProtected", desc := "(I)Z" } : Jvm.MethodName)) ∈ lw_all := lw_g (lw_at lw_m9 10 rfl) rfl
theorem q2078 : (Jvm.Cond.methodLink "HedgeMessagesLaw" (216 : Nat) ({ cls := "HedgeMessagesLaw", name := "pendingCount", desc := "(LHedgeMessages;I[J)I" } : Jvm.MethodName)) ∈ lw_all := lw_g (lw_at lw_m9 14 rfl) rfl
theorem q2079 : (Jvm.Cond.static ({ cls := "HedgeMessagesLaw", name := "pendingCount", desc := "(LHedgeMessages;I[J)I" } : Jvm.MethodName)) ∈ lw_all := lw_g (lw_at lw_m9 15 rfl) rfl
theorem q2080 : (Jvm.Cond.codeWith ({ cls := "HedgeMessagesLaw", name := "pendingCount", desc := "(LHedgeMessages;I[J)I" } : Jvm.MethodName) method_13_code (4 : Nat) (Option.some Jvm.ClassFile.FieldType.int) [((0 : Nat), (9 : Nat), (12 : Nat), (19 : Nat))]) ∈ lw_all := lw_g (lw_at lw_m9 16 rfl) rfl
theorem q2081 : (Jvm.Cond.methodLink "HedgeMessagesLaw" (49 : Nat) ({ cls := "HedgeMessages", name := "pendingCount", desc := "(I)I" } : Jvm.MethodName)) ∈ lw_all := lw_g (lw_at lw_m9 17 rfl) rfl
theorem q2092 : (Jvm.Cond.methodLink "HedgeMessagesLaw" (219 : Nat) ({ cls := "HedgeMessagesLaw", name := "pendingLetter", desc := "(LHedgeMessages;III[J)I" } : Jvm.MethodName)) ∈ lw_all := lw_g (lw_at lw_m9 28 rfl) rfl
theorem q2093 : (Jvm.Cond.static ({ cls := "HedgeMessagesLaw", name := "pendingLetter", desc := "(LHedgeMessages;III[J)I" } : Jvm.MethodName)) ∈ lw_all := lw_g (lw_at lw_m9 29 rfl) rfl
theorem q2094 : (Jvm.Cond.codeWith ({ cls := "HedgeMessagesLaw", name := "pendingLetter", desc := "(LHedgeMessages;III[J)I" } : Jvm.MethodName) method_14_code (6 : Nat) (Option.some Jvm.ClassFile.FieldType.int) [((0 : Nat), (12 : Nat), (15 : Nat), (19 : Nat))]) ∈ lw_all := lw_g (lw_at lw_m9 30 rfl) rfl
theorem q2095 : (Jvm.Cond.methodLink "HedgeMessagesLaw" (52 : Nat) ({ cls := "HedgeMessages", name := "pendingLetter", desc := "(III)I" } : Jvm.MethodName)) ∈ lw_all := lw_g (lw_at lw_m9 31 rfl) rfl
theorem q2100 : (Jvm.Cond.methodLink "HedgeMessagesLaw" (223 : Nat) ({ cls := "HedgeMessagesLaw", name := "lettersWritten", desc := "(LHedgeMessages;I[J)I" } : Jvm.MethodName)) ∈ lw_all := lw_g (lw_at lw_m9 36 rfl) rfl
theorem q2101 : (Jvm.Cond.static ({ cls := "HedgeMessagesLaw", name := "lettersWritten", desc := "(LHedgeMessages;I[J)I" } : Jvm.MethodName)) ∈ lw_all := lw_g (lw_at lw_m9 37 rfl) rfl
theorem q2102 : (Jvm.Cond.codeWith ({ cls := "HedgeMessagesLaw", name := "lettersWritten", desc := "(LHedgeMessages;I[J)I" } : Jvm.MethodName) method_15_code (4 : Nat) (Option.some Jvm.ClassFile.FieldType.int) [((0 : Nat), (9 : Nat), (12 : Nat), (19 : Nat))]) ∈ lw_all := lw_g (lw_at lw_m9 38 rfl) rfl
theorem q2103 : (Jvm.Cond.methodLink "HedgeMessagesLaw" (56 : Nat) ({ cls := "HedgeMessages", name := "lettersWritten", desc := "(I)I" } : Jvm.MethodName)) ∈ lw_all := lw_g (lw_at lw_m9 39 rfl) rfl
theorem q2111 : (Jvm.Cond.methodLink "HedgeMessagesLaw" (226 : Nat) ({ cls := "HedgeMessagesLaw", name := "startSlot", desc := "(LHedgeMessages;I[J)I" } : Jvm.MethodName)) ∈ lw_all := lw_g (lw_at lw_m9 47 rfl) rfl
theorem q2112 : (Jvm.Cond.static ({ cls := "HedgeMessagesLaw", name := "startSlot", desc := "(LHedgeMessages;I[J)I" } : Jvm.MethodName)) ∈ lw_all := lw_g (lw_at lw_m9 48 rfl) rfl
theorem q2113 : (Jvm.Cond.codeWith ({ cls := "HedgeMessagesLaw", name := "startSlot", desc := "(LHedgeMessages;I[J)I" } : Jvm.MethodName) method_16_code (4 : Nat) (Option.some Jvm.ClassFile.FieldType.int) [((0 : Nat), (9 : Nat), (12 : Nat), (19 : Nat))]) ∈ lw_all := lw_g (lw_at lw_m9 49 rfl) rfl
theorem q2114 : (Jvm.Cond.methodLink "HedgeMessagesLaw" (59 : Nat) ({ cls := "HedgeMessages", name := "startSlot", desc := "(I)I" } : Jvm.MethodName)) ∈ lw_all := lw_g (lw_at lw_m9 50 rfl) rfl
theorem q2118 : (Jvm.Cond.methodLink "HedgeMessagesLaw" (229 : Nat) ({ cls := "HedgeMessagesLaw", name := "postedCount", desc := "(LHedgeMessages;I[J)I" } : Jvm.MethodName)) ∈ lw_all := lw_g (lw_at lw_m9 54 rfl) rfl
theorem q2119 : (Jvm.Cond.static ({ cls := "HedgeMessagesLaw", name := "postedCount", desc := "(LHedgeMessages;I[J)I" } : Jvm.MethodName)) ∈ lw_all := lw_g (lw_at lw_m9 55 rfl) rfl
theorem q2120 : (Jvm.Cond.codeWith ({ cls := "HedgeMessagesLaw", name := "postedCount", desc := "(LHedgeMessages;I[J)I" } : Jvm.MethodName) method_17_code (4 : Nat) (Option.some Jvm.ClassFile.FieldType.int) [((0 : Nat), (9 : Nat), (12 : Nat), (19 : Nat))]) ∈ lw_all := lw_g (lw_at lw_m9 56 rfl) rfl
theorem q2121 : (Jvm.Cond.methodLink "HedgeMessagesLaw" (62 : Nat) ({ cls := "HedgeMessages", name := "postedCount", desc := "(I)I" } : Jvm.MethodName)) ∈ lw_all := lw_g (lw_at lw_m9 57 rfl) rfl
theorem q2125 : (Jvm.Cond.methodLink "HedgeMessagesLaw" (232 : Nat) ({ cls := "HedgeMessagesLaw", name := "nextStartSlot", desc := "(LHedgeMessages;I[J)I" } : Jvm.MethodName)) ∈ lw_all := lw_g (lw_at lw_m9 61 rfl) rfl
theorem q2126 : (Jvm.Cond.static ({ cls := "HedgeMessagesLaw", name := "nextStartSlot", desc := "(LHedgeMessages;I[J)I" } : Jvm.MethodName)) ∈ lw_all := lw_g (lw_at lw_m9 62 rfl) rfl
theorem q2127 : (Jvm.Cond.codeWith ({ cls := "HedgeMessagesLaw", name := "nextStartSlot", desc := "(LHedgeMessages;I[J)I" } : Jvm.MethodName) method_18_code (4 : Nat) (Option.some Jvm.ClassFile.FieldType.int) [((0 : Nat), (9 : Nat), (12 : Nat), (19 : Nat))]) ∈ lw_all := lw_g (lw_at lw_m9 63 rfl) rfl
theorem q2128 : (Jvm.Cond.methodLink "HedgeMessagesLaw" (65 : Nat) ({ cls := "HedgeMessages", name := "nextStartSlot", desc := "(I)I" } : Jvm.MethodName)) ∈ lw_all := lw_g (lw_at lw_m9 64 rfl) rfl
theorem q2135 : (Jvm.Cond.methodLink "HedgeMessagesLaw" (243 : Nat) ({ cls := "HedgeMessagesLaw", name := "plantReason", desc := "(LHedgeMessages;I[J)I" } : Jvm.MethodName)) ∈ lw_all := lw_g (lw_at lw_m9 71 rfl) rfl
theorem q2136 : (Jvm.Cond.static ({ cls := "HedgeMessagesLaw", name := "plantReason", desc := "(LHedgeMessages;I[J)I" } : Jvm.MethodName)) ∈ lw_all := lw_g (lw_at lw_m9 72 rfl) rfl
theorem q2137 : (Jvm.Cond.codeWith ({ cls := "HedgeMessagesLaw", name := "plantReason", desc := "(LHedgeMessages;I[J)I" } : Jvm.MethodName) method_19_code (4 : Nat) (Option.some Jvm.ClassFile.FieldType.int) [((0 : Nat), (9 : Nat), (12 : Nat), (31 : Nat))]) ∈ lw_all := lw_g (lw_at lw_m9 73 rfl) rfl
theorem q2138 : (Jvm.Cond.methodLink "HedgeMessagesLaw" (68 : Nat) ({ cls := "HedgeMessages", name := "plantReason", desc := "(I)I" } : Jvm.MethodName)) ∈ lw_all := lw_g (lw_at lw_m9 74 rfl) rfl
theorem q2142 : (Jvm.Cond.methodLink "HedgeMessagesLaw" (246 : Nat) ({ cls := "HedgeMessagesLaw", name := "removeReason", desc := "(LHedgeMessages;I[J)I" } : Jvm.MethodName)) ∈ lw_all := lw_g (lw_at lw_m9 78 rfl) rfl
theorem q2143 : (Jvm.Cond.static ({ cls := "HedgeMessagesLaw", name := "removeReason", desc := "(LHedgeMessages;I[J)I" } : Jvm.MethodName)) ∈ lw_all := lw_g (lw_at lw_m9 79 rfl) rfl
theorem q2144 : (Jvm.Cond.codeWith ({ cls := "HedgeMessagesLaw", name := "removeReason", desc := "(LHedgeMessages;I[J)I" } : Jvm.MethodName) method_20_code (4 : Nat) (Option.some Jvm.ClassFile.FieldType.int) [((0 : Nat), (9 : Nat), (12 : Nat), (31 : Nat))]) ∈ lw_all := lw_g (lw_at lw_m9 80 rfl) rfl
theorem q2145 : (Jvm.Cond.methodLink "HedgeMessagesLaw" (71 : Nat) ({ cls := "HedgeMessages", name := "removeReason", desc := "(I)I" } : Jvm.MethodName)) ∈ lw_all := lw_g (lw_at lw_m9 81 rfl) rfl
theorem q2149 : (Jvm.Cond.methodLink "HedgeMessagesLaw" (249 : Nat) ({ cls := "HedgeMessagesLaw", name := "trimReason", desc := "(LHedgeMessages;I[J)I" } : Jvm.MethodName)) ∈ lw_all := lw_g (lw_at lw_m9 85 rfl) rfl
theorem q2150 : (Jvm.Cond.static ({ cls := "HedgeMessagesLaw", name := "trimReason", desc := "(LHedgeMessages;I[J)I" } : Jvm.MethodName)) ∈ lw_all := lw_g (lw_at lw_m9 86 rfl) rfl
theorem q2151 : (Jvm.Cond.codeWith ({ cls := "HedgeMessagesLaw", name := "trimReason", desc := "(LHedgeMessages;I[J)I" } : Jvm.MethodName) method_21_code (4 : Nat) (Option.some Jvm.ClassFile.FieldType.int) [((0 : Nat), (9 : Nat), (12 : Nat), (31 : Nat))]) ∈ lw_all := lw_g (lw_at lw_m9 87 rfl) rfl
theorem q2152 : (Jvm.Cond.methodLink "HedgeMessagesLaw" (74 : Nat) ({ cls := "HedgeMessages", name := "trimReason", desc := "(I)I" } : Jvm.MethodName)) ∈ lw_all := lw_g (lw_at lw_m9 88 rfl) rfl
theorem q2156 : (Jvm.Cond.methodLink "HedgeMessagesLaw" (252 : Nat) ({ cls := "HedgeMessagesLaw", name := "writeReason", desc := "(LHedgeMessages;I[J)I" } : Jvm.MethodName)) ∈ lw_all := lw_g (lw_at lw_m9 92 rfl) rfl
theorem q2157 : (Jvm.Cond.static ({ cls := "HedgeMessagesLaw", name := "writeReason", desc := "(LHedgeMessages;I[J)I" } : Jvm.MethodName)) ∈ lw_all := lw_g (lw_at lw_m9 93 rfl) rfl
theorem q2158 : (Jvm.Cond.codeWith ({ cls := "HedgeMessagesLaw", name := "writeReason", desc := "(LHedgeMessages;I[J)I" } : Jvm.MethodName) method_22_code (4 : Nat) (Option.some Jvm.ClassFile.FieldType.int) [((0 : Nat), (9 : Nat), (12 : Nat), (19 : Nat))]) ∈ lw_all := lw_g (lw_at lw_m9 94 rfl) rfl
theorem q2159 : (Jvm.Cond.methodLink "HedgeMessagesLaw" (77 : Nat) ({ cls := "HedgeMessages", name := "writeReason", desc := "(I)I" } : Jvm.MethodName)) ∈ lw_all := lw_g (lw_at lw_m9 95 rfl) rfl
theorem q2164 : (Jvm.Cond.methodLink "HedgeMessagesLaw" (255 : Nat) ({ cls := "HedgeMessagesLaw", name := "keepReason", desc := "(LHedgeMessages;I[J)I" } : Jvm.MethodName)) ∈ lw_all := lw_g (lw_at lw_m9 100 rfl) rfl
theorem q2165 : (Jvm.Cond.static ({ cls := "HedgeMessagesLaw", name := "keepReason", desc := "(LHedgeMessages;I[J)I" } : Jvm.MethodName)) ∈ lw_all := lw_g (lw_at lw_m9 101 rfl) rfl
theorem q2166 : (Jvm.Cond.codeWith ({ cls := "HedgeMessagesLaw", name := "keepReason", desc := "(LHedgeMessages;I[J)I" } : Jvm.MethodName) method_23_code (4 : Nat) (Option.some Jvm.ClassFile.FieldType.int) [((0 : Nat), (9 : Nat), (12 : Nat), (31 : Nat))]) ∈ lw_all := lw_g (lw_at lw_m9 102 rfl) rfl
theorem q2167 : (Jvm.Cond.methodLink "HedgeMessagesLaw" (80 : Nat) ({ cls := "HedgeMessages", name := "keepReason", desc := "(I)I" } : Jvm.MethodName)) ∈ lw_all := lw_g (lw_at lw_m9 103 rfl) rfl
theorem q2171 : (Jvm.Cond.methodLink "HedgeMessagesLaw" (262 : Nat) ({ cls := "HedgeMessagesLaw", name := "daysUntilPruned", desc := "(LHedgeMessages;I[J)I" } : Jvm.MethodName)) ∈ lw_all := lw_g (lw_at lw_m9 107 rfl) rfl
theorem q2172 : (Jvm.Cond.static ({ cls := "HedgeMessagesLaw", name := "daysUntilPruned", desc := "(LHedgeMessages;I[J)I" } : Jvm.MethodName)) ∈ lw_all := lw_g (lw_at lw_m9 108 rfl) rfl
theorem q2173 : (Jvm.Cond.codeWith ({ cls := "HedgeMessagesLaw", name := "daysUntilPruned", desc := "(LHedgeMessages;I[J)I" } : Jvm.MethodName) method_24_code (4 : Nat) (Option.some Jvm.ClassFile.FieldType.int) [((0 : Nat), (9 : Nat), (12 : Nat), (31 : Nat))]) ∈ lw_all := lw_g (lw_at lw_m9 109 rfl) rfl
theorem q2174 : (Jvm.Cond.methodLink "HedgeMessagesLaw" (83 : Nat) ({ cls := "HedgeMessages", name := "daysUntilPruned", desc := "(I)I" } : Jvm.MethodName)) ∈ lw_all := lw_g (lw_at lw_m9 110 rfl) rfl
theorem q2179 : (Jvm.Cond.methodLink "HedgeMessagesLaw" (265 : Nat) ({ cls := "HedgeMessagesLaw", name := "deliveredAfter", desc := "(LHedgeMessages;II[J)I" } : Jvm.MethodName)) ∈ lw_all := lw_g (lw_at lw_m9 115 rfl) rfl
theorem q2180 : (Jvm.Cond.static ({ cls := "HedgeMessagesLaw", name := "deliveredAfter", desc := "(LHedgeMessages;II[J)I" } : Jvm.MethodName)) ∈ lw_all := lw_g (lw_at lw_m9 116 rfl) rfl
theorem q2181 : (Jvm.Cond.codeWith ({ cls := "HedgeMessagesLaw", name := "deliveredAfter", desc := "(LHedgeMessages;II[J)I" } : Jvm.MethodName) method_25_code (5 : Nat) (Option.some Jvm.ClassFile.FieldType.int) [((0 : Nat), (10 : Nat), (13 : Nat), (19 : Nat))]) ∈ lw_all := lw_g (lw_at lw_m9 117 rfl) rfl
theorem q2182 : (Jvm.Cond.methodLink "HedgeMessagesLaw" (86 : Nat) ({ cls := "HedgeMessages", name := "deliveredAfter", desc := "(II)I" } : Jvm.MethodName)) ∈ lw_all := lw_g (lw_at lw_m9 118 rfl) rfl
theorem q2191 : (Jvm.Cond.methodLink "HedgeMessagesLaw" (269 : Nat) ({ cls := "HedgeMessagesLaw", name := "pendingAfter", desc := "(LHedgeMessages;II[J)I" } : Jvm.MethodName)) ∈ lw_all := lw_g (lw_at lw_m9 127 rfl) rfl
theorem q2192 : (Jvm.Cond.static ({ cls := "HedgeMessagesLaw", name := "pendingAfter", desc := "(LHedgeMessages;II[J)I" } : Jvm.MethodName)) ∈ lw_all := lw_g (lw_at lw_m9 128 rfl) rfl
theorem q2193 : (Jvm.Cond.codeWith ({ cls := "HedgeMessagesLaw", name := "pendingAfter", desc := "(LHedgeMessages;II[J)I" } : Jvm.MethodName) method_26_code (5 : Nat) (Option.some Jvm.ClassFile.FieldType.int) [((0 : Nat), (10 : Nat), (13 : Nat), (19 : Nat))]) ∈ lw_all := lw_g (lw_at lw_m9 129 rfl) rfl
theorem q2194 : (Jvm.Cond.methodLink "HedgeMessagesLaw" (90 : Nat) ({ cls := "HedgeMessages", name := "pendingAfter", desc := "(II)I" } : Jvm.MethodName)) ∈ lw_all := lw_g (lw_at lw_m9 130 rfl) rfl
theorem q2198 : (Jvm.Cond.methodLink "HedgeMessagesLaw" (276 : Nat) ({ cls := "HedgeMessagesLaw", name := "leastWorkLimit", desc := "(LHedgeMessages;II[J)I" } : Jvm.MethodName)) ∈ lw_all := lw_g (lw_at lw_m9 134 rfl) rfl
theorem q2199 : (Jvm.Cond.static ({ cls := "HedgeMessagesLaw", name := "leastWorkLimit", desc := "(LHedgeMessages;II[J)I" } : Jvm.MethodName)) ∈ lw_all := lw_g (lw_at lw_m9 135 rfl) rfl
theorem q2200 : (Jvm.Cond.codeWith ({ cls := "HedgeMessagesLaw", name := "leastWorkLimit", desc := "(LHedgeMessages;II[J)I" } : Jvm.MethodName) method_27_code (5 : Nat) (Option.some Jvm.ClassFile.FieldType.int) [((0 : Nat), (10 : Nat), (13 : Nat), (19 : Nat))]) ∈ lw_all := lw_g (lw_at lw_m9 136 rfl) rfl
theorem q2201 : (Jvm.Cond.methodLink "HedgeMessagesLaw" (93 : Nat) ({ cls := "HedgeMessages", name := "leastWorkLimit", desc := "(II)I" } : Jvm.MethodName)) ∈ lw_all := lw_g (lw_at lw_m9 137 rfl) rfl
theorem q2208 : (Jvm.Cond.methodLink "HedgeMessagesLaw" (279 : Nat) ({ cls := "HedgeMessagesLaw", name := "messagesQueued", desc := "(LHedgeMessages;I[J)I" } : Jvm.MethodName)) ∈ lw_all := lw_g (lw_at lw_m9 144 rfl) rfl
theorem q2209 : (Jvm.Cond.static ({ cls := "HedgeMessagesLaw", name := "messagesQueued", desc := "(LHedgeMessages;I[J)I" } : Jvm.MethodName)) ∈ lw_all := lw_g (lw_at lw_m9 145 rfl) rfl
theorem q2210 : (Jvm.Cond.codeWith ({ cls := "HedgeMessagesLaw", name := "messagesQueued", desc := "(LHedgeMessages;I[J)I" } : Jvm.MethodName) method_28_code (4 : Nat) (Option.some Jvm.ClassFile.FieldType.int) [((0 : Nat), (9 : Nat), (12 : Nat), (19 : Nat))]) ∈ lw_all := lw_g (lw_at lw_m9 146 rfl) rfl
theorem q2211 : (Jvm.Cond.methodLink "HedgeMessagesLaw" (96 : Nat) ({ cls := "HedgeMessages", name := "messagesQueued", desc := "(I)I" } : Jvm.MethodName)) ∈ lw_all := lw_g (lw_at lw_m9 147 rfl) rfl
theorem q2219 : (Jvm.Cond.methodLink "HedgeMessagesLaw" (282 : Nat) ({ cls := "HedgeMessagesLaw", name := "messagesDelivered", desc := "(LHedgeMessages;I[J)I" } : Jvm.MethodName)) ∈ lw_all := lw_g (lw_at lw_m9 155 rfl) rfl
theorem q2220 : (Jvm.Cond.static ({ cls := "HedgeMessagesLaw", name := "messagesDelivered", desc := "(LHedgeMessages;I[J)I" } : Jvm.MethodName)) ∈ lw_all := lw_g (lw_at lw_m9 156 rfl) rfl
theorem q2221 : (Jvm.Cond.codeWith ({ cls := "HedgeMessagesLaw", name := "messagesDelivered", desc := "(LHedgeMessages;I[J)I" } : Jvm.MethodName) method_29_code (4 : Nat) (Option.some Jvm.ClassFile.FieldType.int) [((0 : Nat), (9 : Nat), (12 : Nat), (19 : Nat))]) ∈ lw_all := lw_g (lw_at lw_m9 157 rfl) rfl
theorem q2222 : (Jvm.Cond.methodLink "HedgeMessagesLaw" (99 : Nat) ({ cls := "HedgeMessages", name := "messagesDelivered", desc := "(I)I" } : Jvm.MethodName)) ∈ lw_all := lw_g (lw_at lw_m9 158 rfl) rfl
theorem q2226 : (Jvm.Cond.methodLink "HedgeMessagesLaw" (285 : Nat) ({ cls := "HedgeMessagesLaw", name := "messagesFailed", desc := "(LHedgeMessages;I[J)I" } : Jvm.MethodName)) ∈ lw_all := lw_g (lw_at lw_m9 162 rfl) rfl
theorem q2227 : (Jvm.Cond.static ({ cls := "HedgeMessagesLaw", name := "messagesFailed", desc := "(LHedgeMessages;I[J)I" } : Jvm.MethodName)) ∈ lw_all := lw_g (lw_at lw_m9 163 rfl) rfl
theorem q2228 : (Jvm.Cond.codeWith ({ cls := "HedgeMessagesLaw", name := "messagesFailed", desc := "(LHedgeMessages;I[J)I" } : Jvm.MethodName) method_30_code (4 : Nat) (Option.some Jvm.ClassFile.FieldType.int) [((0 : Nat), (9 : Nat), (12 : Nat), (19 : Nat))]) ∈ lw_all := lw_g (lw_at lw_m9 164 rfl) rfl
theorem q2229 : (Jvm.Cond.methodLink "HedgeMessagesLaw" (102 : Nat) ({ cls := "HedgeMessages", name := "messagesFailed", desc := "(I)I" } : Jvm.MethodName)) ∈ lw_all := lw_g (lw_at lw_m9 165 rfl) rfl
theorem q2237 : (Jvm.Cond.methodLink "HedgeMessagesLaw" (288 : Nat) ({ cls := "HedgeMessagesLaw", name := "messagesDropped", desc := "(LHedgeMessages;I[J)I" } : Jvm.MethodName)) ∈ lw_all := lw_g (lw_at lw_m9 173 rfl) rfl
theorem q2238 : (Jvm.Cond.static ({ cls := "HedgeMessagesLaw", name := "messagesDropped", desc := "(LHedgeMessages;I[J)I" } : Jvm.MethodName)) ∈ lw_all := lw_g (lw_at lw_m9 174 rfl) rfl
theorem q2239 : (Jvm.Cond.codeWith ({ cls := "HedgeMessagesLaw", name := "messagesDropped", desc := "(LHedgeMessages;I[J)I" } : Jvm.MethodName) method_31_code (4 : Nat) (Option.some Jvm.ClassFile.FieldType.int) [((0 : Nat), (9 : Nat), (12 : Nat), (19 : Nat))]) ∈ lw_all := lw_g (lw_at lw_m9 175 rfl) rfl
theorem q2240 : (Jvm.Cond.methodLink "HedgeMessagesLaw" (105 : Nat) ({ cls := "HedgeMessages", name := "messagesDropped", desc := "(I)I" } : Jvm.MethodName)) ∈ lw_all := lw_g (lw_at lw_m9 176 rfl) rfl
theorem q2244 : (Jvm.Cond.methodLink "HedgeMessagesLaw" (325 : Nat) ({ cls := "HedgeMessagesLaw", name := "plant", desc := "(LHedgeMessages;II[J)I" } : Jvm.MethodName)) ∈ lw_all := lw_g (lw_at lw_m9 180 rfl) rfl
theorem q2245 : (Jvm.Cond.static ({ cls := "HedgeMessagesLaw", name := "plant", desc := "(LHedgeMessages;II[J)I" } : Jvm.MethodName)) ∈ lw_all := lw_g (lw_at lw_m9 181 rfl) rfl
theorem q2246 : (Jvm.Cond.codeWith ({ cls := "HedgeMessagesLaw", name := "plant", desc := "(LHedgeMessages;II[J)I" } : Jvm.MethodName) method_32_code (5 : Nat) (Option.some Jvm.ClassFile.FieldType.int) [((0 : Nat), (10 : Nat), (13 : Nat), (31 : Nat)), ((0 : Nat), (10 : Nat), (17 : Nat), (19 : Nat)), ((0 : Nat), (10 : Nat), (21 : Nat), (13 : Nat))]) ∈ lw_all := lw_g (lw_at lw_m9 182 rfl) rfl
theorem q2247 : (Jvm.Cond.methodLink "HedgeMessagesLaw" (108 : Nat) ({ cls := "HedgeMessages", name := "plant", desc := "(II)I" } : Jvm.MethodName)) ∈ lw_all := lw_g (lw_at lw_m9 183 rfl) rfl
theorem q2260 : (Jvm.Cond.methodLink "HedgeMessagesLaw" (328 : Nat) ({ cls := "HedgeMessagesLaw", name := "remove", desc := "(LHedgeMessages;I[J)I" } : Jvm.MethodName)) ∈ lw_all := lw_g (lw_at lw_m9 196 rfl) rfl
theorem q2261 : (Jvm.Cond.static ({ cls := "HedgeMessagesLaw", name := "remove", desc := "(LHedgeMessages;I[J)I" } : Jvm.MethodName)) ∈ lw_all := lw_g (lw_at lw_m9 197 rfl) rfl
theorem q2262 : (Jvm.Cond.codeWith ({ cls := "HedgeMessagesLaw", name := "remove", desc := "(LHedgeMessages;I[J)I" } : Jvm.MethodName) method_33_code (4 : Nat) (Option.some Jvm.ClassFile.FieldType.int) [((0 : Nat), (9 : Nat), (12 : Nat), (31 : Nat)), ((0 : Nat), (9 : Nat), (15 : Nat), (13 : Nat))]) ∈ lw_all := lw_g (lw_at lw_m9 198 rfl) rfl
theorem q2263 : (Jvm.Cond.methodLink "HedgeMessagesLaw" (111 : Nat) ({ cls := "HedgeMessages", name := "remove", desc := "(I)I" } : Jvm.MethodName)) ∈ lw_all := lw_g (lw_at lw_m9 199 rfl) rfl
theorem q2270 : (Jvm.Cond.methodLink "HedgeMessagesLaw" (331 : Nat) ({ cls := "HedgeMessagesLaw", name := "trim", desc := "(LHedgeMessages;II[J)I" } : Jvm.MethodName)) ∈ lw_all := lw_g (lw_at lw_m9 206 rfl) rfl
theorem q2271 : (Jvm.Cond.static ({ cls := "HedgeMessagesLaw", name := "trim", desc := "(LHedgeMessages;II[J)I" } : Jvm.MethodName)) ∈ lw_all := lw_g (lw_at lw_m9 207 rfl) rfl
theorem q2272 : (Jvm.Cond.codeWith ({ cls := "HedgeMessagesLaw", name := "trim", desc := "(LHedgeMessages;II[J)I" } : Jvm.MethodName) method_34_code (5 : Nat) (Option.some Jvm.ClassFile.FieldType.int) [((0 : Nat), (10 : Nat), (13 : Nat), (31 : Nat)), ((0 : Nat), (10 : Nat), (17 : Nat), (19 : Nat)), ((0 : Nat), (10 : Nat), (21 : Nat), (13 : Nat))]) ∈ lw_all := lw_g (lw_at lw_m9 208 rfl) rfl
theorem q2273 : (Jvm.Cond.methodLink "HedgeMessagesLaw" (114 : Nat) ({ cls := "HedgeMessages", name := "trim", desc := "(II)I" } : Jvm.MethodName)) ∈ lw_all := lw_g (lw_at lw_m9 209 rfl) rfl
theorem q2281 : (Jvm.Cond.methodLink "HedgeMessagesLaw" (334 : Nat) ({ cls := "HedgeMessagesLaw", name := "addNest", desc := "(LHedgeMessages;II[J)I" } : Jvm.MethodName)) ∈ lw_all := lw_g (lw_at lw_m9 217 rfl) rfl
theorem q2282 : (Jvm.Cond.static ({ cls := "HedgeMessagesLaw", name := "addNest", desc := "(LHedgeMessages;II[J)I" } : Jvm.MethodName)) ∈ lw_all := lw_g (lw_at lw_m9 218 rfl) rfl
theorem q2283 : (Jvm.Cond.codeWith ({ cls := "HedgeMessagesLaw", name := "addNest", desc := "(LHedgeMessages;II[J)I" } : Jvm.MethodName) method_35_code (5 : Nat) (Option.some Jvm.ClassFile.FieldType.int) [((0 : Nat), (10 : Nat), (13 : Nat), (31 : Nat)), ((0 : Nat), (10 : Nat), (17 : Nat), (19 : Nat)), ((0 : Nat), (10 : Nat), (21 : Nat), (13 : Nat))]) ∈ lw_all := lw_g (lw_at lw_m9 219 rfl) rfl
theorem q2284 : (Jvm.Cond.methodLink "HedgeMessagesLaw" (117 : Nat) ({ cls := "HedgeMessages", name := "addNest", desc := "(II)I" } : Jvm.MethodName)) ∈ lw_all := lw_g (lw_at lw_m9 220 rfl) rfl
theorem q2292 : (Jvm.Cond.methodLink "HedgeMessagesLaw" (337 : Nat) ({ cls := "HedgeMessagesLaw", name := "queueMessage", desc := "(LHedgeMessages;I[J)I" } : Jvm.MethodName)) ∈ lw_all := lw_g (lw_at lw_m9 228 rfl) rfl
theorem q2293 : (Jvm.Cond.static ({ cls := "HedgeMessagesLaw", name := "queueMessage", desc := "(LHedgeMessages;I[J)I" } : Jvm.MethodName)) ∈ lw_all := lw_g (lw_at lw_m9 229 rfl) rfl
theorem q2294 : (Jvm.Cond.codeWith ({ cls := "HedgeMessagesLaw", name := "queueMessage", desc := "(LHedgeMessages;I[J)I" } : Jvm.MethodName) method_36_code (4 : Nat) (Option.some Jvm.ClassFile.FieldType.int) [((0 : Nat), (9 : Nat), (12 : Nat), (19 : Nat)), ((0 : Nat), (9 : Nat), (15 : Nat), (13 : Nat))]) ∈ lw_all := lw_g (lw_at lw_m9 230 rfl) rfl
theorem q2295 : (Jvm.Cond.methodLink "HedgeMessagesLaw" (120 : Nat) ({ cls := "HedgeMessages", name := "queueMessage", desc := "(I)I" } : Jvm.MethodName)) ∈ lw_all := lw_g (lw_at lw_m9 231 rfl) rfl
theorem q2308 : (Jvm.Cond.methodLink "HedgeMessagesLaw" (340 : Nat) ({ cls := "HedgeMessagesLaw", name := "cancelMessage", desc := "(LHedgeMessages;II[J)I" } : Jvm.MethodName)) ∈ lw_all := lw_g (lw_at lw_m10 4 rfl) rfl
theorem q2309 : (Jvm.Cond.static ({ cls := "HedgeMessagesLaw", name := "cancelMessage", desc := "(LHedgeMessages;II[J)I" } : Jvm.MethodName)) ∈ lw_all := lw_g (lw_at lw_m10 5 rfl) rfl
theorem q2310 : (Jvm.Cond.codeWith ({ cls := "HedgeMessagesLaw", name := "cancelMessage", desc := "(LHedgeMessages;II[J)I" } : Jvm.MethodName) method_37_code (5 : Nat) (Option.some Jvm.ClassFile.FieldType.int) [((0 : Nat), (10 : Nat), (13 : Nat), (19 : Nat)), ((0 : Nat), (10 : Nat), (17 : Nat), (31 : Nat))]) ∈ lw_all := lw_g (lw_at lw_m10 6 rfl) rfl
theorem q2311 : (Jvm.Cond.methodLink "HedgeMessagesLaw" (123 : Nat) ({ cls := "HedgeMessages", name := "cancelMessage", desc := "(II)I" } : Jvm.MethodName)) ∈ lw_all := lw_g (lw_at lw_m10 7 rfl) rfl
theorem q2318 : (Jvm.Cond.methodLink "HedgeMessagesLaw" (343 : Nat) ({ cls := "HedgeMessagesLaw", name := "setWorkLimit", desc := "(LHedgeMessages;I[J)I" } : Jvm.MethodName)) ∈ lw_all := lw_g (lw_at lw_m10 14 rfl) rfl
theorem q2319 : (Jvm.Cond.static ({ cls := "HedgeMessagesLaw", name := "setWorkLimit", desc := "(LHedgeMessages;I[J)I" } : Jvm.MethodName)) ∈ lw_all := lw_g (lw_at lw_m10 15 rfl) rfl
theorem q2320 : (Jvm.Cond.codeWith ({ cls := "HedgeMessagesLaw", name := "setWorkLimit", desc := "(LHedgeMessages;I[J)I" } : Jvm.MethodName) method_38_code (4 : Nat) (Option.some Jvm.ClassFile.FieldType.int) [((0 : Nat), (9 : Nat), (12 : Nat), (19 : Nat))]) ∈ lw_all := lw_g (lw_at lw_m10 16 rfl) rfl
theorem q2321 : (Jvm.Cond.methodLink "HedgeMessagesLaw" (126 : Nat) ({ cls := "HedgeMessages", name := "setWorkLimit", desc := "(I)I" } : Jvm.MethodName)) ∈ lw_all := lw_g (lw_at lw_m10 17 rfl) rfl
theorem q2329 : (Jvm.Cond.methodLink "HedgeMessagesLaw" (346 : Nat) ({ cls := "HedgeMessagesLaw", name := "endDays", desc := "(LHedgeMessages;I[J)I" } : Jvm.MethodName)) ∈ lw_all := lw_g (lw_at lw_m10 25 rfl) rfl
theorem q2330 : (Jvm.Cond.static ({ cls := "HedgeMessagesLaw", name := "endDays", desc := "(LHedgeMessages;I[J)I" } : Jvm.MethodName)) ∈ lw_all := lw_g (lw_at lw_m10 26 rfl) rfl
theorem q2331 : (Jvm.Cond.codeWith ({ cls := "HedgeMessagesLaw", name := "endDays", desc := "(LHedgeMessages;I[J)I" } : Jvm.MethodName) method_39_code (4 : Nat) (Option.some Jvm.ClassFile.FieldType.int) [((0 : Nat), (9 : Nat), (12 : Nat), (19 : Nat))]) ∈ lw_all := lw_g (lw_at lw_m10 27 rfl) rfl
theorem q2332 : (Jvm.Cond.methodLink "HedgeMessagesLaw" (129 : Nat) ({ cls := "HedgeMessages", name := "endDays", desc := "(I)I" } : Jvm.MethodName)) ∈ lw_all := lw_g (lw_at lw_m10 28 rfl) rfl
theorem q2339 : (Jvm.Cond.methodLink "HedgeMessagesLaw" (349 : Nat) ({ cls := "HedgeMessagesLaw", name := "undo", desc := "(LHedgeMessages;[J)I" } : Jvm.MethodName)) ∈ lw_all := lw_g (lw_at lw_m10 35 rfl) rfl
theorem q2340 : (Jvm.Cond.static ({ cls := "HedgeMessagesLaw", name := "undo", desc := "(LHedgeMessages;[J)I" } : Jvm.MethodName)) ∈ lw_all := lw_g (lw_at lw_m10 36 rfl) rfl
theorem q2341 : (Jvm.Cond.codeWith ({ cls := "HedgeMessagesLaw", name := "undo", desc := "(LHedgeMessages;[J)I" } : Jvm.MethodName) method_40_code (3 : Nat) (Option.some Jvm.ClassFile.FieldType.int) [((0 : Nat), (8 : Nat), (11 : Nat), (13 : Nat))]) ∈ lw_all := lw_g (lw_at lw_m10 37 rfl) rfl
theorem q2342 : (Jvm.Cond.methodLink "HedgeMessagesLaw" (132 : Nat) ({ cls := "HedgeMessages", name := "undo", desc := "()I" } : Jvm.MethodName)) ∈ lw_all := lw_g (lw_at lw_m10 38 rfl) rfl
theorem q2361 : (Jvm.Cond.methodLink "HedgeMessagesLaw" (356 : Nat) ({ cls := "HedgeMessagesLaw", name := "restore", desc := "(LHedgeMessages;[J)I" } : Jvm.MethodName)) ∈ lw_all := lw_g (lw_at lw_m10 57 rfl) rfl
theorem q2362 : (Jvm.Cond.static ({ cls := "HedgeMessagesLaw", name := "restore", desc := "(LHedgeMessages;[J)I" } : Jvm.MethodName)) ∈ lw_all := lw_g (lw_at lw_m10 58 rfl) rfl
theorem q2363 : (Jvm.Cond.codeWith ({ cls := "HedgeMessagesLaw", name := "restore", desc := "(LHedgeMessages;[J)I" } : Jvm.MethodName) method_41_code (3 : Nat) (Option.some Jvm.ClassFile.FieldType.int) [((0 : Nat), (8 : Nat), (11 : Nat), (13 : Nat))]) ∈ lw_all := lw_g (lw_at lw_m10 59 rfl) rfl
theorem q2364 : (Jvm.Cond.methodLink "HedgeMessagesLaw" (135 : Nat) ({ cls := "HedgeMessages", name := "restore", desc := "()I" } : Jvm.MethodName)) ∈ lw_all := lw_g (lw_at lw_m10 60 rfl) rfl
theorem q2368 : (Jvm.Cond.classLink "HedgeMessagesLaw" (139 : Nat) "HedgeMessagesModel") ∈ lw_all := lw_g (lw_at lw_m10 64 rfl) rfl
theorem q2370 : (Jvm.Cond.methodLink "HedgeMessagesLaw" (141 : Nat) ({ cls := "HedgeMessagesModel", name := "<init>", desc := "()V" } : Jvm.MethodName)) ∈ lw_all := lw_g (lw_at lw_m10 66 rfl) rfl
theorem q2576 : (Jvm.Cond.methodLink "HedgeMessagesLaw" (148 : Nat) ({ cls := "HedgeMessagesModel", name := "thrown", desc := "()I" } : Jvm.MethodName)) ∈ lw_all := lw_g (lw_at lw_m11 32 rfl) rfl
theorem q2580 : (Jvm.Cond.methodLink "HedgeMessagesLaw" (147 : Nat) ({ cls := "HedgeMessagesModel", name := "append", desc := "(IIIII)I" } : Jvm.MethodName)) ∈ lw_all := lw_g (lw_at lw_m11 36 rfl) rfl
theorem q2588 : (Jvm.Cond.methodLink "HedgeMessagesLaw" (154 : Nat) ({ cls := "HedgeMessagesModel", name := "truncate", desc := "(I)I" } : Jvm.MethodName)) ∈ lw_all := lw_g (lw_at lw_m11 44 rfl) rfl
theorem q2592 : (Jvm.Cond.methodLink "HedgeMessagesLaw" (165 : Nat) ({ cls := "HedgeMessagesModel", name := "errorCode", desc := "()I" } : Jvm.MethodName)) ∈ lw_all := lw_g (lw_at lw_m11 48 rfl) rfl
theorem q2596 : (Jvm.Cond.methodLink "HedgeMessagesLaw" (169 : Nat) ({ cls := "HedgeMessagesModel", name := "errorPosition", desc := "()I" } : Jvm.MethodName)) ∈ lw_all := lw_g (lw_at lw_m11 52 rfl) rfl
theorem q2600 : (Jvm.Cond.methodLink "HedgeMessagesLaw" (158 : Nat) ({ cls := "HedgeMessagesModel", name := "load", desc := "()I" } : Jvm.MethodName)) ∈ lw_all := lw_g (lw_at lw_m11 56 rfl) rfl
theorem q2601 : (Jvm.Cond.methodLink "HedgeMessagesLaw" (161 : Nat) ({ cls := "HedgeMessagesModel", name := "executeCommands", desc := "()I" } : Jvm.MethodName)) ∈ lw_all := lw_g (lw_at lw_m11 57 rfl) rfl
theorem q2814 : (Jvm.Cond.methodLink "HedgeMessagesLaw" (173 : Nat) ({ cls := "HedgeMessagesModel", name := "slotCount", desc := "()I" } : Jvm.MethodName)) ∈ lw_all := lw_g (lw_at lw_m12 30 rfl) rfl
theorem q2818 : (Jvm.Cond.methodLink "HedgeMessagesLaw" (177 : Nat) ({ cls := "HedgeMessagesModel", name := "day", desc := "()I" } : Jvm.MethodName)) ∈ lw_all := lw_g (lw_at lw_m12 34 rfl) rfl
theorem q2822 : (Jvm.Cond.methodLink "HedgeMessagesLaw" (181 : Nat) ({ cls := "HedgeMessagesModel", name := "activeGardener", desc := "()I" } : Jvm.MethodName)) ∈ lw_all := lw_g (lw_at lw_m12 38 rfl) rfl
theorem q2826 : (Jvm.Cond.methodLink "HedgeMessagesLaw" (185 : Nat) ({ cls := "HedgeMessagesModel", name := "workLimit", desc := "()I" } : Jvm.MethodName)) ∈ lw_all := lw_g (lw_at lw_m12 42 rfl) rfl
theorem q2830 : (Jvm.Cond.methodLink "HedgeMessagesLaw" (189 : Nat) ({ cls := "HedgeMessagesModel", name := "actionsLeft", desc := "()I" } : Jvm.MethodName)) ∈ lw_all := lw_g (lw_at lw_m12 46 rfl) rfl
theorem q2834 : (Jvm.Cond.methodLink "HedgeMessagesLaw" (193 : Nat) ({ cls := "HedgeMessagesModel", name := "twigCount", desc := "()I" } : Jvm.MethodName)) ∈ lw_all := lw_g (lw_at lw_m12 50 rfl) rfl
theorem q2838 : (Jvm.Cond.methodLink "HedgeMessagesLaw" (196 : Nat) ({ cls := "HedgeMessagesModel", name := "letterAt", desc := "(I)I" } : Jvm.MethodName)) ∈ lw_all := lw_g (lw_at lw_m12 54 rfl) rfl
theorem q2842 : (Jvm.Cond.methodLink "HedgeMessagesLaw" (199 : Nat) ({ cls := "HedgeMessagesModel", name := "ownerAt", desc := "(I)I" } : Jvm.MethodName)) ∈ lw_all := lw_g (lw_at lw_m12 58 rfl) rfl
theorem q2846 : (Jvm.Cond.methodLink "HedgeMessagesLaw" (202 : Nat) ({ cls := "HedgeMessagesModel", name := "lengthAt", desc := "(I)I" } : Jvm.MethodName)) ∈ lw_all := lw_g (lw_at lw_m12 62 rfl) rfl
theorem q2850 : (Jvm.Cond.methodLink "HedgeMessagesLaw" (205 : Nat) ({ cls := "HedgeMessagesModel", name := "isReserved", desc := "(I)Z" } : Jvm.MethodName)) ∈ lw_all := lw_g (lw_at lw_m12 66 rfl) rfl
theorem q2854 : (Jvm.Cond.methodLink "HedgeMessagesLaw" (208 : Nat) ({ cls := "HedgeMessagesModel", name := "nestDays", desc := "(I)I" } : Jvm.MethodName)) ∈ lw_all := lw_g (lw_at lw_m12 70 rfl) rfl
theorem q2858 : (Jvm.Cond.methodLink "HedgeMessagesLaw" (211 : Nat) ({ cls := "HedgeMessagesModel", name := "isProtected", desc := "(I)Z" } : Jvm.MethodName)) ∈ lw_all := lw_g (lw_at lw_m12 74 rfl) rfl
theorem q2862 : (Jvm.Cond.methodLink "HedgeMessagesLaw" (215 : Nat) ({ cls := "HedgeMessagesModel", name := "nestCount", desc := "()I" } : Jvm.MethodName)) ∈ lw_all := lw_g (lw_at lw_m12 78 rfl) rfl
theorem q2866 : (Jvm.Cond.methodLink "HedgeMessagesLaw" (218 : Nat) ({ cls := "HedgeMessagesModel", name := "pendingCount", desc := "(I)I" } : Jvm.MethodName)) ∈ lw_all := lw_g (lw_at lw_m12 82 rfl) rfl
theorem q2873 : (Jvm.Cond.methodLink "HedgeMessagesLaw" (222 : Nat) ({ cls := "HedgeMessagesModel", name := "pendingLetter", desc := "(III)I" } : Jvm.MethodName)) ∈ lw_all := lw_g (lw_at lw_m12 89 rfl) rfl
theorem q2877 : (Jvm.Cond.methodLink "HedgeMessagesLaw" (225 : Nat) ({ cls := "HedgeMessagesModel", name := "lettersWritten", desc := "(I)I" } : Jvm.MethodName)) ∈ lw_all := lw_g (lw_at lw_m12 93 rfl) rfl
theorem q2881 : (Jvm.Cond.methodLink "HedgeMessagesLaw" (228 : Nat) ({ cls := "HedgeMessagesModel", name := "startSlot", desc := "(I)I" } : Jvm.MethodName)) ∈ lw_all := lw_g (lw_at lw_m12 97 rfl) rfl
theorem q2885 : (Jvm.Cond.methodLink "HedgeMessagesLaw" (231 : Nat) ({ cls := "HedgeMessagesModel", name := "postedCount", desc := "(I)I" } : Jvm.MethodName)) ∈ lw_all := lw_g (lw_at lw_m12 101 rfl) rfl
theorem q2893 : (Jvm.Cond.methodLink "HedgeMessagesLaw" (234 : Nat) ({ cls := "HedgeMessagesModel", name := "nextStartSlot", desc := "(I)I" } : Jvm.MethodName)) ∈ lw_all := lw_g (lw_at lw_m12 109 rfl) rfl
theorem q2897 : (Jvm.Cond.methodLink "HedgeMessagesLaw" (238 : Nat) ({ cls := "HedgeMessagesModel", name := "longestFreeRun", desc := "()I" } : Jvm.MethodName)) ∈ lw_all := lw_g (lw_at lw_m12 113 rfl) rfl
theorem q2901 : (Jvm.Cond.methodLink "HedgeMessagesLaw" (242 : Nat) ({ cls := "HedgeMessagesModel", name := "yardLetterCount", desc := "(I)I" } : Jvm.MethodName)) ∈ lw_all := lw_g (lw_at lw_m12 117 rfl) rfl
theorem q2905 : (Jvm.Cond.methodLink "HedgeMessagesLaw" (245 : Nat) ({ cls := "HedgeMessagesModel", name := "plantReason", desc := "(I)I" } : Jvm.MethodName)) ∈ lw_all := lw_g (lw_at lw_m12 121 rfl) rfl
theorem q2909 : (Jvm.Cond.methodLink "HedgeMessagesLaw" (248 : Nat) ({ cls := "HedgeMessagesModel", name := "removeReason", desc := "(I)I" } : Jvm.MethodName)) ∈ lw_all := lw_g (lw_at lw_m12 125 rfl) rfl
theorem q2913 : (Jvm.Cond.methodLink "HedgeMessagesLaw" (251 : Nat) ({ cls := "HedgeMessagesModel", name := "trimReason", desc := "(I)I" } : Jvm.MethodName)) ∈ lw_all := lw_g (lw_at lw_m12 129 rfl) rfl
theorem q2917 : (Jvm.Cond.methodLink "HedgeMessagesLaw" (254 : Nat) ({ cls := "HedgeMessagesModel", name := "writeReason", desc := "(I)I" } : Jvm.MethodName)) ∈ lw_all := lw_g (lw_at lw_m12 133 rfl) rfl
theorem q2925 : (Jvm.Cond.methodLink "HedgeMessagesLaw" (257 : Nat) ({ cls := "HedgeMessagesModel", name := "keepReason", desc := "(I)I" } : Jvm.MethodName)) ∈ lw_all := lw_g (lw_at lw_m12 141 rfl) rfl
theorem q2933 : (Jvm.Cond.methodLink "HedgeMessagesLaw" (261 : Nat) ({ cls := "HedgeMessagesModel", name := "daysUntilInspection", desc := "()I" } : Jvm.MethodName)) ∈ lw_all := lw_g (lw_at lw_m12 149 rfl) rfl
theorem q2937 : (Jvm.Cond.methodLink "HedgeMessagesLaw" (264 : Nat) ({ cls := "HedgeMessagesModel", name := "daysUntilPruned", desc := "(I)I" } : Jvm.MethodName)) ∈ lw_all := lw_g (lw_at lw_m12 153 rfl) rfl
theorem q2949 : (Jvm.Cond.methodLink "HedgeMessagesLaw" (268 : Nat) ({ cls := "HedgeMessagesModel", name := "deliveredAfter", desc := "(II)I" } : Jvm.MethodName)) ∈ lw_all := lw_g (lw_at lw_m12 165 rfl) rfl
theorem q2957 : (Jvm.Cond.methodLink "HedgeMessagesLaw" (271 : Nat) ({ cls := "HedgeMessagesModel", name := "pendingAfter", desc := "(II)I" } : Jvm.MethodName)) ∈ lw_all := lw_g (lw_at lw_m12 173 rfl) rfl
theorem q2961 : (Jvm.Cond.methodLink "HedgeMessagesLaw" (275 : Nat) ({ cls := "HedgeMessagesModel", name := "bestNestSlot", desc := "()I" } : Jvm.MethodName)) ∈ lw_all := lw_g (lw_at lw_m12 177 rfl) rfl
theorem q2969 : (Jvm.Cond.methodLink "HedgeMessagesLaw" (278 : Nat) ({ cls := "HedgeMessagesModel", name := "leastWorkLimit", desc := "(II)I" } : Jvm.MethodName)) ∈ lw_all := lw_g (lw_at lw_m12 185 rfl) rfl
theorem q2977 : (Jvm.Cond.methodLink "HedgeMessagesLaw" (281 : Nat) ({ cls := "HedgeMessagesModel", name := "messagesQueued", desc := "(I)I" } : Jvm.MethodName)) ∈ lw_all := lw_g (lw_at lw_m12 193 rfl) rfl
theorem q2985 : (Jvm.Cond.methodLink "HedgeMessagesLaw" (284 : Nat) ({ cls := "HedgeMessagesModel", name := "messagesDelivered", desc := "(I)I" } : Jvm.MethodName)) ∈ lw_all := lw_g (lw_at lw_m12 201 rfl) rfl
theorem q2989 : (Jvm.Cond.methodLink "HedgeMessagesLaw" (287 : Nat) ({ cls := "HedgeMessagesModel", name := "messagesFailed", desc := "(I)I" } : Jvm.MethodName)) ∈ lw_all := lw_g (lw_at lw_m12 205 rfl) rfl
theorem q2993 : (Jvm.Cond.methodLink "HedgeMessagesLaw" (290 : Nat) ({ cls := "HedgeMessagesModel", name := "messagesDropped", desc := "(I)I" } : Jvm.MethodName)) ∈ lw_all := lw_g (lw_at lw_m12 209 rfl) rfl
theorem q2997 : (Jvm.Cond.methodLink "HedgeMessagesLaw" (294 : Nat) ({ cls := "HedgeMessagesModel", name := "twigsPlanted", desc := "()I" } : Jvm.MethodName)) ∈ lw_all := lw_g (lw_at lw_m12 213 rfl) rfl
theorem q3001 : (Jvm.Cond.methodLink "HedgeMessagesLaw" (298 : Nat) ({ cls := "HedgeMessagesModel", name := "twigsPruned", desc := "()I" } : Jvm.MethodName)) ∈ lw_all := lw_g (lw_at lw_m12 217 rfl) rfl
theorem q3005 : (Jvm.Cond.methodLink "HedgeMessagesLaw" (302 : Nat) ({ cls := "HedgeMessagesModel", name := "twigsRemoved", desc := "()I" } : Jvm.MethodName)) ∈ lw_all := lw_g (lw_at lw_m12 221 rfl) rfl
theorem q3009 : (Jvm.Cond.methodLink "HedgeMessagesLaw" (306 : Nat) ({ cls := "HedgeMessagesModel", name := "twigImbalance", desc := "()I" } : Jvm.MethodName)) ∈ lw_all := lw_g (lw_at lw_m12 225 rfl) rfl
theorem q3013 : (Jvm.Cond.methodLink "HedgeMessagesLaw" (310 : Nat) ({ cls := "HedgeMessagesModel", name := "messageImbalance", desc := "()I" } : Jvm.MethodName)) ∈ lw_all := lw_g (lw_at lw_m12 229 rfl) rfl
theorem q3017 : (Jvm.Cond.methodLink "HedgeMessagesLaw" (314 : Nat) ({ cls := "HedgeMessagesModel", name := "wrongLetters", desc := "()I" } : Jvm.MethodName)) ∈ lw_all := lw_g (lw_at lw_m12 233 rfl) rfl
theorem q3025 : (Jvm.Cond.methodLink "HedgeMessagesLaw" (319 : Nat) ({ cls := "HedgeMessagesModel", name := "meanLength", desc := "()F" } : Jvm.MethodName)) ∈ lw_all := lw_g (lw_at lw_m13 1 rfl) rfl
theorem q3029 : (Jvm.Cond.methodLink "HedgeMessagesLaw" (324 : Nat) ({ cls := "HedgeMessagesModel", name := "occupancy", desc := "()D" } : Jvm.MethodName)) ∈ lw_all := lw_g (lw_at lw_m13 5 rfl) rfl
theorem q3033 : (Jvm.Cond.methodLink "HedgeMessagesLaw" (327 : Nat) ({ cls := "HedgeMessagesModel", name := "plant", desc := "(II)I" } : Jvm.MethodName)) ∈ lw_all := lw_g (lw_at lw_m13 9 rfl) rfl
theorem q3049 : (Jvm.Cond.methodLink "HedgeMessagesLaw" (330 : Nat) ({ cls := "HedgeMessagesModel", name := "remove", desc := "(I)I" } : Jvm.MethodName)) ∈ lw_all := lw_g (lw_at lw_m13 25 rfl) rfl
theorem q3057 : (Jvm.Cond.methodLink "HedgeMessagesLaw" (333 : Nat) ({ cls := "HedgeMessagesModel", name := "trim", desc := "(II)I" } : Jvm.MethodName)) ∈ lw_all := lw_g (lw_at lw_m13 33 rfl) rfl
theorem q3062 : (Jvm.Cond.methodLink "HedgeMessagesLaw" (336 : Nat) ({ cls := "HedgeMessagesModel", name := "addNest", desc := "(II)I" } : Jvm.MethodName)) ∈ lw_all := lw_g (lw_at lw_m13 38 rfl) rfl
theorem q3067 : (Jvm.Cond.methodLink "HedgeMessagesLaw" (339 : Nat) ({ cls := "HedgeMessagesModel", name := "queueMessage", desc := "(I)I" } : Jvm.MethodName)) ∈ lw_all := lw_g (lw_at lw_m13 43 rfl) rfl
theorem q3075 : (Jvm.Cond.methodLink "HedgeMessagesLaw" (342 : Nat) ({ cls := "HedgeMessagesModel", name := "cancelMessage", desc := "(II)I" } : Jvm.MethodName)) ∈ lw_all := lw_g (lw_at lw_m13 51 rfl) rfl
theorem q3079 : (Jvm.Cond.methodLink "HedgeMessagesLaw" (345 : Nat) ({ cls := "HedgeMessagesModel", name := "setWorkLimit", desc := "(I)I" } : Jvm.MethodName)) ∈ lw_all := lw_g (lw_at lw_m13 55 rfl) rfl
theorem q3083 : (Jvm.Cond.methodLink "HedgeMessagesLaw" (348 : Nat) ({ cls := "HedgeMessagesModel", name := "endDays", desc := "(I)I" } : Jvm.MethodName)) ∈ lw_all := lw_g (lw_at lw_m13 59 rfl) rfl
theorem q3087 : (Jvm.Cond.methodLink "HedgeMessagesLaw" (351 : Nat) ({ cls := "HedgeMessagesModel", name := "undo", desc := "()I" } : Jvm.MethodName)) ∈ lw_all := lw_g (lw_at lw_m13 63 rfl) rfl
theorem q3091 : (Jvm.Cond.methodLink "HedgeMessagesLaw" (355 : Nat) ({ cls := "HedgeMessagesModel", name := "save", desc := "()I" } : Jvm.MethodName)) ∈ lw_all := lw_g (lw_at lw_m13 67 rfl) rfl
theorem q3095 : (Jvm.Cond.methodLink "HedgeMessagesLaw" (358 : Nat) ({ cls := "HedgeMessagesModel", name := "restore", desc := "()I" } : Jvm.MethodName)) ∈ lw_all := lw_g (lw_at lw_m13 71 rfl) rfl
theorem q3099 : (Jvm.Cond.methodLink "HedgeMessagesLaw" (362 : Nat) ({ cls := "HedgeMessagesModel", name := "formatHedge", desc := "()I" } : Jvm.MethodName)) ∈ lw_all := lw_g (lw_at lw_m13 75 rfl) rfl
theorem q3107 : (Jvm.Cond.methodLink "HedgeMessagesLaw" (366 : Nat) ({ cls := "HedgeMessagesModel", name := "outputByte", desc := "(I)I" } : Jvm.MethodName)) ∈ lw_all := lw_g (lw_at lw_m13 83 rfl) rfl

/-! HedgeMessages -/
set_option maxRecDepth 100000
def RX1 : String := "HedgeMessages"
def TX1 : u_T := fun k => match k with
  | 0 => ("HedgeMessages", "state", "LHedgeMessages$State;", false)
  | 1 => ("HedgeMessages", "savedState", "LHedgeMessages$State;", false)
  | 2 => ("HedgeMessages", "history", "Ljava/util/ArrayDeque;", true)
  | 3 => ("HedgeMessages", "buffer", "[B", true)
  | 4 => ("HedgeMessages", "bufferLength", "I", false)
  | 5 => ("HedgeMessages", "errorCode", "I", false)
  | 6 => ("HedgeMessages", "errorPosition", "I", false)
  | _ => ("HedgeMessages", "output", "Ljava/lang/StringBuilder;", true)
def tyX1 : Nat → FieldType := fun k => match k with
  | 0 => .object "HedgeMessages$State"
  | 1 => .object "HedgeMessages$State"
  | 2 => .object "java/util/ArrayDeque"
  | 3 => .array .byte
  | 4 => .int
  | 5 => .int
  | 6 => .int
  | _ => .object "java/lang/StringBuilder"
abbrev wsX10 : List Cond := u_ws RX1 TX1 8
theorem nmX1 : ∀ a, a < 8 → ∀ b, b < 8 → a ≠ b → (TX1 a).2.1 ≠ (TX1 b).2.1 := by decide +kernel
theorem tyX1_ok : ∀ k, k < 8 → parseFieldDescriptor (TX1 k).2.2.1 = some (tyX1 k) := by decide +kernel
abbrev cX1_init : ByteArray := prog_1_method_5_code
def yX1_init : MethodName := ⟨RX1, "<init>", "()V"⟩
def dkwX1_init_2 : List UInt8 := [181, 0, 46, 177]
abbrev dktX1_init_2 : List UInt8 := dkwX1_init_2 ++ []
def dkwX1_init_1 : List UInt8 := [42, 17, 3, 32, 188, 8, 181, 0, 35, 42, 2, 181, 0, 39, 42, 187, 0, 43, 89, 183, 0, 45]
abbrev dktX1_init_1 : List UInt8 := dkwX1_init_1 ++ dktX1_init_2
def dkwX1_init_0 : List UInt8 := [42, 183, 0, 13, 42, 184, 0, 16, 181, 0, 22, 42, 187, 0, 26, 89, 16, 9, 183, 0, 28, 181, 0, 31]
abbrev dktX1_init_0 : List UInt8 := dkwX1_init_0 ++ dktX1_init_1
theorem dksX1_init_0 : cX1_init.data.toList.drop 0 = dktX1_init_0 := by decide +kernel
theorem dksX1_init_1 : cX1_init.data.toList.drop 24 = dktX1_init_1 := dk_seg dksX1_init_0 24 rfl rfl
theorem dksX1_init_2 : cX1_init.data.toList.drop 46 = dktX1_init_2 := dk_seg dksX1_init_1 22 rfl rfl
theorem dX1_init_0 : decode cX1_init 0 = .ok (.aload_n 0, 1) := dk_42 (dk_at dksX1_init_0 0 rfl rfl)
theorem dX1_init_1 : decode cX1_init 1 = .ok (.invokespecial 13, 3) := dk_183 0 13 (dk_at dksX1_init_0 1 rfl rfl)
theorem dX1_init_4 : decode cX1_init 4 = .ok (.aload_n 0, 1) := dk_42 (dk_at dksX1_init_0 4 rfl rfl)
theorem dX1_init_5 : decode cX1_init 5 = .ok (.invokestatic 16, 3) := dk_184 0 16 (dk_at dksX1_init_0 5 rfl rfl)
theorem dX1_init_8 : decode cX1_init 8 = .ok (.putfield 22, 3) := dk_181 0 22 (dk_at dksX1_init_0 8 rfl rfl)
theorem dX1_init_11 : decode cX1_init 11 = .ok (.aload_n 0, 1) := dk_42 (dk_at dksX1_init_0 11 rfl rfl)
theorem dX1_init_12 : decode cX1_init 12 = .ok (.new 26, 3) := dk_187 0 26 (dk_at dksX1_init_0 12 rfl rfl)
theorem dX1_init_15 : decode cX1_init 15 = .ok (.dup, 1) := dk_89 (dk_at dksX1_init_0 15 rfl rfl)
theorem dX1_init_16 : decode cX1_init 16 = .ok (.bipush 9, 2) := dk_16 9 (dk_at dksX1_init_0 16 rfl rfl)
theorem dX1_init_18 : decode cX1_init 18 = .ok (.invokespecial 28, 3) := dk_183 0 28 (dk_at dksX1_init_0 18 rfl rfl)
theorem dX1_init_21 : decode cX1_init 21 = .ok (.putfield 31, 3) := dk_181 0 31 (dk_at dksX1_init_0 21 rfl rfl)
theorem dX1_init_24 : decode cX1_init 24 = .ok (.aload_n 0, 1) := dk_42 (dk_at dksX1_init_1 0 rfl rfl)
theorem dX1_init_25 : decode cX1_init 25 = .ok (.sipush 800, 3) := dk_17 3 32 (dk_at dksX1_init_1 1 rfl rfl)
theorem dX1_init_28 : decode cX1_init 28 = .ok (.newarray .byte, 2) := dk_188_8 (dk_at dksX1_init_1 4 rfl rfl)
theorem dX1_init_30 : decode cX1_init 30 = .ok (.putfield 35, 3) := dk_181 0 35 (dk_at dksX1_init_1 6 rfl rfl)
theorem dX1_init_33 : decode cX1_init 33 = .ok (.aload_n 0, 1) := dk_42 (dk_at dksX1_init_1 9 rfl rfl)
theorem dX1_init_34 : decode cX1_init 34 = .ok (.iconst (-1), 1) := dk_2 (dk_at dksX1_init_1 10 rfl rfl)
theorem dX1_init_35 : decode cX1_init 35 = .ok (.putfield 39, 3) := dk_181 0 39 (dk_at dksX1_init_1 11 rfl rfl)
theorem dX1_init_38 : decode cX1_init 38 = .ok (.aload_n 0, 1) := dk_42 (dk_at dksX1_init_1 14 rfl rfl)
theorem dX1_init_39 : decode cX1_init 39 = .ok (.new 43, 3) := dk_187 0 43 (dk_at dksX1_init_1 15 rfl rfl)
theorem dX1_init_42 : decode cX1_init 42 = .ok (.dup, 1) := dk_89 (dk_at dksX1_init_1 18 rfl rfl)
theorem dX1_init_43 : decode cX1_init 43 = .ok (.invokespecial 45, 3) := dk_183 0 45 (dk_at dksX1_init_1 19 rfl rfl)
theorem dX1_init_46 : decode cX1_init 46 = .ok (.putfield 46, 3) := dk_181 0 46 (dk_at dksX1_init_2 0 rfl rfl)
theorem dX1_init_49 : decode cX1_init 49 = .ok (.return_, 1) := dk_177 (dk_at dksX1_init_2 3 rfl rfl)
abbrev cX1_initialState : ByteArray := prog_1_method_6_code
def yX1_initialState : MethodName := ⟨RX1, "initialState", "()LHedgeMessages$State;"⟩
def dkwX1_initialState_4 : List UInt8 := [18, 81, 183, 0, 72, 182, 0, 75, 42, 176]
abbrev dktX1_initialState_4 : List UInt8 := dkwX1_initialState_4 ++ []
def dkwX1_initialState_3 : List UInt8 := [182, 0, 75, 42, 187, 0, 68, 89, 4, 18, 79, 183, 0, 72, 182, 0, 75, 42, 187, 0, 68, 89, 3]
abbrev dktX1_initialState_3 : List UInt8 := dkwX1_initialState_3 ++ dktX1_initialState_4
def dkwX1_initialState_2 : List UInt8 := [182, 0, 60, 42, 180, 0, 64, 16, 10, 8, 79, 42, 187, 0, 68, 89, 3, 18, 70, 183, 0, 72]
abbrev dktX1_initialState_2 : List UInt8 := dkwX1_initialState_2 ++ dktX1_initialState_3
def dkwX1_initialState_1 : List UInt8 := [6, 183, 0, 57, 182, 0, 60, 42, 16, 9, 187, 0, 55, 89, 16, 114, 4, 16, 6, 183, 0, 57]
abbrev dktX1_initialState_1 : List UInt8 := dkwX1_initialState_1 ++ dktX1_initialState_2
def dkwX1_initialState_0 : List UInt8 := [187, 0, 50, 89, 16, 16, 7, 5, 8, 6, 7, 183, 0, 52, 75, 42, 5, 187, 0, 55, 89, 16, 113, 3]
abbrev dktX1_initialState_0 : List UInt8 := dkwX1_initialState_0 ++ dktX1_initialState_1
theorem dksX1_initialState_0 : cX1_initialState.data.toList.drop 0 = dktX1_initialState_0 := by decide +kernel
theorem dksX1_initialState_1 : cX1_initialState.data.toList.drop 24 = dktX1_initialState_1 := dk_seg dksX1_initialState_0 24 rfl rfl
theorem dksX1_initialState_2 : cX1_initialState.data.toList.drop 46 = dktX1_initialState_2 := dk_seg dksX1_initialState_1 22 rfl rfl
theorem dksX1_initialState_3 : cX1_initialState.data.toList.drop 68 = dktX1_initialState_3 := dk_seg dksX1_initialState_2 22 rfl rfl
theorem dksX1_initialState_4 : cX1_initialState.data.toList.drop 91 = dktX1_initialState_4 := dk_seg dksX1_initialState_3 23 rfl rfl
theorem dX1_initialState_0 : decode cX1_initialState 0 = .ok (.new 50, 3) := dk_187 0 50 (dk_at dksX1_initialState_0 0 rfl rfl)
theorem dX1_initialState_3 : decode cX1_initialState 3 = .ok (.dup, 1) := dk_89 (dk_at dksX1_initialState_0 3 rfl rfl)
theorem dX1_initialState_4 : decode cX1_initialState 4 = .ok (.bipush 16, 2) := dk_16 16 (dk_at dksX1_initialState_0 4 rfl rfl)
theorem dX1_initialState_6 : decode cX1_initialState 6 = .ok (.iconst 4, 1) := dk_7 (dk_at dksX1_initialState_0 6 rfl rfl)
theorem dX1_initialState_7 : decode cX1_initialState 7 = .ok (.iconst 2, 1) := dk_5 (dk_at dksX1_initialState_0 7 rfl rfl)
theorem dX1_initialState_8 : decode cX1_initialState 8 = .ok (.iconst 5, 1) := dk_8 (dk_at dksX1_initialState_0 8 rfl rfl)
theorem dX1_initialState_9 : decode cX1_initialState 9 = .ok (.iconst 3, 1) := dk_6 (dk_at dksX1_initialState_0 9 rfl rfl)
theorem dX1_initialState_10 : decode cX1_initialState 10 = .ok (.iconst 4, 1) := dk_7 (dk_at dksX1_initialState_0 10 rfl rfl)
theorem dX1_initialState_11 : decode cX1_initialState 11 = .ok (.invokespecial 52, 3) := dk_183 0 52 (dk_at dksX1_initialState_0 11 rfl rfl)
theorem dX1_initialState_14 : decode cX1_initialState 14 = .ok (.astore_n 0, 1) := dk_75 (dk_at dksX1_initialState_0 14 rfl rfl)
theorem dX1_initialState_15 : decode cX1_initialState 15 = .ok (.aload_n 0, 1) := dk_42 (dk_at dksX1_initialState_0 15 rfl rfl)
theorem dX1_initialState_16 : decode cX1_initialState 16 = .ok (.iconst 2, 1) := dk_5 (dk_at dksX1_initialState_0 16 rfl rfl)
theorem dX1_initialState_17 : decode cX1_initialState 17 = .ok (.new 55, 3) := dk_187 0 55 (dk_at dksX1_initialState_0 17 rfl rfl)
theorem dX1_initialState_20 : decode cX1_initialState 20 = .ok (.dup, 1) := dk_89 (dk_at dksX1_initialState_0 20 rfl rfl)
theorem dX1_initialState_21 : decode cX1_initialState 21 = .ok (.bipush 113, 2) := dk_16 113 (dk_at dksX1_initialState_0 21 rfl rfl)
theorem dX1_initialState_23 : decode cX1_initialState 23 = .ok (.iconst 0, 1) := dk_3 (dk_at dksX1_initialState_0 23 rfl rfl)
theorem dX1_initialState_24 : decode cX1_initialState 24 = .ok (.iconst 3, 1) := dk_6 (dk_at dksX1_initialState_1 0 rfl rfl)
theorem dX1_initialState_25 : decode cX1_initialState 25 = .ok (.invokespecial 57, 3) := dk_183 0 57 (dk_at dksX1_initialState_1 1 rfl rfl)
theorem dX1_initialState_28 : decode cX1_initialState 28 = .ok (.invokevirtual 60, 3) := dk_182 0 60 (dk_at dksX1_initialState_1 4 rfl rfl)
theorem dX1_initialState_31 : decode cX1_initialState 31 = .ok (.aload_n 0, 1) := dk_42 (dk_at dksX1_initialState_1 7 rfl rfl)
theorem dX1_initialState_32 : decode cX1_initialState 32 = .ok (.bipush 9, 2) := dk_16 9 (dk_at dksX1_initialState_1 8 rfl rfl)
theorem dX1_initialState_34 : decode cX1_initialState 34 = .ok (.new 55, 3) := dk_187 0 55 (dk_at dksX1_initialState_1 10 rfl rfl)
theorem dX1_initialState_37 : decode cX1_initialState 37 = .ok (.dup, 1) := dk_89 (dk_at dksX1_initialState_1 13 rfl rfl)
theorem dX1_initialState_38 : decode cX1_initialState 38 = .ok (.bipush 114, 2) := dk_16 114 (dk_at dksX1_initialState_1 14 rfl rfl)
theorem dX1_initialState_40 : decode cX1_initialState 40 = .ok (.iconst 1, 1) := dk_4 (dk_at dksX1_initialState_1 16 rfl rfl)
theorem dX1_initialState_41 : decode cX1_initialState 41 = .ok (.bipush 6, 2) := dk_16 6 (dk_at dksX1_initialState_1 17 rfl rfl)
theorem dX1_initialState_43 : decode cX1_initialState 43 = .ok (.invokespecial 57, 3) := dk_183 0 57 (dk_at dksX1_initialState_1 19 rfl rfl)
theorem dX1_initialState_46 : decode cX1_initialState 46 = .ok (.invokevirtual 60, 3) := dk_182 0 60 (dk_at dksX1_initialState_2 0 rfl rfl)
theorem dX1_initialState_49 : decode cX1_initialState 49 = .ok (.aload_n 0, 1) := dk_42 (dk_at dksX1_initialState_2 3 rfl rfl)
theorem dX1_initialState_50 : decode cX1_initialState 50 = .ok (.getfield 64, 3) := dk_180 0 64 (dk_at dksX1_initialState_2 4 rfl rfl)
theorem dX1_initialState_53 : decode cX1_initialState 53 = .ok (.bipush 10, 2) := dk_16 10 (dk_at dksX1_initialState_2 7 rfl rfl)
theorem dX1_initialState_55 : decode cX1_initialState 55 = .ok (.iconst 5, 1) := dk_8 (dk_at dksX1_initialState_2 9 rfl rfl)
theorem dX1_initialState_56 : decode cX1_initialState 56 = .ok (.iastore, 1) := dk_79 (dk_at dksX1_initialState_2 10 rfl rfl)
theorem dX1_initialState_57 : decode cX1_initialState 57 = .ok (.aload_n 0, 1) := dk_42 (dk_at dksX1_initialState_2 11 rfl rfl)
theorem dX1_initialState_58 : decode cX1_initialState 58 = .ok (.new 68, 3) := dk_187 0 68 (dk_at dksX1_initialState_2 12 rfl rfl)
theorem dX1_initialState_61 : decode cX1_initialState 61 = .ok (.dup, 1) := dk_89 (dk_at dksX1_initialState_2 15 rfl rfl)
theorem dX1_initialState_62 : decode cX1_initialState 62 = .ok (.iconst 0, 1) := dk_3 (dk_at dksX1_initialState_2 16 rfl rfl)
theorem dX1_initialState_63 : decode cX1_initialState 63 = .ok (.ldc 70, 2) := dk_18 70 (dk_at dksX1_initialState_2 17 rfl rfl)
theorem dX1_initialState_65 : decode cX1_initialState 65 = .ok (.invokespecial 72, 3) := dk_183 0 72 (dk_at dksX1_initialState_2 19 rfl rfl)
theorem dX1_initialState_68 : decode cX1_initialState 68 = .ok (.invokevirtual 75, 3) := dk_182 0 75 (dk_at dksX1_initialState_3 0 rfl rfl)
theorem dX1_initialState_71 : decode cX1_initialState 71 = .ok (.aload_n 0, 1) := dk_42 (dk_at dksX1_initialState_3 3 rfl rfl)
theorem dX1_initialState_72 : decode cX1_initialState 72 = .ok (.new 68, 3) := dk_187 0 68 (dk_at dksX1_initialState_3 4 rfl rfl)
theorem dX1_initialState_75 : decode cX1_initialState 75 = .ok (.dup, 1) := dk_89 (dk_at dksX1_initialState_3 7 rfl rfl)
theorem dX1_initialState_76 : decode cX1_initialState 76 = .ok (.iconst 1, 1) := dk_4 (dk_at dksX1_initialState_3 8 rfl rfl)
theorem dX1_initialState_77 : decode cX1_initialState 77 = .ok (.ldc 79, 2) := dk_18 79 (dk_at dksX1_initialState_3 9 rfl rfl)
theorem dX1_initialState_79 : decode cX1_initialState 79 = .ok (.invokespecial 72, 3) := dk_183 0 72 (dk_at dksX1_initialState_3 11 rfl rfl)
theorem dX1_initialState_82 : decode cX1_initialState 82 = .ok (.invokevirtual 75, 3) := dk_182 0 75 (dk_at dksX1_initialState_3 14 rfl rfl)
theorem dX1_initialState_85 : decode cX1_initialState 85 = .ok (.aload_n 0, 1) := dk_42 (dk_at dksX1_initialState_3 17 rfl rfl)
theorem dX1_initialState_86 : decode cX1_initialState 86 = .ok (.new 68, 3) := dk_187 0 68 (dk_at dksX1_initialState_3 18 rfl rfl)
theorem dX1_initialState_89 : decode cX1_initialState 89 = .ok (.dup, 1) := dk_89 (dk_at dksX1_initialState_3 21 rfl rfl)
theorem dX1_initialState_90 : decode cX1_initialState 90 = .ok (.iconst 0, 1) := dk_3 (dk_at dksX1_initialState_3 22 rfl rfl)
theorem dX1_initialState_91 : decode cX1_initialState 91 = .ok (.ldc 81, 2) := dk_18 81 (dk_at dksX1_initialState_4 0 rfl rfl)
theorem dX1_initialState_93 : decode cX1_initialState 93 = .ok (.invokespecial 72, 3) := dk_183 0 72 (dk_at dksX1_initialState_4 2 rfl rfl)
theorem dX1_initialState_96 : decode cX1_initialState 96 = .ok (.invokevirtual 75, 3) := dk_182 0 75 (dk_at dksX1_initialState_4 5 rfl rfl)
theorem dX1_initialState_99 : decode cX1_initialState 99 = .ok (.aload_n 0, 1) := dk_42 (dk_at dksX1_initialState_4 8 rfl rfl)
theorem dX1_initialState_100 : decode cX1_initialState 100 = .ok (.areturn, 1) := dk_176 (dk_at dksX1_initialState_4 9 rfl rfl)
abbrev cX1_errorCode : ByteArray := prog_1_method_18_code
def yX1_errorCode : MethodName := ⟨RX1, "errorCode", "()I"⟩
theorem dX1_errorCode_0 : decode cX1_errorCode 0 = .ok (.aload_n 0, 1) := by decide +kernel
theorem dX1_errorCode_1 : decode cX1_errorCode 1 = .ok (.getfield 155, 3) := by decide +kernel
theorem dX1_errorCode_4 : decode cX1_errorCode 4 = .ok (.ireturn, 1) := by decide +kernel
abbrev cX1_errorPosition : ByteArray := prog_1_method_19_code
def yX1_errorPosition : MethodName := ⟨RX1, "errorPosition", "()I"⟩
theorem dX1_errorPosition_0 : decode cX1_errorPosition 0 = .ok (.aload_n 0, 1) := by decide +kernel
theorem dX1_errorPosition_1 : decode cX1_errorPosition 1 = .ok (.getfield 39, 3) := by decide +kernel
theorem dX1_errorPosition_4 : decode cX1_errorPosition 4 = .ok (.ireturn, 1) := by decide +kernel
abbrev cX1_slotCount : ByteArray := prog_1_method_20_code
def yX1_slotCount : MethodName := ⟨RX1, "slotCount", "()I"⟩
def dkwX1_slotCount_0 : List UInt8 := [42, 180, 0, 22, 182, 0, 179, 172]
abbrev dktX1_slotCount_0 : List UInt8 := dkwX1_slotCount_0 ++ []
theorem dksX1_slotCount_0 : cX1_slotCount.data.toList.drop 0 = dktX1_slotCount_0 := by decide +kernel
theorem dX1_slotCount_0 : decode cX1_slotCount 0 = .ok (.aload_n 0, 1) := dk_42 (dk_at dksX1_slotCount_0 0 rfl rfl)
theorem dX1_slotCount_1 : decode cX1_slotCount 1 = .ok (.getfield 22, 3) := dk_180 0 22 (dk_at dksX1_slotCount_0 1 rfl rfl)
theorem dX1_slotCount_4 : decode cX1_slotCount 4 = .ok (.invokevirtual 179, 3) := dk_182 0 179 (dk_at dksX1_slotCount_0 4 rfl rfl)
theorem dX1_slotCount_7 : decode cX1_slotCount 7 = .ok (.ireturn, 1) := dk_172 (dk_at dksX1_slotCount_0 7 rfl rfl)
abbrev cX1_day : ByteArray := prog_1_method_21_code
def yX1_day : MethodName := ⟨RX1, "day", "()I"⟩
def dkwX1_day_0 : List UInt8 := [42, 180, 0, 22, 180, 0, 190, 172]
abbrev dktX1_day_0 : List UInt8 := dkwX1_day_0 ++ []
theorem dksX1_day_0 : cX1_day.data.toList.drop 0 = dktX1_day_0 := by decide +kernel
theorem dX1_day_0 : decode cX1_day 0 = .ok (.aload_n 0, 1) := dk_42 (dk_at dksX1_day_0 0 rfl rfl)
theorem dX1_day_1 : decode cX1_day 1 = .ok (.getfield 22, 3) := dk_180 0 22 (dk_at dksX1_day_0 1 rfl rfl)
theorem dX1_day_4 : decode cX1_day 4 = .ok (.getfield 190, 3) := dk_180 0 190 (dk_at dksX1_day_0 4 rfl rfl)
theorem dX1_day_7 : decode cX1_day 7 = .ok (.ireturn, 1) := dk_172 (dk_at dksX1_day_0 7 rfl rfl)
abbrev cX1_activeGardener : ByteArray := prog_1_method_22_code
def yX1_activeGardener : MethodName := ⟨RX1, "activeGardener", "()I"⟩
def dkwX1_activeGardener_0 : List UInt8 := [42, 180, 0, 22, 182, 0, 193, 172]
abbrev dktX1_activeGardener_0 : List UInt8 := dkwX1_activeGardener_0 ++ []
theorem dksX1_activeGardener_0 : cX1_activeGardener.data.toList.drop 0 = dktX1_activeGardener_0 := by decide +kernel
theorem dX1_activeGardener_0 : decode cX1_activeGardener 0 = .ok (.aload_n 0, 1) := dk_42 (dk_at dksX1_activeGardener_0 0 rfl rfl)
theorem dX1_activeGardener_1 : decode cX1_activeGardener 1 = .ok (.getfield 22, 3) := dk_180 0 22 (dk_at dksX1_activeGardener_0 1 rfl rfl)
theorem dX1_activeGardener_4 : decode cX1_activeGardener 4 = .ok (.invokevirtual 193, 3) := dk_182 0 193 (dk_at dksX1_activeGardener_0 4 rfl rfl)
theorem dX1_activeGardener_7 : decode cX1_activeGardener 7 = .ok (.ireturn, 1) := dk_172 (dk_at dksX1_activeGardener_0 7 rfl rfl)
abbrev cX1_workLimit : ByteArray := prog_1_method_23_code
def yX1_workLimit : MethodName := ⟨RX1, "workLimit", "()I"⟩
def dkwX1_workLimit_0 : List UInt8 := [42, 180, 0, 22, 180, 0, 196, 172]
abbrev dktX1_workLimit_0 : List UInt8 := dkwX1_workLimit_0 ++ []
theorem dksX1_workLimit_0 : cX1_workLimit.data.toList.drop 0 = dktX1_workLimit_0 := by decide +kernel
theorem dX1_workLimit_0 : decode cX1_workLimit 0 = .ok (.aload_n 0, 1) := dk_42 (dk_at dksX1_workLimit_0 0 rfl rfl)
theorem dX1_workLimit_1 : decode cX1_workLimit 1 = .ok (.getfield 22, 3) := dk_180 0 22 (dk_at dksX1_workLimit_0 1 rfl rfl)
theorem dX1_workLimit_4 : decode cX1_workLimit 4 = .ok (.getfield 196, 3) := dk_180 0 196 (dk_at dksX1_workLimit_0 4 rfl rfl)
theorem dX1_workLimit_7 : decode cX1_workLimit 7 = .ok (.ireturn, 1) := dk_172 (dk_at dksX1_workLimit_0 7 rfl rfl)
abbrev cX1_actionsLeft : ByteArray := prog_1_method_24_code
def yX1_actionsLeft : MethodName := ⟨RX1, "actionsLeft", "()I"⟩
def dkwX1_actionsLeft_0 : List UInt8 := [42, 180, 0, 22, 180, 0, 199, 172]
abbrev dktX1_actionsLeft_0 : List UInt8 := dkwX1_actionsLeft_0 ++ []
theorem dksX1_actionsLeft_0 : cX1_actionsLeft.data.toList.drop 0 = dktX1_actionsLeft_0 := by decide +kernel
theorem dX1_actionsLeft_0 : decode cX1_actionsLeft 0 = .ok (.aload_n 0, 1) := dk_42 (dk_at dksX1_actionsLeft_0 0 rfl rfl)
theorem dX1_actionsLeft_1 : decode cX1_actionsLeft 1 = .ok (.getfield 22, 3) := dk_180 0 22 (dk_at dksX1_actionsLeft_0 1 rfl rfl)
theorem dX1_actionsLeft_4 : decode cX1_actionsLeft 4 = .ok (.getfield 199, 3) := dk_180 0 199 (dk_at dksX1_actionsLeft_0 4 rfl rfl)
theorem dX1_actionsLeft_7 : decode cX1_actionsLeft 7 = .ok (.ireturn, 1) := dk_172 (dk_at dksX1_actionsLeft_0 7 rfl rfl)
abbrev cX1_twigCount : ByteArray := prog_1_method_25_code
def yX1_twigCount : MethodName := ⟨RX1, "twigCount", "()I"⟩
def dkwX1_twigCount_0 : List UInt8 := [42, 180, 0, 22, 182, 0, 202, 172]
abbrev dktX1_twigCount_0 : List UInt8 := dkwX1_twigCount_0 ++ []
theorem dksX1_twigCount_0 : cX1_twigCount.data.toList.drop 0 = dktX1_twigCount_0 := by decide +kernel
theorem dX1_twigCount_0 : decode cX1_twigCount 0 = .ok (.aload_n 0, 1) := dk_42 (dk_at dksX1_twigCount_0 0 rfl rfl)
theorem dX1_twigCount_1 : decode cX1_twigCount 1 = .ok (.getfield 22, 3) := dk_180 0 22 (dk_at dksX1_twigCount_0 1 rfl rfl)
theorem dX1_twigCount_4 : decode cX1_twigCount 4 = .ok (.invokevirtual 202, 3) := dk_182 0 202 (dk_at dksX1_twigCount_0 4 rfl rfl)
theorem dX1_twigCount_7 : decode cX1_twigCount 7 = .ok (.ireturn, 1) := dk_172 (dk_at dksX1_twigCount_0 7 rfl rfl)
abbrev cX1_nestCount : ByteArray := prog_1_method_34_code
def yX1_nestCount : MethodName := ⟨RX1, "nestCount", "()I"⟩
def dkwX1_nestCount_0 : List UInt8 := [42, 180, 0, 22, 182, 0, 240, 172]
abbrev dktX1_nestCount_0 : List UInt8 := dkwX1_nestCount_0 ++ []
theorem dksX1_nestCount_0 : cX1_nestCount.data.toList.drop 0 = dktX1_nestCount_0 := by decide +kernel
theorem dX1_nestCount_0 : decode cX1_nestCount 0 = .ok (.aload_n 0, 1) := dk_42 (dk_at dksX1_nestCount_0 0 rfl rfl)
theorem dX1_nestCount_1 : decode cX1_nestCount 1 = .ok (.getfield 22, 3) := dk_180 0 22 (dk_at dksX1_nestCount_0 1 rfl rfl)
theorem dX1_nestCount_4 : decode cX1_nestCount 4 = .ok (.invokevirtual 240, 3) := dk_182 0 240 (dk_at dksX1_nestCount_0 4 rfl rfl)
theorem dX1_nestCount_7 : decode cX1_nestCount 7 = .ok (.ireturn, 1) := dk_172 (dk_at dksX1_nestCount_0 7 rfl rfl)
abbrev cX1_longestFreeRun : ByteArray := prog_1_method_44_code
def yX1_longestFreeRun : MethodName := ⟨RX1, "longestFreeRun", "()I"⟩
def dkwX1_longestFreeRun_1 : List UInt8 := [184, 1, 44, 60, 132, 2, 1, 167, 255, 229, 27, 172]
abbrev dktX1_longestFreeRun_1 : List UInt8 := dkwX1_longestFreeRun_1 ++ []
def dkwX1_longestFreeRun_0 : List UInt8 := [3, 60, 3, 61, 28, 42, 180, 0, 22, 182, 0, 179, 162, 0, 22, 27, 42, 180, 0, 22, 28, 182, 1, 41]
abbrev dktX1_longestFreeRun_0 : List UInt8 := dkwX1_longestFreeRun_0 ++ dktX1_longestFreeRun_1
theorem dksX1_longestFreeRun_0 : cX1_longestFreeRun.data.toList.drop 0 = dktX1_longestFreeRun_0 := by decide +kernel
theorem dksX1_longestFreeRun_1 : cX1_longestFreeRun.data.toList.drop 24 = dktX1_longestFreeRun_1 := dk_seg dksX1_longestFreeRun_0 24 rfl rfl
theorem dX1_longestFreeRun_0 : decode cX1_longestFreeRun 0 = .ok (.iconst 0, 1) := dk_3 (dk_at dksX1_longestFreeRun_0 0 rfl rfl)
theorem dX1_longestFreeRun_1 : decode cX1_longestFreeRun 1 = .ok (.istore_n 1, 1) := dk_60 (dk_at dksX1_longestFreeRun_0 1 rfl rfl)
theorem dX1_longestFreeRun_2 : decode cX1_longestFreeRun 2 = .ok (.iconst 0, 1) := dk_3 (dk_at dksX1_longestFreeRun_0 2 rfl rfl)
theorem dX1_longestFreeRun_3 : decode cX1_longestFreeRun 3 = .ok (.istore_n 2, 1) := dk_61 (dk_at dksX1_longestFreeRun_0 3 rfl rfl)
theorem dX1_longestFreeRun_4 : decode cX1_longestFreeRun 4 = .ok (.iload_n 2, 1) := dk_28 (dk_at dksX1_longestFreeRun_0 4 rfl rfl)
theorem dX1_longestFreeRun_5 : decode cX1_longestFreeRun 5 = .ok (.aload_n 0, 1) := dk_42 (dk_at dksX1_longestFreeRun_0 5 rfl rfl)
theorem dX1_longestFreeRun_6 : decode cX1_longestFreeRun 6 = .ok (.getfield 22, 3) := dk_180 0 22 (dk_at dksX1_longestFreeRun_0 6 rfl rfl)
theorem dX1_longestFreeRun_9 : decode cX1_longestFreeRun 9 = .ok (.invokevirtual 179, 3) := dk_182 0 179 (dk_at dksX1_longestFreeRun_0 9 rfl rfl)
theorem dX1_longestFreeRun_12 : decode cX1_longestFreeRun 12 = .ok (.if_icmp .ge 22, 3) := dk_162 0 22 (dk_at dksX1_longestFreeRun_0 12 rfl rfl)
theorem dX1_longestFreeRun_15 : decode cX1_longestFreeRun 15 = .ok (.iload_n 1, 1) := dk_27 (dk_at dksX1_longestFreeRun_0 15 rfl rfl)
theorem dX1_longestFreeRun_16 : decode cX1_longestFreeRun 16 = .ok (.aload_n 0, 1) := dk_42 (dk_at dksX1_longestFreeRun_0 16 rfl rfl)
theorem dX1_longestFreeRun_17 : decode cX1_longestFreeRun 17 = .ok (.getfield 22, 3) := dk_180 0 22 (dk_at dksX1_longestFreeRun_0 17 rfl rfl)
theorem dX1_longestFreeRun_20 : decode cX1_longestFreeRun 20 = .ok (.iload_n 2, 1) := dk_28 (dk_at dksX1_longestFreeRun_0 20 rfl rfl)
theorem dX1_longestFreeRun_21 : decode cX1_longestFreeRun 21 = .ok (.invokevirtual 297, 3) := dk_182 1 41 (dk_at dksX1_longestFreeRun_0 21 rfl rfl)
theorem dX1_longestFreeRun_24 : decode cX1_longestFreeRun 24 = .ok (.invokestatic 300, 3) := dk_184 1 44 (dk_at dksX1_longestFreeRun_1 0 rfl rfl)
theorem dX1_longestFreeRun_27 : decode cX1_longestFreeRun 27 = .ok (.istore_n 1, 1) := dk_60 (dk_at dksX1_longestFreeRun_1 3 rfl rfl)
theorem dX1_longestFreeRun_28 : decode cX1_longestFreeRun 28 = .ok (.iinc 2 1, 3) := dk_132 2 1 (dk_at dksX1_longestFreeRun_1 4 rfl rfl)
theorem dX1_longestFreeRun_31 : decode cX1_longestFreeRun 31 = .ok (.goto (-27), 3) := dk_167 255 229 (dk_at dksX1_longestFreeRun_1 7 rfl rfl)
theorem dX1_longestFreeRun_34 : decode cX1_longestFreeRun 34 = .ok (.iload_n 1, 1) := dk_27 (dk_at dksX1_longestFreeRun_1 10 rfl rfl)
theorem dX1_longestFreeRun_35 : decode cX1_longestFreeRun 35 = .ok (.ireturn, 1) := dk_172 (dk_at dksX1_longestFreeRun_1 11 rfl rfl)
abbrev cX1_inRange : ByteArray := prog_1_method_1_code
def yX1_inRange : MethodName := ⟨RX1, "inRange", "(JJJ)Z"⟩
def dkwX1_inRange_0 : List UInt8 := [30, 32, 148, 155, 0, 14, 30, 22, 4, 148, 157, 0, 7, 4, 167, 0, 4, 3, 172]
abbrev dktX1_inRange_0 : List UInt8 := dkwX1_inRange_0 ++ []
theorem dksX1_inRange_0 : cX1_inRange.data.toList.drop 0 = dktX1_inRange_0 := by decide +kernel
theorem dX1_inRange_0 : decode cX1_inRange 0 = .ok (.lload_n 0, 1) := dk_30 (dk_at dksX1_inRange_0 0 rfl rfl)
theorem dX1_inRange_1 : decode cX1_inRange 1 = .ok (.lload_n 2, 1) := dk_32 (dk_at dksX1_inRange_0 1 rfl rfl)
theorem dX1_inRange_2 : decode cX1_inRange 2 = .ok (.lcmp, 1) := dk_148 (dk_at dksX1_inRange_0 2 rfl rfl)
theorem dX1_inRange_3 : decode cX1_inRange 3 = .ok (.ifCond .lt 14, 3) := dk_155 0 14 (dk_at dksX1_inRange_0 3 rfl rfl)
theorem dX1_inRange_6 : decode cX1_inRange 6 = .ok (.lload_n 0, 1) := dk_30 (dk_at dksX1_inRange_0 6 rfl rfl)
theorem dX1_inRange_7 : decode cX1_inRange 7 = .ok (.lload 4, 2) := dk_22 4 (dk_at dksX1_inRange_0 7 rfl rfl)
theorem dX1_inRange_9 : decode cX1_inRange 9 = .ok (.lcmp, 1) := dk_148 (dk_at dksX1_inRange_0 9 rfl rfl)
theorem dX1_inRange_10 : decode cX1_inRange 10 = .ok (.ifCond .gt 7, 3) := dk_157 0 7 (dk_at dksX1_inRange_0 10 rfl rfl)
theorem dX1_inRange_13 : decode cX1_inRange 13 = .ok (.iconst 1, 1) := dk_4 (dk_at dksX1_inRange_0 13 rfl rfl)
theorem dX1_inRange_14 : decode cX1_inRange 14 = .ok (.goto 4, 3) := dk_167 0 4 (dk_at dksX1_inRange_0 14 rfl rfl)
theorem dX1_inRange_17 : decode cX1_inRange 17 = .ok (.iconst 0, 1) := dk_3 (dk_at dksX1_inRange_0 17 rfl rfl)
theorem dX1_inRange_18 : decode cX1_inRange 18 = .ok (.ireturn, 1) := dk_172 (dk_at dksX1_inRange_0 18 rfl rfl)
abbrev cX1_yardLetterCount : ByteArray := prog_1_method_45_code
def yX1_yardLetterCount : MethodName := ⟨RX1, "yardLetterCount", "(I)I"⟩
def dkwX1_yardLetterCount_2 : List UInt8 := [108, 27, 160, 0, 7, 4, 167, 0, 4, 3, 96, 61, 167, 255, 211, 28, 172]
abbrev dktX1_yardLetterCount_2 : List UInt8 := dkwX1_yardLetterCount_2 ++ []
def dkwX1_yardLetterCount_1 : List UInt8 := [45, 185, 1, 65, 1, 0, 192, 1, 68, 182, 1, 70, 54, 4, 28, 21, 4, 42, 180, 0, 22, 180, 1, 73]
abbrev dktX1_yardLetterCount_1 : List UInt8 := dkwX1_yardLetterCount_1 ++ dktX1_yardLetterCount_2
def dkwX1_yardLetterCount_0 : List UInt8 := [3, 61, 42, 180, 0, 22, 182, 1, 50, 185, 1, 54, 1, 0, 78, 45, 185, 1, 60, 1, 0, 153, 0, 42]
abbrev dktX1_yardLetterCount_0 : List UInt8 := dkwX1_yardLetterCount_0 ++ dktX1_yardLetterCount_1
theorem dksX1_yardLetterCount_0 : cX1_yardLetterCount.data.toList.drop 0 = dktX1_yardLetterCount_0 := by decide +kernel
theorem dksX1_yardLetterCount_1 : cX1_yardLetterCount.data.toList.drop 24 = dktX1_yardLetterCount_1 := dk_seg dksX1_yardLetterCount_0 24 rfl rfl
theorem dksX1_yardLetterCount_2 : cX1_yardLetterCount.data.toList.drop 48 = dktX1_yardLetterCount_2 := dk_seg dksX1_yardLetterCount_1 24 rfl rfl
theorem dX1_yardLetterCount_0 : decode cX1_yardLetterCount 0 = .ok (.iconst 0, 1) := dk_3 (dk_at dksX1_yardLetterCount_0 0 rfl rfl)
theorem dX1_yardLetterCount_1 : decode cX1_yardLetterCount 1 = .ok (.istore_n 2, 1) := dk_61 (dk_at dksX1_yardLetterCount_0 1 rfl rfl)
theorem dX1_yardLetterCount_2 : decode cX1_yardLetterCount 2 = .ok (.aload_n 0, 1) := dk_42 (dk_at dksX1_yardLetterCount_0 2 rfl rfl)
theorem dX1_yardLetterCount_3 : decode cX1_yardLetterCount 3 = .ok (.getfield 22, 3) := dk_180 0 22 (dk_at dksX1_yardLetterCount_0 3 rfl rfl)
theorem dX1_yardLetterCount_6 : decode cX1_yardLetterCount 6 = .ok (.invokevirtual 306, 3) := dk_182 1 50 (dk_at dksX1_yardLetterCount_0 6 rfl rfl)
theorem dX1_yardLetterCount_9 : decode cX1_yardLetterCount 9 = .ok (.invokeinterface 310 1, 5) := by decide +kernel
theorem dX1_yardLetterCount_14 : decode cX1_yardLetterCount 14 = .ok (.astore_n 3, 1) := dk_78 (dk_at dksX1_yardLetterCount_0 14 rfl rfl)
theorem dX1_yardLetterCount_15 : decode cX1_yardLetterCount 15 = .ok (.aload_n 3, 1) := dk_45 (dk_at dksX1_yardLetterCount_0 15 rfl rfl)
theorem dX1_yardLetterCount_16 : decode cX1_yardLetterCount 16 = .ok (.invokeinterface 316 1, 5) := by decide +kernel
theorem dX1_yardLetterCount_21 : decode cX1_yardLetterCount 21 = .ok (.ifCond .eq 42, 3) := dk_153 0 42 (dk_at dksX1_yardLetterCount_0 21 rfl rfl)
theorem dX1_yardLetterCount_24 : decode cX1_yardLetterCount 24 = .ok (.aload_n 3, 1) := dk_45 (dk_at dksX1_yardLetterCount_1 0 rfl rfl)
theorem dX1_yardLetterCount_25 : decode cX1_yardLetterCount 25 = .ok (.invokeinterface 321 1, 5) := by decide +kernel
theorem dX1_yardLetterCount_30 : decode cX1_yardLetterCount 30 = .ok (.checkcast 324, 3) := dk_192 1 68 (dk_at dksX1_yardLetterCount_1 6 rfl rfl)
theorem dX1_yardLetterCount_33 : decode cX1_yardLetterCount 33 = .ok (.invokevirtual 326, 3) := dk_182 1 70 (dk_at dksX1_yardLetterCount_1 9 rfl rfl)
theorem dX1_yardLetterCount_36 : decode cX1_yardLetterCount 36 = .ok (.istore 4, 2) := dk_54 4 (dk_at dksX1_yardLetterCount_1 12 rfl rfl)
theorem dX1_yardLetterCount_38 : decode cX1_yardLetterCount 38 = .ok (.iload_n 2, 1) := dk_28 (dk_at dksX1_yardLetterCount_1 14 rfl rfl)
theorem dX1_yardLetterCount_39 : decode cX1_yardLetterCount 39 = .ok (.iload 4, 2) := dk_21 4 (dk_at dksX1_yardLetterCount_1 15 rfl rfl)
theorem dX1_yardLetterCount_41 : decode cX1_yardLetterCount 41 = .ok (.aload_n 0, 1) := dk_42 (dk_at dksX1_yardLetterCount_1 17 rfl rfl)
theorem dX1_yardLetterCount_42 : decode cX1_yardLetterCount 42 = .ok (.getfield 22, 3) := dk_180 0 22 (dk_at dksX1_yardLetterCount_1 18 rfl rfl)
theorem dX1_yardLetterCount_45 : decode cX1_yardLetterCount 45 = .ok (.getfield 329, 3) := dk_180 1 73 (dk_at dksX1_yardLetterCount_1 21 rfl rfl)
theorem dX1_yardLetterCount_48 : decode cX1_yardLetterCount 48 = .ok (.idiv, 1) := dk_108 (dk_at dksX1_yardLetterCount_2 0 rfl rfl)
theorem dX1_yardLetterCount_49 : decode cX1_yardLetterCount 49 = .ok (.iload_n 1, 1) := dk_27 (dk_at dksX1_yardLetterCount_2 1 rfl rfl)
theorem dX1_yardLetterCount_50 : decode cX1_yardLetterCount 50 = .ok (.if_icmp .ne 7, 3) := dk_160 0 7 (dk_at dksX1_yardLetterCount_2 2 rfl rfl)
theorem dX1_yardLetterCount_53 : decode cX1_yardLetterCount 53 = .ok (.iconst 1, 1) := dk_4 (dk_at dksX1_yardLetterCount_2 5 rfl rfl)
theorem dX1_yardLetterCount_54 : decode cX1_yardLetterCount 54 = .ok (.goto 4, 3) := dk_167 0 4 (dk_at dksX1_yardLetterCount_2 6 rfl rfl)
theorem dX1_yardLetterCount_57 : decode cX1_yardLetterCount 57 = .ok (.iconst 0, 1) := dk_3 (dk_at dksX1_yardLetterCount_2 9 rfl rfl)
theorem dX1_yardLetterCount_58 : decode cX1_yardLetterCount 58 = .ok (.iadd, 1) := dk_96 (dk_at dksX1_yardLetterCount_2 10 rfl rfl)
theorem dX1_yardLetterCount_59 : decode cX1_yardLetterCount 59 = .ok (.istore_n 2, 1) := dk_61 (dk_at dksX1_yardLetterCount_2 11 rfl rfl)
theorem dX1_yardLetterCount_60 : decode cX1_yardLetterCount 60 = .ok (.goto (-45), 3) := dk_167 255 211 (dk_at dksX1_yardLetterCount_2 12 rfl rfl)
theorem dX1_yardLetterCount_63 : decode cX1_yardLetterCount 63 = .ok (.iload_n 2, 1) := dk_28 (dk_at dksX1_yardLetterCount_2 15 rfl rfl)
theorem dX1_yardLetterCount_64 : decode cX1_yardLetterCount 64 = .ok (.ireturn, 1) := dk_172 (dk_at dksX1_yardLetterCount_2 16 rfl rfl)
abbrev cX1_daysUntilInspection : ByteArray := prog_1_method_55_code
def yX1_daysUntilInspection : MethodName := ⟨RX1, "daysUntilInspection", "()I"⟩
def dkwX1_daysUntilInspection_0 : List UInt8 := [42, 180, 0, 22, 180, 1, 99, 42, 180, 0, 22, 180, 0, 190, 42, 180, 0, 22, 180, 1, 99, 112, 100, 172]
abbrev dktX1_daysUntilInspection_0 : List UInt8 := dkwX1_daysUntilInspection_0 ++ []
theorem dksX1_daysUntilInspection_0 : cX1_daysUntilInspection.data.toList.drop 0 = dktX1_daysUntilInspection_0 := by decide +kernel
theorem dX1_daysUntilInspection_0 : decode cX1_daysUntilInspection 0 = .ok (.aload_n 0, 1) := dk_42 (dk_at dksX1_daysUntilInspection_0 0 rfl rfl)
theorem dX1_daysUntilInspection_1 : decode cX1_daysUntilInspection 1 = .ok (.getfield 22, 3) := dk_180 0 22 (dk_at dksX1_daysUntilInspection_0 1 rfl rfl)
theorem dX1_daysUntilInspection_4 : decode cX1_daysUntilInspection 4 = .ok (.getfield 355, 3) := dk_180 1 99 (dk_at dksX1_daysUntilInspection_0 4 rfl rfl)
theorem dX1_daysUntilInspection_7 : decode cX1_daysUntilInspection 7 = .ok (.aload_n 0, 1) := dk_42 (dk_at dksX1_daysUntilInspection_0 7 rfl rfl)
theorem dX1_daysUntilInspection_8 : decode cX1_daysUntilInspection 8 = .ok (.getfield 22, 3) := dk_180 0 22 (dk_at dksX1_daysUntilInspection_0 8 rfl rfl)
theorem dX1_daysUntilInspection_11 : decode cX1_daysUntilInspection 11 = .ok (.getfield 190, 3) := dk_180 0 190 (dk_at dksX1_daysUntilInspection_0 11 rfl rfl)
theorem dX1_daysUntilInspection_14 : decode cX1_daysUntilInspection 14 = .ok (.aload_n 0, 1) := dk_42 (dk_at dksX1_daysUntilInspection_0 14 rfl rfl)
theorem dX1_daysUntilInspection_15 : decode cX1_daysUntilInspection 15 = .ok (.getfield 22, 3) := dk_180 0 22 (dk_at dksX1_daysUntilInspection_0 15 rfl rfl)
theorem dX1_daysUntilInspection_18 : decode cX1_daysUntilInspection 18 = .ok (.getfield 355, 3) := dk_180 1 99 (dk_at dksX1_daysUntilInspection_0 18 rfl rfl)
theorem dX1_daysUntilInspection_21 : decode cX1_daysUntilInspection 21 = .ok (.irem, 1) := dk_112 (dk_at dksX1_daysUntilInspection_0 21 rfl rfl)
theorem dX1_daysUntilInspection_22 : decode cX1_daysUntilInspection 22 = .ok (.isub, 1) := dk_100 (dk_at dksX1_daysUntilInspection_0 22 rfl rfl)
theorem dX1_daysUntilInspection_23 : decode cX1_daysUntilInspection 23 = .ok (.ireturn, 1) := dk_172 (dk_at dksX1_daysUntilInspection_0 23 rfl rfl)
abbrev cX1_bestNestSlot : ByteArray := prog_1_method_61_code
def yX1_bestNestSlot : MethodName := ⟨RX1, "bestNestSlot", "()I"⟩
def dkwX1_bestNestSlot_3 : List UInt8 := [27, 172]
abbrev dktX1_bestNestSlot_3 : List UInt8 := dkwX1_bestNestSlot_3 ++ []
def dkwX1_bestNestSlot_2 : List UInt8 := [182, 1, 133, 28, 163, 0, 6, 167, 0, 11, 29, 60, 42, 29, 182, 1, 133, 61, 132, 3, 1, 167, 255, 210]
abbrev dktX1_bestNestSlot_2 : List UInt8 := dkwX1_bestNestSlot_2 ++ dktX1_bestNestSlot_3
def dkwX1_bestNestSlot_1 : List UInt8 := [180, 0, 22, 182, 0, 179, 162, 0, 41, 42, 180, 0, 22, 180, 0, 64, 29, 46, 157, 0, 23, 42, 29]
abbrev dktX1_bestNestSlot_1 : List UInt8 := dkwX1_bestNestSlot_1 ++ dktX1_bestNestSlot_2
def dkwX1_bestNestSlot_0 : List UInt8 := [42, 180, 0, 22, 182, 0, 240, 16, 6, 160, 0, 5, 2, 172, 2, 60, 2, 61, 3, 62, 29, 42]
abbrev dktX1_bestNestSlot_0 : List UInt8 := dkwX1_bestNestSlot_0 ++ dktX1_bestNestSlot_1
theorem dksX1_bestNestSlot_0 : cX1_bestNestSlot.data.toList.drop 0 = dktX1_bestNestSlot_0 := by decide +kernel
theorem dksX1_bestNestSlot_1 : cX1_bestNestSlot.data.toList.drop 22 = dktX1_bestNestSlot_1 := dk_seg dksX1_bestNestSlot_0 22 rfl rfl
theorem dksX1_bestNestSlot_2 : cX1_bestNestSlot.data.toList.drop 45 = dktX1_bestNestSlot_2 := dk_seg dksX1_bestNestSlot_1 23 rfl rfl
theorem dksX1_bestNestSlot_3 : cX1_bestNestSlot.data.toList.drop 69 = dktX1_bestNestSlot_3 := dk_seg dksX1_bestNestSlot_2 24 rfl rfl
theorem dX1_bestNestSlot_0 : decode cX1_bestNestSlot 0 = .ok (.aload_n 0, 1) := dk_42 (dk_at dksX1_bestNestSlot_0 0 rfl rfl)
theorem dX1_bestNestSlot_1 : decode cX1_bestNestSlot 1 = .ok (.getfield 22, 3) := dk_180 0 22 (dk_at dksX1_bestNestSlot_0 1 rfl rfl)
theorem dX1_bestNestSlot_4 : decode cX1_bestNestSlot 4 = .ok (.invokevirtual 240, 3) := dk_182 0 240 (dk_at dksX1_bestNestSlot_0 4 rfl rfl)
theorem dX1_bestNestSlot_7 : decode cX1_bestNestSlot 7 = .ok (.bipush 6, 2) := dk_16 6 (dk_at dksX1_bestNestSlot_0 7 rfl rfl)
theorem dX1_bestNestSlot_9 : decode cX1_bestNestSlot 9 = .ok (.if_icmp .ne 5, 3) := dk_160 0 5 (dk_at dksX1_bestNestSlot_0 9 rfl rfl)
theorem dX1_bestNestSlot_12 : decode cX1_bestNestSlot 12 = .ok (.iconst (-1), 1) := dk_2 (dk_at dksX1_bestNestSlot_0 12 rfl rfl)
theorem dX1_bestNestSlot_13 : decode cX1_bestNestSlot 13 = .ok (.ireturn, 1) := dk_172 (dk_at dksX1_bestNestSlot_0 13 rfl rfl)
theorem dX1_bestNestSlot_14 : decode cX1_bestNestSlot 14 = .ok (.iconst (-1), 1) := dk_2 (dk_at dksX1_bestNestSlot_0 14 rfl rfl)
theorem dX1_bestNestSlot_15 : decode cX1_bestNestSlot 15 = .ok (.istore_n 1, 1) := dk_60 (dk_at dksX1_bestNestSlot_0 15 rfl rfl)
theorem dX1_bestNestSlot_16 : decode cX1_bestNestSlot 16 = .ok (.iconst (-1), 1) := dk_2 (dk_at dksX1_bestNestSlot_0 16 rfl rfl)
theorem dX1_bestNestSlot_17 : decode cX1_bestNestSlot 17 = .ok (.istore_n 2, 1) := dk_61 (dk_at dksX1_bestNestSlot_0 17 rfl rfl)
theorem dX1_bestNestSlot_18 : decode cX1_bestNestSlot 18 = .ok (.iconst 0, 1) := dk_3 (dk_at dksX1_bestNestSlot_0 18 rfl rfl)
theorem dX1_bestNestSlot_19 : decode cX1_bestNestSlot 19 = .ok (.istore_n 3, 1) := dk_62 (dk_at dksX1_bestNestSlot_0 19 rfl rfl)
theorem dX1_bestNestSlot_20 : decode cX1_bestNestSlot 20 = .ok (.iload_n 3, 1) := dk_29 (dk_at dksX1_bestNestSlot_0 20 rfl rfl)
theorem dX1_bestNestSlot_21 : decode cX1_bestNestSlot 21 = .ok (.aload_n 0, 1) := dk_42 (dk_at dksX1_bestNestSlot_0 21 rfl rfl)
theorem dX1_bestNestSlot_22 : decode cX1_bestNestSlot 22 = .ok (.getfield 22, 3) := dk_180 0 22 (dk_at dksX1_bestNestSlot_1 0 rfl rfl)
theorem dX1_bestNestSlot_25 : decode cX1_bestNestSlot 25 = .ok (.invokevirtual 179, 3) := dk_182 0 179 (dk_at dksX1_bestNestSlot_1 3 rfl rfl)
theorem dX1_bestNestSlot_28 : decode cX1_bestNestSlot 28 = .ok (.if_icmp .ge 41, 3) := dk_162 0 41 (dk_at dksX1_bestNestSlot_1 6 rfl rfl)
theorem dX1_bestNestSlot_31 : decode cX1_bestNestSlot 31 = .ok (.aload_n 0, 1) := dk_42 (dk_at dksX1_bestNestSlot_1 9 rfl rfl)
theorem dX1_bestNestSlot_32 : decode cX1_bestNestSlot 32 = .ok (.getfield 22, 3) := dk_180 0 22 (dk_at dksX1_bestNestSlot_1 10 rfl rfl)
theorem dX1_bestNestSlot_35 : decode cX1_bestNestSlot 35 = .ok (.getfield 64, 3) := dk_180 0 64 (dk_at dksX1_bestNestSlot_1 13 rfl rfl)
theorem dX1_bestNestSlot_38 : decode cX1_bestNestSlot 38 = .ok (.iload_n 3, 1) := dk_29 (dk_at dksX1_bestNestSlot_1 16 rfl rfl)
theorem dX1_bestNestSlot_39 : decode cX1_bestNestSlot 39 = .ok (.iaload, 1) := dk_46 (dk_at dksX1_bestNestSlot_1 17 rfl rfl)
theorem dX1_bestNestSlot_40 : decode cX1_bestNestSlot 40 = .ok (.ifCond .gt 23, 3) := dk_157 0 23 (dk_at dksX1_bestNestSlot_1 18 rfl rfl)
theorem dX1_bestNestSlot_43 : decode cX1_bestNestSlot 43 = .ok (.aload_n 0, 1) := dk_42 (dk_at dksX1_bestNestSlot_1 21 rfl rfl)
theorem dX1_bestNestSlot_44 : decode cX1_bestNestSlot 44 = .ok (.iload_n 3, 1) := dk_29 (dk_at dksX1_bestNestSlot_1 22 rfl rfl)
theorem dX1_bestNestSlot_45 : decode cX1_bestNestSlot 45 = .ok (.invokevirtual 389, 3) := dk_182 1 133 (dk_at dksX1_bestNestSlot_2 0 rfl rfl)
theorem dX1_bestNestSlot_48 : decode cX1_bestNestSlot 48 = .ok (.iload_n 2, 1) := dk_28 (dk_at dksX1_bestNestSlot_2 3 rfl rfl)
theorem dX1_bestNestSlot_49 : decode cX1_bestNestSlot 49 = .ok (.if_icmp .gt 6, 3) := dk_163 0 6 (dk_at dksX1_bestNestSlot_2 4 rfl rfl)
theorem dX1_bestNestSlot_52 : decode cX1_bestNestSlot 52 = .ok (.goto 11, 3) := dk_167 0 11 (dk_at dksX1_bestNestSlot_2 7 rfl rfl)
theorem dX1_bestNestSlot_55 : decode cX1_bestNestSlot 55 = .ok (.iload_n 3, 1) := dk_29 (dk_at dksX1_bestNestSlot_2 10 rfl rfl)
theorem dX1_bestNestSlot_56 : decode cX1_bestNestSlot 56 = .ok (.istore_n 1, 1) := dk_60 (dk_at dksX1_bestNestSlot_2 11 rfl rfl)
theorem dX1_bestNestSlot_57 : decode cX1_bestNestSlot 57 = .ok (.aload_n 0, 1) := dk_42 (dk_at dksX1_bestNestSlot_2 12 rfl rfl)
theorem dX1_bestNestSlot_58 : decode cX1_bestNestSlot 58 = .ok (.iload_n 3, 1) := dk_29 (dk_at dksX1_bestNestSlot_2 13 rfl rfl)
theorem dX1_bestNestSlot_59 : decode cX1_bestNestSlot 59 = .ok (.invokevirtual 389, 3) := dk_182 1 133 (dk_at dksX1_bestNestSlot_2 14 rfl rfl)
theorem dX1_bestNestSlot_62 : decode cX1_bestNestSlot 62 = .ok (.istore_n 2, 1) := dk_61 (dk_at dksX1_bestNestSlot_2 17 rfl rfl)
theorem dX1_bestNestSlot_63 : decode cX1_bestNestSlot 63 = .ok (.iinc 3 1, 3) := dk_132 3 1 (dk_at dksX1_bestNestSlot_2 18 rfl rfl)
theorem dX1_bestNestSlot_66 : decode cX1_bestNestSlot 66 = .ok (.goto (-46), 3) := dk_167 255 210 (dk_at dksX1_bestNestSlot_2 21 rfl rfl)
theorem dX1_bestNestSlot_69 : decode cX1_bestNestSlot 69 = .ok (.iload_n 1, 1) := dk_27 (dk_at dksX1_bestNestSlot_3 0 rfl rfl)
theorem dX1_bestNestSlot_70 : decode cX1_bestNestSlot 70 = .ok (.ireturn, 1) := dk_172 (dk_at dksX1_bestNestSlot_3 1 rfl rfl)
abbrev cX1_savedBy : ByteArray := prog_1_method_60_code
def yX1_savedBy : MethodName := ⟨RX1, "savedBy", "(I)I"⟩
def dkwX1_savedBy_1 : List UInt8 := [182, 1, 127, 132, 3, 1, 167, 255, 241, 44, 180, 1, 130, 172]
abbrev dktX1_savedBy_1 : List UInt8 := dkwX1_savedBy_1 ++ []
def dkwX1_savedBy_0 : List UInt8 := [187, 1, 124, 89, 42, 183, 1, 126, 77, 27, 4, 100, 62, 29, 27, 4, 96, 163, 0, 14, 44, 29]
abbrev dktX1_savedBy_0 : List UInt8 := dkwX1_savedBy_0 ++ dktX1_savedBy_1
theorem dksX1_savedBy_0 : cX1_savedBy.data.toList.drop 0 = dktX1_savedBy_0 := by decide +kernel
theorem dksX1_savedBy_1 : cX1_savedBy.data.toList.drop 22 = dktX1_savedBy_1 := dk_seg dksX1_savedBy_0 22 rfl rfl
theorem dX1_savedBy_0 : decode cX1_savedBy 0 = .ok (.new 380, 3) := dk_187 1 124 (dk_at dksX1_savedBy_0 0 rfl rfl)
theorem dX1_savedBy_3 : decode cX1_savedBy 3 = .ok (.dup, 1) := dk_89 (dk_at dksX1_savedBy_0 3 rfl rfl)
theorem dX1_savedBy_4 : decode cX1_savedBy 4 = .ok (.aload_n 0, 1) := dk_42 (dk_at dksX1_savedBy_0 4 rfl rfl)
theorem dX1_savedBy_5 : decode cX1_savedBy 5 = .ok (.invokespecial 382, 3) := dk_183 1 126 (dk_at dksX1_savedBy_0 5 rfl rfl)
theorem dX1_savedBy_8 : decode cX1_savedBy 8 = .ok (.astore_n 2, 1) := dk_77 (dk_at dksX1_savedBy_0 8 rfl rfl)
theorem dX1_savedBy_9 : decode cX1_savedBy 9 = .ok (.iload_n 1, 1) := dk_27 (dk_at dksX1_savedBy_0 9 rfl rfl)
theorem dX1_savedBy_10 : decode cX1_savedBy 10 = .ok (.iconst 1, 1) := dk_4 (dk_at dksX1_savedBy_0 10 rfl rfl)
theorem dX1_savedBy_11 : decode cX1_savedBy 11 = .ok (.isub, 1) := dk_100 (dk_at dksX1_savedBy_0 11 rfl rfl)
theorem dX1_savedBy_12 : decode cX1_savedBy 12 = .ok (.istore_n 3, 1) := dk_62 (dk_at dksX1_savedBy_0 12 rfl rfl)
theorem dX1_savedBy_13 : decode cX1_savedBy 13 = .ok (.iload_n 3, 1) := dk_29 (dk_at dksX1_savedBy_0 13 rfl rfl)
theorem dX1_savedBy_14 : decode cX1_savedBy 14 = .ok (.iload_n 1, 1) := dk_27 (dk_at dksX1_savedBy_0 14 rfl rfl)
theorem dX1_savedBy_15 : decode cX1_savedBy 15 = .ok (.iconst 1, 1) := dk_4 (dk_at dksX1_savedBy_0 15 rfl rfl)
theorem dX1_savedBy_16 : decode cX1_savedBy 16 = .ok (.iadd, 1) := dk_96 (dk_at dksX1_savedBy_0 16 rfl rfl)
theorem dX1_savedBy_17 : decode cX1_savedBy 17 = .ok (.if_icmp .gt 14, 3) := dk_163 0 14 (dk_at dksX1_savedBy_0 17 rfl rfl)
theorem dX1_savedBy_20 : decode cX1_savedBy 20 = .ok (.aload_n 2, 1) := dk_44 (dk_at dksX1_savedBy_0 20 rfl rfl)
theorem dX1_savedBy_21 : decode cX1_savedBy 21 = .ok (.iload_n 3, 1) := dk_29 (dk_at dksX1_savedBy_0 21 rfl rfl)
theorem dX1_savedBy_22 : decode cX1_savedBy 22 = .ok (.invokevirtual 383, 3) := dk_182 1 127 (dk_at dksX1_savedBy_1 0 rfl rfl)
theorem dX1_savedBy_25 : decode cX1_savedBy 25 = .ok (.iinc 3 1, 3) := dk_132 3 1 (dk_at dksX1_savedBy_1 3 rfl rfl)
theorem dX1_savedBy_28 : decode cX1_savedBy 28 = .ok (.goto (-15), 3) := dk_167 255 241 (dk_at dksX1_savedBy_1 6 rfl rfl)
theorem dX1_savedBy_31 : decode cX1_savedBy 31 = .ok (.aload_n 2, 1) := dk_44 (dk_at dksX1_savedBy_1 9 rfl rfl)
theorem dX1_savedBy_32 : decode cX1_savedBy 32 = .ok (.getfield 386, 3) := dk_180 1 130 (dk_at dksX1_savedBy_1 10 rfl rfl)
theorem dX1_savedBy_35 : decode cX1_savedBy 35 = .ok (.ireturn, 1) := dk_172 (dk_at dksX1_savedBy_1 13 rfl rfl)
abbrev cX1_twigsPlanted : ByteArray := prog_1_method_69_code
def yX1_twigsPlanted : MethodName := ⟨RX1, "twigsPlanted", "()I"⟩
def dkwX1_twigsPlanted_0 : List UInt8 := [42, 180, 0, 22, 180, 1, 153, 172]
abbrev dktX1_twigsPlanted_0 : List UInt8 := dkwX1_twigsPlanted_0 ++ []
theorem dksX1_twigsPlanted_0 : cX1_twigsPlanted.data.toList.drop 0 = dktX1_twigsPlanted_0 := by decide +kernel
theorem dX1_twigsPlanted_0 : decode cX1_twigsPlanted 0 = .ok (.aload_n 0, 1) := dk_42 (dk_at dksX1_twigsPlanted_0 0 rfl rfl)
theorem dX1_twigsPlanted_1 : decode cX1_twigsPlanted 1 = .ok (.getfield 22, 3) := dk_180 0 22 (dk_at dksX1_twigsPlanted_0 1 rfl rfl)
theorem dX1_twigsPlanted_4 : decode cX1_twigsPlanted 4 = .ok (.getfield 409, 3) := dk_180 1 153 (dk_at dksX1_twigsPlanted_0 4 rfl rfl)
theorem dX1_twigsPlanted_7 : decode cX1_twigsPlanted 7 = .ok (.ireturn, 1) := dk_172 (dk_at dksX1_twigsPlanted_0 7 rfl rfl)
abbrev cX1_twigsPruned : ByteArray := prog_1_method_70_code
def yX1_twigsPruned : MethodName := ⟨RX1, "twigsPruned", "()I"⟩
def dkwX1_twigsPruned_0 : List UInt8 := [42, 180, 0, 22, 180, 1, 156, 172]
abbrev dktX1_twigsPruned_0 : List UInt8 := dkwX1_twigsPruned_0 ++ []
theorem dksX1_twigsPruned_0 : cX1_twigsPruned.data.toList.drop 0 = dktX1_twigsPruned_0 := by decide +kernel
theorem dX1_twigsPruned_0 : decode cX1_twigsPruned 0 = .ok (.aload_n 0, 1) := dk_42 (dk_at dksX1_twigsPruned_0 0 rfl rfl)
theorem dX1_twigsPruned_1 : decode cX1_twigsPruned 1 = .ok (.getfield 22, 3) := dk_180 0 22 (dk_at dksX1_twigsPruned_0 1 rfl rfl)
theorem dX1_twigsPruned_4 : decode cX1_twigsPruned 4 = .ok (.getfield 412, 3) := dk_180 1 156 (dk_at dksX1_twigsPruned_0 4 rfl rfl)
theorem dX1_twigsPruned_7 : decode cX1_twigsPruned 7 = .ok (.ireturn, 1) := dk_172 (dk_at dksX1_twigsPruned_0 7 rfl rfl)
abbrev cX1_twigsRemoved : ByteArray := prog_1_method_71_code
def yX1_twigsRemoved : MethodName := ⟨RX1, "twigsRemoved", "()I"⟩
def dkwX1_twigsRemoved_0 : List UInt8 := [42, 180, 0, 22, 180, 1, 159, 172]
abbrev dktX1_twigsRemoved_0 : List UInt8 := dkwX1_twigsRemoved_0 ++ []
theorem dksX1_twigsRemoved_0 : cX1_twigsRemoved.data.toList.drop 0 = dktX1_twigsRemoved_0 := by decide +kernel
theorem dX1_twigsRemoved_0 : decode cX1_twigsRemoved 0 = .ok (.aload_n 0, 1) := dk_42 (dk_at dksX1_twigsRemoved_0 0 rfl rfl)
theorem dX1_twigsRemoved_1 : decode cX1_twigsRemoved 1 = .ok (.getfield 22, 3) := dk_180 0 22 (dk_at dksX1_twigsRemoved_0 1 rfl rfl)
theorem dX1_twigsRemoved_4 : decode cX1_twigsRemoved 4 = .ok (.getfield 415, 3) := dk_180 1 159 (dk_at dksX1_twigsRemoved_0 4 rfl rfl)
theorem dX1_twigsRemoved_7 : decode cX1_twigsRemoved 7 = .ok (.ireturn, 1) := dk_172 (dk_at dksX1_twigsRemoved_0 7 rfl rfl)
abbrev cX1_twigImbalance : ByteArray := prog_1_method_72_code
def yX1_twigImbalance : MethodName := ⟨RX1, "twigImbalance", "()I"⟩
def dkwX1_twigImbalance_1 : List UInt8 := [180, 0, 22, 182, 0, 202, 100, 172]
abbrev dktX1_twigImbalance_1 : List UInt8 := dkwX1_twigImbalance_1 ++ []
def dkwX1_twigImbalance_0 : List UInt8 := [42, 180, 0, 22, 180, 1, 153, 42, 180, 0, 22, 180, 1, 156, 100, 42, 180, 0, 22, 180, 1, 159, 100, 42]
abbrev dktX1_twigImbalance_0 : List UInt8 := dkwX1_twigImbalance_0 ++ dktX1_twigImbalance_1
theorem dksX1_twigImbalance_0 : cX1_twigImbalance.data.toList.drop 0 = dktX1_twigImbalance_0 := by decide +kernel
theorem dksX1_twigImbalance_1 : cX1_twigImbalance.data.toList.drop 24 = dktX1_twigImbalance_1 := dk_seg dksX1_twigImbalance_0 24 rfl rfl
theorem dX1_twigImbalance_0 : decode cX1_twigImbalance 0 = .ok (.aload_n 0, 1) := dk_42 (dk_at dksX1_twigImbalance_0 0 rfl rfl)
theorem dX1_twigImbalance_1 : decode cX1_twigImbalance 1 = .ok (.getfield 22, 3) := dk_180 0 22 (dk_at dksX1_twigImbalance_0 1 rfl rfl)
theorem dX1_twigImbalance_4 : decode cX1_twigImbalance 4 = .ok (.getfield 409, 3) := dk_180 1 153 (dk_at dksX1_twigImbalance_0 4 rfl rfl)
theorem dX1_twigImbalance_7 : decode cX1_twigImbalance 7 = .ok (.aload_n 0, 1) := dk_42 (dk_at dksX1_twigImbalance_0 7 rfl rfl)
theorem dX1_twigImbalance_8 : decode cX1_twigImbalance 8 = .ok (.getfield 22, 3) := dk_180 0 22 (dk_at dksX1_twigImbalance_0 8 rfl rfl)
theorem dX1_twigImbalance_11 : decode cX1_twigImbalance 11 = .ok (.getfield 412, 3) := dk_180 1 156 (dk_at dksX1_twigImbalance_0 11 rfl rfl)
theorem dX1_twigImbalance_14 : decode cX1_twigImbalance 14 = .ok (.isub, 1) := dk_100 (dk_at dksX1_twigImbalance_0 14 rfl rfl)
theorem dX1_twigImbalance_15 : decode cX1_twigImbalance 15 = .ok (.aload_n 0, 1) := dk_42 (dk_at dksX1_twigImbalance_0 15 rfl rfl)
theorem dX1_twigImbalance_16 : decode cX1_twigImbalance 16 = .ok (.getfield 22, 3) := dk_180 0 22 (dk_at dksX1_twigImbalance_0 16 rfl rfl)
theorem dX1_twigImbalance_19 : decode cX1_twigImbalance 19 = .ok (.getfield 415, 3) := dk_180 1 159 (dk_at dksX1_twigImbalance_0 19 rfl rfl)
theorem dX1_twigImbalance_22 : decode cX1_twigImbalance 22 = .ok (.isub, 1) := dk_100 (dk_at dksX1_twigImbalance_0 22 rfl rfl)
theorem dX1_twigImbalance_23 : decode cX1_twigImbalance 23 = .ok (.aload_n 0, 1) := dk_42 (dk_at dksX1_twigImbalance_0 23 rfl rfl)
theorem dX1_twigImbalance_24 : decode cX1_twigImbalance 24 = .ok (.getfield 22, 3) := dk_180 0 22 (dk_at dksX1_twigImbalance_1 0 rfl rfl)
theorem dX1_twigImbalance_27 : decode cX1_twigImbalance 27 = .ok (.invokevirtual 202, 3) := dk_182 0 202 (dk_at dksX1_twigImbalance_1 3 rfl rfl)
theorem dX1_twigImbalance_30 : decode cX1_twigImbalance 30 = .ok (.isub, 1) := dk_100 (dk_at dksX1_twigImbalance_1 6 rfl rfl)
theorem dX1_twigImbalance_31 : decode cX1_twigImbalance 31 = .ok (.ireturn, 1) := dk_172 (dk_at dksX1_twigImbalance_1 7 rfl rfl)
abbrev cX1_messageImbalance : ByteArray := prog_1_method_73_code
def yX1_messageImbalance : MethodName := ⟨RX1, "messageImbalance", "()I"⟩
def dkwX1_messageImbalance_4 : List UInt8 := [27, 172]
abbrev dktX1_messageImbalance_4 : List UInt8 := dkwX1_messageImbalance_4 ++ []
def dkwX1_messageImbalance_3 : List UInt8 := [180, 0, 22, 180, 1, 15, 28, 50, 199, 0, 7, 3, 167, 0, 4, 4, 100, 60, 132, 2, 1, 167, 255, 170]
abbrev dktX1_messageImbalance_3 : List UInt8 := dkwX1_messageImbalance_3 ++ dktX1_messageImbalance_4
def dkwX1_messageImbalance_2 : List UInt8 := [192, 0, 251, 185, 1, 4, 1, 0, 100, 42, 180, 0, 22, 28, 182, 1, 29, 100, 96, 60, 27, 42]
abbrev dktX1_messageImbalance_2 : List UInt8 := dkwX1_messageImbalance_2 ++ dktX1_messageImbalance_3
def dkwX1_messageImbalance_1 : List UInt8 := [45, 182, 1, 119, 100, 45, 182, 1, 150, 100, 42, 180, 0, 22, 180, 0, 246, 28, 185, 0, 250, 2, 0]
abbrev dktX1_messageImbalance_1 : List UInt8 := dkwX1_messageImbalance_1 ++ dktX1_messageImbalance_2
def dkwX1_messageImbalance_0 : List UInt8 := [3, 60, 3, 61, 28, 5, 162, 0, 87, 42, 180, 0, 22, 180, 1, 115, 28, 50, 78, 27, 45, 182, 1, 144]
abbrev dktX1_messageImbalance_0 : List UInt8 := dkwX1_messageImbalance_0 ++ dktX1_messageImbalance_1
theorem dksX1_messageImbalance_0 : cX1_messageImbalance.data.toList.drop 0 = dktX1_messageImbalance_0 := by decide +kernel
theorem dksX1_messageImbalance_1 : cX1_messageImbalance.data.toList.drop 24 = dktX1_messageImbalance_1 := dk_seg dksX1_messageImbalance_0 24 rfl rfl
theorem dksX1_messageImbalance_2 : cX1_messageImbalance.data.toList.drop 47 = dktX1_messageImbalance_2 := dk_seg dksX1_messageImbalance_1 23 rfl rfl
theorem dksX1_messageImbalance_3 : cX1_messageImbalance.data.toList.drop 69 = dktX1_messageImbalance_3 := dk_seg dksX1_messageImbalance_2 22 rfl rfl
theorem dksX1_messageImbalance_4 : cX1_messageImbalance.data.toList.drop 93 = dktX1_messageImbalance_4 := dk_seg dksX1_messageImbalance_3 24 rfl rfl
theorem dX1_messageImbalance_0 : decode cX1_messageImbalance 0 = .ok (.iconst 0, 1) := dk_3 (dk_at dksX1_messageImbalance_0 0 rfl rfl)
theorem dX1_messageImbalance_1 : decode cX1_messageImbalance 1 = .ok (.istore_n 1, 1) := dk_60 (dk_at dksX1_messageImbalance_0 1 rfl rfl)
theorem dX1_messageImbalance_2 : decode cX1_messageImbalance 2 = .ok (.iconst 0, 1) := dk_3 (dk_at dksX1_messageImbalance_0 2 rfl rfl)
theorem dX1_messageImbalance_3 : decode cX1_messageImbalance 3 = .ok (.istore_n 2, 1) := dk_61 (dk_at dksX1_messageImbalance_0 3 rfl rfl)
theorem dX1_messageImbalance_4 : decode cX1_messageImbalance 4 = .ok (.iload_n 2, 1) := dk_28 (dk_at dksX1_messageImbalance_0 4 rfl rfl)
theorem dX1_messageImbalance_5 : decode cX1_messageImbalance 5 = .ok (.iconst 2, 1) := dk_5 (dk_at dksX1_messageImbalance_0 5 rfl rfl)
theorem dX1_messageImbalance_6 : decode cX1_messageImbalance 6 = .ok (.if_icmp .ge 87, 3) := dk_162 0 87 (dk_at dksX1_messageImbalance_0 6 rfl rfl)
theorem dX1_messageImbalance_9 : decode cX1_messageImbalance 9 = .ok (.aload_n 0, 1) := dk_42 (dk_at dksX1_messageImbalance_0 9 rfl rfl)
theorem dX1_messageImbalance_10 : decode cX1_messageImbalance 10 = .ok (.getfield 22, 3) := dk_180 0 22 (dk_at dksX1_messageImbalance_0 10 rfl rfl)
theorem dX1_messageImbalance_13 : decode cX1_messageImbalance 13 = .ok (.getfield 371, 3) := dk_180 1 115 (dk_at dksX1_messageImbalance_0 13 rfl rfl)
theorem dX1_messageImbalance_16 : decode cX1_messageImbalance 16 = .ok (.iload_n 2, 1) := dk_28 (dk_at dksX1_messageImbalance_0 16 rfl rfl)
theorem dX1_messageImbalance_17 : decode cX1_messageImbalance 17 = .ok (.aaload, 1) := dk_50 (dk_at dksX1_messageImbalance_0 17 rfl rfl)
theorem dX1_messageImbalance_18 : decode cX1_messageImbalance 18 = .ok (.astore_n 3, 1) := dk_78 (dk_at dksX1_messageImbalance_0 18 rfl rfl)
theorem dX1_messageImbalance_19 : decode cX1_messageImbalance 19 = .ok (.iload_n 1, 1) := dk_27 (dk_at dksX1_messageImbalance_0 19 rfl rfl)
theorem dX1_messageImbalance_20 : decode cX1_messageImbalance 20 = .ok (.aload_n 3, 1) := dk_45 (dk_at dksX1_messageImbalance_0 20 rfl rfl)
theorem dX1_messageImbalance_21 : decode cX1_messageImbalance 21 = .ok (.invokevirtual 400, 3) := dk_182 1 144 (dk_at dksX1_messageImbalance_0 21 rfl rfl)
theorem dX1_messageImbalance_24 : decode cX1_messageImbalance 24 = .ok (.aload_n 3, 1) := dk_45 (dk_at dksX1_messageImbalance_1 0 rfl rfl)
theorem dX1_messageImbalance_25 : decode cX1_messageImbalance 25 = .ok (.invokevirtual 375, 3) := dk_182 1 119 (dk_at dksX1_messageImbalance_1 1 rfl rfl)
theorem dX1_messageImbalance_28 : decode cX1_messageImbalance 28 = .ok (.isub, 1) := dk_100 (dk_at dksX1_messageImbalance_1 4 rfl rfl)
theorem dX1_messageImbalance_29 : decode cX1_messageImbalance 29 = .ok (.aload_n 3, 1) := dk_45 (dk_at dksX1_messageImbalance_1 5 rfl rfl)
theorem dX1_messageImbalance_30 : decode cX1_messageImbalance 30 = .ok (.invokevirtual 406, 3) := dk_182 1 150 (dk_at dksX1_messageImbalance_1 6 rfl rfl)
theorem dX1_messageImbalance_33 : decode cX1_messageImbalance 33 = .ok (.isub, 1) := dk_100 (dk_at dksX1_messageImbalance_1 9 rfl rfl)
theorem dX1_messageImbalance_34 : decode cX1_messageImbalance 34 = .ok (.aload_n 0, 1) := dk_42 (dk_at dksX1_messageImbalance_1 10 rfl rfl)
theorem dX1_messageImbalance_35 : decode cX1_messageImbalance 35 = .ok (.getfield 22, 3) := dk_180 0 22 (dk_at dksX1_messageImbalance_1 11 rfl rfl)
theorem dX1_messageImbalance_38 : decode cX1_messageImbalance 38 = .ok (.getfield 246, 3) := dk_180 0 246 (dk_at dksX1_messageImbalance_1 14 rfl rfl)
theorem dX1_messageImbalance_41 : decode cX1_messageImbalance 41 = .ok (.iload_n 2, 1) := dk_28 (dk_at dksX1_messageImbalance_1 17 rfl rfl)
theorem dX1_messageImbalance_42 : decode cX1_messageImbalance 42 = .ok (.invokeinterface 250 2, 5) := by decide +kernel
theorem dX1_messageImbalance_47 : decode cX1_messageImbalance 47 = .ok (.checkcast 251, 3) := dk_192 0 251 (dk_at dksX1_messageImbalance_2 0 rfl rfl)
theorem dX1_messageImbalance_50 : decode cX1_messageImbalance 50 = .ok (.invokeinterface 260 1, 5) := by decide +kernel
theorem dX1_messageImbalance_55 : decode cX1_messageImbalance 55 = .ok (.isub, 1) := dk_100 (dk_at dksX1_messageImbalance_2 8 rfl rfl)
theorem dX1_messageImbalance_56 : decode cX1_messageImbalance 56 = .ok (.aload_n 0, 1) := dk_42 (dk_at dksX1_messageImbalance_2 9 rfl rfl)
theorem dX1_messageImbalance_57 : decode cX1_messageImbalance 57 = .ok (.getfield 22, 3) := dk_180 0 22 (dk_at dksX1_messageImbalance_2 10 rfl rfl)
theorem dX1_messageImbalance_60 : decode cX1_messageImbalance 60 = .ok (.iload_n 2, 1) := dk_28 (dk_at dksX1_messageImbalance_2 13 rfl rfl)
theorem dX1_messageImbalance_61 : decode cX1_messageImbalance 61 = .ok (.invokevirtual 285, 3) := dk_182 1 29 (dk_at dksX1_messageImbalance_2 14 rfl rfl)
theorem dX1_messageImbalance_64 : decode cX1_messageImbalance 64 = .ok (.isub, 1) := dk_100 (dk_at dksX1_messageImbalance_2 17 rfl rfl)
theorem dX1_messageImbalance_65 : decode cX1_messageImbalance 65 = .ok (.iadd, 1) := dk_96 (dk_at dksX1_messageImbalance_2 18 rfl rfl)
theorem dX1_messageImbalance_66 : decode cX1_messageImbalance 66 = .ok (.istore_n 1, 1) := dk_60 (dk_at dksX1_messageImbalance_2 19 rfl rfl)
theorem dX1_messageImbalance_67 : decode cX1_messageImbalance 67 = .ok (.iload_n 1, 1) := dk_27 (dk_at dksX1_messageImbalance_2 20 rfl rfl)
theorem dX1_messageImbalance_68 : decode cX1_messageImbalance 68 = .ok (.aload_n 0, 1) := dk_42 (dk_at dksX1_messageImbalance_2 21 rfl rfl)
theorem dX1_messageImbalance_69 : decode cX1_messageImbalance 69 = .ok (.getfield 22, 3) := dk_180 0 22 (dk_at dksX1_messageImbalance_3 0 rfl rfl)
theorem dX1_messageImbalance_72 : decode cX1_messageImbalance 72 = .ok (.getfield 271, 3) := dk_180 1 15 (dk_at dksX1_messageImbalance_3 3 rfl rfl)
theorem dX1_messageImbalance_75 : decode cX1_messageImbalance 75 = .ok (.iload_n 2, 1) := dk_28 (dk_at dksX1_messageImbalance_3 6 rfl rfl)
theorem dX1_messageImbalance_76 : decode cX1_messageImbalance 76 = .ok (.aaload, 1) := dk_50 (dk_at dksX1_messageImbalance_3 7 rfl rfl)
theorem dX1_messageImbalance_77 : decode cX1_messageImbalance 77 = .ok (.ifnonnull 7, 3) := dk_199 0 7 (dk_at dksX1_messageImbalance_3 8 rfl rfl)
theorem dX1_messageImbalance_80 : decode cX1_messageImbalance 80 = .ok (.iconst 0, 1) := dk_3 (dk_at dksX1_messageImbalance_3 11 rfl rfl)
theorem dX1_messageImbalance_81 : decode cX1_messageImbalance 81 = .ok (.goto 4, 3) := dk_167 0 4 (dk_at dksX1_messageImbalance_3 12 rfl rfl)
theorem dX1_messageImbalance_84 : decode cX1_messageImbalance 84 = .ok (.iconst 1, 1) := dk_4 (dk_at dksX1_messageImbalance_3 15 rfl rfl)
theorem dX1_messageImbalance_85 : decode cX1_messageImbalance 85 = .ok (.isub, 1) := dk_100 (dk_at dksX1_messageImbalance_3 16 rfl rfl)
theorem dX1_messageImbalance_86 : decode cX1_messageImbalance 86 = .ok (.istore_n 1, 1) := dk_60 (dk_at dksX1_messageImbalance_3 17 rfl rfl)
theorem dX1_messageImbalance_87 : decode cX1_messageImbalance 87 = .ok (.iinc 2 1, 3) := dk_132 2 1 (dk_at dksX1_messageImbalance_3 18 rfl rfl)
theorem dX1_messageImbalance_90 : decode cX1_messageImbalance 90 = .ok (.goto (-86), 3) := dk_167 255 170 (dk_at dksX1_messageImbalance_3 21 rfl rfl)
theorem dX1_messageImbalance_93 : decode cX1_messageImbalance 93 = .ok (.iload_n 1, 1) := dk_27 (dk_at dksX1_messageImbalance_4 0 rfl rfl)
theorem dX1_messageImbalance_94 : decode cX1_messageImbalance 94 = .ok (.ireturn, 1) := dk_172 (dk_at dksX1_messageImbalance_4 1 rfl rfl)
abbrev cX1_wrongLetters : ByteArray := prog_1_method_75_code
def yX1_wrongLetters : MethodName := ⟨RX1, "wrongLetters", "()I"⟩
def dkwX1_wrongLetters_4 : List UInt8 := [96, 60, 167, 255, 229, 27, 172]
abbrev dktX1_wrongLetters_4 : List UInt8 := dkwX1_wrongLetters_4 ++ []
def dkwX1_wrongLetters_3 : List UInt8 := [185, 1, 60, 1, 0, 153, 0, 24, 44, 185, 1, 65, 1, 0, 192, 0, 68, 78, 27, 42, 45, 182, 1, 165]
abbrev dktX1_wrongLetters_3 : List UInt8 := dkwX1_wrongLetters_3 ++ dktX1_wrongLetters_4
def dkwX1_wrongLetters_2 : List UInt8 := [132, 4, 1, 167, 255, 223, 42, 180, 0, 22, 180, 1, 169, 185, 1, 172, 1, 0, 77, 44]
abbrev dktX1_wrongLetters_2 : List UInt8 := dkwX1_wrongLetters_2 ++ dktX1_wrongLetters_3
def dkwX1_wrongLetters_1 : List UInt8 := [21, 4, 50, 58, 5, 27, 25, 5, 199, 0, 7, 3, 167, 0, 9, 42, 25, 5, 182, 1, 165, 96, 60]
abbrev dktX1_wrongLetters_1 : List UInt8 := dkwX1_wrongLetters_1 ++ dktX1_wrongLetters_2
def dkwX1_wrongLetters_0 : List UInt8 := [3, 60, 42, 180, 0, 22, 180, 1, 15, 77, 44, 190, 62, 3, 54, 4, 21, 4, 29, 162, 0, 33, 44]
abbrev dktX1_wrongLetters_0 : List UInt8 := dkwX1_wrongLetters_0 ++ dktX1_wrongLetters_1
theorem dksX1_wrongLetters_0 : cX1_wrongLetters.data.toList.drop 0 = dktX1_wrongLetters_0 := by decide +kernel
theorem dksX1_wrongLetters_1 : cX1_wrongLetters.data.toList.drop 23 = dktX1_wrongLetters_1 := dk_seg dksX1_wrongLetters_0 23 rfl rfl
theorem dksX1_wrongLetters_2 : cX1_wrongLetters.data.toList.drop 46 = dktX1_wrongLetters_2 := dk_seg dksX1_wrongLetters_1 23 rfl rfl
theorem dksX1_wrongLetters_3 : cX1_wrongLetters.data.toList.drop 66 = dktX1_wrongLetters_3 := dk_seg dksX1_wrongLetters_2 20 rfl rfl
theorem dksX1_wrongLetters_4 : cX1_wrongLetters.data.toList.drop 90 = dktX1_wrongLetters_4 := dk_seg dksX1_wrongLetters_3 24 rfl rfl
theorem dX1_wrongLetters_0 : decode cX1_wrongLetters 0 = .ok (.iconst 0, 1) := dk_3 (dk_at dksX1_wrongLetters_0 0 rfl rfl)
theorem dX1_wrongLetters_1 : decode cX1_wrongLetters 1 = .ok (.istore_n 1, 1) := dk_60 (dk_at dksX1_wrongLetters_0 1 rfl rfl)
theorem dX1_wrongLetters_2 : decode cX1_wrongLetters 2 = .ok (.aload_n 0, 1) := dk_42 (dk_at dksX1_wrongLetters_0 2 rfl rfl)
theorem dX1_wrongLetters_3 : decode cX1_wrongLetters 3 = .ok (.getfield 22, 3) := dk_180 0 22 (dk_at dksX1_wrongLetters_0 3 rfl rfl)
theorem dX1_wrongLetters_6 : decode cX1_wrongLetters 6 = .ok (.getfield 271, 3) := dk_180 1 15 (dk_at dksX1_wrongLetters_0 6 rfl rfl)
theorem dX1_wrongLetters_9 : decode cX1_wrongLetters 9 = .ok (.astore_n 2, 1) := dk_77 (dk_at dksX1_wrongLetters_0 9 rfl rfl)
theorem dX1_wrongLetters_10 : decode cX1_wrongLetters 10 = .ok (.aload_n 2, 1) := dk_44 (dk_at dksX1_wrongLetters_0 10 rfl rfl)
theorem dX1_wrongLetters_11 : decode cX1_wrongLetters 11 = .ok (.arraylength, 1) := dk_190 (dk_at dksX1_wrongLetters_0 11 rfl rfl)
theorem dX1_wrongLetters_12 : decode cX1_wrongLetters 12 = .ok (.istore_n 3, 1) := dk_62 (dk_at dksX1_wrongLetters_0 12 rfl rfl)
theorem dX1_wrongLetters_13 : decode cX1_wrongLetters 13 = .ok (.iconst 0, 1) := dk_3 (dk_at dksX1_wrongLetters_0 13 rfl rfl)
theorem dX1_wrongLetters_14 : decode cX1_wrongLetters 14 = .ok (.istore 4, 2) := dk_54 4 (dk_at dksX1_wrongLetters_0 14 rfl rfl)
theorem dX1_wrongLetters_16 : decode cX1_wrongLetters 16 = .ok (.iload 4, 2) := dk_21 4 (dk_at dksX1_wrongLetters_0 16 rfl rfl)
theorem dX1_wrongLetters_18 : decode cX1_wrongLetters 18 = .ok (.iload_n 3, 1) := dk_29 (dk_at dksX1_wrongLetters_0 18 rfl rfl)
theorem dX1_wrongLetters_19 : decode cX1_wrongLetters 19 = .ok (.if_icmp .ge 33, 3) := dk_162 0 33 (dk_at dksX1_wrongLetters_0 19 rfl rfl)
theorem dX1_wrongLetters_22 : decode cX1_wrongLetters 22 = .ok (.aload_n 2, 1) := dk_44 (dk_at dksX1_wrongLetters_0 22 rfl rfl)
theorem dX1_wrongLetters_23 : decode cX1_wrongLetters 23 = .ok (.iload 4, 2) := dk_21 4 (dk_at dksX1_wrongLetters_1 0 rfl rfl)
theorem dX1_wrongLetters_25 : decode cX1_wrongLetters 25 = .ok (.aaload, 1) := dk_50 (dk_at dksX1_wrongLetters_1 2 rfl rfl)
theorem dX1_wrongLetters_26 : decode cX1_wrongLetters 26 = .ok (.astore 5, 2) := dk_58 5 (dk_at dksX1_wrongLetters_1 3 rfl rfl)
theorem dX1_wrongLetters_28 : decode cX1_wrongLetters 28 = .ok (.iload_n 1, 1) := dk_27 (dk_at dksX1_wrongLetters_1 5 rfl rfl)
theorem dX1_wrongLetters_29 : decode cX1_wrongLetters 29 = .ok (.aload 5, 2) := dk_25 5 (dk_at dksX1_wrongLetters_1 6 rfl rfl)
theorem dX1_wrongLetters_31 : decode cX1_wrongLetters 31 = .ok (.ifnonnull 7, 3) := dk_199 0 7 (dk_at dksX1_wrongLetters_1 8 rfl rfl)
theorem dX1_wrongLetters_34 : decode cX1_wrongLetters 34 = .ok (.iconst 0, 1) := dk_3 (dk_at dksX1_wrongLetters_1 11 rfl rfl)
theorem dX1_wrongLetters_35 : decode cX1_wrongLetters 35 = .ok (.goto 9, 3) := dk_167 0 9 (dk_at dksX1_wrongLetters_1 12 rfl rfl)
theorem dX1_wrongLetters_38 : decode cX1_wrongLetters 38 = .ok (.aload_n 0, 1) := dk_42 (dk_at dksX1_wrongLetters_1 15 rfl rfl)
theorem dX1_wrongLetters_39 : decode cX1_wrongLetters 39 = .ok (.aload 5, 2) := dk_25 5 (dk_at dksX1_wrongLetters_1 16 rfl rfl)
theorem dX1_wrongLetters_41 : decode cX1_wrongLetters 41 = .ok (.invokevirtual 421, 3) := dk_182 1 165 (dk_at dksX1_wrongLetters_1 18 rfl rfl)
theorem dX1_wrongLetters_44 : decode cX1_wrongLetters 44 = .ok (.iadd, 1) := dk_96 (dk_at dksX1_wrongLetters_1 21 rfl rfl)
theorem dX1_wrongLetters_45 : decode cX1_wrongLetters 45 = .ok (.istore_n 1, 1) := dk_60 (dk_at dksX1_wrongLetters_1 22 rfl rfl)
theorem dX1_wrongLetters_46 : decode cX1_wrongLetters 46 = .ok (.iinc 4 1, 3) := dk_132 4 1 (dk_at dksX1_wrongLetters_2 0 rfl rfl)
theorem dX1_wrongLetters_49 : decode cX1_wrongLetters 49 = .ok (.goto (-33), 3) := dk_167 255 223 (dk_at dksX1_wrongLetters_2 3 rfl rfl)
theorem dX1_wrongLetters_52 : decode cX1_wrongLetters 52 = .ok (.aload_n 0, 1) := dk_42 (dk_at dksX1_wrongLetters_2 6 rfl rfl)
theorem dX1_wrongLetters_53 : decode cX1_wrongLetters 53 = .ok (.getfield 22, 3) := dk_180 0 22 (dk_at dksX1_wrongLetters_2 7 rfl rfl)
theorem dX1_wrongLetters_56 : decode cX1_wrongLetters 56 = .ok (.getfield 425, 3) := dk_180 1 169 (dk_at dksX1_wrongLetters_2 10 rfl rfl)
theorem dX1_wrongLetters_59 : decode cX1_wrongLetters 59 = .ok (.invokeinterface 428 1, 5) := by decide +kernel
theorem dX1_wrongLetters_64 : decode cX1_wrongLetters 64 = .ok (.astore_n 2, 1) := dk_77 (dk_at dksX1_wrongLetters_2 18 rfl rfl)
theorem dX1_wrongLetters_65 : decode cX1_wrongLetters 65 = .ok (.aload_n 2, 1) := dk_44 (dk_at dksX1_wrongLetters_2 19 rfl rfl)
theorem dX1_wrongLetters_66 : decode cX1_wrongLetters 66 = .ok (.invokeinterface 316 1, 5) := by decide +kernel
theorem dX1_wrongLetters_71 : decode cX1_wrongLetters 71 = .ok (.ifCond .eq 24, 3) := dk_153 0 24 (dk_at dksX1_wrongLetters_3 5 rfl rfl)
theorem dX1_wrongLetters_74 : decode cX1_wrongLetters 74 = .ok (.aload_n 2, 1) := dk_44 (dk_at dksX1_wrongLetters_3 8 rfl rfl)
theorem dX1_wrongLetters_75 : decode cX1_wrongLetters 75 = .ok (.invokeinterface 321 1, 5) := by decide +kernel
theorem dX1_wrongLetters_80 : decode cX1_wrongLetters 80 = .ok (.checkcast 68, 3) := dk_192 0 68 (dk_at dksX1_wrongLetters_3 14 rfl rfl)
theorem dX1_wrongLetters_83 : decode cX1_wrongLetters 83 = .ok (.astore_n 3, 1) := dk_78 (dk_at dksX1_wrongLetters_3 17 rfl rfl)
theorem dX1_wrongLetters_84 : decode cX1_wrongLetters 84 = .ok (.iload_n 1, 1) := dk_27 (dk_at dksX1_wrongLetters_3 18 rfl rfl)
theorem dX1_wrongLetters_85 : decode cX1_wrongLetters 85 = .ok (.aload_n 0, 1) := dk_42 (dk_at dksX1_wrongLetters_3 19 rfl rfl)
theorem dX1_wrongLetters_86 : decode cX1_wrongLetters 86 = .ok (.aload_n 3, 1) := dk_45 (dk_at dksX1_wrongLetters_3 20 rfl rfl)
theorem dX1_wrongLetters_87 : decode cX1_wrongLetters 87 = .ok (.invokevirtual 421, 3) := dk_182 1 165 (dk_at dksX1_wrongLetters_3 21 rfl rfl)
theorem dX1_wrongLetters_90 : decode cX1_wrongLetters 90 = .ok (.iadd, 1) := dk_96 (dk_at dksX1_wrongLetters_4 0 rfl rfl)
theorem dX1_wrongLetters_91 : decode cX1_wrongLetters 91 = .ok (.istore_n 1, 1) := dk_60 (dk_at dksX1_wrongLetters_4 1 rfl rfl)
theorem dX1_wrongLetters_92 : decode cX1_wrongLetters 92 = .ok (.goto (-27), 3) := dk_167 255 229 (dk_at dksX1_wrongLetters_4 2 rfl rfl)
theorem dX1_wrongLetters_95 : decode cX1_wrongLetters 95 = .ok (.iload_n 1, 1) := dk_27 (dk_at dksX1_wrongLetters_4 5 rfl rfl)
theorem dX1_wrongLetters_96 : decode cX1_wrongLetters 96 = .ok (.ireturn, 1) := dk_172 (dk_at dksX1_wrongLetters_4 6 rfl rfl)
abbrev cX1_wrongLettersOf : ByteArray := prog_1_method_74_code
def yX1_wrongLettersOf : MethodName := ⟨RX1, "wrongLettersOf", "(LHedgeMessages$Message;)I"⟩
def dkwX1_wrongLettersOf_3 : List UInt8 := [132, 3, 1, 167, 255, 188, 28, 172]
abbrev dktX1_wrongLettersOf_3 : List UInt8 := dkwX1_wrongLettersOf_3 ++ []
def dkwX1_wrongLettersOf_2 : List UInt8 := [160, 0, 19, 25, 4, 180, 0, 228, 43, 180, 1, 162, 160, 0, 7, 3, 167, 0, 4, 4, 96, 61]
abbrev dktX1_wrongLettersOf_2 : List UInt8 := dkwX1_wrongLettersOf_2 ++ dktX1_wrongLettersOf_3
def dkwX1_wrongLettersOf_1 : List UInt8 := [96, 50, 58, 4, 28, 25, 4, 198, 0, 35, 25, 4, 180, 0, 224, 43, 180, 1, 5, 29, 182, 1, 11]
abbrev dktX1_wrongLettersOf_1 : List UInt8 := dkwX1_wrongLettersOf_1 ++ dktX1_wrongLettersOf_2
def dkwX1_wrongLettersOf_0 : List UInt8 := [3, 61, 3, 62, 29, 43, 180, 1, 23, 162, 0, 66, 42, 180, 0, 22, 180, 0, 216, 43, 180, 1, 26, 29]
abbrev dktX1_wrongLettersOf_0 : List UInt8 := dkwX1_wrongLettersOf_0 ++ dktX1_wrongLettersOf_1
theorem dksX1_wrongLettersOf_0 : cX1_wrongLettersOf.data.toList.drop 0 = dktX1_wrongLettersOf_0 := by decide +kernel
theorem dksX1_wrongLettersOf_1 : cX1_wrongLettersOf.data.toList.drop 24 = dktX1_wrongLettersOf_1 := dk_seg dksX1_wrongLettersOf_0 24 rfl rfl
theorem dksX1_wrongLettersOf_2 : cX1_wrongLettersOf.data.toList.drop 47 = dktX1_wrongLettersOf_2 := dk_seg dksX1_wrongLettersOf_1 23 rfl rfl
theorem dksX1_wrongLettersOf_3 : cX1_wrongLettersOf.data.toList.drop 69 = dktX1_wrongLettersOf_3 := dk_seg dksX1_wrongLettersOf_2 22 rfl rfl
theorem dX1_wrongLettersOf_0 : decode cX1_wrongLettersOf 0 = .ok (.iconst 0, 1) := dk_3 (dk_at dksX1_wrongLettersOf_0 0 rfl rfl)
theorem dX1_wrongLettersOf_1 : decode cX1_wrongLettersOf 1 = .ok (.istore_n 2, 1) := dk_61 (dk_at dksX1_wrongLettersOf_0 1 rfl rfl)
theorem dX1_wrongLettersOf_2 : decode cX1_wrongLettersOf 2 = .ok (.iconst 0, 1) := dk_3 (dk_at dksX1_wrongLettersOf_0 2 rfl rfl)
theorem dX1_wrongLettersOf_3 : decode cX1_wrongLettersOf 3 = .ok (.istore_n 3, 1) := dk_62 (dk_at dksX1_wrongLettersOf_0 3 rfl rfl)
theorem dX1_wrongLettersOf_4 : decode cX1_wrongLettersOf 4 = .ok (.iload_n 3, 1) := dk_29 (dk_at dksX1_wrongLettersOf_0 4 rfl rfl)
theorem dX1_wrongLettersOf_5 : decode cX1_wrongLettersOf 5 = .ok (.aload_n 1, 1) := dk_43 (dk_at dksX1_wrongLettersOf_0 5 rfl rfl)
theorem dX1_wrongLettersOf_6 : decode cX1_wrongLettersOf 6 = .ok (.getfield 279, 3) := dk_180 1 23 (dk_at dksX1_wrongLettersOf_0 6 rfl rfl)
theorem dX1_wrongLettersOf_9 : decode cX1_wrongLettersOf 9 = .ok (.if_icmp .ge 66, 3) := dk_162 0 66 (dk_at dksX1_wrongLettersOf_0 9 rfl rfl)
theorem dX1_wrongLettersOf_12 : decode cX1_wrongLettersOf 12 = .ok (.aload_n 0, 1) := dk_42 (dk_at dksX1_wrongLettersOf_0 12 rfl rfl)
theorem dX1_wrongLettersOf_13 : decode cX1_wrongLettersOf 13 = .ok (.getfield 22, 3) := dk_180 0 22 (dk_at dksX1_wrongLettersOf_0 13 rfl rfl)
theorem dX1_wrongLettersOf_16 : decode cX1_wrongLettersOf 16 = .ok (.getfield 216, 3) := dk_180 0 216 (dk_at dksX1_wrongLettersOf_0 16 rfl rfl)
theorem dX1_wrongLettersOf_19 : decode cX1_wrongLettersOf 19 = .ok (.aload_n 1, 1) := dk_43 (dk_at dksX1_wrongLettersOf_0 19 rfl rfl)
theorem dX1_wrongLettersOf_20 : decode cX1_wrongLettersOf 20 = .ok (.getfield 282, 3) := dk_180 1 26 (dk_at dksX1_wrongLettersOf_0 20 rfl rfl)
theorem dX1_wrongLettersOf_23 : decode cX1_wrongLettersOf 23 = .ok (.iload_n 3, 1) := dk_29 (dk_at dksX1_wrongLettersOf_0 23 rfl rfl)
theorem dX1_wrongLettersOf_24 : decode cX1_wrongLettersOf 24 = .ok (.iadd, 1) := dk_96 (dk_at dksX1_wrongLettersOf_1 0 rfl rfl)
theorem dX1_wrongLettersOf_25 : decode cX1_wrongLettersOf 25 = .ok (.aaload, 1) := dk_50 (dk_at dksX1_wrongLettersOf_1 1 rfl rfl)
theorem dX1_wrongLettersOf_26 : decode cX1_wrongLettersOf 26 = .ok (.astore 4, 2) := dk_58 4 (dk_at dksX1_wrongLettersOf_1 2 rfl rfl)
theorem dX1_wrongLettersOf_28 : decode cX1_wrongLettersOf 28 = .ok (.iload_n 2, 1) := dk_28 (dk_at dksX1_wrongLettersOf_1 4 rfl rfl)
theorem dX1_wrongLettersOf_29 : decode cX1_wrongLettersOf 29 = .ok (.aload 4, 2) := dk_25 4 (dk_at dksX1_wrongLettersOf_1 5 rfl rfl)
theorem dX1_wrongLettersOf_31 : decode cX1_wrongLettersOf 31 = .ok (.ifnull 35, 3) := dk_198 0 35 (dk_at dksX1_wrongLettersOf_1 7 rfl rfl)
theorem dX1_wrongLettersOf_34 : decode cX1_wrongLettersOf 34 = .ok (.aload 4, 2) := dk_25 4 (dk_at dksX1_wrongLettersOf_1 10 rfl rfl)
theorem dX1_wrongLettersOf_36 : decode cX1_wrongLettersOf 36 = .ok (.getfield 224, 3) := dk_180 0 224 (dk_at dksX1_wrongLettersOf_1 12 rfl rfl)
theorem dX1_wrongLettersOf_39 : decode cX1_wrongLettersOf 39 = .ok (.aload_n 1, 1) := dk_43 (dk_at dksX1_wrongLettersOf_1 15 rfl rfl)
theorem dX1_wrongLettersOf_40 : decode cX1_wrongLettersOf 40 = .ok (.getfield 261, 3) := dk_180 1 5 (dk_at dksX1_wrongLettersOf_1 16 rfl rfl)
theorem dX1_wrongLettersOf_43 : decode cX1_wrongLettersOf 43 = .ok (.iload_n 3, 1) := dk_29 (dk_at dksX1_wrongLettersOf_1 19 rfl rfl)
theorem dX1_wrongLettersOf_44 : decode cX1_wrongLettersOf 44 = .ok (.invokevirtual 267, 3) := dk_182 1 11 (dk_at dksX1_wrongLettersOf_1 20 rfl rfl)
theorem dX1_wrongLettersOf_47 : decode cX1_wrongLettersOf 47 = .ok (.if_icmp .ne 19, 3) := dk_160 0 19 (dk_at dksX1_wrongLettersOf_2 0 rfl rfl)
theorem dX1_wrongLettersOf_50 : decode cX1_wrongLettersOf 50 = .ok (.aload 4, 2) := dk_25 4 (dk_at dksX1_wrongLettersOf_2 3 rfl rfl)
theorem dX1_wrongLettersOf_52 : decode cX1_wrongLettersOf 52 = .ok (.getfield 228, 3) := dk_180 0 228 (dk_at dksX1_wrongLettersOf_2 5 rfl rfl)
theorem dX1_wrongLettersOf_55 : decode cX1_wrongLettersOf 55 = .ok (.aload_n 1, 1) := dk_43 (dk_at dksX1_wrongLettersOf_2 8 rfl rfl)
theorem dX1_wrongLettersOf_56 : decode cX1_wrongLettersOf 56 = .ok (.getfield 418, 3) := dk_180 1 162 (dk_at dksX1_wrongLettersOf_2 9 rfl rfl)
theorem dX1_wrongLettersOf_59 : decode cX1_wrongLettersOf 59 = .ok (.if_icmp .ne 7, 3) := dk_160 0 7 (dk_at dksX1_wrongLettersOf_2 12 rfl rfl)
theorem dX1_wrongLettersOf_62 : decode cX1_wrongLettersOf 62 = .ok (.iconst 0, 1) := dk_3 (dk_at dksX1_wrongLettersOf_2 15 rfl rfl)
theorem dX1_wrongLettersOf_63 : decode cX1_wrongLettersOf 63 = .ok (.goto 4, 3) := dk_167 0 4 (dk_at dksX1_wrongLettersOf_2 16 rfl rfl)
theorem dX1_wrongLettersOf_66 : decode cX1_wrongLettersOf 66 = .ok (.iconst 1, 1) := dk_4 (dk_at dksX1_wrongLettersOf_2 19 rfl rfl)
theorem dX1_wrongLettersOf_67 : decode cX1_wrongLettersOf 67 = .ok (.iadd, 1) := dk_96 (dk_at dksX1_wrongLettersOf_2 20 rfl rfl)
theorem dX1_wrongLettersOf_68 : decode cX1_wrongLettersOf 68 = .ok (.istore_n 2, 1) := dk_61 (dk_at dksX1_wrongLettersOf_2 21 rfl rfl)
theorem dX1_wrongLettersOf_69 : decode cX1_wrongLettersOf 69 = .ok (.iinc 3 1, 3) := dk_132 3 1 (dk_at dksX1_wrongLettersOf_3 0 rfl rfl)
theorem dX1_wrongLettersOf_72 : decode cX1_wrongLettersOf 72 = .ok (.goto (-68), 3) := dk_167 255 188 (dk_at dksX1_wrongLettersOf_3 3 rfl rfl)
theorem dX1_wrongLettersOf_75 : decode cX1_wrongLettersOf 75 = .ok (.iload_n 2, 1) := dk_28 (dk_at dksX1_wrongLettersOf_3 6 rfl rfl)
theorem dX1_wrongLettersOf_76 : decode cX1_wrongLettersOf 76 = .ok (.ireturn, 1) := dk_172 (dk_at dksX1_wrongLettersOf_3 7 rfl rfl)
abbrev cX1_meanLength : ByteArray := prog_1_method_76_code
def yX1_meanLength : MethodName := ⟨RX1, "meanLength", "()F"⟩
def dkwX1_meanLength_3 : List UInt8 := [167, 0, 8, 27, 134, 28, 134, 110, 174]
abbrev dktX1_meanLength_3 : List UInt8 := dkwX1_meanLength_3 ++ []
def dkwX1_meanLength_2 : List UInt8 := [180, 0, 216, 21, 4, 50, 180, 0, 231, 96, 60, 132, 2, 1, 167, 255, 214, 28, 154, 0, 7, 11]
abbrev dktX1_meanLength_2 : List UInt8 := dkwX1_meanLength_2 ++ dktX1_meanLength_3
def dkwX1_meanLength_1 : List UInt8 := [153, 0, 39, 45, 185, 1, 65, 1, 0, 192, 1, 68, 182, 1, 70, 54, 4, 27, 42, 180, 0, 22]
abbrev dktX1_meanLength_1 : List UInt8 := dkwX1_meanLength_1 ++ dktX1_meanLength_2
def dkwX1_meanLength_0 : List UInt8 := [3, 60, 3, 61, 42, 180, 0, 22, 182, 1, 50, 185, 1, 54, 1, 0, 78, 45, 185, 1, 60, 1, 0]
abbrev dktX1_meanLength_0 : List UInt8 := dkwX1_meanLength_0 ++ dktX1_meanLength_1
theorem dksX1_meanLength_0 : cX1_meanLength.data.toList.drop 0 = dktX1_meanLength_0 := by decide +kernel
theorem dksX1_meanLength_1 : cX1_meanLength.data.toList.drop 23 = dktX1_meanLength_1 := dk_seg dksX1_meanLength_0 23 rfl rfl
theorem dksX1_meanLength_2 : cX1_meanLength.data.toList.drop 45 = dktX1_meanLength_2 := dk_seg dksX1_meanLength_1 22 rfl rfl
theorem dksX1_meanLength_3 : cX1_meanLength.data.toList.drop 67 = dktX1_meanLength_3 := dk_seg dksX1_meanLength_2 22 rfl rfl
theorem dX1_meanLength_0 : decode cX1_meanLength 0 = .ok (.iconst 0, 1) := dk_3 (dk_at dksX1_meanLength_0 0 rfl rfl)
theorem dX1_meanLength_1 : decode cX1_meanLength 1 = .ok (.istore_n 1, 1) := dk_60 (dk_at dksX1_meanLength_0 1 rfl rfl)
theorem dX1_meanLength_2 : decode cX1_meanLength 2 = .ok (.iconst 0, 1) := dk_3 (dk_at dksX1_meanLength_0 2 rfl rfl)
theorem dX1_meanLength_3 : decode cX1_meanLength 3 = .ok (.istore_n 2, 1) := dk_61 (dk_at dksX1_meanLength_0 3 rfl rfl)
theorem dX1_meanLength_4 : decode cX1_meanLength 4 = .ok (.aload_n 0, 1) := dk_42 (dk_at dksX1_meanLength_0 4 rfl rfl)
theorem dX1_meanLength_5 : decode cX1_meanLength 5 = .ok (.getfield 22, 3) := dk_180 0 22 (dk_at dksX1_meanLength_0 5 rfl rfl)
theorem dX1_meanLength_8 : decode cX1_meanLength 8 = .ok (.invokevirtual 306, 3) := dk_182 1 50 (dk_at dksX1_meanLength_0 8 rfl rfl)
theorem dX1_meanLength_11 : decode cX1_meanLength 11 = .ok (.invokeinterface 310 1, 5) := by decide +kernel
theorem dX1_meanLength_16 : decode cX1_meanLength 16 = .ok (.astore_n 3, 1) := dk_78 (dk_at dksX1_meanLength_0 16 rfl rfl)
theorem dX1_meanLength_17 : decode cX1_meanLength 17 = .ok (.aload_n 3, 1) := dk_45 (dk_at dksX1_meanLength_0 17 rfl rfl)
theorem dX1_meanLength_18 : decode cX1_meanLength 18 = .ok (.invokeinterface 316 1, 5) := by decide +kernel
theorem dX1_meanLength_23 : decode cX1_meanLength 23 = .ok (.ifCond .eq 39, 3) := dk_153 0 39 (dk_at dksX1_meanLength_1 0 rfl rfl)
theorem dX1_meanLength_26 : decode cX1_meanLength 26 = .ok (.aload_n 3, 1) := dk_45 (dk_at dksX1_meanLength_1 3 rfl rfl)
theorem dX1_meanLength_27 : decode cX1_meanLength 27 = .ok (.invokeinterface 321 1, 5) := by decide +kernel
theorem dX1_meanLength_32 : decode cX1_meanLength 32 = .ok (.checkcast 324, 3) := dk_192 1 68 (dk_at dksX1_meanLength_1 9 rfl rfl)
theorem dX1_meanLength_35 : decode cX1_meanLength 35 = .ok (.invokevirtual 326, 3) := dk_182 1 70 (dk_at dksX1_meanLength_1 12 rfl rfl)
theorem dX1_meanLength_38 : decode cX1_meanLength 38 = .ok (.istore 4, 2) := dk_54 4 (dk_at dksX1_meanLength_1 15 rfl rfl)
theorem dX1_meanLength_40 : decode cX1_meanLength 40 = .ok (.iload_n 1, 1) := dk_27 (dk_at dksX1_meanLength_1 17 rfl rfl)
theorem dX1_meanLength_41 : decode cX1_meanLength 41 = .ok (.aload_n 0, 1) := dk_42 (dk_at dksX1_meanLength_1 18 rfl rfl)
theorem dX1_meanLength_42 : decode cX1_meanLength 42 = .ok (.getfield 22, 3) := dk_180 0 22 (dk_at dksX1_meanLength_1 19 rfl rfl)
theorem dX1_meanLength_45 : decode cX1_meanLength 45 = .ok (.getfield 216, 3) := dk_180 0 216 (dk_at dksX1_meanLength_2 0 rfl rfl)
theorem dX1_meanLength_48 : decode cX1_meanLength 48 = .ok (.iload 4, 2) := dk_21 4 (dk_at dksX1_meanLength_2 3 rfl rfl)
theorem dX1_meanLength_50 : decode cX1_meanLength 50 = .ok (.aaload, 1) := dk_50 (dk_at dksX1_meanLength_2 5 rfl rfl)
theorem dX1_meanLength_51 : decode cX1_meanLength 51 = .ok (.getfield 231, 3) := dk_180 0 231 (dk_at dksX1_meanLength_2 6 rfl rfl)
theorem dX1_meanLength_54 : decode cX1_meanLength 54 = .ok (.iadd, 1) := dk_96 (dk_at dksX1_meanLength_2 9 rfl rfl)
theorem dX1_meanLength_55 : decode cX1_meanLength 55 = .ok (.istore_n 1, 1) := dk_60 (dk_at dksX1_meanLength_2 10 rfl rfl)
theorem dX1_meanLength_56 : decode cX1_meanLength 56 = .ok (.iinc 2 1, 3) := dk_132 2 1 (dk_at dksX1_meanLength_2 11 rfl rfl)
theorem dX1_meanLength_59 : decode cX1_meanLength 59 = .ok (.goto (-42), 3) := dk_167 255 214 (dk_at dksX1_meanLength_2 14 rfl rfl)
theorem dX1_meanLength_62 : decode cX1_meanLength 62 = .ok (.iload_n 2, 1) := dk_28 (dk_at dksX1_meanLength_2 17 rfl rfl)
theorem dX1_meanLength_63 : decode cX1_meanLength 63 = .ok (.ifCond .ne 7, 3) := dk_154 0 7 (dk_at dksX1_meanLength_2 18 rfl rfl)
theorem dX1_meanLength_66 : decode cX1_meanLength 66 = .ok (.fconst 0, 1) := dk_11 (dk_at dksX1_meanLength_2 21 rfl rfl)
theorem dX1_meanLength_67 : decode cX1_meanLength 67 = .ok (.goto 8, 3) := dk_167 0 8 (dk_at dksX1_meanLength_3 0 rfl rfl)
theorem dX1_meanLength_70 : decode cX1_meanLength 70 = .ok (.iload_n 1, 1) := dk_27 (dk_at dksX1_meanLength_3 3 rfl rfl)
theorem dX1_meanLength_71 : decode cX1_meanLength 71 = .ok (.i2f, 1) := dk_134 (dk_at dksX1_meanLength_3 4 rfl rfl)
theorem dX1_meanLength_72 : decode cX1_meanLength 72 = .ok (.iload_n 2, 1) := dk_28 (dk_at dksX1_meanLength_3 5 rfl rfl)
theorem dX1_meanLength_73 : decode cX1_meanLength 73 = .ok (.i2f, 1) := dk_134 (dk_at dksX1_meanLength_3 6 rfl rfl)
theorem dX1_meanLength_74 : decode cX1_meanLength 74 = .ok (.fdiv, 1) := dk_110 (dk_at dksX1_meanLength_3 7 rfl rfl)
theorem dX1_meanLength_75 : decode cX1_meanLength 75 = .ok (.freturn, 1) := dk_174 (dk_at dksX1_meanLength_3 8 rfl rfl)
abbrev cX1_occupancy : ByteArray := prog_1_method_77_code
def yX1_occupancy : MethodName := ⟨RX1, "occupancy", "()D"⟩
def dkwX1_occupancy_0 : List UInt8 := [42, 180, 0, 22, 182, 0, 202, 135, 42, 180, 0, 22, 182, 0, 179, 135, 111, 175]
abbrev dktX1_occupancy_0 : List UInt8 := dkwX1_occupancy_0 ++ []
theorem dksX1_occupancy_0 : cX1_occupancy.data.toList.drop 0 = dktX1_occupancy_0 := by decide +kernel
theorem dX1_occupancy_0 : decode cX1_occupancy 0 = .ok (.aload_n 0, 1) := dk_42 (dk_at dksX1_occupancy_0 0 rfl rfl)
theorem dX1_occupancy_1 : decode cX1_occupancy 1 = .ok (.getfield 22, 3) := dk_180 0 22 (dk_at dksX1_occupancy_0 1 rfl rfl)
theorem dX1_occupancy_4 : decode cX1_occupancy 4 = .ok (.invokevirtual 202, 3) := dk_182 0 202 (dk_at dksX1_occupancy_0 4 rfl rfl)
theorem dX1_occupancy_7 : decode cX1_occupancy 7 = .ok (.i2d, 1) := dk_135 (dk_at dksX1_occupancy_0 7 rfl rfl)
theorem dX1_occupancy_8 : decode cX1_occupancy 8 = .ok (.aload_n 0, 1) := dk_42 (dk_at dksX1_occupancy_0 8 rfl rfl)
theorem dX1_occupancy_9 : decode cX1_occupancy 9 = .ok (.getfield 22, 3) := dk_180 0 22 (dk_at dksX1_occupancy_0 9 rfl rfl)
theorem dX1_occupancy_12 : decode cX1_occupancy 12 = .ok (.invokevirtual 179, 3) := dk_182 0 179 (dk_at dksX1_occupancy_0 12 rfl rfl)
theorem dX1_occupancy_15 : decode cX1_occupancy 15 = .ok (.i2d, 1) := dk_135 (dk_at dksX1_occupancy_0 15 rfl rfl)
theorem dX1_occupancy_16 : decode cX1_occupancy 16 = .ok (.ddiv, 1) := dk_111 (dk_at dksX1_occupancy_0 16 rfl rfl)
theorem dX1_occupancy_17 : decode cX1_occupancy 17 = .ok (.dreturn, 1) := dk_175 (dk_at dksX1_occupancy_0 17 rfl rfl)
abbrev cX1_save : ByteArray := prog_1_method_96_code
def yX1_save : MethodName := ⟨RX1, "save", "()I"⟩
def dkwX1_save_0 : List UInt8 := [42, 42, 180, 0, 22, 182, 0, 83, 181, 1, 231, 42, 180, 0, 22, 180, 0, 190, 172]
abbrev dktX1_save_0 : List UInt8 := dkwX1_save_0 ++ []
theorem dksX1_save_0 : cX1_save.data.toList.drop 0 = dktX1_save_0 := by decide +kernel
theorem dX1_save_0 : decode cX1_save 0 = .ok (.aload_n 0, 1) := dk_42 (dk_at dksX1_save_0 0 rfl rfl)
theorem dX1_save_1 : decode cX1_save 1 = .ok (.aload_n 0, 1) := dk_42 (dk_at dksX1_save_0 1 rfl rfl)
theorem dX1_save_2 : decode cX1_save 2 = .ok (.getfield 22, 3) := dk_180 0 22 (dk_at dksX1_save_0 2 rfl rfl)
theorem dX1_save_5 : decode cX1_save 5 = .ok (.invokevirtual 83, 3) := dk_182 0 83 (dk_at dksX1_save_0 5 rfl rfl)
theorem dX1_save_8 : decode cX1_save 8 = .ok (.putfield 487, 3) := dk_181 1 231 (dk_at dksX1_save_0 8 rfl rfl)
theorem dX1_save_11 : decode cX1_save 11 = .ok (.aload_n 0, 1) := dk_42 (dk_at dksX1_save_0 11 rfl rfl)
theorem dX1_save_12 : decode cX1_save 12 = .ok (.getfield 22, 3) := dk_180 0 22 (dk_at dksX1_save_0 12 rfl rfl)
theorem dX1_save_15 : decode cX1_save 15 = .ok (.getfield 190, 3) := dk_180 0 190 (dk_at dksX1_save_0 15 rfl rfl)
theorem dX1_save_18 : decode cX1_save 18 = .ok (.ireturn, 1) := dk_172 (dk_at dksX1_save_0 18 rfl rfl)
abbrev cX1_formatHedge : ByteArray := prog_1_method_99_code
def yX1_formatHedge : MethodName := ⟨RX1, "formatHedge", "()I"⟩
def dkwX1_formatHedge_2 : List UInt8 := [182, 1, 211, 172]
abbrev dktX1_formatHedge_2 : List UInt8 := dkwX1_formatHedge_2 ++ []
def dkwX1_formatHedge_1 : List UInt8 := [180, 0, 46, 42, 27, 182, 1, 237, 182, 1, 207, 87, 132, 1, 1, 167, 255, 229, 42, 180, 0, 46]
abbrev dktX1_formatHedge_1 : List UInt8 := dkwX1_formatHedge_1 ++ dktX1_formatHedge_2
def dkwX1_formatHedge_0 : List UInt8 := [42, 180, 0, 46, 3, 182, 1, 234, 3, 60, 27, 42, 180, 0, 22, 182, 0, 179, 162, 0, 22, 42]
abbrev dktX1_formatHedge_0 : List UInt8 := dkwX1_formatHedge_0 ++ dktX1_formatHedge_1
theorem dksX1_formatHedge_0 : cX1_formatHedge.data.toList.drop 0 = dktX1_formatHedge_0 := by decide +kernel
theorem dksX1_formatHedge_1 : cX1_formatHedge.data.toList.drop 22 = dktX1_formatHedge_1 := dk_seg dksX1_formatHedge_0 22 rfl rfl
theorem dksX1_formatHedge_2 : cX1_formatHedge.data.toList.drop 44 = dktX1_formatHedge_2 := dk_seg dksX1_formatHedge_1 22 rfl rfl
theorem dX1_formatHedge_0 : decode cX1_formatHedge 0 = .ok (.aload_n 0, 1) := dk_42 (dk_at dksX1_formatHedge_0 0 rfl rfl)
theorem dX1_formatHedge_1 : decode cX1_formatHedge 1 = .ok (.getfield 46, 3) := dk_180 0 46 (dk_at dksX1_formatHedge_0 1 rfl rfl)
theorem dX1_formatHedge_4 : decode cX1_formatHedge 4 = .ok (.iconst 0, 1) := dk_3 (dk_at dksX1_formatHedge_0 4 rfl rfl)
theorem dX1_formatHedge_5 : decode cX1_formatHedge 5 = .ok (.invokevirtual 490, 3) := dk_182 1 234 (dk_at dksX1_formatHedge_0 5 rfl rfl)
theorem dX1_formatHedge_8 : decode cX1_formatHedge 8 = .ok (.iconst 0, 1) := dk_3 (dk_at dksX1_formatHedge_0 8 rfl rfl)
theorem dX1_formatHedge_9 : decode cX1_formatHedge 9 = .ok (.istore_n 1, 1) := dk_60 (dk_at dksX1_formatHedge_0 9 rfl rfl)
theorem dX1_formatHedge_10 : decode cX1_formatHedge 10 = .ok (.iload_n 1, 1) := dk_27 (dk_at dksX1_formatHedge_0 10 rfl rfl)
theorem dX1_formatHedge_11 : decode cX1_formatHedge 11 = .ok (.aload_n 0, 1) := dk_42 (dk_at dksX1_formatHedge_0 11 rfl rfl)
theorem dX1_formatHedge_12 : decode cX1_formatHedge 12 = .ok (.getfield 22, 3) := dk_180 0 22 (dk_at dksX1_formatHedge_0 12 rfl rfl)
theorem dX1_formatHedge_15 : decode cX1_formatHedge 15 = .ok (.invokevirtual 179, 3) := dk_182 0 179 (dk_at dksX1_formatHedge_0 15 rfl rfl)
theorem dX1_formatHedge_18 : decode cX1_formatHedge 18 = .ok (.if_icmp .ge 22, 3) := dk_162 0 22 (dk_at dksX1_formatHedge_0 18 rfl rfl)
theorem dX1_formatHedge_21 : decode cX1_formatHedge 21 = .ok (.aload_n 0, 1) := dk_42 (dk_at dksX1_formatHedge_0 21 rfl rfl)
theorem dX1_formatHedge_22 : decode cX1_formatHedge 22 = .ok (.getfield 46, 3) := dk_180 0 46 (dk_at dksX1_formatHedge_1 0 rfl rfl)
theorem dX1_formatHedge_25 : decode cX1_formatHedge 25 = .ok (.aload_n 0, 1) := dk_42 (dk_at dksX1_formatHedge_1 3 rfl rfl)
theorem dX1_formatHedge_26 : decode cX1_formatHedge 26 = .ok (.iload_n 1, 1) := dk_27 (dk_at dksX1_formatHedge_1 4 rfl rfl)
theorem dX1_formatHedge_27 : decode cX1_formatHedge 27 = .ok (.invokevirtual 493, 3) := dk_182 1 237 (dk_at dksX1_formatHedge_1 5 rfl rfl)
theorem dX1_formatHedge_30 : decode cX1_formatHedge 30 = .ok (.invokevirtual 463, 3) := dk_182 1 207 (dk_at dksX1_formatHedge_1 8 rfl rfl)
theorem dX1_formatHedge_33 : decode cX1_formatHedge 33 = .ok (.pop, 1) := dk_87 (dk_at dksX1_formatHedge_1 11 rfl rfl)
theorem dX1_formatHedge_34 : decode cX1_formatHedge 34 = .ok (.iinc 1 1, 3) := dk_132 1 1 (dk_at dksX1_formatHedge_1 12 rfl rfl)
theorem dX1_formatHedge_37 : decode cX1_formatHedge 37 = .ok (.goto (-27), 3) := dk_167 255 229 (dk_at dksX1_formatHedge_1 15 rfl rfl)
theorem dX1_formatHedge_40 : decode cX1_formatHedge 40 = .ok (.aload_n 0, 1) := dk_42 (dk_at dksX1_formatHedge_1 18 rfl rfl)
theorem dX1_formatHedge_41 : decode cX1_formatHedge 41 = .ok (.getfield 46, 3) := dk_180 0 46 (dk_at dksX1_formatHedge_1 19 rfl rfl)
theorem dX1_formatHedge_44 : decode cX1_formatHedge 44 = .ok (.invokevirtual 467, 3) := dk_182 1 211 (dk_at dksX1_formatHedge_2 0 rfl rfl)
theorem dX1_formatHedge_47 : decode cX1_formatHedge 47 = .ok (.ireturn, 1) := dk_172 (dk_at dksX1_formatHedge_2 3 rfl rfl)
abbrev cX1_symbol : ByteArray := prog_1_method_98_code
def yX1_symbol : MethodName := ⟨RX1, "symbol", "(I)C"⟩
def dkwX1_symbol_3 : List UInt8 := [167, 0, 5, 16, 46, 172]
abbrev dktX1_symbol_3 : List UInt8 := dkwX1_symbol_3 ++ []
def dkwX1_symbol_2 : List UInt8 := [182, 0, 234, 153, 0, 6, 16, 61, 172, 42, 180, 0, 22, 180, 0, 64, 27, 46, 158, 0, 8, 16, 42]
abbrev dktX1_symbol_2 : List UInt8 := dkwX1_symbol_2 ++ dktX1_symbol_3
def dkwX1_symbol_1 : List UInt8 := [180, 0, 224, 167, 0, 14, 44, 180, 0, 224, 16, 97, 100, 16, 65, 96, 146, 172, 42, 180, 0, 22, 27]
abbrev dktX1_symbol_1 : List UInt8 := dkwX1_symbol_1 ++ dktX1_symbol_2
def dkwX1_symbol_0 : List UInt8 := [42, 180, 0, 22, 180, 0, 216, 27, 50, 77, 44, 198, 0, 29, 44, 180, 0, 228, 154, 0, 10, 44]
abbrev dktX1_symbol_0 : List UInt8 := dkwX1_symbol_0 ++ dktX1_symbol_1
theorem dksX1_symbol_0 : cX1_symbol.data.toList.drop 0 = dktX1_symbol_0 := by decide +kernel
theorem dksX1_symbol_1 : cX1_symbol.data.toList.drop 22 = dktX1_symbol_1 := dk_seg dksX1_symbol_0 22 rfl rfl
theorem dksX1_symbol_2 : cX1_symbol.data.toList.drop 45 = dktX1_symbol_2 := dk_seg dksX1_symbol_1 23 rfl rfl
theorem dksX1_symbol_3 : cX1_symbol.data.toList.drop 68 = dktX1_symbol_3 := dk_seg dksX1_symbol_2 23 rfl rfl
theorem dX1_symbol_0 : decode cX1_symbol 0 = .ok (.aload_n 0, 1) := dk_42 (dk_at dksX1_symbol_0 0 rfl rfl)
theorem dX1_symbol_1 : decode cX1_symbol 1 = .ok (.getfield 22, 3) := dk_180 0 22 (dk_at dksX1_symbol_0 1 rfl rfl)
theorem dX1_symbol_4 : decode cX1_symbol 4 = .ok (.getfield 216, 3) := dk_180 0 216 (dk_at dksX1_symbol_0 4 rfl rfl)
theorem dX1_symbol_7 : decode cX1_symbol 7 = .ok (.iload_n 1, 1) := dk_27 (dk_at dksX1_symbol_0 7 rfl rfl)
theorem dX1_symbol_8 : decode cX1_symbol 8 = .ok (.aaload, 1) := dk_50 (dk_at dksX1_symbol_0 8 rfl rfl)
theorem dX1_symbol_9 : decode cX1_symbol 9 = .ok (.astore_n 2, 1) := dk_77 (dk_at dksX1_symbol_0 9 rfl rfl)
theorem dX1_symbol_10 : decode cX1_symbol 10 = .ok (.aload_n 2, 1) := dk_44 (dk_at dksX1_symbol_0 10 rfl rfl)
theorem dX1_symbol_11 : decode cX1_symbol 11 = .ok (.ifnull 29, 3) := dk_198 0 29 (dk_at dksX1_symbol_0 11 rfl rfl)
theorem dX1_symbol_14 : decode cX1_symbol 14 = .ok (.aload_n 2, 1) := dk_44 (dk_at dksX1_symbol_0 14 rfl rfl)
theorem dX1_symbol_15 : decode cX1_symbol 15 = .ok (.getfield 228, 3) := dk_180 0 228 (dk_at dksX1_symbol_0 15 rfl rfl)
theorem dX1_symbol_18 : decode cX1_symbol 18 = .ok (.ifCond .ne 10, 3) := dk_154 0 10 (dk_at dksX1_symbol_0 18 rfl rfl)
theorem dX1_symbol_21 : decode cX1_symbol 21 = .ok (.aload_n 2, 1) := dk_44 (dk_at dksX1_symbol_0 21 rfl rfl)
theorem dX1_symbol_22 : decode cX1_symbol 22 = .ok (.getfield 224, 3) := dk_180 0 224 (dk_at dksX1_symbol_1 0 rfl rfl)
theorem dX1_symbol_25 : decode cX1_symbol 25 = .ok (.goto 14, 3) := dk_167 0 14 (dk_at dksX1_symbol_1 3 rfl rfl)
theorem dX1_symbol_28 : decode cX1_symbol 28 = .ok (.aload_n 2, 1) := dk_44 (dk_at dksX1_symbol_1 6 rfl rfl)
theorem dX1_symbol_29 : decode cX1_symbol 29 = .ok (.getfield 224, 3) := dk_180 0 224 (dk_at dksX1_symbol_1 7 rfl rfl)
theorem dX1_symbol_32 : decode cX1_symbol 32 = .ok (.bipush 97, 2) := dk_16 97 (dk_at dksX1_symbol_1 10 rfl rfl)
theorem dX1_symbol_34 : decode cX1_symbol 34 = .ok (.isub, 1) := dk_100 (dk_at dksX1_symbol_1 12 rfl rfl)
theorem dX1_symbol_35 : decode cX1_symbol 35 = .ok (.bipush 65, 2) := dk_16 65 (dk_at dksX1_symbol_1 13 rfl rfl)
theorem dX1_symbol_37 : decode cX1_symbol 37 = .ok (.iadd, 1) := dk_96 (dk_at dksX1_symbol_1 15 rfl rfl)
theorem dX1_symbol_38 : decode cX1_symbol 38 = .ok (.i2c, 1) := dk_146 (dk_at dksX1_symbol_1 16 rfl rfl)
theorem dX1_symbol_39 : decode cX1_symbol 39 = .ok (.ireturn, 1) := dk_172 (dk_at dksX1_symbol_1 17 rfl rfl)
theorem dX1_symbol_40 : decode cX1_symbol 40 = .ok (.aload_n 0, 1) := dk_42 (dk_at dksX1_symbol_1 18 rfl rfl)
theorem dX1_symbol_41 : decode cX1_symbol 41 = .ok (.getfield 22, 3) := dk_180 0 22 (dk_at dksX1_symbol_1 19 rfl rfl)
theorem dX1_symbol_44 : decode cX1_symbol 44 = .ok (.iload_n 1, 1) := dk_27 (dk_at dksX1_symbol_1 22 rfl rfl)
theorem dX1_symbol_45 : decode cX1_symbol 45 = .ok (.invokevirtual 234, 3) := dk_182 0 234 (dk_at dksX1_symbol_2 0 rfl rfl)
theorem dX1_symbol_48 : decode cX1_symbol 48 = .ok (.ifCond .eq 6, 3) := dk_153 0 6 (dk_at dksX1_symbol_2 3 rfl rfl)
theorem dX1_symbol_51 : decode cX1_symbol 51 = .ok (.bipush 61, 2) := dk_16 61 (dk_at dksX1_symbol_2 6 rfl rfl)
theorem dX1_symbol_53 : decode cX1_symbol 53 = .ok (.ireturn, 1) := dk_172 (dk_at dksX1_symbol_2 8 rfl rfl)
theorem dX1_symbol_54 : decode cX1_symbol 54 = .ok (.aload_n 0, 1) := dk_42 (dk_at dksX1_symbol_2 9 rfl rfl)
theorem dX1_symbol_55 : decode cX1_symbol 55 = .ok (.getfield 22, 3) := dk_180 0 22 (dk_at dksX1_symbol_2 10 rfl rfl)
theorem dX1_symbol_58 : decode cX1_symbol 58 = .ok (.getfield 64, 3) := dk_180 0 64 (dk_at dksX1_symbol_2 13 rfl rfl)
theorem dX1_symbol_61 : decode cX1_symbol 61 = .ok (.iload_n 1, 1) := dk_27 (dk_at dksX1_symbol_2 16 rfl rfl)
theorem dX1_symbol_62 : decode cX1_symbol 62 = .ok (.iaload, 1) := dk_46 (dk_at dksX1_symbol_2 17 rfl rfl)
theorem dX1_symbol_63 : decode cX1_symbol 63 = .ok (.ifCond .le 8, 3) := dk_158 0 8 (dk_at dksX1_symbol_2 18 rfl rfl)
theorem dX1_symbol_66 : decode cX1_symbol 66 = .ok (.bipush 42, 2) := dk_16 42 (dk_at dksX1_symbol_2 21 rfl rfl)
theorem dX1_symbol_68 : decode cX1_symbol 68 = .ok (.goto 5, 3) := dk_167 0 5 (dk_at dksX1_symbol_3 0 rfl rfl)
theorem dX1_symbol_71 : decode cX1_symbol 71 = .ok (.bipush 46, 2) := dk_16 46 (dk_at dksX1_symbol_3 3 rfl rfl)
theorem dX1_symbol_73 : decode cX1_symbol 73 = .ok (.ireturn, 1) := dk_172 (dk_at dksX1_symbol_3 5 rfl rfl)
abbrev cX1_outputByte : ByteArray := prog_1_method_100_code
def yX1_outputByte : MethodName := ⟨RX1, "outputByte", "(I)I"⟩
def dkwX1_outputByte_1 : List UInt8 := [182, 1, 240, 167, 0, 4, 2, 172]
abbrev dktX1_outputByte_1 : List UInt8 := dkwX1_outputByte_1 ++ []
def dkwX1_outputByte_0 : List UInt8 := [27, 133, 9, 42, 180, 0, 46, 182, 1, 211, 4, 100, 133, 184, 0, 119, 153, 0, 14, 42, 180, 0, 46, 27]
abbrev dktX1_outputByte_0 : List UInt8 := dkwX1_outputByte_0 ++ dktX1_outputByte_1
theorem dksX1_outputByte_0 : cX1_outputByte.data.toList.drop 0 = dktX1_outputByte_0 := by decide +kernel
theorem dksX1_outputByte_1 : cX1_outputByte.data.toList.drop 24 = dktX1_outputByte_1 := dk_seg dksX1_outputByte_0 24 rfl rfl
theorem dX1_outputByte_0 : decode cX1_outputByte 0 = .ok (.iload_n 1, 1) := dk_27 (dk_at dksX1_outputByte_0 0 rfl rfl)
theorem dX1_outputByte_1 : decode cX1_outputByte 1 = .ok (.i2l, 1) := dk_133 (dk_at dksX1_outputByte_0 1 rfl rfl)
theorem dX1_outputByte_2 : decode cX1_outputByte 2 = .ok (.lconst 0, 1) := dk_9 (dk_at dksX1_outputByte_0 2 rfl rfl)
theorem dX1_outputByte_3 : decode cX1_outputByte 3 = .ok (.aload_n 0, 1) := dk_42 (dk_at dksX1_outputByte_0 3 rfl rfl)
theorem dX1_outputByte_4 : decode cX1_outputByte 4 = .ok (.getfield 46, 3) := dk_180 0 46 (dk_at dksX1_outputByte_0 4 rfl rfl)
theorem dX1_outputByte_7 : decode cX1_outputByte 7 = .ok (.invokevirtual 467, 3) := dk_182 1 211 (dk_at dksX1_outputByte_0 7 rfl rfl)
theorem dX1_outputByte_10 : decode cX1_outputByte 10 = .ok (.iconst 1, 1) := dk_4 (dk_at dksX1_outputByte_0 10 rfl rfl)
theorem dX1_outputByte_11 : decode cX1_outputByte 11 = .ok (.isub, 1) := dk_100 (dk_at dksX1_outputByte_0 11 rfl rfl)
theorem dX1_outputByte_12 : decode cX1_outputByte 12 = .ok (.i2l, 1) := dk_133 (dk_at dksX1_outputByte_0 12 rfl rfl)
theorem dX1_outputByte_13 : decode cX1_outputByte 13 = .ok (.invokestatic 119, 3) := dk_184 0 119 (dk_at dksX1_outputByte_0 13 rfl rfl)
theorem dX1_outputByte_16 : decode cX1_outputByte 16 = .ok (.ifCond .eq 14, 3) := dk_153 0 14 (dk_at dksX1_outputByte_0 16 rfl rfl)
theorem dX1_outputByte_19 : decode cX1_outputByte 19 = .ok (.aload_n 0, 1) := dk_42 (dk_at dksX1_outputByte_0 19 rfl rfl)
theorem dX1_outputByte_20 : decode cX1_outputByte 20 = .ok (.getfield 46, 3) := dk_180 0 46 (dk_at dksX1_outputByte_0 20 rfl rfl)
theorem dX1_outputByte_23 : decode cX1_outputByte 23 = .ok (.iload_n 1, 1) := dk_27 (dk_at dksX1_outputByte_0 23 rfl rfl)
theorem dX1_outputByte_24 : decode cX1_outputByte 24 = .ok (.invokevirtual 496, 3) := dk_182 1 240 (dk_at dksX1_outputByte_1 0 rfl rfl)
theorem dX1_outputByte_27 : decode cX1_outputByte 27 = .ok (.goto 4, 3) := dk_167 0 4 (dk_at dksX1_outputByte_1 3 rfl rfl)
theorem dX1_outputByte_30 : decode cX1_outputByte 30 = .ok (.iconst (-1), 1) := dk_2 (dk_at dksX1_outputByte_1 6 rfl rfl)
theorem dX1_outputByte_31 : decode cX1_outputByte 31 = .ok (.ireturn, 1) := dk_172 (dk_at dksX1_outputByte_1 7 rfl rfl)
abbrev cX1_append : ByteArray := prog_1_method_10_code
def yX1_append : MethodName := ⟨RX1, "append", "(IIIII)I"⟩
def dkwX1_append_2 : List UInt8 := [182, 0, 115, 42, 180, 0, 108, 172]
abbrev dktX1_append_2 : List UInt8 := dkwX1_append_2 ++ []
def dkwX1_append_1 : List UInt8 := [188, 10, 89, 3, 27, 79, 89, 4, 28, 79, 89, 5, 29, 79, 89, 6, 21, 4, 79, 89, 7, 21, 5, 79]
abbrev dktX1_append_1 : List UInt8 := dkwX1_append_1 ++ dktX1_append_2
def dkwX1_append_0 : List UInt8 := [42, 180, 0, 108, 16, 20, 96, 17, 3, 32, 163, 0, 7, 4, 167, 0, 4, 3, 184, 0, 111, 42, 8]
abbrev dktX1_append_0 : List UInt8 := dkwX1_append_0 ++ dktX1_append_1
theorem dksX1_append_0 : cX1_append.data.toList.drop 0 = dktX1_append_0 := by decide +kernel
theorem dksX1_append_1 : cX1_append.data.toList.drop 23 = dktX1_append_1 := dk_seg dksX1_append_0 23 rfl rfl
theorem dksX1_append_2 : cX1_append.data.toList.drop 47 = dktX1_append_2 := dk_seg dksX1_append_1 24 rfl rfl
theorem dX1_append_0 : decode cX1_append 0 = .ok (.aload_n 0, 1) := dk_42 (dk_at dksX1_append_0 0 rfl rfl)
theorem dX1_append_1 : decode cX1_append 1 = .ok (.getfield 108, 3) := dk_180 0 108 (dk_at dksX1_append_0 1 rfl rfl)
theorem dX1_append_4 : decode cX1_append 4 = .ok (.bipush 20, 2) := dk_16 20 (dk_at dksX1_append_0 4 rfl rfl)
theorem dX1_append_6 : decode cX1_append 6 = .ok (.iadd, 1) := dk_96 (dk_at dksX1_append_0 6 rfl rfl)
theorem dX1_append_7 : decode cX1_append 7 = .ok (.sipush 800, 3) := dk_17 3 32 (dk_at dksX1_append_0 7 rfl rfl)
theorem dX1_append_10 : decode cX1_append 10 = .ok (.if_icmp .gt 7, 3) := dk_163 0 7 (dk_at dksX1_append_0 10 rfl rfl)
theorem dX1_append_13 : decode cX1_append 13 = .ok (.iconst 1, 1) := dk_4 (dk_at dksX1_append_0 13 rfl rfl)
theorem dX1_append_14 : decode cX1_append 14 = .ok (.goto 4, 3) := dk_167 0 4 (dk_at dksX1_append_0 14 rfl rfl)
theorem dX1_append_17 : decode cX1_append 17 = .ok (.iconst 0, 1) := dk_3 (dk_at dksX1_append_0 17 rfl rfl)
theorem dX1_append_18 : decode cX1_append 18 = .ok (.invokestatic 111, 3) := dk_184 0 111 (dk_at dksX1_append_0 18 rfl rfl)
theorem dX1_append_21 : decode cX1_append 21 = .ok (.aload_n 0, 1) := dk_42 (dk_at dksX1_append_0 21 rfl rfl)
theorem dX1_append_22 : decode cX1_append 22 = .ok (.iconst 5, 1) := dk_8 (dk_at dksX1_append_0 22 rfl rfl)
theorem dX1_append_23 : decode cX1_append 23 = .ok (.newarray .int, 2) := dk_188_10 (dk_at dksX1_append_1 0 rfl rfl)
theorem dX1_append_25 : decode cX1_append 25 = .ok (.dup, 1) := dk_89 (dk_at dksX1_append_1 2 rfl rfl)
theorem dX1_append_26 : decode cX1_append 26 = .ok (.iconst 0, 1) := dk_3 (dk_at dksX1_append_1 3 rfl rfl)
theorem dX1_append_27 : decode cX1_append 27 = .ok (.iload_n 1, 1) := dk_27 (dk_at dksX1_append_1 4 rfl rfl)
theorem dX1_append_28 : decode cX1_append 28 = .ok (.iastore, 1) := dk_79 (dk_at dksX1_append_1 5 rfl rfl)
theorem dX1_append_29 : decode cX1_append 29 = .ok (.dup, 1) := dk_89 (dk_at dksX1_append_1 6 rfl rfl)
theorem dX1_append_30 : decode cX1_append 30 = .ok (.iconst 1, 1) := dk_4 (dk_at dksX1_append_1 7 rfl rfl)
theorem dX1_append_31 : decode cX1_append 31 = .ok (.iload_n 2, 1) := dk_28 (dk_at dksX1_append_1 8 rfl rfl)
theorem dX1_append_32 : decode cX1_append 32 = .ok (.iastore, 1) := dk_79 (dk_at dksX1_append_1 9 rfl rfl)
theorem dX1_append_33 : decode cX1_append 33 = .ok (.dup, 1) := dk_89 (dk_at dksX1_append_1 10 rfl rfl)
theorem dX1_append_34 : decode cX1_append 34 = .ok (.iconst 2, 1) := dk_5 (dk_at dksX1_append_1 11 rfl rfl)
theorem dX1_append_35 : decode cX1_append 35 = .ok (.iload_n 3, 1) := dk_29 (dk_at dksX1_append_1 12 rfl rfl)
theorem dX1_append_36 : decode cX1_append 36 = .ok (.iastore, 1) := dk_79 (dk_at dksX1_append_1 13 rfl rfl)
theorem dX1_append_37 : decode cX1_append 37 = .ok (.dup, 1) := dk_89 (dk_at dksX1_append_1 14 rfl rfl)
theorem dX1_append_38 : decode cX1_append 38 = .ok (.iconst 3, 1) := dk_6 (dk_at dksX1_append_1 15 rfl rfl)
theorem dX1_append_39 : decode cX1_append 39 = .ok (.iload 4, 2) := dk_21 4 (dk_at dksX1_append_1 16 rfl rfl)
theorem dX1_append_41 : decode cX1_append 41 = .ok (.iastore, 1) := dk_79 (dk_at dksX1_append_1 18 rfl rfl)
theorem dX1_append_42 : decode cX1_append 42 = .ok (.dup, 1) := dk_89 (dk_at dksX1_append_1 19 rfl rfl)
theorem dX1_append_43 : decode cX1_append 43 = .ok (.iconst 4, 1) := dk_7 (dk_at dksX1_append_1 20 rfl rfl)
theorem dX1_append_44 : decode cX1_append 44 = .ok (.iload 5, 2) := dk_21 5 (dk_at dksX1_append_1 21 rfl rfl)
theorem dX1_append_46 : decode cX1_append 46 = .ok (.iastore, 1) := dk_79 (dk_at dksX1_append_1 23 rfl rfl)
theorem dX1_append_47 : decode cX1_append 47 = .ok (.invokevirtual 115, 3) := dk_182 0 115 (dk_at dksX1_append_2 0 rfl rfl)
theorem dX1_append_50 : decode cX1_append 50 = .ok (.aload_n 0, 1) := dk_42 (dk_at dksX1_append_2 3 rfl rfl)
theorem dX1_append_51 : decode cX1_append 51 = .ok (.getfield 108, 3) := dk_180 0 108 (dk_at dksX1_append_2 4 rfl rfl)
theorem dX1_append_54 : decode cX1_append 54 = .ok (.ireturn, 1) := dk_172 (dk_at dksX1_append_2 7 rfl rfl)
abbrev cX1_checkState : ByteArray := prog_1_method_4_code
def yX1_checkState : MethodName := ⟨RX1, "checkState", "(Z)V"⟩
def dkwX1_checkState_0 : List UInt8 := [26, 154, 0, 11, 187, 0, 10, 89, 183, 0, 12, 191, 177]
abbrev dktX1_checkState_0 : List UInt8 := dkwX1_checkState_0 ++ []
theorem dksX1_checkState_0 : cX1_checkState.data.toList.drop 0 = dktX1_checkState_0 := by decide +kernel
theorem dX1_checkState_0 : decode cX1_checkState 0 = .ok (.iload_n 0, 1) := dk_26 (dk_at dksX1_checkState_0 0 rfl rfl)
theorem dX1_checkState_1 : decode cX1_checkState 1 = .ok (.ifCond .ne 11, 3) := dk_154 0 11 (dk_at dksX1_checkState_0 1 rfl rfl)
theorem dX1_checkState_4 : decode cX1_checkState 4 = .ok (.new 10, 3) := dk_187 0 10 (dk_at dksX1_checkState_0 4 rfl rfl)
theorem dX1_checkState_7 : decode cX1_checkState 7 = .ok (.dup, 1) := dk_89 (dk_at dksX1_checkState_0 7 rfl rfl)
theorem dX1_checkState_8 : decode cX1_checkState 8 = .ok (.invokespecial 12, 3) := dk_183 0 12 (dk_at dksX1_checkState_0 8 rfl rfl)
theorem dX1_checkState_11 : decode cX1_checkState 11 = .ok (.athrow, 1) := dk_191 (dk_at dksX1_checkState_0 11 rfl rfl)
theorem dX1_checkState_12 : decode cX1_checkState 12 = .ok (.return_, 1) := dk_177 (dk_at dksX1_checkState_0 12 rfl rfl)
abbrev cX1_appendWords : ByteArray := prog_1_method_9_code
def yX1_appendWords : MethodName := ⟨RX1, "appendWords", "([I)V"⟩
def dkwX1_appendWords_2 : List UInt8 := [180, 0, 108, 4, 96, 181, 0, 108, 132, 6, 248, 167, 255, 223, 132, 4, 1, 167, 255, 201, 177]
abbrev dktX1_appendWords_2 : List UInt8 := dkwX1_appendWords_2 ++ []
def dkwX1_appendWords_1 : List UInt8 := [21, 6, 155, 0, 34, 42, 180, 0, 35, 42, 180, 0, 108, 21, 5, 21, 6, 122, 145, 84, 42, 89]
abbrev dktX1_appendWords_1 : List UInt8 := dkwX1_appendWords_1 ++ dktX1_appendWords_2
def dkwX1_appendWords_0 : List UInt8 := [43, 77, 44, 190, 62, 3, 54, 4, 21, 4, 29, 162, 0, 55, 44, 21, 4, 46, 54, 5, 16, 24, 54, 6]
abbrev dktX1_appendWords_0 : List UInt8 := dkwX1_appendWords_0 ++ dktX1_appendWords_1
theorem dksX1_appendWords_0 : cX1_appendWords.data.toList.drop 0 = dktX1_appendWords_0 := by decide +kernel
theorem dksX1_appendWords_1 : cX1_appendWords.data.toList.drop 24 = dktX1_appendWords_1 := dk_seg dksX1_appendWords_0 24 rfl rfl
theorem dksX1_appendWords_2 : cX1_appendWords.data.toList.drop 46 = dktX1_appendWords_2 := dk_seg dksX1_appendWords_1 22 rfl rfl
theorem dX1_appendWords_0 : decode cX1_appendWords 0 = .ok (.aload_n 1, 1) := dk_43 (dk_at dksX1_appendWords_0 0 rfl rfl)
theorem dX1_appendWords_1 : decode cX1_appendWords 1 = .ok (.astore_n 2, 1) := dk_77 (dk_at dksX1_appendWords_0 1 rfl rfl)
theorem dX1_appendWords_2 : decode cX1_appendWords 2 = .ok (.aload_n 2, 1) := dk_44 (dk_at dksX1_appendWords_0 2 rfl rfl)
theorem dX1_appendWords_3 : decode cX1_appendWords 3 = .ok (.arraylength, 1) := dk_190 (dk_at dksX1_appendWords_0 3 rfl rfl)
theorem dX1_appendWords_4 : decode cX1_appendWords 4 = .ok (.istore_n 3, 1) := dk_62 (dk_at dksX1_appendWords_0 4 rfl rfl)
theorem dX1_appendWords_5 : decode cX1_appendWords 5 = .ok (.iconst 0, 1) := dk_3 (dk_at dksX1_appendWords_0 5 rfl rfl)
theorem dX1_appendWords_6 : decode cX1_appendWords 6 = .ok (.istore 4, 2) := dk_54 4 (dk_at dksX1_appendWords_0 6 rfl rfl)
theorem dX1_appendWords_8 : decode cX1_appendWords 8 = .ok (.iload 4, 2) := dk_21 4 (dk_at dksX1_appendWords_0 8 rfl rfl)
theorem dX1_appendWords_10 : decode cX1_appendWords 10 = .ok (.iload_n 3, 1) := dk_29 (dk_at dksX1_appendWords_0 10 rfl rfl)
theorem dX1_appendWords_11 : decode cX1_appendWords 11 = .ok (.if_icmp .ge 55, 3) := dk_162 0 55 (dk_at dksX1_appendWords_0 11 rfl rfl)
theorem dX1_appendWords_14 : decode cX1_appendWords 14 = .ok (.aload_n 2, 1) := dk_44 (dk_at dksX1_appendWords_0 14 rfl rfl)
theorem dX1_appendWords_15 : decode cX1_appendWords 15 = .ok (.iload 4, 2) := dk_21 4 (dk_at dksX1_appendWords_0 15 rfl rfl)
theorem dX1_appendWords_17 : decode cX1_appendWords 17 = .ok (.iaload, 1) := dk_46 (dk_at dksX1_appendWords_0 17 rfl rfl)
theorem dX1_appendWords_18 : decode cX1_appendWords 18 = .ok (.istore 5, 2) := dk_54 5 (dk_at dksX1_appendWords_0 18 rfl rfl)
theorem dX1_appendWords_20 : decode cX1_appendWords 20 = .ok (.bipush 24, 2) := dk_16 24 (dk_at dksX1_appendWords_0 20 rfl rfl)
theorem dX1_appendWords_22 : decode cX1_appendWords 22 = .ok (.istore 6, 2) := dk_54 6 (dk_at dksX1_appendWords_0 22 rfl rfl)
theorem dX1_appendWords_24 : decode cX1_appendWords 24 = .ok (.iload 6, 2) := dk_21 6 (dk_at dksX1_appendWords_1 0 rfl rfl)
theorem dX1_appendWords_26 : decode cX1_appendWords 26 = .ok (.ifCond .lt 34, 3) := dk_155 0 34 (dk_at dksX1_appendWords_1 2 rfl rfl)
theorem dX1_appendWords_29 : decode cX1_appendWords 29 = .ok (.aload_n 0, 1) := dk_42 (dk_at dksX1_appendWords_1 5 rfl rfl)
theorem dX1_appendWords_30 : decode cX1_appendWords 30 = .ok (.getfield 35, 3) := dk_180 0 35 (dk_at dksX1_appendWords_1 6 rfl rfl)
theorem dX1_appendWords_33 : decode cX1_appendWords 33 = .ok (.aload_n 0, 1) := dk_42 (dk_at dksX1_appendWords_1 9 rfl rfl)
theorem dX1_appendWords_34 : decode cX1_appendWords 34 = .ok (.getfield 108, 3) := dk_180 0 108 (dk_at dksX1_appendWords_1 10 rfl rfl)
theorem dX1_appendWords_37 : decode cX1_appendWords 37 = .ok (.iload 5, 2) := dk_21 5 (dk_at dksX1_appendWords_1 13 rfl rfl)
theorem dX1_appendWords_39 : decode cX1_appendWords 39 = .ok (.iload 6, 2) := dk_21 6 (dk_at dksX1_appendWords_1 15 rfl rfl)
theorem dX1_appendWords_41 : decode cX1_appendWords 41 = .ok (.ishr, 1) := dk_122 (dk_at dksX1_appendWords_1 17 rfl rfl)
theorem dX1_appendWords_42 : decode cX1_appendWords 42 = .ok (.i2b, 1) := dk_145 (dk_at dksX1_appendWords_1 18 rfl rfl)
theorem dX1_appendWords_43 : decode cX1_appendWords 43 = .ok (.bastore, 1) := dk_84 (dk_at dksX1_appendWords_1 19 rfl rfl)
theorem dX1_appendWords_44 : decode cX1_appendWords 44 = .ok (.aload_n 0, 1) := dk_42 (dk_at dksX1_appendWords_1 20 rfl rfl)
theorem dX1_appendWords_45 : decode cX1_appendWords 45 = .ok (.dup, 1) := dk_89 (dk_at dksX1_appendWords_1 21 rfl rfl)
theorem dX1_appendWords_46 : decode cX1_appendWords 46 = .ok (.getfield 108, 3) := dk_180 0 108 (dk_at dksX1_appendWords_2 0 rfl rfl)
theorem dX1_appendWords_49 : decode cX1_appendWords 49 = .ok (.iconst 1, 1) := dk_4 (dk_at dksX1_appendWords_2 3 rfl rfl)
theorem dX1_appendWords_50 : decode cX1_appendWords 50 = .ok (.iadd, 1) := dk_96 (dk_at dksX1_appendWords_2 4 rfl rfl)
theorem dX1_appendWords_51 : decode cX1_appendWords 51 = .ok (.putfield 108, 3) := dk_181 0 108 (dk_at dksX1_appendWords_2 5 rfl rfl)
theorem dX1_appendWords_54 : decode cX1_appendWords 54 = .ok (.iinc 6 (-8), 3) := dk_132 6 248 (dk_at dksX1_appendWords_2 8 rfl rfl)
theorem dX1_appendWords_57 : decode cX1_appendWords 57 = .ok (.goto (-33), 3) := dk_167 255 223 (dk_at dksX1_appendWords_2 11 rfl rfl)
theorem dX1_appendWords_60 : decode cX1_appendWords 60 = .ok (.iinc 4 1, 3) := dk_132 4 1 (dk_at dksX1_appendWords_2 14 rfl rfl)
theorem dX1_appendWords_63 : decode cX1_appendWords 63 = .ok (.goto (-55), 3) := dk_167 255 201 (dk_at dksX1_appendWords_2 17 rfl rfl)
theorem dX1_appendWords_66 : decode cX1_appendWords 66 = .ok (.return_, 1) := dk_177 (dk_at dksX1_appendWords_2 20 rfl rfl)
abbrev cX1_truncate : ByteArray := prog_1_method_11_code
def yX1_truncate : MethodName := ⟨RX1, "truncate", "(I)I"⟩
def dkwX1_truncate_0 : List UInt8 := [27, 133, 9, 42, 180, 0, 108, 133, 184, 0, 119, 184, 0, 123, 42, 27, 181, 0, 108, 27, 172]
abbrev dktX1_truncate_0 : List UInt8 := dkwX1_truncate_0 ++ []
theorem dksX1_truncate_0 : cX1_truncate.data.toList.drop 0 = dktX1_truncate_0 := by decide +kernel
theorem dX1_truncate_0 : decode cX1_truncate 0 = .ok (.iload_n 1, 1) := dk_27 (dk_at dksX1_truncate_0 0 rfl rfl)
theorem dX1_truncate_1 : decode cX1_truncate 1 = .ok (.i2l, 1) := dk_133 (dk_at dksX1_truncate_0 1 rfl rfl)
theorem dX1_truncate_2 : decode cX1_truncate 2 = .ok (.lconst 0, 1) := dk_9 (dk_at dksX1_truncate_0 2 rfl rfl)
theorem dX1_truncate_3 : decode cX1_truncate 3 = .ok (.aload_n 0, 1) := dk_42 (dk_at dksX1_truncate_0 3 rfl rfl)
theorem dX1_truncate_4 : decode cX1_truncate 4 = .ok (.getfield 108, 3) := dk_180 0 108 (dk_at dksX1_truncate_0 4 rfl rfl)
theorem dX1_truncate_7 : decode cX1_truncate 7 = .ok (.i2l, 1) := dk_133 (dk_at dksX1_truncate_0 7 rfl rfl)
theorem dX1_truncate_8 : decode cX1_truncate 8 = .ok (.invokestatic 119, 3) := dk_184 0 119 (dk_at dksX1_truncate_0 8 rfl rfl)
theorem dX1_truncate_11 : decode cX1_truncate 11 = .ok (.invokestatic 123, 3) := dk_184 0 123 (dk_at dksX1_truncate_0 11 rfl rfl)
theorem dX1_truncate_14 : decode cX1_truncate 14 = .ok (.aload_n 0, 1) := dk_42 (dk_at dksX1_truncate_0 14 rfl rfl)
theorem dX1_truncate_15 : decode cX1_truncate 15 = .ok (.iload_n 1, 1) := dk_27 (dk_at dksX1_truncate_0 15 rfl rfl)
theorem dX1_truncate_16 : decode cX1_truncate 16 = .ok (.putfield 108, 3) := dk_181 0 108 (dk_at dksX1_truncate_0 16 rfl rfl)
theorem dX1_truncate_19 : decode cX1_truncate 19 = .ok (.iload_n 1, 1) := dk_27 (dk_at dksX1_truncate_0 19 rfl rfl)
theorem dX1_truncate_20 : decode cX1_truncate 20 = .ok (.ireturn, 1) := dk_172 (dk_at dksX1_truncate_0 20 rfl rfl)
abbrev cX1_checkArgument : ByteArray := prog_1_method_3_code
def yX1_checkArgument : MethodName := ⟨RX1, "checkArgument", "(Z)V"⟩
def dkwX1_checkArgument_0 : List UInt8 := [26, 154, 0, 11, 187, 0, 7, 89, 183, 0, 9, 191, 177]
abbrev dktX1_checkArgument_0 : List UInt8 := dkwX1_checkArgument_0 ++ []
theorem dksX1_checkArgument_0 : cX1_checkArgument.data.toList.drop 0 = dktX1_checkArgument_0 := by decide +kernel
theorem dX1_checkArgument_0 : decode cX1_checkArgument 0 = .ok (.iload_n 0, 1) := dk_26 (dk_at dksX1_checkArgument_0 0 rfl rfl)
theorem dX1_checkArgument_1 : decode cX1_checkArgument 1 = .ok (.ifCond .ne 11, 3) := dk_154 0 11 (dk_at dksX1_checkArgument_0 1 rfl rfl)
theorem dX1_checkArgument_4 : decode cX1_checkArgument 4 = .ok (.new 7, 3) := dk_187 0 7 (dk_at dksX1_checkArgument_0 4 rfl rfl)
theorem dX1_checkArgument_7 : decode cX1_checkArgument 7 = .ok (.dup, 1) := dk_89 (dk_at dksX1_checkArgument_0 7 rfl rfl)
theorem dX1_checkArgument_8 : decode cX1_checkArgument 8 = .ok (.invokespecial 9, 3) := dk_183 0 9 (dk_at dksX1_checkArgument_0 8 rfl rfl)
theorem dX1_checkArgument_11 : decode cX1_checkArgument 11 = .ok (.athrow, 1) := dk_191 (dk_at dksX1_checkArgument_0 11 rfl rfl)
theorem dX1_checkArgument_12 : decode cX1_checkArgument 12 = .ok (.return_, 1) := dk_177 (dk_at dksX1_checkArgument_0 12 rfl rfl)
abbrev cX1_load : ByteArray := prog_1_method_15_code
def yX1_load : MethodName := ⟨RX1, "load", "()I"⟩
def dkwX1_load_2 : List UInt8 := [180, 0, 31, 182, 0, 176, 43, 182, 0, 179, 172]
abbrev dktX1_load_2 : List UInt8 := dkwX1_load_2 ++ []
def dkwX1_load_1 : List UInt8 := [182, 0, 169, 191, 78, 42, 3, 181, 0, 108, 45, 191, 42, 182, 0, 173, 42, 43, 181, 0, 22, 42]
abbrev dktX1_load_1 : List UInt8 := dkwX1_load_1 ++ dktX1_load_2
def dkwX1_load_0 : List UInt8 := [187, 0, 161, 89, 42, 183, 0, 163, 182, 0, 166, 76, 42, 3, 181, 0, 108, 167, 0, 18, 77, 42, 44]
abbrev dktX1_load_0 : List UInt8 := dkwX1_load_0 ++ dktX1_load_1
theorem dksX1_load_0 : cX1_load.data.toList.drop 0 = dktX1_load_0 := by decide +kernel
theorem dksX1_load_1 : cX1_load.data.toList.drop 23 = dktX1_load_1 := dk_seg dksX1_load_0 23 rfl rfl
theorem dksX1_load_2 : cX1_load.data.toList.drop 45 = dktX1_load_2 := dk_seg dksX1_load_1 22 rfl rfl
theorem dX1_load_0 : decode cX1_load 0 = .ok (.new 161, 3) := dk_187 0 161 (dk_at dksX1_load_0 0 rfl rfl)
theorem dX1_load_3 : decode cX1_load 3 = .ok (.dup, 1) := dk_89 (dk_at dksX1_load_0 3 rfl rfl)
theorem dX1_load_4 : decode cX1_load 4 = .ok (.aload_n 0, 1) := dk_42 (dk_at dksX1_load_0 4 rfl rfl)
theorem dX1_load_5 : decode cX1_load 5 = .ok (.invokespecial 163, 3) := dk_183 0 163 (dk_at dksX1_load_0 5 rfl rfl)
theorem dX1_load_8 : decode cX1_load 8 = .ok (.invokevirtual 166, 3) := dk_182 0 166 (dk_at dksX1_load_0 8 rfl rfl)
theorem dX1_load_11 : decode cX1_load 11 = .ok (.astore_n 1, 1) := dk_76 (dk_at dksX1_load_0 11 rfl rfl)
theorem dX1_load_12 : decode cX1_load 12 = .ok (.aload_n 0, 1) := dk_42 (dk_at dksX1_load_0 12 rfl rfl)
theorem dX1_load_13 : decode cX1_load 13 = .ok (.iconst 0, 1) := dk_3 (dk_at dksX1_load_0 13 rfl rfl)
theorem dX1_load_14 : decode cX1_load 14 = .ok (.putfield 108, 3) := dk_181 0 108 (dk_at dksX1_load_0 14 rfl rfl)
theorem dX1_load_17 : decode cX1_load 17 = .ok (.goto 18, 3) := dk_167 0 18 (dk_at dksX1_load_0 17 rfl rfl)
theorem dX1_load_20 : decode cX1_load 20 = .ok (.astore_n 2, 1) := dk_77 (dk_at dksX1_load_0 20 rfl rfl)
theorem dX1_load_21 : decode cX1_load 21 = .ok (.aload_n 0, 1) := dk_42 (dk_at dksX1_load_0 21 rfl rfl)
theorem dX1_load_22 : decode cX1_load 22 = .ok (.aload_n 2, 1) := dk_44 (dk_at dksX1_load_0 22 rfl rfl)
theorem dX1_load_23 : decode cX1_load 23 = .ok (.invokevirtual 169, 3) := dk_182 0 169 (dk_at dksX1_load_1 0 rfl rfl)
theorem dX1_load_26 : decode cX1_load 26 = .ok (.athrow, 1) := dk_191 (dk_at dksX1_load_1 3 rfl rfl)
theorem dX1_load_27 : decode cX1_load 27 = .ok (.astore_n 3, 1) := dk_78 (dk_at dksX1_load_1 4 rfl rfl)
theorem dX1_load_28 : decode cX1_load 28 = .ok (.aload_n 0, 1) := dk_42 (dk_at dksX1_load_1 5 rfl rfl)
theorem dX1_load_29 : decode cX1_load 29 = .ok (.iconst 0, 1) := dk_3 (dk_at dksX1_load_1 6 rfl rfl)
theorem dX1_load_30 : decode cX1_load 30 = .ok (.putfield 108, 3) := dk_181 0 108 (dk_at dksX1_load_1 7 rfl rfl)
theorem dX1_load_33 : decode cX1_load 33 = .ok (.aload_n 3, 1) := dk_45 (dk_at dksX1_load_1 10 rfl rfl)
theorem dX1_load_34 : decode cX1_load 34 = .ok (.athrow, 1) := dk_191 (dk_at dksX1_load_1 11 rfl rfl)
theorem dX1_load_35 : decode cX1_load 35 = .ok (.aload_n 0, 1) := dk_42 (dk_at dksX1_load_1 12 rfl rfl)
theorem dX1_load_36 : decode cX1_load 36 = .ok (.invokevirtual 173, 3) := dk_182 0 173 (dk_at dksX1_load_1 13 rfl rfl)
theorem dX1_load_39 : decode cX1_load 39 = .ok (.aload_n 0, 1) := dk_42 (dk_at dksX1_load_1 16 rfl rfl)
theorem dX1_load_40 : decode cX1_load 40 = .ok (.aload_n 1, 1) := dk_43 (dk_at dksX1_load_1 17 rfl rfl)
theorem dX1_load_41 : decode cX1_load 41 = .ok (.putfield 22, 3) := dk_181 0 22 (dk_at dksX1_load_1 18 rfl rfl)
theorem dX1_load_44 : decode cX1_load 44 = .ok (.aload_n 0, 1) := dk_42 (dk_at dksX1_load_1 21 rfl rfl)
theorem dX1_load_45 : decode cX1_load 45 = .ok (.getfield 31, 3) := dk_180 0 31 (dk_at dksX1_load_2 0 rfl rfl)
theorem dX1_load_48 : decode cX1_load 48 = .ok (.invokevirtual 176, 3) := dk_182 0 176 (dk_at dksX1_load_2 3 rfl rfl)
theorem dX1_load_51 : decode cX1_load 51 = .ok (.aload_n 1, 1) := dk_43 (dk_at dksX1_load_2 6 rfl rfl)
theorem dX1_load_52 : decode cX1_load 52 = .ok (.invokevirtual 179, 3) := dk_182 0 179 (dk_at dksX1_load_2 7 rfl rfl)
theorem dX1_load_55 : decode cX1_load 55 = .ok (.ireturn, 1) := dk_172 (dk_at dksX1_load_2 10 rfl rfl)
abbrev cX1_report : ByteArray := prog_1_method_13_code
def yX1_report : MethodName := ⟨RX1, "report", "(LHedgeMessages$ParseError;)Ljava/lang/IllegalArgumentException;"⟩
def dkwX1_report_0 : List UInt8 := [42, 43, 180, 0, 150, 181, 0, 155, 42, 43, 180, 0, 158, 181, 0, 39, 187, 0, 7, 89, 183, 0, 9, 176]
abbrev dktX1_report_0 : List UInt8 := dkwX1_report_0 ++ []
theorem dksX1_report_0 : cX1_report.data.toList.drop 0 = dktX1_report_0 := by decide +kernel
theorem dX1_report_0 : decode cX1_report 0 = .ok (.aload_n 0, 1) := dk_42 (dk_at dksX1_report_0 0 rfl rfl)
theorem dX1_report_1 : decode cX1_report 1 = .ok (.aload_n 1, 1) := dk_43 (dk_at dksX1_report_0 1 rfl rfl)
theorem dX1_report_2 : decode cX1_report 2 = .ok (.getfield 150, 3) := dk_180 0 150 (dk_at dksX1_report_0 2 rfl rfl)
theorem dX1_report_5 : decode cX1_report 5 = .ok (.putfield 155, 3) := dk_181 0 155 (dk_at dksX1_report_0 5 rfl rfl)
theorem dX1_report_8 : decode cX1_report 8 = .ok (.aload_n 0, 1) := dk_42 (dk_at dksX1_report_0 8 rfl rfl)
theorem dX1_report_9 : decode cX1_report 9 = .ok (.aload_n 1, 1) := dk_43 (dk_at dksX1_report_0 9 rfl rfl)
theorem dX1_report_10 : decode cX1_report 10 = .ok (.getfield 158, 3) := dk_180 0 158 (dk_at dksX1_report_0 10 rfl rfl)
theorem dX1_report_13 : decode cX1_report 13 = .ok (.putfield 39, 3) := dk_181 0 39 (dk_at dksX1_report_0 13 rfl rfl)
theorem dX1_report_16 : decode cX1_report 16 = .ok (.new 7, 3) := dk_187 0 7 (dk_at dksX1_report_0 16 rfl rfl)
theorem dX1_report_19 : decode cX1_report 19 = .ok (.dup, 1) := dk_89 (dk_at dksX1_report_0 19 rfl rfl)
theorem dX1_report_20 : decode cX1_report 20 = .ok (.invokespecial 9, 3) := dk_183 0 9 (dk_at dksX1_report_0 20 rfl rfl)
theorem dX1_report_23 : decode cX1_report 23 = .ok (.areturn, 1) := dk_176 (dk_at dksX1_report_0 23 rfl rfl)
abbrev cX1_clearError : ByteArray := prog_1_method_14_code
def yX1_clearError : MethodName := ⟨RX1, "clearError", "()V"⟩
def dkwX1_clearError_0 : List UInt8 := [42, 3, 181, 0, 155, 42, 2, 181, 0, 39, 177]
abbrev dktX1_clearError_0 : List UInt8 := dkwX1_clearError_0 ++ []
theorem dksX1_clearError_0 : cX1_clearError.data.toList.drop 0 = dktX1_clearError_0 := by decide +kernel
theorem dX1_clearError_0 : decode cX1_clearError 0 = .ok (.aload_n 0, 1) := dk_42 (dk_at dksX1_clearError_0 0 rfl rfl)
theorem dX1_clearError_1 : decode cX1_clearError 1 = .ok (.iconst 0, 1) := dk_3 (dk_at dksX1_clearError_0 1 rfl rfl)
theorem dX1_clearError_2 : decode cX1_clearError 2 = .ok (.putfield 155, 3) := dk_181 0 155 (dk_at dksX1_clearError_0 2 rfl rfl)
theorem dX1_clearError_5 : decode cX1_clearError 5 = .ok (.aload_n 0, 1) := dk_42 (dk_at dksX1_clearError_0 5 rfl rfl)
theorem dX1_clearError_6 : decode cX1_clearError 6 = .ok (.iconst (-1), 1) := dk_2 (dk_at dksX1_clearError_0 6 rfl rfl)
theorem dX1_clearError_7 : decode cX1_clearError 7 = .ok (.putfield 39, 3) := dk_181 0 39 (dk_at dksX1_clearError_0 7 rfl rfl)
theorem dX1_clearError_10 : decode cX1_clearError 10 = .ok (.return_, 1) := dk_177 (dk_at dksX1_clearError_0 10 rfl rfl)
abbrev cX1_executeCommands : ByteArray := prog_1_method_17_code
def yX1_executeCommands : MethodName := ⟨RX1, "executeCommands", "()I"⟩
def dkwX1_executeCommands_2 : List UInt8 := [44, 43, 184, 0, 186, 62, 42, 44, 182, 0, 92, 29, 172]
abbrev dktX1_executeCommands_2 : List UInt8 := dkwX1_executeCommands_2 ++ []
def dkwX1_executeCommands_1 : List UInt8 := [182, 0, 169, 191, 78, 42, 3, 181, 0, 108, 45, 191, 42, 182, 0, 173, 42, 180, 0, 22, 182, 0, 83, 77]
abbrev dktX1_executeCommands_1 : List UInt8 := dkwX1_executeCommands_1 ++ dktX1_executeCommands_2
def dkwX1_executeCommands_0 : List UInt8 := [187, 0, 161, 89, 42, 183, 0, 163, 182, 0, 182, 76, 42, 3, 181, 0, 108, 167, 0, 18, 77, 42, 44]
abbrev dktX1_executeCommands_0 : List UInt8 := dkwX1_executeCommands_0 ++ dktX1_executeCommands_1
theorem dksX1_executeCommands_0 : cX1_executeCommands.data.toList.drop 0 = dktX1_executeCommands_0 := by decide +kernel
theorem dksX1_executeCommands_1 : cX1_executeCommands.data.toList.drop 23 = dktX1_executeCommands_1 := dk_seg dksX1_executeCommands_0 23 rfl rfl
theorem dksX1_executeCommands_2 : cX1_executeCommands.data.toList.drop 47 = dktX1_executeCommands_2 := dk_seg dksX1_executeCommands_1 24 rfl rfl
theorem dX1_executeCommands_0 : decode cX1_executeCommands 0 = .ok (.new 161, 3) := dk_187 0 161 (dk_at dksX1_executeCommands_0 0 rfl rfl)
theorem dX1_executeCommands_3 : decode cX1_executeCommands 3 = .ok (.dup, 1) := dk_89 (dk_at dksX1_executeCommands_0 3 rfl rfl)
theorem dX1_executeCommands_4 : decode cX1_executeCommands 4 = .ok (.aload_n 0, 1) := dk_42 (dk_at dksX1_executeCommands_0 4 rfl rfl)
theorem dX1_executeCommands_5 : decode cX1_executeCommands 5 = .ok (.invokespecial 163, 3) := dk_183 0 163 (dk_at dksX1_executeCommands_0 5 rfl rfl)
theorem dX1_executeCommands_8 : decode cX1_executeCommands 8 = .ok (.invokevirtual 182, 3) := dk_182 0 182 (dk_at dksX1_executeCommands_0 8 rfl rfl)
theorem dX1_executeCommands_11 : decode cX1_executeCommands 11 = .ok (.astore_n 1, 1) := dk_76 (dk_at dksX1_executeCommands_0 11 rfl rfl)
theorem dX1_executeCommands_12 : decode cX1_executeCommands 12 = .ok (.aload_n 0, 1) := dk_42 (dk_at dksX1_executeCommands_0 12 rfl rfl)
theorem dX1_executeCommands_13 : decode cX1_executeCommands 13 = .ok (.iconst 0, 1) := dk_3 (dk_at dksX1_executeCommands_0 13 rfl rfl)
theorem dX1_executeCommands_14 : decode cX1_executeCommands 14 = .ok (.putfield 108, 3) := dk_181 0 108 (dk_at dksX1_executeCommands_0 14 rfl rfl)
theorem dX1_executeCommands_17 : decode cX1_executeCommands 17 = .ok (.goto 18, 3) := dk_167 0 18 (dk_at dksX1_executeCommands_0 17 rfl rfl)
theorem dX1_executeCommands_20 : decode cX1_executeCommands 20 = .ok (.astore_n 2, 1) := dk_77 (dk_at dksX1_executeCommands_0 20 rfl rfl)
theorem dX1_executeCommands_21 : decode cX1_executeCommands 21 = .ok (.aload_n 0, 1) := dk_42 (dk_at dksX1_executeCommands_0 21 rfl rfl)
theorem dX1_executeCommands_22 : decode cX1_executeCommands 22 = .ok (.aload_n 2, 1) := dk_44 (dk_at dksX1_executeCommands_0 22 rfl rfl)
theorem dX1_executeCommands_23 : decode cX1_executeCommands 23 = .ok (.invokevirtual 169, 3) := dk_182 0 169 (dk_at dksX1_executeCommands_1 0 rfl rfl)
theorem dX1_executeCommands_26 : decode cX1_executeCommands 26 = .ok (.athrow, 1) := dk_191 (dk_at dksX1_executeCommands_1 3 rfl rfl)
theorem dX1_executeCommands_27 : decode cX1_executeCommands 27 = .ok (.astore_n 3, 1) := dk_78 (dk_at dksX1_executeCommands_1 4 rfl rfl)
theorem dX1_executeCommands_28 : decode cX1_executeCommands 28 = .ok (.aload_n 0, 1) := dk_42 (dk_at dksX1_executeCommands_1 5 rfl rfl)
theorem dX1_executeCommands_29 : decode cX1_executeCommands 29 = .ok (.iconst 0, 1) := dk_3 (dk_at dksX1_executeCommands_1 6 rfl rfl)
theorem dX1_executeCommands_30 : decode cX1_executeCommands 30 = .ok (.putfield 108, 3) := dk_181 0 108 (dk_at dksX1_executeCommands_1 7 rfl rfl)
theorem dX1_executeCommands_33 : decode cX1_executeCommands 33 = .ok (.aload_n 3, 1) := dk_45 (dk_at dksX1_executeCommands_1 10 rfl rfl)
theorem dX1_executeCommands_34 : decode cX1_executeCommands 34 = .ok (.athrow, 1) := dk_191 (dk_at dksX1_executeCommands_1 11 rfl rfl)
theorem dX1_executeCommands_35 : decode cX1_executeCommands 35 = .ok (.aload_n 0, 1) := dk_42 (dk_at dksX1_executeCommands_1 12 rfl rfl)
theorem dX1_executeCommands_36 : decode cX1_executeCommands 36 = .ok (.invokevirtual 173, 3) := dk_182 0 173 (dk_at dksX1_executeCommands_1 13 rfl rfl)
theorem dX1_executeCommands_39 : decode cX1_executeCommands 39 = .ok (.aload_n 0, 1) := dk_42 (dk_at dksX1_executeCommands_1 16 rfl rfl)
theorem dX1_executeCommands_40 : decode cX1_executeCommands 40 = .ok (.getfield 22, 3) := dk_180 0 22 (dk_at dksX1_executeCommands_1 17 rfl rfl)
theorem dX1_executeCommands_43 : decode cX1_executeCommands 43 = .ok (.invokevirtual 83, 3) := dk_182 0 83 (dk_at dksX1_executeCommands_1 20 rfl rfl)
theorem dX1_executeCommands_46 : decode cX1_executeCommands 46 = .ok (.astore_n 2, 1) := dk_77 (dk_at dksX1_executeCommands_1 23 rfl rfl)
theorem dX1_executeCommands_47 : decode cX1_executeCommands 47 = .ok (.aload_n 2, 1) := dk_44 (dk_at dksX1_executeCommands_2 0 rfl rfl)
theorem dX1_executeCommands_48 : decode cX1_executeCommands 48 = .ok (.aload_n 1, 1) := dk_43 (dk_at dksX1_executeCommands_2 1 rfl rfl)
theorem dX1_executeCommands_49 : decode cX1_executeCommands 49 = .ok (.invokestatic 186, 3) := dk_184 0 186 (dk_at dksX1_executeCommands_2 2 rfl rfl)
theorem dX1_executeCommands_52 : decode cX1_executeCommands 52 = .ok (.istore_n 3, 1) := dk_62 (dk_at dksX1_executeCommands_2 5 rfl rfl)
theorem dX1_executeCommands_53 : decode cX1_executeCommands 53 = .ok (.aload_n 0, 1) := dk_42 (dk_at dksX1_executeCommands_2 6 rfl rfl)
theorem dX1_executeCommands_54 : decode cX1_executeCommands 54 = .ok (.aload_n 2, 1) := dk_44 (dk_at dksX1_executeCommands_2 7 rfl rfl)
theorem dX1_executeCommands_55 : decode cX1_executeCommands 55 = .ok (.invokevirtual 92, 3) := dk_182 0 92 (dk_at dksX1_executeCommands_2 8 rfl rfl)
theorem dX1_executeCommands_58 : decode cX1_executeCommands 58 = .ok (.iload_n 3, 1) := dk_29 (dk_at dksX1_executeCommands_2 11 rfl rfl)
theorem dX1_executeCommands_59 : decode cX1_executeCommands 59 = .ok (.ireturn, 1) := dk_172 (dk_at dksX1_executeCommands_2 12 rfl rfl)
abbrev cX1_isCommand : ByteArray := prog_1_method_12_code
def yX1_isCommand : MethodName := ⟨RX1, "isCommand", "(Ljava/lang/String;)Z"⟩
def dkwX1_isCommand_8 : List UInt8 := [4, 167, 0, 4, 3, 172]
abbrev dktX1_isCommand_8 : List UInt8 := dkwX1_isCommand_8 ++ []
def dkwX1_isCommand_7 : List UInt8 := [170, 0, 0, 0, 0, 0, 0, 52, 0, 0, 0, 0, 0, 0, 0, 7, 0, 0, 0, 48, 0, 0, 0, 48, 0, 0, 0, 48, 0, 0, 0, 48, 0, 0, 0, 48, 0, 0, 0, 48, 0, 0, 0, 48, 0, 0, 0, 48]
abbrev dktX1_isCommand_7 : List UInt8 := dkwX1_isCommand_7 ++ dktX1_isCommand_8
def dkwX1_isCommand_6 : List UInt8 := [61, 167, 0, 15, 43, 18, 148, 182, 0, 132, 153, 0, 6, 16, 7, 61, 28]
abbrev dktX1_isCommand_6 : List UInt8 := dkwX1_isCommand_6 ++ dktX1_isCommand_7
def dkwX1_isCommand_5 : List UInt8 := [18, 144, 182, 0, 132, 153, 0, 35, 8, 61, 167, 0, 30, 43, 18, 146, 182, 0, 132, 153, 0, 21, 16, 6]
abbrev dktX1_isCommand_5 : List UInt8 := dkwX1_isCommand_5 ++ dktX1_isCommand_6
def dkwX1_isCommand_4 : List UInt8 := [153, 0, 63, 6, 61, 167, 0, 58, 43, 18, 142, 182, 0, 132, 153, 0, 49, 7, 61, 167, 0, 44, 43]
abbrev dktX1_isCommand_4 : List UInt8 := dkwX1_isCommand_4 ++ dktX1_isCommand_5
def dkwX1_isCommand_3 : List UInt8 := [61, 167, 0, 86, 43, 18, 138, 182, 0, 132, 153, 0, 77, 5, 61, 167, 0, 72, 43, 18, 140, 182, 0, 132]
abbrev dktX1_isCommand_3 : List UInt8 := dkwX1_isCommand_3 ++ dktX1_isCommand_4
def dkwX1_isCommand_2 : List UInt8 := [43, 18, 131, 182, 0, 132, 153, 0, 105, 3, 61, 167, 0, 100, 43, 18, 136, 182, 0, 132, 153, 0, 91, 4]
abbrev dktX1_isCommand_2 : List UInt8 := dkwX1_isCommand_2 ++ dktX1_isCommand_3
def dkwX1_isCommand_1 : List UInt8 := [171, 0, 0, 0, 0, 0, 0, 187, 0, 0, 0, 8, 174, 122, 46, 122, 0, 0, 0, 146, 200, 74, 248, 132, 0, 0, 0, 90, 0, 1, 136, 219, 0, 0, 0, 175, 0, 51, 138, 88, 0, 0, 0, 118, 0, 54, 116, 34, 0, 0, 0, 104, 0, 55, 199, 17, 0, 0, 0, 160, 6, 92, 218, 107, 0, 0, 0, 76, 56, 235, 0, 7, 0, 0, 0, 132]
abbrev dktX1_isCommand_1 : List UInt8 := dkwX1_isCommand_1 ++ dktX1_isCommand_2
def dkwX1_isCommand_0 : List UInt8 := [42, 76, 2, 61, 43, 182, 0, 126]
abbrev dktX1_isCommand_0 : List UInt8 := dkwX1_isCommand_0 ++ dktX1_isCommand_1
theorem dksX1_isCommand_0 : cX1_isCommand.data.toList.drop 0 = dktX1_isCommand_0 := by decide +kernel
theorem dksX1_isCommand_1 : cX1_isCommand.data.toList.drop 8 = dktX1_isCommand_1 := dk_seg dksX1_isCommand_0 8 rfl rfl
theorem dksX1_isCommand_2 : cX1_isCommand.data.toList.drop 84 = dktX1_isCommand_2 := dk_seg dksX1_isCommand_1 76 rfl rfl
theorem dksX1_isCommand_3 : cX1_isCommand.data.toList.drop 108 = dktX1_isCommand_3 := dk_seg dksX1_isCommand_2 24 rfl rfl
theorem dksX1_isCommand_4 : cX1_isCommand.data.toList.drop 132 = dktX1_isCommand_4 := dk_seg dksX1_isCommand_3 24 rfl rfl
theorem dksX1_isCommand_5 : cX1_isCommand.data.toList.drop 155 = dktX1_isCommand_5 := dk_seg dksX1_isCommand_4 23 rfl rfl
theorem dksX1_isCommand_6 : cX1_isCommand.data.toList.drop 179 = dktX1_isCommand_6 := dk_seg dksX1_isCommand_5 24 rfl rfl
theorem dksX1_isCommand_7 : cX1_isCommand.data.toList.drop 196 = dktX1_isCommand_7 := dk_seg dksX1_isCommand_6 17 rfl rfl
theorem dksX1_isCommand_8 : cX1_isCommand.data.toList.drop 244 = dktX1_isCommand_8 := dk_seg dksX1_isCommand_7 48 rfl rfl
theorem dX1_isCommand_0 : decode cX1_isCommand 0 = .ok (.aload_n 0, 1) := dk_42 (dk_at dksX1_isCommand_0 0 rfl rfl)
theorem dX1_isCommand_1 : decode cX1_isCommand 1 = .ok (.astore_n 1, 1) := dk_76 (dk_at dksX1_isCommand_0 1 rfl rfl)
theorem dX1_isCommand_2 : decode cX1_isCommand 2 = .ok (.iconst (-1), 1) := dk_2 (dk_at dksX1_isCommand_0 2 rfl rfl)
theorem dX1_isCommand_3 : decode cX1_isCommand 3 = .ok (.istore_n 2, 1) := dk_61 (dk_at dksX1_isCommand_0 3 rfl rfl)
theorem dX1_isCommand_4 : decode cX1_isCommand 4 = .ok (.aload_n 1, 1) := dk_43 (dk_at dksX1_isCommand_0 4 rfl rfl)
theorem dX1_isCommand_5 : decode cX1_isCommand 5 = .ok (.invokevirtual 126, 3) := dk_182 0 126 (dk_at dksX1_isCommand_0 5 rfl rfl)
theorem dX1_isCommand_8 : decode cX1_isCommand 8 = .ok (.lookupswitch 187 #[(-1367724422, 146), (-934610812, 90), (100571, 175), (3377752, 118), (3568674, 104), (3655441, 160), (106748523, 76), (954925063, 132)], 76) := by decide +kernel
theorem dX1_isCommand_84 : decode cX1_isCommand 84 = .ok (.aload_n 1, 1) := dk_43 (dk_at dksX1_isCommand_2 0 rfl rfl)
theorem dX1_isCommand_85 : decode cX1_isCommand 85 = .ok (.ldc 131, 2) := dk_18 131 (dk_at dksX1_isCommand_2 1 rfl rfl)
theorem dX1_isCommand_87 : decode cX1_isCommand 87 = .ok (.invokevirtual 132, 3) := dk_182 0 132 (dk_at dksX1_isCommand_2 3 rfl rfl)
theorem dX1_isCommand_90 : decode cX1_isCommand 90 = .ok (.ifCond .eq 105, 3) := dk_153 0 105 (dk_at dksX1_isCommand_2 6 rfl rfl)
theorem dX1_isCommand_93 : decode cX1_isCommand 93 = .ok (.iconst 0, 1) := dk_3 (dk_at dksX1_isCommand_2 9 rfl rfl)
theorem dX1_isCommand_94 : decode cX1_isCommand 94 = .ok (.istore_n 2, 1) := dk_61 (dk_at dksX1_isCommand_2 10 rfl rfl)
theorem dX1_isCommand_95 : decode cX1_isCommand 95 = .ok (.goto 100, 3) := dk_167 0 100 (dk_at dksX1_isCommand_2 11 rfl rfl)
theorem dX1_isCommand_98 : decode cX1_isCommand 98 = .ok (.aload_n 1, 1) := dk_43 (dk_at dksX1_isCommand_2 14 rfl rfl)
theorem dX1_isCommand_99 : decode cX1_isCommand 99 = .ok (.ldc 136, 2) := dk_18 136 (dk_at dksX1_isCommand_2 15 rfl rfl)
theorem dX1_isCommand_101 : decode cX1_isCommand 101 = .ok (.invokevirtual 132, 3) := dk_182 0 132 (dk_at dksX1_isCommand_2 17 rfl rfl)
theorem dX1_isCommand_104 : decode cX1_isCommand 104 = .ok (.ifCond .eq 91, 3) := dk_153 0 91 (dk_at dksX1_isCommand_2 20 rfl rfl)
theorem dX1_isCommand_107 : decode cX1_isCommand 107 = .ok (.iconst 1, 1) := dk_4 (dk_at dksX1_isCommand_2 23 rfl rfl)
theorem dX1_isCommand_108 : decode cX1_isCommand 108 = .ok (.istore_n 2, 1) := dk_61 (dk_at dksX1_isCommand_3 0 rfl rfl)
theorem dX1_isCommand_109 : decode cX1_isCommand 109 = .ok (.goto 86, 3) := dk_167 0 86 (dk_at dksX1_isCommand_3 1 rfl rfl)
theorem dX1_isCommand_112 : decode cX1_isCommand 112 = .ok (.aload_n 1, 1) := dk_43 (dk_at dksX1_isCommand_3 4 rfl rfl)
theorem dX1_isCommand_113 : decode cX1_isCommand 113 = .ok (.ldc 138, 2) := dk_18 138 (dk_at dksX1_isCommand_3 5 rfl rfl)
theorem dX1_isCommand_115 : decode cX1_isCommand 115 = .ok (.invokevirtual 132, 3) := dk_182 0 132 (dk_at dksX1_isCommand_3 7 rfl rfl)
theorem dX1_isCommand_118 : decode cX1_isCommand 118 = .ok (.ifCond .eq 77, 3) := dk_153 0 77 (dk_at dksX1_isCommand_3 10 rfl rfl)
theorem dX1_isCommand_121 : decode cX1_isCommand 121 = .ok (.iconst 2, 1) := dk_5 (dk_at dksX1_isCommand_3 13 rfl rfl)
theorem dX1_isCommand_122 : decode cX1_isCommand 122 = .ok (.istore_n 2, 1) := dk_61 (dk_at dksX1_isCommand_3 14 rfl rfl)
theorem dX1_isCommand_123 : decode cX1_isCommand 123 = .ok (.goto 72, 3) := dk_167 0 72 (dk_at dksX1_isCommand_3 15 rfl rfl)
theorem dX1_isCommand_126 : decode cX1_isCommand 126 = .ok (.aload_n 1, 1) := dk_43 (dk_at dksX1_isCommand_3 18 rfl rfl)
theorem dX1_isCommand_127 : decode cX1_isCommand 127 = .ok (.ldc 140, 2) := dk_18 140 (dk_at dksX1_isCommand_3 19 rfl rfl)
theorem dX1_isCommand_129 : decode cX1_isCommand 129 = .ok (.invokevirtual 132, 3) := dk_182 0 132 (dk_at dksX1_isCommand_3 21 rfl rfl)
theorem dX1_isCommand_132 : decode cX1_isCommand 132 = .ok (.ifCond .eq 63, 3) := dk_153 0 63 (dk_at dksX1_isCommand_4 0 rfl rfl)
theorem dX1_isCommand_135 : decode cX1_isCommand 135 = .ok (.iconst 3, 1) := dk_6 (dk_at dksX1_isCommand_4 3 rfl rfl)
theorem dX1_isCommand_136 : decode cX1_isCommand 136 = .ok (.istore_n 2, 1) := dk_61 (dk_at dksX1_isCommand_4 4 rfl rfl)
theorem dX1_isCommand_137 : decode cX1_isCommand 137 = .ok (.goto 58, 3) := dk_167 0 58 (dk_at dksX1_isCommand_4 5 rfl rfl)
theorem dX1_isCommand_140 : decode cX1_isCommand 140 = .ok (.aload_n 1, 1) := dk_43 (dk_at dksX1_isCommand_4 8 rfl rfl)
theorem dX1_isCommand_141 : decode cX1_isCommand 141 = .ok (.ldc 142, 2) := dk_18 142 (dk_at dksX1_isCommand_4 9 rfl rfl)
theorem dX1_isCommand_143 : decode cX1_isCommand 143 = .ok (.invokevirtual 132, 3) := dk_182 0 132 (dk_at dksX1_isCommand_4 11 rfl rfl)
theorem dX1_isCommand_146 : decode cX1_isCommand 146 = .ok (.ifCond .eq 49, 3) := dk_153 0 49 (dk_at dksX1_isCommand_4 14 rfl rfl)
theorem dX1_isCommand_149 : decode cX1_isCommand 149 = .ok (.iconst 4, 1) := dk_7 (dk_at dksX1_isCommand_4 17 rfl rfl)
theorem dX1_isCommand_150 : decode cX1_isCommand 150 = .ok (.istore_n 2, 1) := dk_61 (dk_at dksX1_isCommand_4 18 rfl rfl)
theorem dX1_isCommand_151 : decode cX1_isCommand 151 = .ok (.goto 44, 3) := dk_167 0 44 (dk_at dksX1_isCommand_4 19 rfl rfl)
theorem dX1_isCommand_154 : decode cX1_isCommand 154 = .ok (.aload_n 1, 1) := dk_43 (dk_at dksX1_isCommand_4 22 rfl rfl)
theorem dX1_isCommand_155 : decode cX1_isCommand 155 = .ok (.ldc 144, 2) := dk_18 144 (dk_at dksX1_isCommand_5 0 rfl rfl)
theorem dX1_isCommand_157 : decode cX1_isCommand 157 = .ok (.invokevirtual 132, 3) := dk_182 0 132 (dk_at dksX1_isCommand_5 2 rfl rfl)
theorem dX1_isCommand_160 : decode cX1_isCommand 160 = .ok (.ifCond .eq 35, 3) := dk_153 0 35 (dk_at dksX1_isCommand_5 5 rfl rfl)
theorem dX1_isCommand_163 : decode cX1_isCommand 163 = .ok (.iconst 5, 1) := dk_8 (dk_at dksX1_isCommand_5 8 rfl rfl)
theorem dX1_isCommand_164 : decode cX1_isCommand 164 = .ok (.istore_n 2, 1) := dk_61 (dk_at dksX1_isCommand_5 9 rfl rfl)
theorem dX1_isCommand_165 : decode cX1_isCommand 165 = .ok (.goto 30, 3) := dk_167 0 30 (dk_at dksX1_isCommand_5 10 rfl rfl)
theorem dX1_isCommand_168 : decode cX1_isCommand 168 = .ok (.aload_n 1, 1) := dk_43 (dk_at dksX1_isCommand_5 13 rfl rfl)
theorem dX1_isCommand_169 : decode cX1_isCommand 169 = .ok (.ldc 146, 2) := dk_18 146 (dk_at dksX1_isCommand_5 14 rfl rfl)
theorem dX1_isCommand_171 : decode cX1_isCommand 171 = .ok (.invokevirtual 132, 3) := dk_182 0 132 (dk_at dksX1_isCommand_5 16 rfl rfl)
theorem dX1_isCommand_174 : decode cX1_isCommand 174 = .ok (.ifCond .eq 21, 3) := dk_153 0 21 (dk_at dksX1_isCommand_5 19 rfl rfl)
theorem dX1_isCommand_177 : decode cX1_isCommand 177 = .ok (.bipush 6, 2) := dk_16 6 (dk_at dksX1_isCommand_5 22 rfl rfl)
theorem dX1_isCommand_179 : decode cX1_isCommand 179 = .ok (.istore_n 2, 1) := dk_61 (dk_at dksX1_isCommand_6 0 rfl rfl)
theorem dX1_isCommand_180 : decode cX1_isCommand 180 = .ok (.goto 15, 3) := dk_167 0 15 (dk_at dksX1_isCommand_6 1 rfl rfl)
theorem dX1_isCommand_183 : decode cX1_isCommand 183 = .ok (.aload_n 1, 1) := dk_43 (dk_at dksX1_isCommand_6 4 rfl rfl)
theorem dX1_isCommand_184 : decode cX1_isCommand 184 = .ok (.ldc 148, 2) := dk_18 148 (dk_at dksX1_isCommand_6 5 rfl rfl)
theorem dX1_isCommand_186 : decode cX1_isCommand 186 = .ok (.invokevirtual 132, 3) := dk_182 0 132 (dk_at dksX1_isCommand_6 7 rfl rfl)
theorem dX1_isCommand_189 : decode cX1_isCommand 189 = .ok (.ifCond .eq 6, 3) := dk_153 0 6 (dk_at dksX1_isCommand_6 10 rfl rfl)
theorem dX1_isCommand_192 : decode cX1_isCommand 192 = .ok (.bipush 7, 2) := dk_16 7 (dk_at dksX1_isCommand_6 13 rfl rfl)
theorem dX1_isCommand_194 : decode cX1_isCommand 194 = .ok (.istore_n 2, 1) := dk_61 (dk_at dksX1_isCommand_6 15 rfl rfl)
theorem dX1_isCommand_195 : decode cX1_isCommand 195 = .ok (.iload_n 2, 1) := dk_28 (dk_at dksX1_isCommand_6 16 rfl rfl)
theorem dX1_isCommand_196 : decode cX1_isCommand 196 = .ok (.tableswitch 52 0 7 #[48, 48, 48, 48, 48, 48, 48, 48], 48) := by decide +kernel
theorem dX1_isCommand_244 : decode cX1_isCommand 244 = .ok (.iconst 1, 1) := dk_4 (dk_at dksX1_isCommand_8 0 rfl rfl)
theorem dX1_isCommand_245 : decode cX1_isCommand 245 = .ok (.goto 4, 3) := dk_167 0 4 (dk_at dksX1_isCommand_8 1 rfl rfl)
theorem dX1_isCommand_248 : decode cX1_isCommand 248 = .ok (.iconst 0, 1) := dk_3 (dk_at dksX1_isCommand_8 4 rfl rfl)
theorem dX1_isCommand_249 : decode cX1_isCommand 249 = .ok (.ireturn, 1) := dk_172 (dk_at dksX1_isCommand_8 5 rfl rfl)
abbrev cX1_applyPlant : ByteArray := prog_1_method_78_code
def yX1_applyPlant : MethodName := ⟨RX1, "applyPlant", "(LHedgeMessages$State;IC)I"⟩
def dkwX1_applyPlant_2 : List UInt8 := [172]
abbrev dktX1_applyPlant_2 : List UInt8 := dkwX1_applyPlant_2 ++ []
def dkwX1_applyPlant_1 : List UInt8 := [182, 0, 193, 4, 183, 0, 57, 182, 0, 60, 42, 89, 180, 0, 199, 4, 100, 181, 0, 199, 42, 182, 0, 202]
abbrev dktX1_applyPlant_1 : List UInt8 := dkwX1_applyPlant_1 ++ dktX1_applyPlant_2
def dkwX1_applyPlant_0 : List UInt8 := [42, 27, 184, 1, 84, 154, 0, 7, 4, 167, 0, 4, 3, 184, 0, 111, 42, 27, 187, 0, 55, 89, 28, 42]
abbrev dktX1_applyPlant_0 : List UInt8 := dkwX1_applyPlant_0 ++ dktX1_applyPlant_1
theorem dksX1_applyPlant_0 : cX1_applyPlant.data.toList.drop 0 = dktX1_applyPlant_0 := by decide +kernel
theorem dksX1_applyPlant_1 : cX1_applyPlant.data.toList.drop 24 = dktX1_applyPlant_1 := dk_seg dksX1_applyPlant_0 24 rfl rfl
theorem dksX1_applyPlant_2 : cX1_applyPlant.data.toList.drop 48 = dktX1_applyPlant_2 := dk_seg dksX1_applyPlant_1 24 rfl rfl
theorem dX1_applyPlant_0 : decode cX1_applyPlant 0 = .ok (.aload_n 0, 1) := dk_42 (dk_at dksX1_applyPlant_0 0 rfl rfl)
theorem dX1_applyPlant_1 : decode cX1_applyPlant 1 = .ok (.iload_n 1, 1) := dk_27 (dk_at dksX1_applyPlant_0 1 rfl rfl)
theorem dX1_applyPlant_2 : decode cX1_applyPlant 2 = .ok (.invokestatic 340, 3) := dk_184 1 84 (dk_at dksX1_applyPlant_0 2 rfl rfl)
theorem dX1_applyPlant_5 : decode cX1_applyPlant 5 = .ok (.ifCond .ne 7, 3) := dk_154 0 7 (dk_at dksX1_applyPlant_0 5 rfl rfl)
theorem dX1_applyPlant_8 : decode cX1_applyPlant 8 = .ok (.iconst 1, 1) := dk_4 (dk_at dksX1_applyPlant_0 8 rfl rfl)
theorem dX1_applyPlant_9 : decode cX1_applyPlant 9 = .ok (.goto 4, 3) := dk_167 0 4 (dk_at dksX1_applyPlant_0 9 rfl rfl)
theorem dX1_applyPlant_12 : decode cX1_applyPlant 12 = .ok (.iconst 0, 1) := dk_3 (dk_at dksX1_applyPlant_0 12 rfl rfl)
theorem dX1_applyPlant_13 : decode cX1_applyPlant 13 = .ok (.invokestatic 111, 3) := dk_184 0 111 (dk_at dksX1_applyPlant_0 13 rfl rfl)
theorem dX1_applyPlant_16 : decode cX1_applyPlant 16 = .ok (.aload_n 0, 1) := dk_42 (dk_at dksX1_applyPlant_0 16 rfl rfl)
theorem dX1_applyPlant_17 : decode cX1_applyPlant 17 = .ok (.iload_n 1, 1) := dk_27 (dk_at dksX1_applyPlant_0 17 rfl rfl)
theorem dX1_applyPlant_18 : decode cX1_applyPlant 18 = .ok (.new 55, 3) := dk_187 0 55 (dk_at dksX1_applyPlant_0 18 rfl rfl)
theorem dX1_applyPlant_21 : decode cX1_applyPlant 21 = .ok (.dup, 1) := dk_89 (dk_at dksX1_applyPlant_0 21 rfl rfl)
theorem dX1_applyPlant_22 : decode cX1_applyPlant 22 = .ok (.iload_n 2, 1) := dk_28 (dk_at dksX1_applyPlant_0 22 rfl rfl)
theorem dX1_applyPlant_23 : decode cX1_applyPlant 23 = .ok (.aload_n 0, 1) := dk_42 (dk_at dksX1_applyPlant_0 23 rfl rfl)
theorem dX1_applyPlant_24 : decode cX1_applyPlant 24 = .ok (.invokevirtual 193, 3) := dk_182 0 193 (dk_at dksX1_applyPlant_1 0 rfl rfl)
theorem dX1_applyPlant_27 : decode cX1_applyPlant 27 = .ok (.iconst 1, 1) := dk_4 (dk_at dksX1_applyPlant_1 3 rfl rfl)
theorem dX1_applyPlant_28 : decode cX1_applyPlant 28 = .ok (.invokespecial 57, 3) := dk_183 0 57 (dk_at dksX1_applyPlant_1 4 rfl rfl)
theorem dX1_applyPlant_31 : decode cX1_applyPlant 31 = .ok (.invokevirtual 60, 3) := dk_182 0 60 (dk_at dksX1_applyPlant_1 7 rfl rfl)
theorem dX1_applyPlant_34 : decode cX1_applyPlant 34 = .ok (.aload_n 0, 1) := dk_42 (dk_at dksX1_applyPlant_1 10 rfl rfl)
theorem dX1_applyPlant_35 : decode cX1_applyPlant 35 = .ok (.dup, 1) := dk_89 (dk_at dksX1_applyPlant_1 11 rfl rfl)
theorem dX1_applyPlant_36 : decode cX1_applyPlant 36 = .ok (.getfield 199, 3) := dk_180 0 199 (dk_at dksX1_applyPlant_1 12 rfl rfl)
theorem dX1_applyPlant_39 : decode cX1_applyPlant 39 = .ok (.iconst 1, 1) := dk_4 (dk_at dksX1_applyPlant_1 15 rfl rfl)
theorem dX1_applyPlant_40 : decode cX1_applyPlant 40 = .ok (.isub, 1) := dk_100 (dk_at dksX1_applyPlant_1 16 rfl rfl)
theorem dX1_applyPlant_41 : decode cX1_applyPlant 41 = .ok (.putfield 199, 3) := dk_181 0 199 (dk_at dksX1_applyPlant_1 17 rfl rfl)
theorem dX1_applyPlant_44 : decode cX1_applyPlant 44 = .ok (.aload_n 0, 1) := dk_42 (dk_at dksX1_applyPlant_1 20 rfl rfl)
theorem dX1_applyPlant_45 : decode cX1_applyPlant 45 = .ok (.invokevirtual 202, 3) := dk_182 0 202 (dk_at dksX1_applyPlant_1 21 rfl rfl)
theorem dX1_applyPlant_48 : decode cX1_applyPlant 48 = .ok (.ireturn, 1) := dk_172 (dk_at dksX1_applyPlant_2 0 rfl rfl)
abbrev cX1_plantReason : ByteArray := prog_1_method_46_code
def yX1_plantReason : MethodName := ⟨RX1, "plantReason", "(LHedgeMessages$State;I)I"⟩
def dkwX1_plantReason_2 : List UInt8 := [3, 172]
abbrev dktX1_plantReason_2 : List UInt8 := dkwX1_plantReason_2 ++ []
def dkwX1_plantReason_1 : List UInt8 := [172, 42, 27, 182, 0, 234, 153, 0, 5, 6, 172, 42, 180, 0, 64, 27, 46, 158, 0, 7, 7, 167, 0, 4]
abbrev dktX1_plantReason_1 : List UInt8 := dkwX1_plantReason_1 ++ dktX1_plantReason_2
def dkwX1_plantReason_0 : List UInt8 := [42, 27, 184, 0, 212, 42, 180, 0, 199, 154, 0, 5, 4, 172, 42, 180, 0, 216, 27, 50, 198, 0, 5, 5]
abbrev dktX1_plantReason_0 : List UInt8 := dkwX1_plantReason_0 ++ dktX1_plantReason_1
theorem dksX1_plantReason_0 : cX1_plantReason.data.toList.drop 0 = dktX1_plantReason_0 := by decide +kernel
theorem dksX1_plantReason_1 : cX1_plantReason.data.toList.drop 24 = dktX1_plantReason_1 := dk_seg dksX1_plantReason_0 24 rfl rfl
theorem dksX1_plantReason_2 : cX1_plantReason.data.toList.drop 48 = dktX1_plantReason_2 := dk_seg dksX1_plantReason_1 24 rfl rfl
theorem dX1_plantReason_0 : decode cX1_plantReason 0 = .ok (.aload_n 0, 1) := dk_42 (dk_at dksX1_plantReason_0 0 rfl rfl)
theorem dX1_plantReason_1 : decode cX1_plantReason 1 = .ok (.iload_n 1, 1) := dk_27 (dk_at dksX1_plantReason_0 1 rfl rfl)
theorem dX1_plantReason_2 : decode cX1_plantReason 2 = .ok (.invokestatic 212, 3) := dk_184 0 212 (dk_at dksX1_plantReason_0 2 rfl rfl)
theorem dX1_plantReason_5 : decode cX1_plantReason 5 = .ok (.aload_n 0, 1) := dk_42 (dk_at dksX1_plantReason_0 5 rfl rfl)
theorem dX1_plantReason_6 : decode cX1_plantReason 6 = .ok (.getfield 199, 3) := dk_180 0 199 (dk_at dksX1_plantReason_0 6 rfl rfl)
theorem dX1_plantReason_9 : decode cX1_plantReason 9 = .ok (.ifCond .ne 5, 3) := dk_154 0 5 (dk_at dksX1_plantReason_0 9 rfl rfl)
theorem dX1_plantReason_12 : decode cX1_plantReason 12 = .ok (.iconst 1, 1) := dk_4 (dk_at dksX1_plantReason_0 12 rfl rfl)
theorem dX1_plantReason_13 : decode cX1_plantReason 13 = .ok (.ireturn, 1) := dk_172 (dk_at dksX1_plantReason_0 13 rfl rfl)
theorem dX1_plantReason_14 : decode cX1_plantReason 14 = .ok (.aload_n 0, 1) := dk_42 (dk_at dksX1_plantReason_0 14 rfl rfl)
theorem dX1_plantReason_15 : decode cX1_plantReason 15 = .ok (.getfield 216, 3) := dk_180 0 216 (dk_at dksX1_plantReason_0 15 rfl rfl)
theorem dX1_plantReason_18 : decode cX1_plantReason 18 = .ok (.iload_n 1, 1) := dk_27 (dk_at dksX1_plantReason_0 18 rfl rfl)
theorem dX1_plantReason_19 : decode cX1_plantReason 19 = .ok (.aaload, 1) := dk_50 (dk_at dksX1_plantReason_0 19 rfl rfl)
theorem dX1_plantReason_20 : decode cX1_plantReason 20 = .ok (.ifnull 5, 3) := dk_198 0 5 (dk_at dksX1_plantReason_0 20 rfl rfl)
theorem dX1_plantReason_23 : decode cX1_plantReason 23 = .ok (.iconst 2, 1) := dk_5 (dk_at dksX1_plantReason_0 23 rfl rfl)
theorem dX1_plantReason_24 : decode cX1_plantReason 24 = .ok (.ireturn, 1) := dk_172 (dk_at dksX1_plantReason_1 0 rfl rfl)
theorem dX1_plantReason_25 : decode cX1_plantReason 25 = .ok (.aload_n 0, 1) := dk_42 (dk_at dksX1_plantReason_1 1 rfl rfl)
theorem dX1_plantReason_26 : decode cX1_plantReason 26 = .ok (.iload_n 1, 1) := dk_27 (dk_at dksX1_plantReason_1 2 rfl rfl)
theorem dX1_plantReason_27 : decode cX1_plantReason 27 = .ok (.invokevirtual 234, 3) := dk_182 0 234 (dk_at dksX1_plantReason_1 3 rfl rfl)
theorem dX1_plantReason_30 : decode cX1_plantReason 30 = .ok (.ifCond .eq 5, 3) := dk_153 0 5 (dk_at dksX1_plantReason_1 6 rfl rfl)
theorem dX1_plantReason_33 : decode cX1_plantReason 33 = .ok (.iconst 3, 1) := dk_6 (dk_at dksX1_plantReason_1 9 rfl rfl)
theorem dX1_plantReason_34 : decode cX1_plantReason 34 = .ok (.ireturn, 1) := dk_172 (dk_at dksX1_plantReason_1 10 rfl rfl)
theorem dX1_plantReason_35 : decode cX1_plantReason 35 = .ok (.aload_n 0, 1) := dk_42 (dk_at dksX1_plantReason_1 11 rfl rfl)
theorem dX1_plantReason_36 : decode cX1_plantReason 36 = .ok (.getfield 64, 3) := dk_180 0 64 (dk_at dksX1_plantReason_1 12 rfl rfl)
theorem dX1_plantReason_39 : decode cX1_plantReason 39 = .ok (.iload_n 1, 1) := dk_27 (dk_at dksX1_plantReason_1 15 rfl rfl)
theorem dX1_plantReason_40 : decode cX1_plantReason 40 = .ok (.iaload, 1) := dk_46 (dk_at dksX1_plantReason_1 16 rfl rfl)
theorem dX1_plantReason_41 : decode cX1_plantReason 41 = .ok (.ifCond .le 7, 3) := dk_158 0 7 (dk_at dksX1_plantReason_1 17 rfl rfl)
theorem dX1_plantReason_44 : decode cX1_plantReason 44 = .ok (.iconst 4, 1) := dk_7 (dk_at dksX1_plantReason_1 20 rfl rfl)
theorem dX1_plantReason_45 : decode cX1_plantReason 45 = .ok (.goto 4, 3) := dk_167 0 4 (dk_at dksX1_plantReason_1 21 rfl rfl)
theorem dX1_plantReason_48 : decode cX1_plantReason 48 = .ok (.iconst 0, 1) := dk_3 (dk_at dksX1_plantReason_2 0 rfl rfl)
theorem dX1_plantReason_49 : decode cX1_plantReason 49 = .ok (.ireturn, 1) := dk_172 (dk_at dksX1_plantReason_2 1 rfl rfl)
abbrev cX1_checkSlot : ByteArray := prog_1_method_26_code
def yX1_checkSlot : MethodName := ⟨RX1, "checkSlot", "(LHedgeMessages$State;I)V"⟩
def dkwX1_checkSlot_0 : List UInt8 := [42, 27, 182, 0, 205, 184, 0, 209, 177]
abbrev dktX1_checkSlot_0 : List UInt8 := dkwX1_checkSlot_0 ++ []
theorem dksX1_checkSlot_0 : cX1_checkSlot.data.toList.drop 0 = dktX1_checkSlot_0 := by decide +kernel
theorem dX1_checkSlot_0 : decode cX1_checkSlot 0 = .ok (.aload_n 0, 1) := dk_42 (dk_at dksX1_checkSlot_0 0 rfl rfl)
theorem dX1_checkSlot_1 : decode cX1_checkSlot 1 = .ok (.iload_n 1, 1) := dk_27 (dk_at dksX1_checkSlot_0 1 rfl rfl)
theorem dX1_checkSlot_2 : decode cX1_checkSlot 2 = .ok (.invokevirtual 205, 3) := dk_182 0 205 (dk_at dksX1_checkSlot_0 2 rfl rfl)
theorem dX1_checkSlot_5 : decode cX1_checkSlot 5 = .ok (.invokestatic 209, 3) := dk_184 0 209 (dk_at dksX1_checkSlot_0 5 rfl rfl)
theorem dX1_checkSlot_8 : decode cX1_checkSlot 8 = .ok (.return_, 1) := dk_177 (dk_at dksX1_checkSlot_0 8 rfl rfl)
abbrev cX1_checkIndex : ByteArray := prog_1_method_2_code
def yX1_checkIndex : MethodName := ⟨RX1, "checkIndex", "(Z)V"⟩
def dkwX1_checkIndex_0 : List UInt8 := [26, 154, 0, 11, 187, 0, 1, 89, 183, 0, 3, 191, 177]
abbrev dktX1_checkIndex_0 : List UInt8 := dkwX1_checkIndex_0 ++ []
theorem dksX1_checkIndex_0 : cX1_checkIndex.data.toList.drop 0 = dktX1_checkIndex_0 := by decide +kernel
theorem dX1_checkIndex_0 : decode cX1_checkIndex 0 = .ok (.iload_n 0, 1) := dk_26 (dk_at dksX1_checkIndex_0 0 rfl rfl)
theorem dX1_checkIndex_1 : decode cX1_checkIndex 1 = .ok (.ifCond .ne 11, 3) := dk_154 0 11 (dk_at dksX1_checkIndex_0 1 rfl rfl)
theorem dX1_checkIndex_4 : decode cX1_checkIndex 4 = .ok (.new 1, 3) := dk_187 0 1 (dk_at dksX1_checkIndex_0 4 rfl rfl)
theorem dX1_checkIndex_7 : decode cX1_checkIndex 7 = .ok (.dup, 1) := dk_89 (dk_at dksX1_checkIndex_0 7 rfl rfl)
theorem dX1_checkIndex_8 : decode cX1_checkIndex 8 = .ok (.invokespecial 3, 3) := dk_183 0 3 (dk_at dksX1_checkIndex_0 8 rfl rfl)
theorem dX1_checkIndex_11 : decode cX1_checkIndex 11 = .ok (.athrow, 1) := dk_191 (dk_at dksX1_checkIndex_0 11 rfl rfl)
theorem dX1_checkIndex_12 : decode cX1_checkIndex 12 = .ok (.return_, 1) := dk_177 (dk_at dksX1_checkIndex_0 12 rfl rfl)
abbrev cX1_applyRemove : ByteArray := prog_1_method_79_code
def yX1_applyRemove : MethodName := ⟨RX1, "applyRemove", "(LHedgeMessages$State;I)I"⟩
def dkwX1_applyRemove_1 : List UInt8 := [180, 0, 224, 61, 42, 27, 182, 1, 173, 42, 89, 180, 0, 199, 4, 100, 181, 0, 199, 28, 172]
abbrev dktX1_applyRemove_1 : List UInt8 := dkwX1_applyRemove_1 ++ []
def dkwX1_applyRemove_0 : List UInt8 := [42, 27, 184, 1, 87, 154, 0, 7, 4, 167, 0, 4, 3, 184, 0, 111, 42, 180, 0, 216, 27, 50]
abbrev dktX1_applyRemove_0 : List UInt8 := dkwX1_applyRemove_0 ++ dktX1_applyRemove_1
theorem dksX1_applyRemove_0 : cX1_applyRemove.data.toList.drop 0 = dktX1_applyRemove_0 := by decide +kernel
theorem dksX1_applyRemove_1 : cX1_applyRemove.data.toList.drop 22 = dktX1_applyRemove_1 := dk_seg dksX1_applyRemove_0 22 rfl rfl
theorem dX1_applyRemove_0 : decode cX1_applyRemove 0 = .ok (.aload_n 0, 1) := dk_42 (dk_at dksX1_applyRemove_0 0 rfl rfl)
theorem dX1_applyRemove_1 : decode cX1_applyRemove 1 = .ok (.iload_n 1, 1) := dk_27 (dk_at dksX1_applyRemove_0 1 rfl rfl)
theorem dX1_applyRemove_2 : decode cX1_applyRemove 2 = .ok (.invokestatic 343, 3) := dk_184 1 87 (dk_at dksX1_applyRemove_0 2 rfl rfl)
theorem dX1_applyRemove_5 : decode cX1_applyRemove 5 = .ok (.ifCond .ne 7, 3) := dk_154 0 7 (dk_at dksX1_applyRemove_0 5 rfl rfl)
theorem dX1_applyRemove_8 : decode cX1_applyRemove 8 = .ok (.iconst 1, 1) := dk_4 (dk_at dksX1_applyRemove_0 8 rfl rfl)
theorem dX1_applyRemove_9 : decode cX1_applyRemove 9 = .ok (.goto 4, 3) := dk_167 0 4 (dk_at dksX1_applyRemove_0 9 rfl rfl)
theorem dX1_applyRemove_12 : decode cX1_applyRemove 12 = .ok (.iconst 0, 1) := dk_3 (dk_at dksX1_applyRemove_0 12 rfl rfl)
theorem dX1_applyRemove_13 : decode cX1_applyRemove 13 = .ok (.invokestatic 111, 3) := dk_184 0 111 (dk_at dksX1_applyRemove_0 13 rfl rfl)
theorem dX1_applyRemove_16 : decode cX1_applyRemove 16 = .ok (.aload_n 0, 1) := dk_42 (dk_at dksX1_applyRemove_0 16 rfl rfl)
theorem dX1_applyRemove_17 : decode cX1_applyRemove 17 = .ok (.getfield 216, 3) := dk_180 0 216 (dk_at dksX1_applyRemove_0 17 rfl rfl)
theorem dX1_applyRemove_20 : decode cX1_applyRemove 20 = .ok (.iload_n 1, 1) := dk_27 (dk_at dksX1_applyRemove_0 20 rfl rfl)
theorem dX1_applyRemove_21 : decode cX1_applyRemove 21 = .ok (.aaload, 1) := dk_50 (dk_at dksX1_applyRemove_0 21 rfl rfl)
theorem dX1_applyRemove_22 : decode cX1_applyRemove 22 = .ok (.getfield 224, 3) := dk_180 0 224 (dk_at dksX1_applyRemove_1 0 rfl rfl)
theorem dX1_applyRemove_25 : decode cX1_applyRemove 25 = .ok (.istore_n 2, 1) := dk_61 (dk_at dksX1_applyRemove_1 3 rfl rfl)
theorem dX1_applyRemove_26 : decode cX1_applyRemove 26 = .ok (.aload_n 0, 1) := dk_42 (dk_at dksX1_applyRemove_1 4 rfl rfl)
theorem dX1_applyRemove_27 : decode cX1_applyRemove 27 = .ok (.iload_n 1, 1) := dk_27 (dk_at dksX1_applyRemove_1 5 rfl rfl)
theorem dX1_applyRemove_28 : decode cX1_applyRemove 28 = .ok (.invokevirtual 429, 3) := dk_182 1 173 (dk_at dksX1_applyRemove_1 6 rfl rfl)
theorem dX1_applyRemove_31 : decode cX1_applyRemove 31 = .ok (.aload_n 0, 1) := dk_42 (dk_at dksX1_applyRemove_1 9 rfl rfl)
theorem dX1_applyRemove_32 : decode cX1_applyRemove 32 = .ok (.dup, 1) := dk_89 (dk_at dksX1_applyRemove_1 10 rfl rfl)
theorem dX1_applyRemove_33 : decode cX1_applyRemove 33 = .ok (.getfield 199, 3) := dk_180 0 199 (dk_at dksX1_applyRemove_1 11 rfl rfl)
theorem dX1_applyRemove_36 : decode cX1_applyRemove 36 = .ok (.iconst 1, 1) := dk_4 (dk_at dksX1_applyRemove_1 14 rfl rfl)
theorem dX1_applyRemove_37 : decode cX1_applyRemove 37 = .ok (.isub, 1) := dk_100 (dk_at dksX1_applyRemove_1 15 rfl rfl)
theorem dX1_applyRemove_38 : decode cX1_applyRemove 38 = .ok (.putfield 199, 3) := dk_181 0 199 (dk_at dksX1_applyRemove_1 16 rfl rfl)
theorem dX1_applyRemove_41 : decode cX1_applyRemove 41 = .ok (.iload_n 2, 1) := dk_28 (dk_at dksX1_applyRemove_1 19 rfl rfl)
theorem dX1_applyRemove_42 : decode cX1_applyRemove 42 = .ok (.ireturn, 1) := dk_172 (dk_at dksX1_applyRemove_1 20 rfl rfl)
abbrev cX1_removeReason : ByteArray := prog_1_method_48_code
def yX1_removeReason : MethodName := ⟨RX1, "removeReason", "(LHedgeMessages$State;I)I"⟩
def dkwX1_removeReason_1 : List UInt8 := [16, 7, 172, 42, 27, 182, 0, 237, 153, 0, 8, 16, 8, 167, 0, 4, 3, 172]
abbrev dktX1_removeReason_1 : List UInt8 := dkwX1_removeReason_1 ++ []
def dkwX1_removeReason_0 : List UInt8 := [42, 27, 184, 1, 76, 61, 28, 153, 0, 5, 28, 172, 42, 180, 0, 216, 27, 50, 180, 1, 80, 153, 0, 6]
abbrev dktX1_removeReason_0 : List UInt8 := dkwX1_removeReason_0 ++ dktX1_removeReason_1
theorem dksX1_removeReason_0 : cX1_removeReason.data.toList.drop 0 = dktX1_removeReason_0 := by decide +kernel
theorem dksX1_removeReason_1 : cX1_removeReason.data.toList.drop 24 = dktX1_removeReason_1 := dk_seg dksX1_removeReason_0 24 rfl rfl
theorem dX1_removeReason_0 : decode cX1_removeReason 0 = .ok (.aload_n 0, 1) := dk_42 (dk_at dksX1_removeReason_0 0 rfl rfl)
theorem dX1_removeReason_1 : decode cX1_removeReason 1 = .ok (.iload_n 1, 1) := dk_27 (dk_at dksX1_removeReason_0 1 rfl rfl)
theorem dX1_removeReason_2 : decode cX1_removeReason 2 = .ok (.invokestatic 332, 3) := dk_184 1 76 (dk_at dksX1_removeReason_0 2 rfl rfl)
theorem dX1_removeReason_5 : decode cX1_removeReason 5 = .ok (.istore_n 2, 1) := dk_61 (dk_at dksX1_removeReason_0 5 rfl rfl)
theorem dX1_removeReason_6 : decode cX1_removeReason 6 = .ok (.iload_n 2, 1) := dk_28 (dk_at dksX1_removeReason_0 6 rfl rfl)
theorem dX1_removeReason_7 : decode cX1_removeReason 7 = .ok (.ifCond .eq 5, 3) := dk_153 0 5 (dk_at dksX1_removeReason_0 7 rfl rfl)
theorem dX1_removeReason_10 : decode cX1_removeReason 10 = .ok (.iload_n 2, 1) := dk_28 (dk_at dksX1_removeReason_0 10 rfl rfl)
theorem dX1_removeReason_11 : decode cX1_removeReason 11 = .ok (.ireturn, 1) := dk_172 (dk_at dksX1_removeReason_0 11 rfl rfl)
theorem dX1_removeReason_12 : decode cX1_removeReason 12 = .ok (.aload_n 0, 1) := dk_42 (dk_at dksX1_removeReason_0 12 rfl rfl)
theorem dX1_removeReason_13 : decode cX1_removeReason 13 = .ok (.getfield 216, 3) := dk_180 0 216 (dk_at dksX1_removeReason_0 13 rfl rfl)
theorem dX1_removeReason_16 : decode cX1_removeReason 16 = .ok (.iload_n 1, 1) := dk_27 (dk_at dksX1_removeReason_0 16 rfl rfl)
theorem dX1_removeReason_17 : decode cX1_removeReason 17 = .ok (.aaload, 1) := dk_50 (dk_at dksX1_removeReason_0 17 rfl rfl)
theorem dX1_removeReason_18 : decode cX1_removeReason 18 = .ok (.getfield 336, 3) := dk_180 1 80 (dk_at dksX1_removeReason_0 18 rfl rfl)
theorem dX1_removeReason_21 : decode cX1_removeReason 21 = .ok (.ifCond .eq 6, 3) := dk_153 0 6 (dk_at dksX1_removeReason_0 21 rfl rfl)
theorem dX1_removeReason_24 : decode cX1_removeReason 24 = .ok (.bipush 7, 2) := dk_16 7 (dk_at dksX1_removeReason_1 0 rfl rfl)
theorem dX1_removeReason_26 : decode cX1_removeReason 26 = .ok (.ireturn, 1) := dk_172 (dk_at dksX1_removeReason_1 2 rfl rfl)
theorem dX1_removeReason_27 : decode cX1_removeReason 27 = .ok (.aload_n 0, 1) := dk_42 (dk_at dksX1_removeReason_1 3 rfl rfl)
theorem dX1_removeReason_28 : decode cX1_removeReason 28 = .ok (.iload_n 1, 1) := dk_27 (dk_at dksX1_removeReason_1 4 rfl rfl)
theorem dX1_removeReason_29 : decode cX1_removeReason 29 = .ok (.invokevirtual 237, 3) := dk_182 0 237 (dk_at dksX1_removeReason_1 5 rfl rfl)
theorem dX1_removeReason_32 : decode cX1_removeReason 32 = .ok (.ifCond .eq 8, 3) := dk_153 0 8 (dk_at dksX1_removeReason_1 8 rfl rfl)
theorem dX1_removeReason_35 : decode cX1_removeReason 35 = .ok (.bipush 8, 2) := dk_16 8 (dk_at dksX1_removeReason_1 11 rfl rfl)
theorem dX1_removeReason_37 : decode cX1_removeReason 37 = .ok (.goto 4, 3) := dk_167 0 4 (dk_at dksX1_removeReason_1 13 rfl rfl)
theorem dX1_removeReason_40 : decode cX1_removeReason 40 = .ok (.iconst 0, 1) := dk_3 (dk_at dksX1_removeReason_1 16 rfl rfl)
theorem dX1_removeReason_41 : decode cX1_removeReason 41 = .ok (.ireturn, 1) := dk_172 (dk_at dksX1_removeReason_1 17 rfl rfl)
abbrev cX1_accessReason : ByteArray := prog_1_method_47_code
def yX1_accessReason : MethodName := ⟨RX1, "accessReason", "(LHedgeMessages$State;I)I"⟩
def dkwX1_accessReason_1 : List UInt8 := [199, 0, 5, 8, 172, 44, 180, 0, 228, 42, 182, 0, 193, 160, 0, 7, 3, 167, 0, 5, 16, 6, 172]
abbrev dktX1_accessReason_1 : List UInt8 := dkwX1_accessReason_1 ++ []
def dkwX1_accessReason_0 : List UInt8 := [42, 27, 184, 0, 212, 42, 180, 0, 199, 154, 0, 5, 4, 172, 42, 180, 0, 216, 27, 50, 77, 44]
abbrev dktX1_accessReason_0 : List UInt8 := dkwX1_accessReason_0 ++ dktX1_accessReason_1
theorem dksX1_accessReason_0 : cX1_accessReason.data.toList.drop 0 = dktX1_accessReason_0 := by decide +kernel
theorem dksX1_accessReason_1 : cX1_accessReason.data.toList.drop 22 = dktX1_accessReason_1 := dk_seg dksX1_accessReason_0 22 rfl rfl
theorem dX1_accessReason_0 : decode cX1_accessReason 0 = .ok (.aload_n 0, 1) := dk_42 (dk_at dksX1_accessReason_0 0 rfl rfl)
theorem dX1_accessReason_1 : decode cX1_accessReason 1 = .ok (.iload_n 1, 1) := dk_27 (dk_at dksX1_accessReason_0 1 rfl rfl)
theorem dX1_accessReason_2 : decode cX1_accessReason 2 = .ok (.invokestatic 212, 3) := dk_184 0 212 (dk_at dksX1_accessReason_0 2 rfl rfl)
theorem dX1_accessReason_5 : decode cX1_accessReason 5 = .ok (.aload_n 0, 1) := dk_42 (dk_at dksX1_accessReason_0 5 rfl rfl)
theorem dX1_accessReason_6 : decode cX1_accessReason 6 = .ok (.getfield 199, 3) := dk_180 0 199 (dk_at dksX1_accessReason_0 6 rfl rfl)
theorem dX1_accessReason_9 : decode cX1_accessReason 9 = .ok (.ifCond .ne 5, 3) := dk_154 0 5 (dk_at dksX1_accessReason_0 9 rfl rfl)
theorem dX1_accessReason_12 : decode cX1_accessReason 12 = .ok (.iconst 1, 1) := dk_4 (dk_at dksX1_accessReason_0 12 rfl rfl)
theorem dX1_accessReason_13 : decode cX1_accessReason 13 = .ok (.ireturn, 1) := dk_172 (dk_at dksX1_accessReason_0 13 rfl rfl)
theorem dX1_accessReason_14 : decode cX1_accessReason 14 = .ok (.aload_n 0, 1) := dk_42 (dk_at dksX1_accessReason_0 14 rfl rfl)
theorem dX1_accessReason_15 : decode cX1_accessReason 15 = .ok (.getfield 216, 3) := dk_180 0 216 (dk_at dksX1_accessReason_0 15 rfl rfl)
theorem dX1_accessReason_18 : decode cX1_accessReason 18 = .ok (.iload_n 1, 1) := dk_27 (dk_at dksX1_accessReason_0 18 rfl rfl)
theorem dX1_accessReason_19 : decode cX1_accessReason 19 = .ok (.aaload, 1) := dk_50 (dk_at dksX1_accessReason_0 19 rfl rfl)
theorem dX1_accessReason_20 : decode cX1_accessReason 20 = .ok (.astore_n 2, 1) := dk_77 (dk_at dksX1_accessReason_0 20 rfl rfl)
theorem dX1_accessReason_21 : decode cX1_accessReason 21 = .ok (.aload_n 2, 1) := dk_44 (dk_at dksX1_accessReason_0 21 rfl rfl)
theorem dX1_accessReason_22 : decode cX1_accessReason 22 = .ok (.ifnonnull 5, 3) := dk_199 0 5 (dk_at dksX1_accessReason_1 0 rfl rfl)
theorem dX1_accessReason_25 : decode cX1_accessReason 25 = .ok (.iconst 5, 1) := dk_8 (dk_at dksX1_accessReason_1 3 rfl rfl)
theorem dX1_accessReason_26 : decode cX1_accessReason 26 = .ok (.ireturn, 1) := dk_172 (dk_at dksX1_accessReason_1 4 rfl rfl)
theorem dX1_accessReason_27 : decode cX1_accessReason 27 = .ok (.aload_n 2, 1) := dk_44 (dk_at dksX1_accessReason_1 5 rfl rfl)
theorem dX1_accessReason_28 : decode cX1_accessReason 28 = .ok (.getfield 228, 3) := dk_180 0 228 (dk_at dksX1_accessReason_1 6 rfl rfl)
theorem dX1_accessReason_31 : decode cX1_accessReason 31 = .ok (.aload_n 0, 1) := dk_42 (dk_at dksX1_accessReason_1 9 rfl rfl)
theorem dX1_accessReason_32 : decode cX1_accessReason 32 = .ok (.invokevirtual 193, 3) := dk_182 0 193 (dk_at dksX1_accessReason_1 10 rfl rfl)
theorem dX1_accessReason_35 : decode cX1_accessReason 35 = .ok (.if_icmp .ne 7, 3) := dk_160 0 7 (dk_at dksX1_accessReason_1 13 rfl rfl)
theorem dX1_accessReason_38 : decode cX1_accessReason 38 = .ok (.iconst 0, 1) := dk_3 (dk_at dksX1_accessReason_1 16 rfl rfl)
theorem dX1_accessReason_39 : decode cX1_accessReason 39 = .ok (.goto 5, 3) := dk_167 0 5 (dk_at dksX1_accessReason_1 17 rfl rfl)
theorem dX1_accessReason_42 : decode cX1_accessReason 42 = .ok (.bipush 6, 2) := dk_16 6 (dk_at dksX1_accessReason_1 20 rfl rfl)
theorem dX1_accessReason_44 : decode cX1_accessReason 44 = .ok (.ireturn, 1) := dk_172 (dk_at dksX1_accessReason_1 22 rfl rfl)
abbrev cX1_applyTrim : ByteArray := prog_1_method_80_code
def yX1_applyTrim : MethodName := ⟨RX1, "applyTrim", "(LHedgeMessages$State;II)I"⟩
def dkwX1_applyTrim_2 : List UInt8 := [180, 0, 231, 172]
abbrev dktX1_applyTrim_2 : List UInt8 := dkwX1_applyTrim_2 ++ []
def dkwX1_applyTrim_1 : List UInt8 := [4, 45, 180, 0, 231, 28, 100, 184, 1, 44, 181, 0, 231, 42, 89, 180, 0, 199, 4, 100, 181, 0, 199, 45]
abbrev dktX1_applyTrim_1 : List UInt8 := dkwX1_applyTrim_1 ++ dktX1_applyTrim_2
def dkwX1_applyTrim_0 : List UInt8 := [42, 27, 184, 1, 90, 154, 0, 7, 4, 167, 0, 4, 3, 184, 0, 111, 42, 180, 0, 216, 27, 50, 78, 45]
abbrev dktX1_applyTrim_0 : List UInt8 := dkwX1_applyTrim_0 ++ dktX1_applyTrim_1
theorem dksX1_applyTrim_0 : cX1_applyTrim.data.toList.drop 0 = dktX1_applyTrim_0 := by decide +kernel
theorem dksX1_applyTrim_1 : cX1_applyTrim.data.toList.drop 24 = dktX1_applyTrim_1 := dk_seg dksX1_applyTrim_0 24 rfl rfl
theorem dksX1_applyTrim_2 : cX1_applyTrim.data.toList.drop 48 = dktX1_applyTrim_2 := dk_seg dksX1_applyTrim_1 24 rfl rfl
theorem dX1_applyTrim_0 : decode cX1_applyTrim 0 = .ok (.aload_n 0, 1) := dk_42 (dk_at dksX1_applyTrim_0 0 rfl rfl)
theorem dX1_applyTrim_1 : decode cX1_applyTrim 1 = .ok (.iload_n 1, 1) := dk_27 (dk_at dksX1_applyTrim_0 1 rfl rfl)
theorem dX1_applyTrim_2 : decode cX1_applyTrim 2 = .ok (.invokestatic 346, 3) := dk_184 1 90 (dk_at dksX1_applyTrim_0 2 rfl rfl)
theorem dX1_applyTrim_5 : decode cX1_applyTrim 5 = .ok (.ifCond .ne 7, 3) := dk_154 0 7 (dk_at dksX1_applyTrim_0 5 rfl rfl)
theorem dX1_applyTrim_8 : decode cX1_applyTrim 8 = .ok (.iconst 1, 1) := dk_4 (dk_at dksX1_applyTrim_0 8 rfl rfl)
theorem dX1_applyTrim_9 : decode cX1_applyTrim 9 = .ok (.goto 4, 3) := dk_167 0 4 (dk_at dksX1_applyTrim_0 9 rfl rfl)
theorem dX1_applyTrim_12 : decode cX1_applyTrim 12 = .ok (.iconst 0, 1) := dk_3 (dk_at dksX1_applyTrim_0 12 rfl rfl)
theorem dX1_applyTrim_13 : decode cX1_applyTrim 13 = .ok (.invokestatic 111, 3) := dk_184 0 111 (dk_at dksX1_applyTrim_0 13 rfl rfl)
theorem dX1_applyTrim_16 : decode cX1_applyTrim 16 = .ok (.aload_n 0, 1) := dk_42 (dk_at dksX1_applyTrim_0 16 rfl rfl)
theorem dX1_applyTrim_17 : decode cX1_applyTrim 17 = .ok (.getfield 216, 3) := dk_180 0 216 (dk_at dksX1_applyTrim_0 17 rfl rfl)
theorem dX1_applyTrim_20 : decode cX1_applyTrim 20 = .ok (.iload_n 1, 1) := dk_27 (dk_at dksX1_applyTrim_0 20 rfl rfl)
theorem dX1_applyTrim_21 : decode cX1_applyTrim 21 = .ok (.aaload, 1) := dk_50 (dk_at dksX1_applyTrim_0 21 rfl rfl)
theorem dX1_applyTrim_22 : decode cX1_applyTrim 22 = .ok (.astore_n 3, 1) := dk_78 (dk_at dksX1_applyTrim_0 22 rfl rfl)
theorem dX1_applyTrim_23 : decode cX1_applyTrim 23 = .ok (.aload_n 3, 1) := dk_45 (dk_at dksX1_applyTrim_0 23 rfl rfl)
theorem dX1_applyTrim_24 : decode cX1_applyTrim 24 = .ok (.iconst 1, 1) := dk_4 (dk_at dksX1_applyTrim_1 0 rfl rfl)
theorem dX1_applyTrim_25 : decode cX1_applyTrim 25 = .ok (.aload_n 3, 1) := dk_45 (dk_at dksX1_applyTrim_1 1 rfl rfl)
theorem dX1_applyTrim_26 : decode cX1_applyTrim 26 = .ok (.getfield 231, 3) := dk_180 0 231 (dk_at dksX1_applyTrim_1 2 rfl rfl)
theorem dX1_applyTrim_29 : decode cX1_applyTrim 29 = .ok (.iload_n 2, 1) := dk_28 (dk_at dksX1_applyTrim_1 5 rfl rfl)
theorem dX1_applyTrim_30 : decode cX1_applyTrim 30 = .ok (.isub, 1) := dk_100 (dk_at dksX1_applyTrim_1 6 rfl rfl)
theorem dX1_applyTrim_31 : decode cX1_applyTrim 31 = .ok (.invokestatic 300, 3) := dk_184 1 44 (dk_at dksX1_applyTrim_1 7 rfl rfl)
theorem dX1_applyTrim_34 : decode cX1_applyTrim 34 = .ok (.putfield 231, 3) := dk_181 0 231 (dk_at dksX1_applyTrim_1 10 rfl rfl)
theorem dX1_applyTrim_37 : decode cX1_applyTrim 37 = .ok (.aload_n 0, 1) := dk_42 (dk_at dksX1_applyTrim_1 13 rfl rfl)
theorem dX1_applyTrim_38 : decode cX1_applyTrim 38 = .ok (.dup, 1) := dk_89 (dk_at dksX1_applyTrim_1 14 rfl rfl)
theorem dX1_applyTrim_39 : decode cX1_applyTrim 39 = .ok (.getfield 199, 3) := dk_180 0 199 (dk_at dksX1_applyTrim_1 15 rfl rfl)
theorem dX1_applyTrim_42 : decode cX1_applyTrim 42 = .ok (.iconst 1, 1) := dk_4 (dk_at dksX1_applyTrim_1 18 rfl rfl)
theorem dX1_applyTrim_43 : decode cX1_applyTrim 43 = .ok (.isub, 1) := dk_100 (dk_at dksX1_applyTrim_1 19 rfl rfl)
theorem dX1_applyTrim_44 : decode cX1_applyTrim 44 = .ok (.putfield 199, 3) := dk_181 0 199 (dk_at dksX1_applyTrim_1 20 rfl rfl)
theorem dX1_applyTrim_47 : decode cX1_applyTrim 47 = .ok (.aload_n 3, 1) := dk_45 (dk_at dksX1_applyTrim_1 23 rfl rfl)
theorem dX1_applyTrim_48 : decode cX1_applyTrim 48 = .ok (.getfield 231, 3) := dk_180 0 231 (dk_at dksX1_applyTrim_2 0 rfl rfl)
theorem dX1_applyTrim_51 : decode cX1_applyTrim 51 = .ok (.ireturn, 1) := dk_172 (dk_at dksX1_applyTrim_2 3 rfl rfl)
abbrev cX1_trimReason : ByteArray := prog_1_method_49_code
def yX1_trimReason : MethodName := ⟨RX1, "trimReason", "(LHedgeMessages$State;I)I"⟩
def dkwX1_trimReason_1 : List UInt8 := [167, 0, 4, 3, 172]
abbrev dktX1_trimReason_1 : List UInt8 := dkwX1_trimReason_1 ++ []
def dkwX1_trimReason_0 : List UInt8 := [42, 27, 184, 1, 76, 61, 28, 153, 0, 5, 28, 172, 42, 27, 182, 0, 237, 153, 0, 8, 16, 8]
abbrev dktX1_trimReason_0 : List UInt8 := dkwX1_trimReason_0 ++ dktX1_trimReason_1
theorem dksX1_trimReason_0 : cX1_trimReason.data.toList.drop 0 = dktX1_trimReason_0 := by decide +kernel
theorem dksX1_trimReason_1 : cX1_trimReason.data.toList.drop 22 = dktX1_trimReason_1 := dk_seg dksX1_trimReason_0 22 rfl rfl
theorem dX1_trimReason_0 : decode cX1_trimReason 0 = .ok (.aload_n 0, 1) := dk_42 (dk_at dksX1_trimReason_0 0 rfl rfl)
theorem dX1_trimReason_1 : decode cX1_trimReason 1 = .ok (.iload_n 1, 1) := dk_27 (dk_at dksX1_trimReason_0 1 rfl rfl)
theorem dX1_trimReason_2 : decode cX1_trimReason 2 = .ok (.invokestatic 332, 3) := dk_184 1 76 (dk_at dksX1_trimReason_0 2 rfl rfl)
theorem dX1_trimReason_5 : decode cX1_trimReason 5 = .ok (.istore_n 2, 1) := dk_61 (dk_at dksX1_trimReason_0 5 rfl rfl)
theorem dX1_trimReason_6 : decode cX1_trimReason 6 = .ok (.iload_n 2, 1) := dk_28 (dk_at dksX1_trimReason_0 6 rfl rfl)
theorem dX1_trimReason_7 : decode cX1_trimReason 7 = .ok (.ifCond .eq 5, 3) := dk_153 0 5 (dk_at dksX1_trimReason_0 7 rfl rfl)
theorem dX1_trimReason_10 : decode cX1_trimReason 10 = .ok (.iload_n 2, 1) := dk_28 (dk_at dksX1_trimReason_0 10 rfl rfl)
theorem dX1_trimReason_11 : decode cX1_trimReason 11 = .ok (.ireturn, 1) := dk_172 (dk_at dksX1_trimReason_0 11 rfl rfl)
theorem dX1_trimReason_12 : decode cX1_trimReason 12 = .ok (.aload_n 0, 1) := dk_42 (dk_at dksX1_trimReason_0 12 rfl rfl)
theorem dX1_trimReason_13 : decode cX1_trimReason 13 = .ok (.iload_n 1, 1) := dk_27 (dk_at dksX1_trimReason_0 13 rfl rfl)
theorem dX1_trimReason_14 : decode cX1_trimReason 14 = .ok (.invokevirtual 237, 3) := dk_182 0 237 (dk_at dksX1_trimReason_0 14 rfl rfl)
theorem dX1_trimReason_17 : decode cX1_trimReason 17 = .ok (.ifCond .eq 8, 3) := dk_153 0 8 (dk_at dksX1_trimReason_0 17 rfl rfl)
theorem dX1_trimReason_20 : decode cX1_trimReason 20 = .ok (.bipush 8, 2) := dk_16 8 (dk_at dksX1_trimReason_0 20 rfl rfl)
theorem dX1_trimReason_22 : decode cX1_trimReason 22 = .ok (.goto 4, 3) := dk_167 0 4 (dk_at dksX1_trimReason_1 0 rfl rfl)
theorem dX1_trimReason_25 : decode cX1_trimReason 25 = .ok (.iconst 0, 1) := dk_3 (dk_at dksX1_trimReason_1 3 rfl rfl)
theorem dX1_trimReason_26 : decode cX1_trimReason 26 = .ok (.ireturn, 1) := dk_172 (dk_at dksX1_trimReason_1 4 rfl rfl)
abbrev cX1_applyNest : ByteArray := prog_1_method_81_code
def yX1_applyNest : MethodName := ⟨RX1, "applyNest", "(LHedgeMessages$State;II)I"⟩
def dkwX1_applyNest_1 : List UInt8 := [167, 0, 4, 3, 184, 0, 111, 42, 180, 0, 64, 27, 28, 79, 42, 182, 0, 240, 172]
abbrev dktX1_applyNest_1 : List UInt8 := dkwX1_applyNest_1 ++ []
def dkwX1_applyNest_0 : List UInt8 := [42, 27, 184, 0, 212, 42, 182, 0, 240, 16, 6, 162, 0, 16, 42, 180, 0, 64, 27, 46, 154, 0, 7, 4]
abbrev dktX1_applyNest_0 : List UInt8 := dkwX1_applyNest_0 ++ dktX1_applyNest_1
theorem dksX1_applyNest_0 : cX1_applyNest.data.toList.drop 0 = dktX1_applyNest_0 := by decide +kernel
theorem dksX1_applyNest_1 : cX1_applyNest.data.toList.drop 24 = dktX1_applyNest_1 := dk_seg dksX1_applyNest_0 24 rfl rfl
theorem dX1_applyNest_0 : decode cX1_applyNest 0 = .ok (.aload_n 0, 1) := dk_42 (dk_at dksX1_applyNest_0 0 rfl rfl)
theorem dX1_applyNest_1 : decode cX1_applyNest 1 = .ok (.iload_n 1, 1) := dk_27 (dk_at dksX1_applyNest_0 1 rfl rfl)
theorem dX1_applyNest_2 : decode cX1_applyNest 2 = .ok (.invokestatic 212, 3) := dk_184 0 212 (dk_at dksX1_applyNest_0 2 rfl rfl)
theorem dX1_applyNest_5 : decode cX1_applyNest 5 = .ok (.aload_n 0, 1) := dk_42 (dk_at dksX1_applyNest_0 5 rfl rfl)
theorem dX1_applyNest_6 : decode cX1_applyNest 6 = .ok (.invokevirtual 240, 3) := dk_182 0 240 (dk_at dksX1_applyNest_0 6 rfl rfl)
theorem dX1_applyNest_9 : decode cX1_applyNest 9 = .ok (.bipush 6, 2) := dk_16 6 (dk_at dksX1_applyNest_0 9 rfl rfl)
theorem dX1_applyNest_11 : decode cX1_applyNest 11 = .ok (.if_icmp .ge 16, 3) := dk_162 0 16 (dk_at dksX1_applyNest_0 11 rfl rfl)
theorem dX1_applyNest_14 : decode cX1_applyNest 14 = .ok (.aload_n 0, 1) := dk_42 (dk_at dksX1_applyNest_0 14 rfl rfl)
theorem dX1_applyNest_15 : decode cX1_applyNest 15 = .ok (.getfield 64, 3) := dk_180 0 64 (dk_at dksX1_applyNest_0 15 rfl rfl)
theorem dX1_applyNest_18 : decode cX1_applyNest 18 = .ok (.iload_n 1, 1) := dk_27 (dk_at dksX1_applyNest_0 18 rfl rfl)
theorem dX1_applyNest_19 : decode cX1_applyNest 19 = .ok (.iaload, 1) := dk_46 (dk_at dksX1_applyNest_0 19 rfl rfl)
theorem dX1_applyNest_20 : decode cX1_applyNest 20 = .ok (.ifCond .ne 7, 3) := dk_154 0 7 (dk_at dksX1_applyNest_0 20 rfl rfl)
theorem dX1_applyNest_23 : decode cX1_applyNest 23 = .ok (.iconst 1, 1) := dk_4 (dk_at dksX1_applyNest_0 23 rfl rfl)
theorem dX1_applyNest_24 : decode cX1_applyNest 24 = .ok (.goto 4, 3) := dk_167 0 4 (dk_at dksX1_applyNest_1 0 rfl rfl)
theorem dX1_applyNest_27 : decode cX1_applyNest 27 = .ok (.iconst 0, 1) := dk_3 (dk_at dksX1_applyNest_1 3 rfl rfl)
theorem dX1_applyNest_28 : decode cX1_applyNest 28 = .ok (.invokestatic 111, 3) := dk_184 0 111 (dk_at dksX1_applyNest_1 4 rfl rfl)
theorem dX1_applyNest_31 : decode cX1_applyNest 31 = .ok (.aload_n 0, 1) := dk_42 (dk_at dksX1_applyNest_1 7 rfl rfl)
theorem dX1_applyNest_32 : decode cX1_applyNest 32 = .ok (.getfield 64, 3) := dk_180 0 64 (dk_at dksX1_applyNest_1 8 rfl rfl)
theorem dX1_applyNest_35 : decode cX1_applyNest 35 = .ok (.iload_n 1, 1) := dk_27 (dk_at dksX1_applyNest_1 11 rfl rfl)
theorem dX1_applyNest_36 : decode cX1_applyNest 36 = .ok (.iload_n 2, 1) := dk_28 (dk_at dksX1_applyNest_1 12 rfl rfl)
theorem dX1_applyNest_37 : decode cX1_applyNest 37 = .ok (.iastore, 1) := dk_79 (dk_at dksX1_applyNest_1 13 rfl rfl)
theorem dX1_applyNest_38 : decode cX1_applyNest 38 = .ok (.aload_n 0, 1) := dk_42 (dk_at dksX1_applyNest_1 14 rfl rfl)
theorem dX1_applyNest_39 : decode cX1_applyNest 39 = .ok (.invokevirtual 240, 3) := dk_182 0 240 (dk_at dksX1_applyNest_1 15 rfl rfl)
theorem dX1_applyNest_42 : decode cX1_applyNest 42 = .ok (.ireturn, 1) := dk_172 (dk_at dksX1_applyNest_1 18 rfl rfl)
abbrev cX1_applyQueue : ByteArray := prog_1_method_82_code
def yX1_applyQueue : MethodName := ⟨RX1, "applyQueue", "(LHedgeMessages$State;ILjava/lang/String;)I"⟩
def dkwX1_applyQueue_2 : List UInt8 := [172]
abbrev dktX1_applyQueue_2 : List UInt8 := dkwX1_applyQueue_2 ++ []
def dkwX1_applyQueue_1 : List UInt8 := [183, 0, 72, 182, 0, 75, 42, 180, 0, 246, 27, 185, 0, 250, 2, 0, 192, 0, 251, 185, 1, 4, 1, 0]
abbrev dktX1_applyQueue_1 : List UInt8 := dkwX1_applyQueue_1 ++ dktX1_applyQueue_2
def dkwX1_applyQueue_0 : List UInt8 := [42, 27, 182, 1, 175, 154, 0, 7, 4, 167, 0, 4, 3, 184, 0, 111, 42, 187, 0, 68, 89, 27, 44]
abbrev dktX1_applyQueue_0 : List UInt8 := dkwX1_applyQueue_0 ++ dktX1_applyQueue_1
theorem dksX1_applyQueue_0 : cX1_applyQueue.data.toList.drop 0 = dktX1_applyQueue_0 := by decide +kernel
theorem dksX1_applyQueue_1 : cX1_applyQueue.data.toList.drop 23 = dktX1_applyQueue_1 := dk_seg dksX1_applyQueue_0 23 rfl rfl
theorem dksX1_applyQueue_2 : cX1_applyQueue.data.toList.drop 47 = dktX1_applyQueue_2 := dk_seg dksX1_applyQueue_1 24 rfl rfl
theorem dX1_applyQueue_0 : decode cX1_applyQueue 0 = .ok (.aload_n 0, 1) := dk_42 (dk_at dksX1_applyQueue_0 0 rfl rfl)
theorem dX1_applyQueue_1 : decode cX1_applyQueue 1 = .ok (.iload_n 1, 1) := dk_27 (dk_at dksX1_applyQueue_0 1 rfl rfl)
theorem dX1_applyQueue_2 : decode cX1_applyQueue 2 = .ok (.invokevirtual 431, 3) := dk_182 1 175 (dk_at dksX1_applyQueue_0 2 rfl rfl)
theorem dX1_applyQueue_5 : decode cX1_applyQueue 5 = .ok (.ifCond .ne 7, 3) := dk_154 0 7 (dk_at dksX1_applyQueue_0 5 rfl rfl)
theorem dX1_applyQueue_8 : decode cX1_applyQueue 8 = .ok (.iconst 1, 1) := dk_4 (dk_at dksX1_applyQueue_0 8 rfl rfl)
theorem dX1_applyQueue_9 : decode cX1_applyQueue 9 = .ok (.goto 4, 3) := dk_167 0 4 (dk_at dksX1_applyQueue_0 9 rfl rfl)
theorem dX1_applyQueue_12 : decode cX1_applyQueue 12 = .ok (.iconst 0, 1) := dk_3 (dk_at dksX1_applyQueue_0 12 rfl rfl)
theorem dX1_applyQueue_13 : decode cX1_applyQueue 13 = .ok (.invokestatic 111, 3) := dk_184 0 111 (dk_at dksX1_applyQueue_0 13 rfl rfl)
theorem dX1_applyQueue_16 : decode cX1_applyQueue 16 = .ok (.aload_n 0, 1) := dk_42 (dk_at dksX1_applyQueue_0 16 rfl rfl)
theorem dX1_applyQueue_17 : decode cX1_applyQueue 17 = .ok (.new 68, 3) := dk_187 0 68 (dk_at dksX1_applyQueue_0 17 rfl rfl)
theorem dX1_applyQueue_20 : decode cX1_applyQueue 20 = .ok (.dup, 1) := dk_89 (dk_at dksX1_applyQueue_0 20 rfl rfl)
theorem dX1_applyQueue_21 : decode cX1_applyQueue 21 = .ok (.iload_n 1, 1) := dk_27 (dk_at dksX1_applyQueue_0 21 rfl rfl)
theorem dX1_applyQueue_22 : decode cX1_applyQueue 22 = .ok (.aload_n 2, 1) := dk_44 (dk_at dksX1_applyQueue_0 22 rfl rfl)
theorem dX1_applyQueue_23 : decode cX1_applyQueue 23 = .ok (.invokespecial 72, 3) := dk_183 0 72 (dk_at dksX1_applyQueue_1 0 rfl rfl)
theorem dX1_applyQueue_26 : decode cX1_applyQueue 26 = .ok (.invokevirtual 75, 3) := dk_182 0 75 (dk_at dksX1_applyQueue_1 3 rfl rfl)
theorem dX1_applyQueue_29 : decode cX1_applyQueue 29 = .ok (.aload_n 0, 1) := dk_42 (dk_at dksX1_applyQueue_1 6 rfl rfl)
theorem dX1_applyQueue_30 : decode cX1_applyQueue 30 = .ok (.getfield 246, 3) := dk_180 0 246 (dk_at dksX1_applyQueue_1 7 rfl rfl)
theorem dX1_applyQueue_33 : decode cX1_applyQueue 33 = .ok (.iload_n 1, 1) := dk_27 (dk_at dksX1_applyQueue_1 10 rfl rfl)
theorem dX1_applyQueue_34 : decode cX1_applyQueue 34 = .ok (.invokeinterface 250 2, 5) := by decide +kernel
theorem dX1_applyQueue_39 : decode cX1_applyQueue 39 = .ok (.checkcast 251, 3) := dk_192 0 251 (dk_at dksX1_applyQueue_1 16 rfl rfl)
theorem dX1_applyQueue_42 : decode cX1_applyQueue 42 = .ok (.invokeinterface 260 1, 5) := by decide +kernel
theorem dX1_applyQueue_47 : decode cX1_applyQueue 47 = .ok (.ireturn, 1) := dk_172 (dk_at dksX1_applyQueue_2 0 rfl rfl)
abbrev cX1_applyCancel : ByteArray := prog_1_method_83_code
def yX1_applyCancel : MethodName := ⟨RX1, "applyCancel", "(LHedgeMessages$State;II)I"⟩
def dkwX1_applyCancel_2 : List UInt8 := [27, 42, 180, 1, 115, 27, 50, 182, 1, 180, 83, 25, 4, 182, 1, 37, 172]
abbrev dktX1_applyCancel_2 : List UInt8 := dkwX1_applyCancel_2 ++ []
def dkwX1_applyCancel_1 : List UInt8 := [100, 133, 184, 0, 119, 184, 0, 209, 45, 28, 185, 1, 178, 2, 0, 192, 0, 68, 58, 4, 42, 180, 1, 115]
abbrev dktX1_applyCancel_1 : List UInt8 := dkwX1_applyCancel_1 ++ dktX1_applyCancel_2
def dkwX1_applyCancel_0 : List UInt8 := [42, 180, 0, 246, 27, 185, 0, 250, 2, 0, 192, 0, 251, 78, 28, 133, 9, 45, 185, 1, 4, 1, 0, 4]
abbrev dktX1_applyCancel_0 : List UInt8 := dkwX1_applyCancel_0 ++ dktX1_applyCancel_1
theorem dksX1_applyCancel_0 : cX1_applyCancel.data.toList.drop 0 = dktX1_applyCancel_0 := by decide +kernel
theorem dksX1_applyCancel_1 : cX1_applyCancel.data.toList.drop 24 = dktX1_applyCancel_1 := dk_seg dksX1_applyCancel_0 24 rfl rfl
theorem dksX1_applyCancel_2 : cX1_applyCancel.data.toList.drop 48 = dktX1_applyCancel_2 := dk_seg dksX1_applyCancel_1 24 rfl rfl
theorem dX1_applyCancel_0 : decode cX1_applyCancel 0 = .ok (.aload_n 0, 1) := dk_42 (dk_at dksX1_applyCancel_0 0 rfl rfl)
theorem dX1_applyCancel_1 : decode cX1_applyCancel 1 = .ok (.getfield 246, 3) := dk_180 0 246 (dk_at dksX1_applyCancel_0 1 rfl rfl)
theorem dX1_applyCancel_4 : decode cX1_applyCancel 4 = .ok (.iload_n 1, 1) := dk_27 (dk_at dksX1_applyCancel_0 4 rfl rfl)
theorem dX1_applyCancel_5 : decode cX1_applyCancel 5 = .ok (.invokeinterface 250 2, 5) := by decide +kernel
theorem dX1_applyCancel_10 : decode cX1_applyCancel 10 = .ok (.checkcast 251, 3) := dk_192 0 251 (dk_at dksX1_applyCancel_0 10 rfl rfl)
theorem dX1_applyCancel_13 : decode cX1_applyCancel 13 = .ok (.astore_n 3, 1) := dk_78 (dk_at dksX1_applyCancel_0 13 rfl rfl)
theorem dX1_applyCancel_14 : decode cX1_applyCancel 14 = .ok (.iload_n 2, 1) := dk_28 (dk_at dksX1_applyCancel_0 14 rfl rfl)
theorem dX1_applyCancel_15 : decode cX1_applyCancel 15 = .ok (.i2l, 1) := dk_133 (dk_at dksX1_applyCancel_0 15 rfl rfl)
theorem dX1_applyCancel_16 : decode cX1_applyCancel 16 = .ok (.lconst 0, 1) := dk_9 (dk_at dksX1_applyCancel_0 16 rfl rfl)
theorem dX1_applyCancel_17 : decode cX1_applyCancel 17 = .ok (.aload_n 3, 1) := dk_45 (dk_at dksX1_applyCancel_0 17 rfl rfl)
theorem dX1_applyCancel_18 : decode cX1_applyCancel 18 = .ok (.invokeinterface 260 1, 5) := by decide +kernel
theorem dX1_applyCancel_23 : decode cX1_applyCancel 23 = .ok (.iconst 1, 1) := dk_4 (dk_at dksX1_applyCancel_0 23 rfl rfl)
theorem dX1_applyCancel_24 : decode cX1_applyCancel 24 = .ok (.isub, 1) := dk_100 (dk_at dksX1_applyCancel_1 0 rfl rfl)
theorem dX1_applyCancel_25 : decode cX1_applyCancel 25 = .ok (.i2l, 1) := dk_133 (dk_at dksX1_applyCancel_1 1 rfl rfl)
theorem dX1_applyCancel_26 : decode cX1_applyCancel 26 = .ok (.invokestatic 119, 3) := dk_184 0 119 (dk_at dksX1_applyCancel_1 2 rfl rfl)
theorem dX1_applyCancel_29 : decode cX1_applyCancel 29 = .ok (.invokestatic 209, 3) := dk_184 0 209 (dk_at dksX1_applyCancel_1 5 rfl rfl)
theorem dX1_applyCancel_32 : decode cX1_applyCancel 32 = .ok (.aload_n 3, 1) := dk_45 (dk_at dksX1_applyCancel_1 8 rfl rfl)
theorem dX1_applyCancel_33 : decode cX1_applyCancel 33 = .ok (.iload_n 2, 1) := dk_28 (dk_at dksX1_applyCancel_1 9 rfl rfl)
theorem dX1_applyCancel_34 : decode cX1_applyCancel 34 = .ok (.invokeinterface 434 2, 5) := by decide +kernel
theorem dX1_applyCancel_39 : decode cX1_applyCancel 39 = .ok (.checkcast 68, 3) := dk_192 0 68 (dk_at dksX1_applyCancel_1 15 rfl rfl)
theorem dX1_applyCancel_42 : decode cX1_applyCancel 42 = .ok (.astore 4, 2) := dk_58 4 (dk_at dksX1_applyCancel_1 18 rfl rfl)
theorem dX1_applyCancel_44 : decode cX1_applyCancel 44 = .ok (.aload_n 0, 1) := dk_42 (dk_at dksX1_applyCancel_1 20 rfl rfl)
theorem dX1_applyCancel_45 : decode cX1_applyCancel 45 = .ok (.getfield 371, 3) := dk_180 1 115 (dk_at dksX1_applyCancel_1 21 rfl rfl)
theorem dX1_applyCancel_48 : decode cX1_applyCancel 48 = .ok (.iload_n 1, 1) := dk_27 (dk_at dksX1_applyCancel_2 0 rfl rfl)
theorem dX1_applyCancel_49 : decode cX1_applyCancel 49 = .ok (.aload_n 0, 1) := dk_42 (dk_at dksX1_applyCancel_2 1 rfl rfl)
theorem dX1_applyCancel_50 : decode cX1_applyCancel 50 = .ok (.getfield 371, 3) := dk_180 1 115 (dk_at dksX1_applyCancel_2 2 rfl rfl)
theorem dX1_applyCancel_53 : decode cX1_applyCancel 53 = .ok (.iload_n 1, 1) := dk_27 (dk_at dksX1_applyCancel_2 5 rfl rfl)
theorem dX1_applyCancel_54 : decode cX1_applyCancel 54 = .ok (.aaload, 1) := dk_50 (dk_at dksX1_applyCancel_2 6 rfl rfl)
theorem dX1_applyCancel_55 : decode cX1_applyCancel 55 = .ok (.invokevirtual 436, 3) := dk_182 1 180 (dk_at dksX1_applyCancel_2 7 rfl rfl)
theorem dX1_applyCancel_58 : decode cX1_applyCancel 58 = .ok (.aastore, 1) := dk_83 (dk_at dksX1_applyCancel_2 10 rfl rfl)
theorem dX1_applyCancel_59 : decode cX1_applyCancel 59 = .ok (.aload 4, 2) := dk_25 4 (dk_at dksX1_applyCancel_2 11 rfl rfl)
theorem dX1_applyCancel_61 : decode cX1_applyCancel 61 = .ok (.invokevirtual 293, 3) := dk_182 1 37 (dk_at dksX1_applyCancel_2 13 rfl rfl)
theorem dX1_applyCancel_64 : decode cX1_applyCancel 64 = .ok (.ireturn, 1) := dk_172 (dk_at dksX1_applyCancel_2 16 rfl rfl)
abbrev cX1_applyWorkLimit : ByteArray := prog_1_method_84_code
def yX1_applyWorkLimit : MethodName := ⟨RX1, "applyWorkLimit", "(LHedgeMessages$State;I)I"⟩
def dkwX1_applyWorkLimit_0 : List UInt8 := [42, 180, 0, 196, 61, 42, 27, 181, 0, 196, 28, 172]
abbrev dktX1_applyWorkLimit_0 : List UInt8 := dkwX1_applyWorkLimit_0 ++ []
theorem dksX1_applyWorkLimit_0 : cX1_applyWorkLimit.data.toList.drop 0 = dktX1_applyWorkLimit_0 := by decide +kernel
theorem dX1_applyWorkLimit_0 : decode cX1_applyWorkLimit 0 = .ok (.aload_n 0, 1) := dk_42 (dk_at dksX1_applyWorkLimit_0 0 rfl rfl)
theorem dX1_applyWorkLimit_1 : decode cX1_applyWorkLimit 1 = .ok (.getfield 196, 3) := dk_180 0 196 (dk_at dksX1_applyWorkLimit_0 1 rfl rfl)
theorem dX1_applyWorkLimit_4 : decode cX1_applyWorkLimit 4 = .ok (.istore_n 2, 1) := dk_61 (dk_at dksX1_applyWorkLimit_0 4 rfl rfl)
theorem dX1_applyWorkLimit_5 : decode cX1_applyWorkLimit 5 = .ok (.aload_n 0, 1) := dk_42 (dk_at dksX1_applyWorkLimit_0 5 rfl rfl)
theorem dX1_applyWorkLimit_6 : decode cX1_applyWorkLimit 6 = .ok (.iload_n 1, 1) := dk_27 (dk_at dksX1_applyWorkLimit_0 6 rfl rfl)
theorem dX1_applyWorkLimit_7 : decode cX1_applyWorkLimit 7 = .ok (.putfield 196, 3) := dk_181 0 196 (dk_at dksX1_applyWorkLimit_0 7 rfl rfl)
theorem dX1_applyWorkLimit_10 : decode cX1_applyWorkLimit 10 = .ok (.iload_n 2, 1) := dk_28 (dk_at dksX1_applyWorkLimit_0 10 rfl rfl)
theorem dX1_applyWorkLimit_11 : decode cX1_applyWorkLimit 11 = .ok (.ireturn, 1) := dk_172 (dk_at dksX1_applyWorkLimit_0 11 rfl rfl)
abbrev cX1_applyEndDays : ByteArray := prog_1_method_85_code
def yX1_applyEndDays : MethodName := ⟨RX1, "applyEndDays", "(LHedgeMessages$State;I)I"⟩
def dkwX1_applyEndDays_0 : List UInt8 := [42, 182, 1, 184, 61, 42, 27, 182, 1, 111, 182, 1, 184, 28, 100, 172]
abbrev dktX1_applyEndDays_0 : List UInt8 := dkwX1_applyEndDays_0 ++ []
theorem dksX1_applyEndDays_0 : cX1_applyEndDays.data.toList.drop 0 = dktX1_applyEndDays_0 := by decide +kernel
theorem dX1_applyEndDays_0 : decode cX1_applyEndDays 0 = .ok (.aload_n 0, 1) := dk_42 (dk_at dksX1_applyEndDays_0 0 rfl rfl)
theorem dX1_applyEndDays_1 : decode cX1_applyEndDays 1 = .ok (.invokevirtual 440, 3) := dk_182 1 184 (dk_at dksX1_applyEndDays_0 1 rfl rfl)
theorem dX1_applyEndDays_4 : decode cX1_applyEndDays 4 = .ok (.istore_n 2, 1) := dk_61 (dk_at dksX1_applyEndDays_0 4 rfl rfl)
theorem dX1_applyEndDays_5 : decode cX1_applyEndDays 5 = .ok (.aload_n 0, 1) := dk_42 (dk_at dksX1_applyEndDays_0 5 rfl rfl)
theorem dX1_applyEndDays_6 : decode cX1_applyEndDays 6 = .ok (.iload_n 1, 1) := dk_27 (dk_at dksX1_applyEndDays_0 6 rfl rfl)
theorem dX1_applyEndDays_7 : decode cX1_applyEndDays 7 = .ok (.invokevirtual 367, 3) := dk_182 1 111 (dk_at dksX1_applyEndDays_0 7 rfl rfl)
theorem dX1_applyEndDays_10 : decode cX1_applyEndDays 10 = .ok (.invokevirtual 440, 3) := dk_182 1 184 (dk_at dksX1_applyEndDays_0 10 rfl rfl)
theorem dX1_applyEndDays_13 : decode cX1_applyEndDays 13 = .ok (.iload_n 2, 1) := dk_28 (dk_at dksX1_applyEndDays_0 13 rfl rfl)
theorem dX1_applyEndDays_14 : decode cX1_applyEndDays 14 = .ok (.isub, 1) := dk_100 (dk_at dksX1_applyEndDays_0 14 rfl rfl)
theorem dX1_applyEndDays_15 : decode cX1_applyEndDays 15 = .ok (.ireturn, 1) := dk_172 (dk_at dksX1_applyEndDays_0 15 rfl rfl)
abbrev cX1_execute : ByteArray := prog_1_method_16_code
def yX1_execute : MethodName := ⟨RX1, "execute", "(LHedgeMessages$State;[LHedgeMessages$Operation;)I"⟩
def dkwX1_execute_1 : List UInt8 := [167, 0, 6, 78, 28, 172, 28, 172]
abbrev dktX1_execute_1 : List UInt8 := dkwX1_execute_1 ++ []
def dkwX1_execute_0 : List UInt8 := [3, 61, 43, 28, 50, 198, 0, 19, 43, 28, 50, 42, 185, 0, 86, 2, 0, 62, 132, 2, 1, 167, 255, 237]
abbrev dktX1_execute_0 : List UInt8 := dkwX1_execute_0 ++ dktX1_execute_1
theorem dksX1_execute_0 : cX1_execute.data.toList.drop 0 = dktX1_execute_0 := by decide +kernel
theorem dksX1_execute_1 : cX1_execute.data.toList.drop 24 = dktX1_execute_1 := dk_seg dksX1_execute_0 24 rfl rfl
theorem dX1_execute_0 : decode cX1_execute 0 = .ok (.iconst 0, 1) := dk_3 (dk_at dksX1_execute_0 0 rfl rfl)
theorem dX1_execute_1 : decode cX1_execute 1 = .ok (.istore_n 2, 1) := dk_61 (dk_at dksX1_execute_0 1 rfl rfl)
theorem dX1_execute_2 : decode cX1_execute 2 = .ok (.aload_n 1, 1) := dk_43 (dk_at dksX1_execute_0 2 rfl rfl)
theorem dX1_execute_3 : decode cX1_execute 3 = .ok (.iload_n 2, 1) := dk_28 (dk_at dksX1_execute_0 3 rfl rfl)
theorem dX1_execute_4 : decode cX1_execute 4 = .ok (.aaload, 1) := dk_50 (dk_at dksX1_execute_0 4 rfl rfl)
theorem dX1_execute_5 : decode cX1_execute 5 = .ok (.ifnull 19, 3) := dk_198 0 19 (dk_at dksX1_execute_0 5 rfl rfl)
theorem dX1_execute_8 : decode cX1_execute 8 = .ok (.aload_n 1, 1) := dk_43 (dk_at dksX1_execute_0 8 rfl rfl)
theorem dX1_execute_9 : decode cX1_execute 9 = .ok (.iload_n 2, 1) := dk_28 (dk_at dksX1_execute_0 9 rfl rfl)
theorem dX1_execute_10 : decode cX1_execute 10 = .ok (.aaload, 1) := dk_50 (dk_at dksX1_execute_0 10 rfl rfl)
theorem dX1_execute_11 : decode cX1_execute 11 = .ok (.aload_n 0, 1) := dk_42 (dk_at dksX1_execute_0 11 rfl rfl)
theorem dX1_execute_12 : decode cX1_execute 12 = .ok (.invokeinterface 86 2, 5) := by decide +kernel
theorem dX1_execute_17 : decode cX1_execute 17 = .ok (.istore_n 3, 1) := dk_62 (dk_at dksX1_execute_0 17 rfl rfl)
theorem dX1_execute_18 : decode cX1_execute 18 = .ok (.iinc 2 1, 3) := dk_132 2 1 (dk_at dksX1_execute_0 18 rfl rfl)
theorem dX1_execute_21 : decode cX1_execute 21 = .ok (.goto (-19), 3) := dk_167 255 237 (dk_at dksX1_execute_0 21 rfl rfl)
theorem dX1_execute_24 : decode cX1_execute 24 = .ok (.goto 6, 3) := dk_167 0 6 (dk_at dksX1_execute_1 0 rfl rfl)
theorem dX1_execute_27 : decode cX1_execute 27 = .ok (.astore_n 3, 1) := dk_78 (dk_at dksX1_execute_1 3 rfl rfl)
theorem dX1_execute_28 : decode cX1_execute 28 = .ok (.iload_n 2, 1) := dk_28 (dk_at dksX1_execute_1 4 rfl rfl)
theorem dX1_execute_29 : decode cX1_execute 29 = .ok (.ireturn, 1) := dk_172 (dk_at dksX1_execute_1 5 rfl rfl)
theorem dX1_execute_30 : decode cX1_execute 30 = .ok (.iload_n 2, 1) := dk_28 (dk_at dksX1_execute_1 6 rfl rfl)
theorem dX1_execute_31 : decode cX1_execute 31 = .ok (.ireturn, 1) := dk_172 (dk_at dksX1_execute_1 7 rfl rfl)
abbrev cX1_record : ByteArray := prog_1_method_8_code
def yX1_record : MethodName := ⟨RX1, "record", "(LHedgeMessages$State;)V"⟩
def dkwX1_record_1 : List UInt8 := [180, 0, 31, 42, 180, 0, 22, 182, 0, 104, 42, 43, 181, 0, 22, 177]
abbrev dktX1_record_1 : List UInt8 := dkwX1_record_1 ++ []
def dkwX1_record_0 : List UInt8 := [42, 180, 0, 31, 182, 0, 96, 16, 8, 160, 0, 14, 42, 180, 0, 31, 182, 0, 100, 192, 0, 50, 77, 42]
abbrev dktX1_record_0 : List UInt8 := dkwX1_record_0 ++ dktX1_record_1
theorem dksX1_record_0 : cX1_record.data.toList.drop 0 = dktX1_record_0 := by decide +kernel
theorem dksX1_record_1 : cX1_record.data.toList.drop 24 = dktX1_record_1 := dk_seg dksX1_record_0 24 rfl rfl
theorem dX1_record_0 : decode cX1_record 0 = .ok (.aload_n 0, 1) := dk_42 (dk_at dksX1_record_0 0 rfl rfl)
theorem dX1_record_1 : decode cX1_record 1 = .ok (.getfield 31, 3) := dk_180 0 31 (dk_at dksX1_record_0 1 rfl rfl)
theorem dX1_record_4 : decode cX1_record 4 = .ok (.invokevirtual 96, 3) := dk_182 0 96 (dk_at dksX1_record_0 4 rfl rfl)
theorem dX1_record_7 : decode cX1_record 7 = .ok (.bipush 8, 2) := dk_16 8 (dk_at dksX1_record_0 7 rfl rfl)
theorem dX1_record_9 : decode cX1_record 9 = .ok (.if_icmp .ne 14, 3) := dk_160 0 14 (dk_at dksX1_record_0 9 rfl rfl)
theorem dX1_record_12 : decode cX1_record 12 = .ok (.aload_n 0, 1) := dk_42 (dk_at dksX1_record_0 12 rfl rfl)
theorem dX1_record_13 : decode cX1_record 13 = .ok (.getfield 31, 3) := dk_180 0 31 (dk_at dksX1_record_0 13 rfl rfl)
theorem dX1_record_16 : decode cX1_record 16 = .ok (.invokevirtual 100, 3) := dk_182 0 100 (dk_at dksX1_record_0 16 rfl rfl)
theorem dX1_record_19 : decode cX1_record 19 = .ok (.checkcast 50, 3) := dk_192 0 50 (dk_at dksX1_record_0 19 rfl rfl)
theorem dX1_record_22 : decode cX1_record 22 = .ok (.astore_n 2, 1) := dk_77 (dk_at dksX1_record_0 22 rfl rfl)
theorem dX1_record_23 : decode cX1_record 23 = .ok (.aload_n 0, 1) := dk_42 (dk_at dksX1_record_0 23 rfl rfl)
theorem dX1_record_24 : decode cX1_record 24 = .ok (.getfield 31, 3) := dk_180 0 31 (dk_at dksX1_record_1 0 rfl rfl)
theorem dX1_record_27 : decode cX1_record 27 = .ok (.aload_n 0, 1) := dk_42 (dk_at dksX1_record_1 3 rfl rfl)
theorem dX1_record_28 : decode cX1_record 28 = .ok (.getfield 22, 3) := dk_180 0 22 (dk_at dksX1_record_1 4 rfl rfl)
theorem dX1_record_31 : decode cX1_record 31 = .ok (.invokevirtual 104, 3) := dk_182 0 104 (dk_at dksX1_record_1 7 rfl rfl)
theorem dX1_record_34 : decode cX1_record 34 = .ok (.aload_n 0, 1) := dk_42 (dk_at dksX1_record_1 10 rfl rfl)
theorem dX1_record_35 : decode cX1_record 35 = .ok (.aload_n 1, 1) := dk_43 (dk_at dksX1_record_1 11 rfl rfl)
theorem dX1_record_36 : decode cX1_record 36 = .ok (.putfield 22, 3) := dk_181 0 22 (dk_at dksX1_record_1 12 rfl rfl)
theorem dX1_record_39 : decode cX1_record 39 = .ok (.return_, 1) := dk_177 (dk_at dksX1_record_1 15 rfl rfl)
abbrev cX1_letterAt : ByteArray := prog_1_method_28_code
def yX1_letterAt : MethodName := ⟨RX1, "letterAt", "(I)I"⟩
def dkwX1_letterAt_0 : List UInt8 := [42, 27, 182, 0, 220, 77, 44, 199, 0, 7, 2, 167, 0, 7, 44, 180, 0, 224, 172]
abbrev dktX1_letterAt_0 : List UInt8 := dkwX1_letterAt_0 ++ []
theorem dksX1_letterAt_0 : cX1_letterAt.data.toList.drop 0 = dktX1_letterAt_0 := by decide +kernel
theorem dX1_letterAt_0 : decode cX1_letterAt 0 = .ok (.aload_n 0, 1) := dk_42 (dk_at dksX1_letterAt_0 0 rfl rfl)
theorem dX1_letterAt_1 : decode cX1_letterAt 1 = .ok (.iload_n 1, 1) := dk_27 (dk_at dksX1_letterAt_0 1 rfl rfl)
theorem dX1_letterAt_2 : decode cX1_letterAt 2 = .ok (.invokevirtual 220, 3) := dk_182 0 220 (dk_at dksX1_letterAt_0 2 rfl rfl)
theorem dX1_letterAt_5 : decode cX1_letterAt 5 = .ok (.astore_n 2, 1) := dk_77 (dk_at dksX1_letterAt_0 5 rfl rfl)
theorem dX1_letterAt_6 : decode cX1_letterAt 6 = .ok (.aload_n 2, 1) := dk_44 (dk_at dksX1_letterAt_0 6 rfl rfl)
theorem dX1_letterAt_7 : decode cX1_letterAt 7 = .ok (.ifnonnull 7, 3) := dk_199 0 7 (dk_at dksX1_letterAt_0 7 rfl rfl)
theorem dX1_letterAt_10 : decode cX1_letterAt 10 = .ok (.iconst (-1), 1) := dk_2 (dk_at dksX1_letterAt_0 10 rfl rfl)
theorem dX1_letterAt_11 : decode cX1_letterAt 11 = .ok (.goto 7, 3) := dk_167 0 7 (dk_at dksX1_letterAt_0 11 rfl rfl)
theorem dX1_letterAt_14 : decode cX1_letterAt 14 = .ok (.aload_n 2, 1) := dk_44 (dk_at dksX1_letterAt_0 14 rfl rfl)
theorem dX1_letterAt_15 : decode cX1_letterAt 15 = .ok (.getfield 224, 3) := dk_180 0 224 (dk_at dksX1_letterAt_0 15 rfl rfl)
theorem dX1_letterAt_18 : decode cX1_letterAt 18 = .ok (.ireturn, 1) := dk_172 (dk_at dksX1_letterAt_0 18 rfl rfl)
abbrev cX1_twigAt : ByteArray := prog_1_method_27_code
def yX1_twigAt : MethodName := ⟨RX1, "twigAt", "(I)LHedgeMessages$Twig;"⟩
def dkwX1_twigAt_0 : List UInt8 := [42, 180, 0, 22, 27, 184, 0, 212, 42, 180, 0, 22, 180, 0, 216, 27, 50, 176]
abbrev dktX1_twigAt_0 : List UInt8 := dkwX1_twigAt_0 ++ []
theorem dksX1_twigAt_0 : cX1_twigAt.data.toList.drop 0 = dktX1_twigAt_0 := by decide +kernel
theorem dX1_twigAt_0 : decode cX1_twigAt 0 = .ok (.aload_n 0, 1) := dk_42 (dk_at dksX1_twigAt_0 0 rfl rfl)
theorem dX1_twigAt_1 : decode cX1_twigAt 1 = .ok (.getfield 22, 3) := dk_180 0 22 (dk_at dksX1_twigAt_0 1 rfl rfl)
theorem dX1_twigAt_4 : decode cX1_twigAt 4 = .ok (.iload_n 1, 1) := dk_27 (dk_at dksX1_twigAt_0 4 rfl rfl)
theorem dX1_twigAt_5 : decode cX1_twigAt 5 = .ok (.invokestatic 212, 3) := dk_184 0 212 (dk_at dksX1_twigAt_0 5 rfl rfl)
theorem dX1_twigAt_8 : decode cX1_twigAt 8 = .ok (.aload_n 0, 1) := dk_42 (dk_at dksX1_twigAt_0 8 rfl rfl)
theorem dX1_twigAt_9 : decode cX1_twigAt 9 = .ok (.getfield 22, 3) := dk_180 0 22 (dk_at dksX1_twigAt_0 9 rfl rfl)
theorem dX1_twigAt_12 : decode cX1_twigAt 12 = .ok (.getfield 216, 3) := dk_180 0 216 (dk_at dksX1_twigAt_0 12 rfl rfl)
theorem dX1_twigAt_15 : decode cX1_twigAt 15 = .ok (.iload_n 1, 1) := dk_27 (dk_at dksX1_twigAt_0 15 rfl rfl)
theorem dX1_twigAt_16 : decode cX1_twigAt 16 = .ok (.aaload, 1) := dk_50 (dk_at dksX1_twigAt_0 16 rfl rfl)
theorem dX1_twigAt_17 : decode cX1_twigAt 17 = .ok (.areturn, 1) := dk_176 (dk_at dksX1_twigAt_0 17 rfl rfl)
abbrev cX1_ownerAt : ByteArray := prog_1_method_29_code
def yX1_ownerAt : MethodName := ⟨RX1, "ownerAt", "(I)I"⟩
def dkwX1_ownerAt_0 : List UInt8 := [42, 27, 182, 0, 220, 77, 44, 199, 0, 7, 2, 167, 0, 7, 44, 180, 0, 228, 172]
abbrev dktX1_ownerAt_0 : List UInt8 := dkwX1_ownerAt_0 ++ []
theorem dksX1_ownerAt_0 : cX1_ownerAt.data.toList.drop 0 = dktX1_ownerAt_0 := by decide +kernel
theorem dX1_ownerAt_0 : decode cX1_ownerAt 0 = .ok (.aload_n 0, 1) := dk_42 (dk_at dksX1_ownerAt_0 0 rfl rfl)
theorem dX1_ownerAt_1 : decode cX1_ownerAt 1 = .ok (.iload_n 1, 1) := dk_27 (dk_at dksX1_ownerAt_0 1 rfl rfl)
theorem dX1_ownerAt_2 : decode cX1_ownerAt 2 = .ok (.invokevirtual 220, 3) := dk_182 0 220 (dk_at dksX1_ownerAt_0 2 rfl rfl)
theorem dX1_ownerAt_5 : decode cX1_ownerAt 5 = .ok (.astore_n 2, 1) := dk_77 (dk_at dksX1_ownerAt_0 5 rfl rfl)
theorem dX1_ownerAt_6 : decode cX1_ownerAt 6 = .ok (.aload_n 2, 1) := dk_44 (dk_at dksX1_ownerAt_0 6 rfl rfl)
theorem dX1_ownerAt_7 : decode cX1_ownerAt 7 = .ok (.ifnonnull 7, 3) := dk_199 0 7 (dk_at dksX1_ownerAt_0 7 rfl rfl)
theorem dX1_ownerAt_10 : decode cX1_ownerAt 10 = .ok (.iconst (-1), 1) := dk_2 (dk_at dksX1_ownerAt_0 10 rfl rfl)
theorem dX1_ownerAt_11 : decode cX1_ownerAt 11 = .ok (.goto 7, 3) := dk_167 0 7 (dk_at dksX1_ownerAt_0 11 rfl rfl)
theorem dX1_ownerAt_14 : decode cX1_ownerAt 14 = .ok (.aload_n 2, 1) := dk_44 (dk_at dksX1_ownerAt_0 14 rfl rfl)
theorem dX1_ownerAt_15 : decode cX1_ownerAt 15 = .ok (.getfield 228, 3) := dk_180 0 228 (dk_at dksX1_ownerAt_0 15 rfl rfl)
theorem dX1_ownerAt_18 : decode cX1_ownerAt 18 = .ok (.ireturn, 1) := dk_172 (dk_at dksX1_ownerAt_0 18 rfl rfl)
abbrev cX1_lengthAt : ByteArray := prog_1_method_30_code
def yX1_lengthAt : MethodName := ⟨RX1, "lengthAt", "(I)I"⟩
def dkwX1_lengthAt_0 : List UInt8 := [42, 27, 182, 0, 220, 77, 44, 199, 0, 7, 3, 167, 0, 7, 44, 180, 0, 231, 172]
abbrev dktX1_lengthAt_0 : List UInt8 := dkwX1_lengthAt_0 ++ []
theorem dksX1_lengthAt_0 : cX1_lengthAt.data.toList.drop 0 = dktX1_lengthAt_0 := by decide +kernel
theorem dX1_lengthAt_0 : decode cX1_lengthAt 0 = .ok (.aload_n 0, 1) := dk_42 (dk_at dksX1_lengthAt_0 0 rfl rfl)
theorem dX1_lengthAt_1 : decode cX1_lengthAt 1 = .ok (.iload_n 1, 1) := dk_27 (dk_at dksX1_lengthAt_0 1 rfl rfl)
theorem dX1_lengthAt_2 : decode cX1_lengthAt 2 = .ok (.invokevirtual 220, 3) := dk_182 0 220 (dk_at dksX1_lengthAt_0 2 rfl rfl)
theorem dX1_lengthAt_5 : decode cX1_lengthAt 5 = .ok (.astore_n 2, 1) := dk_77 (dk_at dksX1_lengthAt_0 5 rfl rfl)
theorem dX1_lengthAt_6 : decode cX1_lengthAt 6 = .ok (.aload_n 2, 1) := dk_44 (dk_at dksX1_lengthAt_0 6 rfl rfl)
theorem dX1_lengthAt_7 : decode cX1_lengthAt 7 = .ok (.ifnonnull 7, 3) := dk_199 0 7 (dk_at dksX1_lengthAt_0 7 rfl rfl)
theorem dX1_lengthAt_10 : decode cX1_lengthAt 10 = .ok (.iconst 0, 1) := dk_3 (dk_at dksX1_lengthAt_0 10 rfl rfl)
theorem dX1_lengthAt_11 : decode cX1_lengthAt 11 = .ok (.goto 7, 3) := dk_167 0 7 (dk_at dksX1_lengthAt_0 11 rfl rfl)
theorem dX1_lengthAt_14 : decode cX1_lengthAt 14 = .ok (.aload_n 2, 1) := dk_44 (dk_at dksX1_lengthAt_0 14 rfl rfl)
theorem dX1_lengthAt_15 : decode cX1_lengthAt 15 = .ok (.getfield 231, 3) := dk_180 0 231 (dk_at dksX1_lengthAt_0 15 rfl rfl)
theorem dX1_lengthAt_18 : decode cX1_lengthAt 18 = .ok (.ireturn, 1) := dk_172 (dk_at dksX1_lengthAt_0 18 rfl rfl)
abbrev cX1_isReserved : ByteArray := prog_1_method_31_code
def yX1_isReserved : MethodName := ⟨RX1, "isReserved", "(I)Z"⟩
def dkwX1_isReserved_0 : List UInt8 := [42, 180, 0, 22, 27, 184, 0, 212, 42, 180, 0, 22, 27, 182, 0, 234, 172]
abbrev dktX1_isReserved_0 : List UInt8 := dkwX1_isReserved_0 ++ []
theorem dksX1_isReserved_0 : cX1_isReserved.data.toList.drop 0 = dktX1_isReserved_0 := by decide +kernel
theorem dX1_isReserved_0 : decode cX1_isReserved 0 = .ok (.aload_n 0, 1) := dk_42 (dk_at dksX1_isReserved_0 0 rfl rfl)
theorem dX1_isReserved_1 : decode cX1_isReserved 1 = .ok (.getfield 22, 3) := dk_180 0 22 (dk_at dksX1_isReserved_0 1 rfl rfl)
theorem dX1_isReserved_4 : decode cX1_isReserved 4 = .ok (.iload_n 1, 1) := dk_27 (dk_at dksX1_isReserved_0 4 rfl rfl)
theorem dX1_isReserved_5 : decode cX1_isReserved 5 = .ok (.invokestatic 212, 3) := dk_184 0 212 (dk_at dksX1_isReserved_0 5 rfl rfl)
theorem dX1_isReserved_8 : decode cX1_isReserved 8 = .ok (.aload_n 0, 1) := dk_42 (dk_at dksX1_isReserved_0 8 rfl rfl)
theorem dX1_isReserved_9 : decode cX1_isReserved 9 = .ok (.getfield 22, 3) := dk_180 0 22 (dk_at dksX1_isReserved_0 9 rfl rfl)
theorem dX1_isReserved_12 : decode cX1_isReserved 12 = .ok (.iload_n 1, 1) := dk_27 (dk_at dksX1_isReserved_0 12 rfl rfl)
theorem dX1_isReserved_13 : decode cX1_isReserved 13 = .ok (.invokevirtual 234, 3) := dk_182 0 234 (dk_at dksX1_isReserved_0 13 rfl rfl)
theorem dX1_isReserved_16 : decode cX1_isReserved 16 = .ok (.ireturn, 1) := dk_172 (dk_at dksX1_isReserved_0 16 rfl rfl)
abbrev cX1_nestDays : ByteArray := prog_1_method_32_code
def yX1_nestDays : MethodName := ⟨RX1, "nestDays", "(I)I"⟩
def dkwX1_nestDays_0 : List UInt8 := [42, 180, 0, 22, 27, 184, 0, 212, 42, 180, 0, 22, 180, 0, 64, 27, 46, 172]
abbrev dktX1_nestDays_0 : List UInt8 := dkwX1_nestDays_0 ++ []
theorem dksX1_nestDays_0 : cX1_nestDays.data.toList.drop 0 = dktX1_nestDays_0 := by decide +kernel
theorem dX1_nestDays_0 : decode cX1_nestDays 0 = .ok (.aload_n 0, 1) := dk_42 (dk_at dksX1_nestDays_0 0 rfl rfl)
theorem dX1_nestDays_1 : decode cX1_nestDays 1 = .ok (.getfield 22, 3) := dk_180 0 22 (dk_at dksX1_nestDays_0 1 rfl rfl)
theorem dX1_nestDays_4 : decode cX1_nestDays 4 = .ok (.iload_n 1, 1) := dk_27 (dk_at dksX1_nestDays_0 4 rfl rfl)
theorem dX1_nestDays_5 : decode cX1_nestDays 5 = .ok (.invokestatic 212, 3) := dk_184 0 212 (dk_at dksX1_nestDays_0 5 rfl rfl)
theorem dX1_nestDays_8 : decode cX1_nestDays 8 = .ok (.aload_n 0, 1) := dk_42 (dk_at dksX1_nestDays_0 8 rfl rfl)
theorem dX1_nestDays_9 : decode cX1_nestDays 9 = .ok (.getfield 22, 3) := dk_180 0 22 (dk_at dksX1_nestDays_0 9 rfl rfl)
theorem dX1_nestDays_12 : decode cX1_nestDays 12 = .ok (.getfield 64, 3) := dk_180 0 64 (dk_at dksX1_nestDays_0 12 rfl rfl)
theorem dX1_nestDays_15 : decode cX1_nestDays 15 = .ok (.iload_n 1, 1) := dk_27 (dk_at dksX1_nestDays_0 15 rfl rfl)
theorem dX1_nestDays_16 : decode cX1_nestDays 16 = .ok (.iaload, 1) := dk_46 (dk_at dksX1_nestDays_0 16 rfl rfl)
theorem dX1_nestDays_17 : decode cX1_nestDays 17 = .ok (.ireturn, 1) := dk_172 (dk_at dksX1_nestDays_0 17 rfl rfl)
abbrev cX1_isProtected : ByteArray := prog_1_method_33_code
def yX1_isProtected : MethodName := ⟨RX1, "isProtected", "(I)Z"⟩
def dkwX1_isProtected_0 : List UInt8 := [42, 180, 0, 22, 27, 184, 0, 212, 42, 180, 0, 22, 27, 182, 0, 237, 172]
abbrev dktX1_isProtected_0 : List UInt8 := dkwX1_isProtected_0 ++ []
theorem dksX1_isProtected_0 : cX1_isProtected.data.toList.drop 0 = dktX1_isProtected_0 := by decide +kernel
theorem dX1_isProtected_0 : decode cX1_isProtected 0 = .ok (.aload_n 0, 1) := dk_42 (dk_at dksX1_isProtected_0 0 rfl rfl)
theorem dX1_isProtected_1 : decode cX1_isProtected 1 = .ok (.getfield 22, 3) := dk_180 0 22 (dk_at dksX1_isProtected_0 1 rfl rfl)
theorem dX1_isProtected_4 : decode cX1_isProtected 4 = .ok (.iload_n 1, 1) := dk_27 (dk_at dksX1_isProtected_0 4 rfl rfl)
theorem dX1_isProtected_5 : decode cX1_isProtected 5 = .ok (.invokestatic 212, 3) := dk_184 0 212 (dk_at dksX1_isProtected_0 5 rfl rfl)
theorem dX1_isProtected_8 : decode cX1_isProtected 8 = .ok (.aload_n 0, 1) := dk_42 (dk_at dksX1_isProtected_0 8 rfl rfl)
theorem dX1_isProtected_9 : decode cX1_isProtected 9 = .ok (.getfield 22, 3) := dk_180 0 22 (dk_at dksX1_isProtected_0 9 rfl rfl)
theorem dX1_isProtected_12 : decode cX1_isProtected 12 = .ok (.iload_n 1, 1) := dk_27 (dk_at dksX1_isProtected_0 12 rfl rfl)
theorem dX1_isProtected_13 : decode cX1_isProtected 13 = .ok (.invokevirtual 237, 3) := dk_182 0 237 (dk_at dksX1_isProtected_0 13 rfl rfl)
theorem dX1_isProtected_16 : decode cX1_isProtected 16 = .ok (.ireturn, 1) := dk_172 (dk_at dksX1_isProtected_0 16 rfl rfl)
abbrev cX1_pendingCount : ByteArray := prog_1_method_37_code
def yX1_pendingCount : MethodName := ⟨RX1, "pendingCount", "(I)I"⟩
def dkwX1_pendingCount_0 : List UInt8 := [42, 27, 182, 1, 0, 185, 1, 4, 1, 0, 172]
abbrev dktX1_pendingCount_0 : List UInt8 := dkwX1_pendingCount_0 ++ []
theorem dksX1_pendingCount_0 : cX1_pendingCount.data.toList.drop 0 = dktX1_pendingCount_0 := by decide +kernel
theorem dX1_pendingCount_0 : decode cX1_pendingCount 0 = .ok (.aload_n 0, 1) := dk_42 (dk_at dksX1_pendingCount_0 0 rfl rfl)
theorem dX1_pendingCount_1 : decode cX1_pendingCount 1 = .ok (.iload_n 1, 1) := dk_27 (dk_at dksX1_pendingCount_0 1 rfl rfl)
theorem dX1_pendingCount_2 : decode cX1_pendingCount 2 = .ok (.invokevirtual 256, 3) := dk_182 1 0 (dk_at dksX1_pendingCount_0 2 rfl rfl)
theorem dX1_pendingCount_5 : decode cX1_pendingCount 5 = .ok (.invokeinterface 260 1, 5) := by decide +kernel
theorem dX1_pendingCount_10 : decode cX1_pendingCount 10 = .ok (.ireturn, 1) := dk_172 (dk_at dksX1_pendingCount_0 10 rfl rfl)
abbrev cX1_queueOf : ByteArray := prog_1_method_36_code
def yX1_queueOf : MethodName := ⟨RX1, "queueOf", "(I)Ljava/util/List;"⟩
def dkwX1_queueOf_0 : List UInt8 := [27, 184, 0, 243, 42, 180, 0, 22, 180, 0, 246, 27, 185, 0, 250, 2, 0, 192, 0, 251, 176]
abbrev dktX1_queueOf_0 : List UInt8 := dkwX1_queueOf_0 ++ []
theorem dksX1_queueOf_0 : cX1_queueOf.data.toList.drop 0 = dktX1_queueOf_0 := by decide +kernel
theorem dX1_queueOf_0 : decode cX1_queueOf 0 = .ok (.iload_n 1, 1) := dk_27 (dk_at dksX1_queueOf_0 0 rfl rfl)
theorem dX1_queueOf_1 : decode cX1_queueOf 1 = .ok (.invokestatic 243, 3) := dk_184 0 243 (dk_at dksX1_queueOf_0 1 rfl rfl)
theorem dX1_queueOf_4 : decode cX1_queueOf 4 = .ok (.aload_n 0, 1) := dk_42 (dk_at dksX1_queueOf_0 4 rfl rfl)
theorem dX1_queueOf_5 : decode cX1_queueOf 5 = .ok (.getfield 22, 3) := dk_180 0 22 (dk_at dksX1_queueOf_0 5 rfl rfl)
theorem dX1_queueOf_8 : decode cX1_queueOf 8 = .ok (.getfield 246, 3) := dk_180 0 246 (dk_at dksX1_queueOf_0 8 rfl rfl)
theorem dX1_queueOf_11 : decode cX1_queueOf 11 = .ok (.iload_n 1, 1) := dk_27 (dk_at dksX1_queueOf_0 11 rfl rfl)
theorem dX1_queueOf_12 : decode cX1_queueOf 12 = .ok (.invokeinterface 250 2, 5) := by decide +kernel
theorem dX1_queueOf_17 : decode cX1_queueOf 17 = .ok (.checkcast 251, 3) := dk_192 0 251 (dk_at dksX1_queueOf_0 17 rfl rfl)
theorem dX1_queueOf_20 : decode cX1_queueOf 20 = .ok (.areturn, 1) := dk_176 (dk_at dksX1_queueOf_0 20 rfl rfl)
abbrev cX1_checkGardener : ByteArray := prog_1_method_35_code
def yX1_checkGardener : MethodName := ⟨RX1, "checkGardener", "(I)V"⟩
def dkwX1_checkGardener_0 : List UInt8 := [26, 133, 9, 10, 184, 0, 119, 184, 0, 123, 177]
abbrev dktX1_checkGardener_0 : List UInt8 := dkwX1_checkGardener_0 ++ []
theorem dksX1_checkGardener_0 : cX1_checkGardener.data.toList.drop 0 = dktX1_checkGardener_0 := by decide +kernel
theorem dX1_checkGardener_0 : decode cX1_checkGardener 0 = .ok (.iload_n 0, 1) := dk_26 (dk_at dksX1_checkGardener_0 0 rfl rfl)
theorem dX1_checkGardener_1 : decode cX1_checkGardener 1 = .ok (.i2l, 1) := dk_133 (dk_at dksX1_checkGardener_0 1 rfl rfl)
theorem dX1_checkGardener_2 : decode cX1_checkGardener 2 = .ok (.lconst 0, 1) := dk_9 (dk_at dksX1_checkGardener_0 2 rfl rfl)
theorem dX1_checkGardener_3 : decode cX1_checkGardener 3 = .ok (.lconst 1, 1) := dk_10 (dk_at dksX1_checkGardener_0 3 rfl rfl)
theorem dX1_checkGardener_4 : decode cX1_checkGardener 4 = .ok (.invokestatic 119, 3) := dk_184 0 119 (dk_at dksX1_checkGardener_0 4 rfl rfl)
theorem dX1_checkGardener_7 : decode cX1_checkGardener 7 = .ok (.invokestatic 123, 3) := dk_184 0 123 (dk_at dksX1_checkGardener_0 7 rfl rfl)
theorem dX1_checkGardener_10 : decode cX1_checkGardener 10 = .ok (.return_, 1) := dk_177 (dk_at dksX1_checkGardener_0 10 rfl rfl)
abbrev cX1_pendingLetter : ByteArray := prog_1_method_38_code
def yX1_pendingLetter : MethodName := ⟨RX1, "pendingLetter", "(III)I"⟩
def dkwX1_pendingLetter_3 : List UInt8 := [172]
abbrev dktX1_pendingLetter_3 : List UInt8 := dkwX1_pendingLetter_3 ++ []
def dkwX1_pendingLetter_2 : List UInt8 := [25, 5, 182, 1, 9, 4, 100, 133, 184, 0, 119, 153, 0, 12, 25, 5, 29, 182, 1, 11, 167, 0, 4, 2]
abbrev dktX1_pendingLetter_2 : List UInt8 := dkwX1_pendingLetter_2 ++ dktX1_pendingLetter_3
def dkwX1_pendingLetter_1 : List UInt8 := [154, 0, 5, 2, 172, 25, 4, 28, 185, 0, 250, 2, 0, 192, 0, 68, 180, 1, 5, 58, 5, 29, 133, 9]
abbrev dktX1_pendingLetter_1 : List UInt8 := dkwX1_pendingLetter_1 ++ dktX1_pendingLetter_2
def dkwX1_pendingLetter_0 : List UInt8 := [42, 27, 182, 1, 0, 58, 4, 28, 133, 9, 25, 4, 185, 1, 4, 1, 0, 4, 100, 133, 184, 0, 119]
abbrev dktX1_pendingLetter_0 : List UInt8 := dkwX1_pendingLetter_0 ++ dktX1_pendingLetter_1
theorem dksX1_pendingLetter_0 : cX1_pendingLetter.data.toList.drop 0 = dktX1_pendingLetter_0 := by decide +kernel
theorem dksX1_pendingLetter_1 : cX1_pendingLetter.data.toList.drop 23 = dktX1_pendingLetter_1 := dk_seg dksX1_pendingLetter_0 23 rfl rfl
theorem dksX1_pendingLetter_2 : cX1_pendingLetter.data.toList.drop 47 = dktX1_pendingLetter_2 := dk_seg dksX1_pendingLetter_1 24 rfl rfl
theorem dksX1_pendingLetter_3 : cX1_pendingLetter.data.toList.drop 71 = dktX1_pendingLetter_3 := dk_seg dksX1_pendingLetter_2 24 rfl rfl
theorem dX1_pendingLetter_0 : decode cX1_pendingLetter 0 = .ok (.aload_n 0, 1) := dk_42 (dk_at dksX1_pendingLetter_0 0 rfl rfl)
theorem dX1_pendingLetter_1 : decode cX1_pendingLetter 1 = .ok (.iload_n 1, 1) := dk_27 (dk_at dksX1_pendingLetter_0 1 rfl rfl)
theorem dX1_pendingLetter_2 : decode cX1_pendingLetter 2 = .ok (.invokevirtual 256, 3) := dk_182 1 0 (dk_at dksX1_pendingLetter_0 2 rfl rfl)
theorem dX1_pendingLetter_5 : decode cX1_pendingLetter 5 = .ok (.astore 4, 2) := dk_58 4 (dk_at dksX1_pendingLetter_0 5 rfl rfl)
theorem dX1_pendingLetter_7 : decode cX1_pendingLetter 7 = .ok (.iload_n 2, 1) := dk_28 (dk_at dksX1_pendingLetter_0 7 rfl rfl)
theorem dX1_pendingLetter_8 : decode cX1_pendingLetter 8 = .ok (.i2l, 1) := dk_133 (dk_at dksX1_pendingLetter_0 8 rfl rfl)
theorem dX1_pendingLetter_9 : decode cX1_pendingLetter 9 = .ok (.lconst 0, 1) := dk_9 (dk_at dksX1_pendingLetter_0 9 rfl rfl)
theorem dX1_pendingLetter_10 : decode cX1_pendingLetter 10 = .ok (.aload 4, 2) := dk_25 4 (dk_at dksX1_pendingLetter_0 10 rfl rfl)
theorem dX1_pendingLetter_12 : decode cX1_pendingLetter 12 = .ok (.invokeinterface 260 1, 5) := by decide +kernel
theorem dX1_pendingLetter_17 : decode cX1_pendingLetter 17 = .ok (.iconst 1, 1) := dk_4 (dk_at dksX1_pendingLetter_0 17 rfl rfl)
theorem dX1_pendingLetter_18 : decode cX1_pendingLetter 18 = .ok (.isub, 1) := dk_100 (dk_at dksX1_pendingLetter_0 18 rfl rfl)
theorem dX1_pendingLetter_19 : decode cX1_pendingLetter 19 = .ok (.i2l, 1) := dk_133 (dk_at dksX1_pendingLetter_0 19 rfl rfl)
theorem dX1_pendingLetter_20 : decode cX1_pendingLetter 20 = .ok (.invokestatic 119, 3) := dk_184 0 119 (dk_at dksX1_pendingLetter_0 20 rfl rfl)
theorem dX1_pendingLetter_23 : decode cX1_pendingLetter 23 = .ok (.ifCond .ne 5, 3) := dk_154 0 5 (dk_at dksX1_pendingLetter_1 0 rfl rfl)
theorem dX1_pendingLetter_26 : decode cX1_pendingLetter 26 = .ok (.iconst (-1), 1) := dk_2 (dk_at dksX1_pendingLetter_1 3 rfl rfl)
theorem dX1_pendingLetter_27 : decode cX1_pendingLetter 27 = .ok (.ireturn, 1) := dk_172 (dk_at dksX1_pendingLetter_1 4 rfl rfl)
theorem dX1_pendingLetter_28 : decode cX1_pendingLetter 28 = .ok (.aload 4, 2) := dk_25 4 (dk_at dksX1_pendingLetter_1 5 rfl rfl)
theorem dX1_pendingLetter_30 : decode cX1_pendingLetter 30 = .ok (.iload_n 2, 1) := dk_28 (dk_at dksX1_pendingLetter_1 7 rfl rfl)
theorem dX1_pendingLetter_31 : decode cX1_pendingLetter 31 = .ok (.invokeinterface 250 2, 5) := by decide +kernel
theorem dX1_pendingLetter_36 : decode cX1_pendingLetter 36 = .ok (.checkcast 68, 3) := dk_192 0 68 (dk_at dksX1_pendingLetter_1 13 rfl rfl)
theorem dX1_pendingLetter_39 : decode cX1_pendingLetter 39 = .ok (.getfield 261, 3) := dk_180 1 5 (dk_at dksX1_pendingLetter_1 16 rfl rfl)
theorem dX1_pendingLetter_42 : decode cX1_pendingLetter 42 = .ok (.astore 5, 2) := dk_58 5 (dk_at dksX1_pendingLetter_1 19 rfl rfl)
theorem dX1_pendingLetter_44 : decode cX1_pendingLetter 44 = .ok (.iload_n 3, 1) := dk_29 (dk_at dksX1_pendingLetter_1 21 rfl rfl)
theorem dX1_pendingLetter_45 : decode cX1_pendingLetter 45 = .ok (.i2l, 1) := dk_133 (dk_at dksX1_pendingLetter_1 22 rfl rfl)
theorem dX1_pendingLetter_46 : decode cX1_pendingLetter 46 = .ok (.lconst 0, 1) := dk_9 (dk_at dksX1_pendingLetter_1 23 rfl rfl)
theorem dX1_pendingLetter_47 : decode cX1_pendingLetter 47 = .ok (.aload 5, 2) := dk_25 5 (dk_at dksX1_pendingLetter_2 0 rfl rfl)
theorem dX1_pendingLetter_49 : decode cX1_pendingLetter 49 = .ok (.invokevirtual 265, 3) := dk_182 1 9 (dk_at dksX1_pendingLetter_2 2 rfl rfl)
theorem dX1_pendingLetter_52 : decode cX1_pendingLetter 52 = .ok (.iconst 1, 1) := dk_4 (dk_at dksX1_pendingLetter_2 5 rfl rfl)
theorem dX1_pendingLetter_53 : decode cX1_pendingLetter 53 = .ok (.isub, 1) := dk_100 (dk_at dksX1_pendingLetter_2 6 rfl rfl)
theorem dX1_pendingLetter_54 : decode cX1_pendingLetter 54 = .ok (.i2l, 1) := dk_133 (dk_at dksX1_pendingLetter_2 7 rfl rfl)
theorem dX1_pendingLetter_55 : decode cX1_pendingLetter 55 = .ok (.invokestatic 119, 3) := dk_184 0 119 (dk_at dksX1_pendingLetter_2 8 rfl rfl)
theorem dX1_pendingLetter_58 : decode cX1_pendingLetter 58 = .ok (.ifCond .eq 12, 3) := dk_153 0 12 (dk_at dksX1_pendingLetter_2 11 rfl rfl)
theorem dX1_pendingLetter_61 : decode cX1_pendingLetter 61 = .ok (.aload 5, 2) := dk_25 5 (dk_at dksX1_pendingLetter_2 14 rfl rfl)
theorem dX1_pendingLetter_63 : decode cX1_pendingLetter 63 = .ok (.iload_n 3, 1) := dk_29 (dk_at dksX1_pendingLetter_2 16 rfl rfl)
theorem dX1_pendingLetter_64 : decode cX1_pendingLetter 64 = .ok (.invokevirtual 267, 3) := dk_182 1 11 (dk_at dksX1_pendingLetter_2 17 rfl rfl)
theorem dX1_pendingLetter_67 : decode cX1_pendingLetter 67 = .ok (.goto 4, 3) := dk_167 0 4 (dk_at dksX1_pendingLetter_2 20 rfl rfl)
theorem dX1_pendingLetter_70 : decode cX1_pendingLetter 70 = .ok (.iconst (-1), 1) := dk_2 (dk_at dksX1_pendingLetter_2 23 rfl rfl)
theorem dX1_pendingLetter_71 : decode cX1_pendingLetter 71 = .ok (.ireturn, 1) := dk_172 (dk_at dksX1_pendingLetter_3 0 rfl rfl)
abbrev cX1_lettersWritten : ByteArray := prog_1_method_40_code
def yX1_lettersWritten : MethodName := ⟨RX1, "lettersWritten", "(I)I"⟩
def dkwX1_lettersWritten_0 : List UInt8 := [42, 27, 182, 1, 19, 77, 44, 199, 0, 7, 3, 167, 0, 7, 44, 180, 1, 23, 172]
abbrev dktX1_lettersWritten_0 : List UInt8 := dkwX1_lettersWritten_0 ++ []
theorem dksX1_lettersWritten_0 : cX1_lettersWritten.data.toList.drop 0 = dktX1_lettersWritten_0 := by decide +kernel
theorem dX1_lettersWritten_0 : decode cX1_lettersWritten 0 = .ok (.aload_n 0, 1) := dk_42 (dk_at dksX1_lettersWritten_0 0 rfl rfl)
theorem dX1_lettersWritten_1 : decode cX1_lettersWritten 1 = .ok (.iload_n 1, 1) := dk_27 (dk_at dksX1_lettersWritten_0 1 rfl rfl)
theorem dX1_lettersWritten_2 : decode cX1_lettersWritten 2 = .ok (.invokevirtual 275, 3) := dk_182 1 19 (dk_at dksX1_lettersWritten_0 2 rfl rfl)
theorem dX1_lettersWritten_5 : decode cX1_lettersWritten 5 = .ok (.astore_n 2, 1) := dk_77 (dk_at dksX1_lettersWritten_0 5 rfl rfl)
theorem dX1_lettersWritten_6 : decode cX1_lettersWritten 6 = .ok (.aload_n 2, 1) := dk_44 (dk_at dksX1_lettersWritten_0 6 rfl rfl)
theorem dX1_lettersWritten_7 : decode cX1_lettersWritten 7 = .ok (.ifnonnull 7, 3) := dk_199 0 7 (dk_at dksX1_lettersWritten_0 7 rfl rfl)
theorem dX1_lettersWritten_10 : decode cX1_lettersWritten 10 = .ok (.iconst 0, 1) := dk_3 (dk_at dksX1_lettersWritten_0 10 rfl rfl)
theorem dX1_lettersWritten_11 : decode cX1_lettersWritten 11 = .ok (.goto 7, 3) := dk_167 0 7 (dk_at dksX1_lettersWritten_0 11 rfl rfl)
theorem dX1_lettersWritten_14 : decode cX1_lettersWritten 14 = .ok (.aload_n 2, 1) := dk_44 (dk_at dksX1_lettersWritten_0 14 rfl rfl)
theorem dX1_lettersWritten_15 : decode cX1_lettersWritten 15 = .ok (.getfield 279, 3) := dk_180 1 23 (dk_at dksX1_lettersWritten_0 15 rfl rfl)
theorem dX1_lettersWritten_18 : decode cX1_lettersWritten 18 = .ok (.ireturn, 1) := dk_172 (dk_at dksX1_lettersWritten_0 18 rfl rfl)
abbrev cX1_inProgressOf : ByteArray := prog_1_method_39_code
def yX1_inProgressOf : MethodName := ⟨RX1, "inProgressOf", "(I)LHedgeMessages$Message;"⟩
def dkwX1_inProgressOf_0 : List UInt8 := [27, 184, 0, 243, 42, 180, 0, 22, 180, 1, 15, 27, 50, 176]
abbrev dktX1_inProgressOf_0 : List UInt8 := dkwX1_inProgressOf_0 ++ []
theorem dksX1_inProgressOf_0 : cX1_inProgressOf.data.toList.drop 0 = dktX1_inProgressOf_0 := by decide +kernel
theorem dX1_inProgressOf_0 : decode cX1_inProgressOf 0 = .ok (.iload_n 1, 1) := dk_27 (dk_at dksX1_inProgressOf_0 0 rfl rfl)
theorem dX1_inProgressOf_1 : decode cX1_inProgressOf 1 = .ok (.invokestatic 243, 3) := dk_184 0 243 (dk_at dksX1_inProgressOf_0 1 rfl rfl)
theorem dX1_inProgressOf_4 : decode cX1_inProgressOf 4 = .ok (.aload_n 0, 1) := dk_42 (dk_at dksX1_inProgressOf_0 4 rfl rfl)
theorem dX1_inProgressOf_5 : decode cX1_inProgressOf 5 = .ok (.getfield 22, 3) := dk_180 0 22 (dk_at dksX1_inProgressOf_0 5 rfl rfl)
theorem dX1_inProgressOf_8 : decode cX1_inProgressOf 8 = .ok (.getfield 271, 3) := dk_180 1 15 (dk_at dksX1_inProgressOf_0 8 rfl rfl)
theorem dX1_inProgressOf_11 : decode cX1_inProgressOf 11 = .ok (.iload_n 1, 1) := dk_27 (dk_at dksX1_inProgressOf_0 11 rfl rfl)
theorem dX1_inProgressOf_12 : decode cX1_inProgressOf 12 = .ok (.aaload, 1) := dk_50 (dk_at dksX1_inProgressOf_0 12 rfl rfl)
theorem dX1_inProgressOf_13 : decode cX1_inProgressOf 13 = .ok (.areturn, 1) := dk_176 (dk_at dksX1_inProgressOf_0 13 rfl rfl)
abbrev cX1_startSlot : ByteArray := prog_1_method_41_code
def yX1_startSlot : MethodName := ⟨RX1, "startSlot", "(I)I"⟩
def dkwX1_startSlot_0 : List UInt8 := [42, 27, 182, 1, 19, 77, 44, 199, 0, 7, 2, 167, 0, 7, 44, 180, 1, 26, 172]
abbrev dktX1_startSlot_0 : List UInt8 := dkwX1_startSlot_0 ++ []
theorem dksX1_startSlot_0 : cX1_startSlot.data.toList.drop 0 = dktX1_startSlot_0 := by decide +kernel
theorem dX1_startSlot_0 : decode cX1_startSlot 0 = .ok (.aload_n 0, 1) := dk_42 (dk_at dksX1_startSlot_0 0 rfl rfl)
theorem dX1_startSlot_1 : decode cX1_startSlot 1 = .ok (.iload_n 1, 1) := dk_27 (dk_at dksX1_startSlot_0 1 rfl rfl)
theorem dX1_startSlot_2 : decode cX1_startSlot 2 = .ok (.invokevirtual 275, 3) := dk_182 1 19 (dk_at dksX1_startSlot_0 2 rfl rfl)
theorem dX1_startSlot_5 : decode cX1_startSlot 5 = .ok (.astore_n 2, 1) := dk_77 (dk_at dksX1_startSlot_0 5 rfl rfl)
theorem dX1_startSlot_6 : decode cX1_startSlot 6 = .ok (.aload_n 2, 1) := dk_44 (dk_at dksX1_startSlot_0 6 rfl rfl)
theorem dX1_startSlot_7 : decode cX1_startSlot 7 = .ok (.ifnonnull 7, 3) := dk_199 0 7 (dk_at dksX1_startSlot_0 7 rfl rfl)
theorem dX1_startSlot_10 : decode cX1_startSlot 10 = .ok (.iconst (-1), 1) := dk_2 (dk_at dksX1_startSlot_0 10 rfl rfl)
theorem dX1_startSlot_11 : decode cX1_startSlot 11 = .ok (.goto 7, 3) := dk_167 0 7 (dk_at dksX1_startSlot_0 11 rfl rfl)
theorem dX1_startSlot_14 : decode cX1_startSlot 14 = .ok (.aload_n 2, 1) := dk_44 (dk_at dksX1_startSlot_0 14 rfl rfl)
theorem dX1_startSlot_15 : decode cX1_startSlot 15 = .ok (.getfield 282, 3) := dk_180 1 26 (dk_at dksX1_startSlot_0 15 rfl rfl)
theorem dX1_startSlot_18 : decode cX1_startSlot 18 = .ok (.ireturn, 1) := dk_172 (dk_at dksX1_startSlot_0 18 rfl rfl)
abbrev cX1_postedCount : ByteArray := prog_1_method_42_code
def yX1_postedCount : MethodName := ⟨RX1, "postedCount", "(I)I"⟩
def dkwX1_postedCount_0 : List UInt8 := [27, 184, 0, 243, 42, 180, 0, 22, 27, 182, 1, 29, 172]
abbrev dktX1_postedCount_0 : List UInt8 := dkwX1_postedCount_0 ++ []
theorem dksX1_postedCount_0 : cX1_postedCount.data.toList.drop 0 = dktX1_postedCount_0 := by decide +kernel
theorem dX1_postedCount_0 : decode cX1_postedCount 0 = .ok (.iload_n 1, 1) := dk_27 (dk_at dksX1_postedCount_0 0 rfl rfl)
theorem dX1_postedCount_1 : decode cX1_postedCount 1 = .ok (.invokestatic 243, 3) := dk_184 0 243 (dk_at dksX1_postedCount_0 1 rfl rfl)
theorem dX1_postedCount_4 : decode cX1_postedCount 4 = .ok (.aload_n 0, 1) := dk_42 (dk_at dksX1_postedCount_0 4 rfl rfl)
theorem dX1_postedCount_5 : decode cX1_postedCount 5 = .ok (.getfield 22, 3) := dk_180 0 22 (dk_at dksX1_postedCount_0 5 rfl rfl)
theorem dX1_postedCount_8 : decode cX1_postedCount 8 = .ok (.iload_n 1, 1) := dk_27 (dk_at dksX1_postedCount_0 8 rfl rfl)
theorem dX1_postedCount_9 : decode cX1_postedCount 9 = .ok (.invokevirtual 285, 3) := dk_182 1 29 (dk_at dksX1_postedCount_0 9 rfl rfl)
theorem dX1_postedCount_12 : decode cX1_postedCount 12 = .ok (.ireturn, 1) := dk_172 (dk_at dksX1_postedCount_0 12 rfl rfl)
abbrev cX1_nextStartSlot : ByteArray := prog_1_method_43_code
def yX1_nextStartSlot : MethodName := ⟨RX1, "nextStartSlot", "(I)I"⟩
def dkwX1_nextStartSlot_1 : List UInt8 := [3, 185, 0, 250, 2, 0, 192, 0, 68, 182, 1, 37, 182, 1, 38, 172]
abbrev dktX1_nextStartSlot_1 : List UInt8 := dkwX1_nextStartSlot_1 ++ []
def dkwX1_nextStartSlot_0 : List UInt8 := [42, 27, 182, 1, 0, 77, 44, 185, 1, 33, 1, 0, 153, 0, 7, 2, 167, 0, 23, 42, 180, 0, 22, 44]
abbrev dktX1_nextStartSlot_0 : List UInt8 := dkwX1_nextStartSlot_0 ++ dktX1_nextStartSlot_1
theorem dksX1_nextStartSlot_0 : cX1_nextStartSlot.data.toList.drop 0 = dktX1_nextStartSlot_0 := by decide +kernel
theorem dksX1_nextStartSlot_1 : cX1_nextStartSlot.data.toList.drop 24 = dktX1_nextStartSlot_1 := dk_seg dksX1_nextStartSlot_0 24 rfl rfl
theorem dX1_nextStartSlot_0 : decode cX1_nextStartSlot 0 = .ok (.aload_n 0, 1) := dk_42 (dk_at dksX1_nextStartSlot_0 0 rfl rfl)
theorem dX1_nextStartSlot_1 : decode cX1_nextStartSlot 1 = .ok (.iload_n 1, 1) := dk_27 (dk_at dksX1_nextStartSlot_0 1 rfl rfl)
theorem dX1_nextStartSlot_2 : decode cX1_nextStartSlot 2 = .ok (.invokevirtual 256, 3) := dk_182 1 0 (dk_at dksX1_nextStartSlot_0 2 rfl rfl)
theorem dX1_nextStartSlot_5 : decode cX1_nextStartSlot 5 = .ok (.astore_n 2, 1) := dk_77 (dk_at dksX1_nextStartSlot_0 5 rfl rfl)
theorem dX1_nextStartSlot_6 : decode cX1_nextStartSlot 6 = .ok (.aload_n 2, 1) := dk_44 (dk_at dksX1_nextStartSlot_0 6 rfl rfl)
theorem dX1_nextStartSlot_7 : decode cX1_nextStartSlot 7 = .ok (.invokeinterface 289 1, 5) := by decide +kernel
theorem dX1_nextStartSlot_12 : decode cX1_nextStartSlot 12 = .ok (.ifCond .eq 7, 3) := dk_153 0 7 (dk_at dksX1_nextStartSlot_0 12 rfl rfl)
theorem dX1_nextStartSlot_15 : decode cX1_nextStartSlot 15 = .ok (.iconst (-1), 1) := dk_2 (dk_at dksX1_nextStartSlot_0 15 rfl rfl)
theorem dX1_nextStartSlot_16 : decode cX1_nextStartSlot 16 = .ok (.goto 23, 3) := dk_167 0 23 (dk_at dksX1_nextStartSlot_0 16 rfl rfl)
theorem dX1_nextStartSlot_19 : decode cX1_nextStartSlot 19 = .ok (.aload_n 0, 1) := dk_42 (dk_at dksX1_nextStartSlot_0 19 rfl rfl)
theorem dX1_nextStartSlot_20 : decode cX1_nextStartSlot 20 = .ok (.getfield 22, 3) := dk_180 0 22 (dk_at dksX1_nextStartSlot_0 20 rfl rfl)
theorem dX1_nextStartSlot_23 : decode cX1_nextStartSlot 23 = .ok (.aload_n 2, 1) := dk_44 (dk_at dksX1_nextStartSlot_0 23 rfl rfl)
theorem dX1_nextStartSlot_24 : decode cX1_nextStartSlot 24 = .ok (.iconst 0, 1) := dk_3 (dk_at dksX1_nextStartSlot_1 0 rfl rfl)
theorem dX1_nextStartSlot_25 : decode cX1_nextStartSlot 25 = .ok (.invokeinterface 250 2, 5) := by decide +kernel
theorem dX1_nextStartSlot_30 : decode cX1_nextStartSlot 30 = .ok (.checkcast 68, 3) := dk_192 0 68 (dk_at dksX1_nextStartSlot_1 6 rfl rfl)
theorem dX1_nextStartSlot_33 : decode cX1_nextStartSlot 33 = .ok (.invokevirtual 293, 3) := dk_182 1 37 (dk_at dksX1_nextStartSlot_1 9 rfl rfl)
theorem dX1_nextStartSlot_36 : decode cX1_nextStartSlot 36 = .ok (.invokevirtual 294, 3) := dk_182 1 38 (dk_at dksX1_nextStartSlot_1 12 rfl rfl)
theorem dX1_nextStartSlot_39 : decode cX1_nextStartSlot 39 = .ok (.ireturn, 1) := dk_172 (dk_at dksX1_nextStartSlot_1 15 rfl rfl)
abbrev cX1_plantReason_2 : ByteArray := prog_1_method_50_code
def yX1_plantReason_2 : MethodName := ⟨RX1, "plantReason", "(I)I"⟩
def dkwX1_plantReason_2_0 : List UInt8 := [42, 180, 0, 22, 27, 184, 1, 84, 172]
abbrev dktX1_plantReason_2_0 : List UInt8 := dkwX1_plantReason_2_0 ++ []
theorem dksX1_plantReason_2_0 : cX1_plantReason_2.data.toList.drop 0 = dktX1_plantReason_2_0 := by decide +kernel
theorem dX1_plantReason_2_0 : decode cX1_plantReason_2 0 = .ok (.aload_n 0, 1) := dk_42 (dk_at dksX1_plantReason_2_0 0 rfl rfl)
theorem dX1_plantReason_2_1 : decode cX1_plantReason_2 1 = .ok (.getfield 22, 3) := dk_180 0 22 (dk_at dksX1_plantReason_2_0 1 rfl rfl)
theorem dX1_plantReason_2_4 : decode cX1_plantReason_2 4 = .ok (.iload_n 1, 1) := dk_27 (dk_at dksX1_plantReason_2_0 4 rfl rfl)
theorem dX1_plantReason_2_5 : decode cX1_plantReason_2 5 = .ok (.invokestatic 340, 3) := dk_184 1 84 (dk_at dksX1_plantReason_2_0 5 rfl rfl)
theorem dX1_plantReason_2_8 : decode cX1_plantReason_2 8 = .ok (.ireturn, 1) := dk_172 (dk_at dksX1_plantReason_2_0 8 rfl rfl)
abbrev cX1_removeReason_2 : ByteArray := prog_1_method_51_code
def yX1_removeReason_2 : MethodName := ⟨RX1, "removeReason", "(I)I"⟩
def dkwX1_removeReason_2_0 : List UInt8 := [42, 180, 0, 22, 27, 184, 1, 87, 172]
abbrev dktX1_removeReason_2_0 : List UInt8 := dkwX1_removeReason_2_0 ++ []
theorem dksX1_removeReason_2_0 : cX1_removeReason_2.data.toList.drop 0 = dktX1_removeReason_2_0 := by decide +kernel
theorem dX1_removeReason_2_0 : decode cX1_removeReason_2 0 = .ok (.aload_n 0, 1) := dk_42 (dk_at dksX1_removeReason_2_0 0 rfl rfl)
theorem dX1_removeReason_2_1 : decode cX1_removeReason_2 1 = .ok (.getfield 22, 3) := dk_180 0 22 (dk_at dksX1_removeReason_2_0 1 rfl rfl)
theorem dX1_removeReason_2_4 : decode cX1_removeReason_2 4 = .ok (.iload_n 1, 1) := dk_27 (dk_at dksX1_removeReason_2_0 4 rfl rfl)
theorem dX1_removeReason_2_5 : decode cX1_removeReason_2 5 = .ok (.invokestatic 343, 3) := dk_184 1 87 (dk_at dksX1_removeReason_2_0 5 rfl rfl)
theorem dX1_removeReason_2_8 : decode cX1_removeReason_2 8 = .ok (.ireturn, 1) := dk_172 (dk_at dksX1_removeReason_2_0 8 rfl rfl)
abbrev cX1_trimReason_2 : ByteArray := prog_1_method_52_code
def yX1_trimReason_2 : MethodName := ⟨RX1, "trimReason", "(I)I"⟩
def dkwX1_trimReason_2_0 : List UInt8 := [42, 180, 0, 22, 27, 184, 1, 90, 172]
abbrev dktX1_trimReason_2_0 : List UInt8 := dkwX1_trimReason_2_0 ++ []
theorem dksX1_trimReason_2_0 : cX1_trimReason_2.data.toList.drop 0 = dktX1_trimReason_2_0 := by decide +kernel
theorem dX1_trimReason_2_0 : decode cX1_trimReason_2 0 = .ok (.aload_n 0, 1) := dk_42 (dk_at dksX1_trimReason_2_0 0 rfl rfl)
theorem dX1_trimReason_2_1 : decode cX1_trimReason_2 1 = .ok (.getfield 22, 3) := dk_180 0 22 (dk_at dksX1_trimReason_2_0 1 rfl rfl)
theorem dX1_trimReason_2_4 : decode cX1_trimReason_2 4 = .ok (.iload_n 1, 1) := dk_27 (dk_at dksX1_trimReason_2_0 4 rfl rfl)
theorem dX1_trimReason_2_5 : decode cX1_trimReason_2 5 = .ok (.invokestatic 346, 3) := dk_184 1 90 (dk_at dksX1_trimReason_2_0 5 rfl rfl)
theorem dX1_trimReason_2_8 : decode cX1_trimReason_2 8 = .ok (.ireturn, 1) := dk_172 (dk_at dksX1_trimReason_2_0 8 rfl rfl)
abbrev cX1_writeReason : ByteArray := prog_1_method_53_code
def yX1_writeReason : MethodName := ⟨RX1, "writeReason", "(I)I"⟩
def dkwX1_writeReason_3 : List UInt8 := [16, 11, 172, 42, 27, 182, 1, 93, 2, 160, 0, 8, 16, 12, 167, 0, 4, 3, 172]
abbrev dktX1_writeReason_3 : List UInt8 := dkwX1_writeReason_3 ++ []
def dkwX1_writeReason_2 : List UInt8 := [180, 0, 22, 180, 0, 246, 27, 185, 0, 250, 2, 0, 192, 0, 251, 185, 1, 33, 1, 0, 153, 0, 6]
abbrev dktX1_writeReason_2 : List UInt8 := dkwX1_writeReason_2 ++ dktX1_writeReason_3
def dkwX1_writeReason_1 : List UInt8 := [180, 0, 199, 154, 0, 5, 4, 172, 42, 180, 0, 22, 180, 1, 15, 27, 50, 198, 0, 5, 3, 172, 42]
abbrev dktX1_writeReason_1 : List UInt8 := dkwX1_writeReason_1 ++ dktX1_writeReason_2
def dkwX1_writeReason_0 : List UInt8 := [27, 184, 0, 243, 27, 42, 180, 0, 22, 182, 0, 193, 159, 0, 6, 16, 13, 172, 42, 180, 0, 22]
abbrev dktX1_writeReason_0 : List UInt8 := dkwX1_writeReason_0 ++ dktX1_writeReason_1
theorem dksX1_writeReason_0 : cX1_writeReason.data.toList.drop 0 = dktX1_writeReason_0 := by decide +kernel
theorem dksX1_writeReason_1 : cX1_writeReason.data.toList.drop 22 = dktX1_writeReason_1 := dk_seg dksX1_writeReason_0 22 rfl rfl
theorem dksX1_writeReason_2 : cX1_writeReason.data.toList.drop 45 = dktX1_writeReason_2 := dk_seg dksX1_writeReason_1 23 rfl rfl
theorem dksX1_writeReason_3 : cX1_writeReason.data.toList.drop 68 = dktX1_writeReason_3 := dk_seg dksX1_writeReason_2 23 rfl rfl
theorem dX1_writeReason_0 : decode cX1_writeReason 0 = .ok (.iload_n 1, 1) := dk_27 (dk_at dksX1_writeReason_0 0 rfl rfl)
theorem dX1_writeReason_1 : decode cX1_writeReason 1 = .ok (.invokestatic 243, 3) := dk_184 0 243 (dk_at dksX1_writeReason_0 1 rfl rfl)
theorem dX1_writeReason_4 : decode cX1_writeReason 4 = .ok (.iload_n 1, 1) := dk_27 (dk_at dksX1_writeReason_0 4 rfl rfl)
theorem dX1_writeReason_5 : decode cX1_writeReason 5 = .ok (.aload_n 0, 1) := dk_42 (dk_at dksX1_writeReason_0 5 rfl rfl)
theorem dX1_writeReason_6 : decode cX1_writeReason 6 = .ok (.getfield 22, 3) := dk_180 0 22 (dk_at dksX1_writeReason_0 6 rfl rfl)
theorem dX1_writeReason_9 : decode cX1_writeReason 9 = .ok (.invokevirtual 193, 3) := dk_182 0 193 (dk_at dksX1_writeReason_0 9 rfl rfl)
theorem dX1_writeReason_12 : decode cX1_writeReason 12 = .ok (.if_icmp .eq 6, 3) := dk_159 0 6 (dk_at dksX1_writeReason_0 12 rfl rfl)
theorem dX1_writeReason_15 : decode cX1_writeReason 15 = .ok (.bipush 13, 2) := dk_16 13 (dk_at dksX1_writeReason_0 15 rfl rfl)
theorem dX1_writeReason_17 : decode cX1_writeReason 17 = .ok (.ireturn, 1) := dk_172 (dk_at dksX1_writeReason_0 17 rfl rfl)
theorem dX1_writeReason_18 : decode cX1_writeReason 18 = .ok (.aload_n 0, 1) := dk_42 (dk_at dksX1_writeReason_0 18 rfl rfl)
theorem dX1_writeReason_19 : decode cX1_writeReason 19 = .ok (.getfield 22, 3) := dk_180 0 22 (dk_at dksX1_writeReason_0 19 rfl rfl)
theorem dX1_writeReason_22 : decode cX1_writeReason 22 = .ok (.getfield 199, 3) := dk_180 0 199 (dk_at dksX1_writeReason_1 0 rfl rfl)
theorem dX1_writeReason_25 : decode cX1_writeReason 25 = .ok (.ifCond .ne 5, 3) := dk_154 0 5 (dk_at dksX1_writeReason_1 3 rfl rfl)
theorem dX1_writeReason_28 : decode cX1_writeReason 28 = .ok (.iconst 1, 1) := dk_4 (dk_at dksX1_writeReason_1 6 rfl rfl)
theorem dX1_writeReason_29 : decode cX1_writeReason 29 = .ok (.ireturn, 1) := dk_172 (dk_at dksX1_writeReason_1 7 rfl rfl)
theorem dX1_writeReason_30 : decode cX1_writeReason 30 = .ok (.aload_n 0, 1) := dk_42 (dk_at dksX1_writeReason_1 8 rfl rfl)
theorem dX1_writeReason_31 : decode cX1_writeReason 31 = .ok (.getfield 22, 3) := dk_180 0 22 (dk_at dksX1_writeReason_1 9 rfl rfl)
theorem dX1_writeReason_34 : decode cX1_writeReason 34 = .ok (.getfield 271, 3) := dk_180 1 15 (dk_at dksX1_writeReason_1 12 rfl rfl)
theorem dX1_writeReason_37 : decode cX1_writeReason 37 = .ok (.iload_n 1, 1) := dk_27 (dk_at dksX1_writeReason_1 15 rfl rfl)
theorem dX1_writeReason_38 : decode cX1_writeReason 38 = .ok (.aaload, 1) := dk_50 (dk_at dksX1_writeReason_1 16 rfl rfl)
theorem dX1_writeReason_39 : decode cX1_writeReason 39 = .ok (.ifnull 5, 3) := dk_198 0 5 (dk_at dksX1_writeReason_1 17 rfl rfl)
theorem dX1_writeReason_42 : decode cX1_writeReason 42 = .ok (.iconst 0, 1) := dk_3 (dk_at dksX1_writeReason_1 20 rfl rfl)
theorem dX1_writeReason_43 : decode cX1_writeReason 43 = .ok (.ireturn, 1) := dk_172 (dk_at dksX1_writeReason_1 21 rfl rfl)
theorem dX1_writeReason_44 : decode cX1_writeReason 44 = .ok (.aload_n 0, 1) := dk_42 (dk_at dksX1_writeReason_1 22 rfl rfl)
theorem dX1_writeReason_45 : decode cX1_writeReason 45 = .ok (.getfield 22, 3) := dk_180 0 22 (dk_at dksX1_writeReason_2 0 rfl rfl)
theorem dX1_writeReason_48 : decode cX1_writeReason 48 = .ok (.getfield 246, 3) := dk_180 0 246 (dk_at dksX1_writeReason_2 3 rfl rfl)
theorem dX1_writeReason_51 : decode cX1_writeReason 51 = .ok (.iload_n 1, 1) := dk_27 (dk_at dksX1_writeReason_2 6 rfl rfl)
theorem dX1_writeReason_52 : decode cX1_writeReason 52 = .ok (.invokeinterface 250 2, 5) := by decide +kernel
theorem dX1_writeReason_57 : decode cX1_writeReason 57 = .ok (.checkcast 251, 3) := dk_192 0 251 (dk_at dksX1_writeReason_2 12 rfl rfl)
theorem dX1_writeReason_60 : decode cX1_writeReason 60 = .ok (.invokeinterface 289 1, 5) := by decide +kernel
theorem dX1_writeReason_65 : decode cX1_writeReason 65 = .ok (.ifCond .eq 6, 3) := dk_153 0 6 (dk_at dksX1_writeReason_2 20 rfl rfl)
theorem dX1_writeReason_68 : decode cX1_writeReason 68 = .ok (.bipush 11, 2) := dk_16 11 (dk_at dksX1_writeReason_3 0 rfl rfl)
theorem dX1_writeReason_70 : decode cX1_writeReason 70 = .ok (.ireturn, 1) := dk_172 (dk_at dksX1_writeReason_3 2 rfl rfl)
theorem dX1_writeReason_71 : decode cX1_writeReason 71 = .ok (.aload_n 0, 1) := dk_42 (dk_at dksX1_writeReason_3 3 rfl rfl)
theorem dX1_writeReason_72 : decode cX1_writeReason 72 = .ok (.iload_n 1, 1) := dk_27 (dk_at dksX1_writeReason_3 4 rfl rfl)
theorem dX1_writeReason_73 : decode cX1_writeReason 73 = .ok (.invokevirtual 349, 3) := dk_182 1 93 (dk_at dksX1_writeReason_3 5 rfl rfl)
theorem dX1_writeReason_76 : decode cX1_writeReason 76 = .ok (.iconst (-1), 1) := dk_2 (dk_at dksX1_writeReason_3 8 rfl rfl)
theorem dX1_writeReason_77 : decode cX1_writeReason 77 = .ok (.if_icmp .ne 8, 3) := dk_160 0 8 (dk_at dksX1_writeReason_3 9 rfl rfl)
theorem dX1_writeReason_80 : decode cX1_writeReason 80 = .ok (.bipush 12, 2) := dk_16 12 (dk_at dksX1_writeReason_3 12 rfl rfl)
theorem dX1_writeReason_82 : decode cX1_writeReason 82 = .ok (.goto 4, 3) := dk_167 0 4 (dk_at dksX1_writeReason_3 14 rfl rfl)
theorem dX1_writeReason_85 : decode cX1_writeReason 85 = .ok (.iconst 0, 1) := dk_3 (dk_at dksX1_writeReason_3 17 rfl rfl)
theorem dX1_writeReason_86 : decode cX1_writeReason 86 = .ok (.ireturn, 1) := dk_172 (dk_at dksX1_writeReason_3 18 rfl rfl)
abbrev cX1_keepReason : ByteArray := prog_1_method_54_code
def yX1_keepReason : MethodName := ⟨RX1, "keepReason", "(I)I"⟩
def dkwX1_keepReason_1 : List UInt8 := [163, 0, 6, 16, 14, 172, 42, 180, 0, 22, 27, 182, 0, 237, 153, 0, 8, 16, 8, 167, 0, 4, 3, 172]
abbrev dktX1_keepReason_1 : List UInt8 := dkwX1_keepReason_1 ++ []
def dkwX1_keepReason_0 : List UInt8 := [42, 27, 182, 0, 220, 77, 44, 199, 0, 5, 8, 172, 44, 180, 0, 231, 42, 180, 0, 22, 180, 1, 96]
abbrev dktX1_keepReason_0 : List UInt8 := dkwX1_keepReason_0 ++ dktX1_keepReason_1
theorem dksX1_keepReason_0 : cX1_keepReason.data.toList.drop 0 = dktX1_keepReason_0 := by decide +kernel
theorem dksX1_keepReason_1 : cX1_keepReason.data.toList.drop 23 = dktX1_keepReason_1 := dk_seg dksX1_keepReason_0 23 rfl rfl
theorem dX1_keepReason_0 : decode cX1_keepReason 0 = .ok (.aload_n 0, 1) := dk_42 (dk_at dksX1_keepReason_0 0 rfl rfl)
theorem dX1_keepReason_1 : decode cX1_keepReason 1 = .ok (.iload_n 1, 1) := dk_27 (dk_at dksX1_keepReason_0 1 rfl rfl)
theorem dX1_keepReason_2 : decode cX1_keepReason 2 = .ok (.invokevirtual 220, 3) := dk_182 0 220 (dk_at dksX1_keepReason_0 2 rfl rfl)
theorem dX1_keepReason_5 : decode cX1_keepReason 5 = .ok (.astore_n 2, 1) := dk_77 (dk_at dksX1_keepReason_0 5 rfl rfl)
theorem dX1_keepReason_6 : decode cX1_keepReason 6 = .ok (.aload_n 2, 1) := dk_44 (dk_at dksX1_keepReason_0 6 rfl rfl)
theorem dX1_keepReason_7 : decode cX1_keepReason 7 = .ok (.ifnonnull 5, 3) := dk_199 0 5 (dk_at dksX1_keepReason_0 7 rfl rfl)
theorem dX1_keepReason_10 : decode cX1_keepReason 10 = .ok (.iconst 5, 1) := dk_8 (dk_at dksX1_keepReason_0 10 rfl rfl)
theorem dX1_keepReason_11 : decode cX1_keepReason 11 = .ok (.ireturn, 1) := dk_172 (dk_at dksX1_keepReason_0 11 rfl rfl)
theorem dX1_keepReason_12 : decode cX1_keepReason 12 = .ok (.aload_n 2, 1) := dk_44 (dk_at dksX1_keepReason_0 12 rfl rfl)
theorem dX1_keepReason_13 : decode cX1_keepReason 13 = .ok (.getfield 231, 3) := dk_180 0 231 (dk_at dksX1_keepReason_0 13 rfl rfl)
theorem dX1_keepReason_16 : decode cX1_keepReason 16 = .ok (.aload_n 0, 1) := dk_42 (dk_at dksX1_keepReason_0 16 rfl rfl)
theorem dX1_keepReason_17 : decode cX1_keepReason 17 = .ok (.getfield 22, 3) := dk_180 0 22 (dk_at dksX1_keepReason_0 17 rfl rfl)
theorem dX1_keepReason_20 : decode cX1_keepReason 20 = .ok (.getfield 352, 3) := dk_180 1 96 (dk_at dksX1_keepReason_0 20 rfl rfl)
theorem dX1_keepReason_23 : decode cX1_keepReason 23 = .ok (.if_icmp .gt 6, 3) := dk_163 0 6 (dk_at dksX1_keepReason_1 0 rfl rfl)
theorem dX1_keepReason_26 : decode cX1_keepReason 26 = .ok (.bipush 14, 2) := dk_16 14 (dk_at dksX1_keepReason_1 3 rfl rfl)
theorem dX1_keepReason_28 : decode cX1_keepReason 28 = .ok (.ireturn, 1) := dk_172 (dk_at dksX1_keepReason_1 5 rfl rfl)
theorem dX1_keepReason_29 : decode cX1_keepReason 29 = .ok (.aload_n 0, 1) := dk_42 (dk_at dksX1_keepReason_1 6 rfl rfl)
theorem dX1_keepReason_30 : decode cX1_keepReason 30 = .ok (.getfield 22, 3) := dk_180 0 22 (dk_at dksX1_keepReason_1 7 rfl rfl)
theorem dX1_keepReason_33 : decode cX1_keepReason 33 = .ok (.iload_n 1, 1) := dk_27 (dk_at dksX1_keepReason_1 10 rfl rfl)
theorem dX1_keepReason_34 : decode cX1_keepReason 34 = .ok (.invokevirtual 237, 3) := dk_182 0 237 (dk_at dksX1_keepReason_1 11 rfl rfl)
theorem dX1_keepReason_37 : decode cX1_keepReason 37 = .ok (.ifCond .eq 8, 3) := dk_153 0 8 (dk_at dksX1_keepReason_1 14 rfl rfl)
theorem dX1_keepReason_40 : decode cX1_keepReason 40 = .ok (.bipush 8, 2) := dk_16 8 (dk_at dksX1_keepReason_1 17 rfl rfl)
theorem dX1_keepReason_42 : decode cX1_keepReason 42 = .ok (.goto 4, 3) := dk_167 0 4 (dk_at dksX1_keepReason_1 19 rfl rfl)
theorem dX1_keepReason_45 : decode cX1_keepReason 45 = .ok (.iconst 0, 1) := dk_3 (dk_at dksX1_keepReason_1 22 rfl rfl)
theorem dX1_keepReason_46 : decode cX1_keepReason 46 = .ok (.ireturn, 1) := dk_172 (dk_at dksX1_keepReason_1 23 rfl rfl)
abbrev cX1_daysUntilPruned : ByteArray := prog_1_method_56_code
def yX1_daysUntilPruned : MethodName := ⟨RX1, "daysUntilPruned", "(I)I"⟩
def dkwX1_daysUntilPruned_1 : List UInt8 := [44, 180, 0, 216, 27, 50, 199, 0, 5, 29, 172, 44, 182, 1, 102, 132, 3, 1, 167, 255, 232, 2, 172]
abbrev dktX1_daysUntilPruned_1 : List UInt8 := dkwX1_daysUntilPruned_1 ++ []
def dkwX1_daysUntilPruned_0 : List UInt8 := [42, 180, 0, 22, 27, 184, 0, 212, 42, 180, 0, 22, 182, 0, 83, 77, 3, 62, 29, 16, 60, 163, 0, 24]
abbrev dktX1_daysUntilPruned_0 : List UInt8 := dkwX1_daysUntilPruned_0 ++ dktX1_daysUntilPruned_1
theorem dksX1_daysUntilPruned_0 : cX1_daysUntilPruned.data.toList.drop 0 = dktX1_daysUntilPruned_0 := by decide +kernel
theorem dksX1_daysUntilPruned_1 : cX1_daysUntilPruned.data.toList.drop 24 = dktX1_daysUntilPruned_1 := dk_seg dksX1_daysUntilPruned_0 24 rfl rfl
theorem dX1_daysUntilPruned_0 : decode cX1_daysUntilPruned 0 = .ok (.aload_n 0, 1) := dk_42 (dk_at dksX1_daysUntilPruned_0 0 rfl rfl)
theorem dX1_daysUntilPruned_1 : decode cX1_daysUntilPruned 1 = .ok (.getfield 22, 3) := dk_180 0 22 (dk_at dksX1_daysUntilPruned_0 1 rfl rfl)
theorem dX1_daysUntilPruned_4 : decode cX1_daysUntilPruned 4 = .ok (.iload_n 1, 1) := dk_27 (dk_at dksX1_daysUntilPruned_0 4 rfl rfl)
theorem dX1_daysUntilPruned_5 : decode cX1_daysUntilPruned 5 = .ok (.invokestatic 212, 3) := dk_184 0 212 (dk_at dksX1_daysUntilPruned_0 5 rfl rfl)
theorem dX1_daysUntilPruned_8 : decode cX1_daysUntilPruned 8 = .ok (.aload_n 0, 1) := dk_42 (dk_at dksX1_daysUntilPruned_0 8 rfl rfl)
theorem dX1_daysUntilPruned_9 : decode cX1_daysUntilPruned 9 = .ok (.getfield 22, 3) := dk_180 0 22 (dk_at dksX1_daysUntilPruned_0 9 rfl rfl)
theorem dX1_daysUntilPruned_12 : decode cX1_daysUntilPruned 12 = .ok (.invokevirtual 83, 3) := dk_182 0 83 (dk_at dksX1_daysUntilPruned_0 12 rfl rfl)
theorem dX1_daysUntilPruned_15 : decode cX1_daysUntilPruned 15 = .ok (.astore_n 2, 1) := dk_77 (dk_at dksX1_daysUntilPruned_0 15 rfl rfl)
theorem dX1_daysUntilPruned_16 : decode cX1_daysUntilPruned 16 = .ok (.iconst 0, 1) := dk_3 (dk_at dksX1_daysUntilPruned_0 16 rfl rfl)
theorem dX1_daysUntilPruned_17 : decode cX1_daysUntilPruned 17 = .ok (.istore_n 3, 1) := dk_62 (dk_at dksX1_daysUntilPruned_0 17 rfl rfl)
theorem dX1_daysUntilPruned_18 : decode cX1_daysUntilPruned 18 = .ok (.iload_n 3, 1) := dk_29 (dk_at dksX1_daysUntilPruned_0 18 rfl rfl)
theorem dX1_daysUntilPruned_19 : decode cX1_daysUntilPruned 19 = .ok (.bipush 60, 2) := dk_16 60 (dk_at dksX1_daysUntilPruned_0 19 rfl rfl)
theorem dX1_daysUntilPruned_21 : decode cX1_daysUntilPruned 21 = .ok (.if_icmp .gt 24, 3) := dk_163 0 24 (dk_at dksX1_daysUntilPruned_0 21 rfl rfl)
theorem dX1_daysUntilPruned_24 : decode cX1_daysUntilPruned 24 = .ok (.aload_n 2, 1) := dk_44 (dk_at dksX1_daysUntilPruned_1 0 rfl rfl)
theorem dX1_daysUntilPruned_25 : decode cX1_daysUntilPruned 25 = .ok (.getfield 216, 3) := dk_180 0 216 (dk_at dksX1_daysUntilPruned_1 1 rfl rfl)
theorem dX1_daysUntilPruned_28 : decode cX1_daysUntilPruned 28 = .ok (.iload_n 1, 1) := dk_27 (dk_at dksX1_daysUntilPruned_1 4 rfl rfl)
theorem dX1_daysUntilPruned_29 : decode cX1_daysUntilPruned 29 = .ok (.aaload, 1) := dk_50 (dk_at dksX1_daysUntilPruned_1 5 rfl rfl)
theorem dX1_daysUntilPruned_30 : decode cX1_daysUntilPruned 30 = .ok (.ifnonnull 5, 3) := dk_199 0 5 (dk_at dksX1_daysUntilPruned_1 6 rfl rfl)
theorem dX1_daysUntilPruned_33 : decode cX1_daysUntilPruned 33 = .ok (.iload_n 3, 1) := dk_29 (dk_at dksX1_daysUntilPruned_1 9 rfl rfl)
theorem dX1_daysUntilPruned_34 : decode cX1_daysUntilPruned 34 = .ok (.ireturn, 1) := dk_172 (dk_at dksX1_daysUntilPruned_1 10 rfl rfl)
theorem dX1_daysUntilPruned_35 : decode cX1_daysUntilPruned 35 = .ok (.aload_n 2, 1) := dk_44 (dk_at dksX1_daysUntilPruned_1 11 rfl rfl)
theorem dX1_daysUntilPruned_36 : decode cX1_daysUntilPruned 36 = .ok (.invokevirtual 358, 3) := dk_182 1 102 (dk_at dksX1_daysUntilPruned_1 12 rfl rfl)
theorem dX1_daysUntilPruned_39 : decode cX1_daysUntilPruned 39 = .ok (.iinc 3 1, 3) := dk_132 3 1 (dk_at dksX1_daysUntilPruned_1 15 rfl rfl)
theorem dX1_daysUntilPruned_42 : decode cX1_daysUntilPruned 42 = .ok (.goto (-24), 3) := dk_167 255 232 (dk_at dksX1_daysUntilPruned_1 18 rfl rfl)
theorem dX1_daysUntilPruned_45 : decode cX1_daysUntilPruned 45 = .ok (.iconst (-1), 1) := dk_2 (dk_at dksX1_daysUntilPruned_1 21 rfl rfl)
theorem dX1_daysUntilPruned_46 : decode cX1_daysUntilPruned 46 = .ok (.ireturn, 1) := dk_172 (dk_at dksX1_daysUntilPruned_1 22 rfl rfl)
abbrev cX1_deliveredAfter : ByteArray := prog_1_method_58_code
def yX1_deliveredAfter : MethodName := ⟨RX1, "deliveredAfter", "(II)I"⟩
def dkwX1_deliveredAfter_1 : List UInt8 := [180, 0, 22, 180, 1, 115, 27, 50, 182, 1, 119, 100, 172]
abbrev dktX1_deliveredAfter_1 : List UInt8 := dkwX1_deliveredAfter_1 ++ []
def dkwX1_deliveredAfter_0 : List UInt8 := [42, 27, 28, 3, 182, 1, 107, 28, 182, 1, 111, 78, 45, 180, 1, 115, 27, 50, 182, 1, 119, 42]
abbrev dktX1_deliveredAfter_0 : List UInt8 := dkwX1_deliveredAfter_0 ++ dktX1_deliveredAfter_1
theorem dksX1_deliveredAfter_0 : cX1_deliveredAfter.data.toList.drop 0 = dktX1_deliveredAfter_0 := by decide +kernel
theorem dksX1_deliveredAfter_1 : cX1_deliveredAfter.data.toList.drop 22 = dktX1_deliveredAfter_1 := dk_seg dksX1_deliveredAfter_0 22 rfl rfl
theorem dX1_deliveredAfter_0 : decode cX1_deliveredAfter 0 = .ok (.aload_n 0, 1) := dk_42 (dk_at dksX1_deliveredAfter_0 0 rfl rfl)
theorem dX1_deliveredAfter_1 : decode cX1_deliveredAfter 1 = .ok (.iload_n 1, 1) := dk_27 (dk_at dksX1_deliveredAfter_0 1 rfl rfl)
theorem dX1_deliveredAfter_2 : decode cX1_deliveredAfter 2 = .ok (.iload_n 2, 1) := dk_28 (dk_at dksX1_deliveredAfter_0 2 rfl rfl)
theorem dX1_deliveredAfter_3 : decode cX1_deliveredAfter 3 = .ok (.iconst 0, 1) := dk_3 (dk_at dksX1_deliveredAfter_0 3 rfl rfl)
theorem dX1_deliveredAfter_4 : decode cX1_deliveredAfter 4 = .ok (.invokevirtual 363, 3) := dk_182 1 107 (dk_at dksX1_deliveredAfter_0 4 rfl rfl)
theorem dX1_deliveredAfter_7 : decode cX1_deliveredAfter 7 = .ok (.iload_n 2, 1) := dk_28 (dk_at dksX1_deliveredAfter_0 7 rfl rfl)
theorem dX1_deliveredAfter_8 : decode cX1_deliveredAfter 8 = .ok (.invokevirtual 367, 3) := dk_182 1 111 (dk_at dksX1_deliveredAfter_0 8 rfl rfl)
theorem dX1_deliveredAfter_11 : decode cX1_deliveredAfter 11 = .ok (.astore_n 3, 1) := dk_78 (dk_at dksX1_deliveredAfter_0 11 rfl rfl)
theorem dX1_deliveredAfter_12 : decode cX1_deliveredAfter 12 = .ok (.aload_n 3, 1) := dk_45 (dk_at dksX1_deliveredAfter_0 12 rfl rfl)
theorem dX1_deliveredAfter_13 : decode cX1_deliveredAfter 13 = .ok (.getfield 371, 3) := dk_180 1 115 (dk_at dksX1_deliveredAfter_0 13 rfl rfl)
theorem dX1_deliveredAfter_16 : decode cX1_deliveredAfter 16 = .ok (.iload_n 1, 1) := dk_27 (dk_at dksX1_deliveredAfter_0 16 rfl rfl)
theorem dX1_deliveredAfter_17 : decode cX1_deliveredAfter 17 = .ok (.aaload, 1) := dk_50 (dk_at dksX1_deliveredAfter_0 17 rfl rfl)
theorem dX1_deliveredAfter_18 : decode cX1_deliveredAfter 18 = .ok (.invokevirtual 375, 3) := dk_182 1 119 (dk_at dksX1_deliveredAfter_0 18 rfl rfl)
theorem dX1_deliveredAfter_21 : decode cX1_deliveredAfter 21 = .ok (.aload_n 0, 1) := dk_42 (dk_at dksX1_deliveredAfter_0 21 rfl rfl)
theorem dX1_deliveredAfter_22 : decode cX1_deliveredAfter 22 = .ok (.getfield 22, 3) := dk_180 0 22 (dk_at dksX1_deliveredAfter_1 0 rfl rfl)
theorem dX1_deliveredAfter_25 : decode cX1_deliveredAfter 25 = .ok (.getfield 371, 3) := dk_180 1 115 (dk_at dksX1_deliveredAfter_1 3 rfl rfl)
theorem dX1_deliveredAfter_28 : decode cX1_deliveredAfter 28 = .ok (.iload_n 1, 1) := dk_27 (dk_at dksX1_deliveredAfter_1 6 rfl rfl)
theorem dX1_deliveredAfter_29 : decode cX1_deliveredAfter 29 = .ok (.aaload, 1) := dk_50 (dk_at dksX1_deliveredAfter_1 7 rfl rfl)
theorem dX1_deliveredAfter_30 : decode cX1_deliveredAfter 30 = .ok (.invokevirtual 375, 3) := dk_182 1 119 (dk_at dksX1_deliveredAfter_1 8 rfl rfl)
theorem dX1_deliveredAfter_33 : decode cX1_deliveredAfter 33 = .ok (.isub, 1) := dk_100 (dk_at dksX1_deliveredAfter_1 11 rfl rfl)
theorem dX1_deliveredAfter_34 : decode cX1_deliveredAfter 34 = .ok (.ireturn, 1) := dk_172 (dk_at dksX1_deliveredAfter_1 12 rfl rfl)
abbrev cX1_simulate : ByteArray := prog_1_method_57_code
def yX1_simulate : MethodName := ⟨RX1, "simulate", "(III)LHedgeMessages$State;"⟩
def dkwX1_simulate_1 : List UInt8 := [167, 0, 4, 3, 184, 0, 123, 42, 180, 0, 22, 182, 0, 83, 176]
abbrev dktX1_simulate_1 : List UInt8 := dkwX1_simulate_1 ++ []
def dkwX1_simulate_0 : List UInt8 := [27, 133, 9, 10, 184, 0, 119, 153, 0, 20, 28, 133, 29, 133, 20, 1, 105, 184, 0, 119, 153, 0, 7, 4]
abbrev dktX1_simulate_0 : List UInt8 := dkwX1_simulate_0 ++ dktX1_simulate_1
theorem dksX1_simulate_0 : cX1_simulate.data.toList.drop 0 = dktX1_simulate_0 := by decide +kernel
theorem dksX1_simulate_1 : cX1_simulate.data.toList.drop 24 = dktX1_simulate_1 := dk_seg dksX1_simulate_0 24 rfl rfl
theorem dX1_simulate_0 : decode cX1_simulate 0 = .ok (.iload_n 1, 1) := dk_27 (dk_at dksX1_simulate_0 0 rfl rfl)
theorem dX1_simulate_1 : decode cX1_simulate 1 = .ok (.i2l, 1) := dk_133 (dk_at dksX1_simulate_0 1 rfl rfl)
theorem dX1_simulate_2 : decode cX1_simulate 2 = .ok (.lconst 0, 1) := dk_9 (dk_at dksX1_simulate_0 2 rfl rfl)
theorem dX1_simulate_3 : decode cX1_simulate 3 = .ok (.lconst 1, 1) := dk_10 (dk_at dksX1_simulate_0 3 rfl rfl)
theorem dX1_simulate_4 : decode cX1_simulate 4 = .ok (.invokestatic 119, 3) := dk_184 0 119 (dk_at dksX1_simulate_0 4 rfl rfl)
theorem dX1_simulate_7 : decode cX1_simulate 7 = .ok (.ifCond .eq 20, 3) := dk_153 0 20 (dk_at dksX1_simulate_0 7 rfl rfl)
theorem dX1_simulate_10 : decode cX1_simulate 10 = .ok (.iload_n 2, 1) := dk_28 (dk_at dksX1_simulate_0 10 rfl rfl)
theorem dX1_simulate_11 : decode cX1_simulate 11 = .ok (.i2l, 1) := dk_133 (dk_at dksX1_simulate_0 11 rfl rfl)
theorem dX1_simulate_12 : decode cX1_simulate 12 = .ok (.iload_n 3, 1) := dk_29 (dk_at dksX1_simulate_0 12 rfl rfl)
theorem dX1_simulate_13 : decode cX1_simulate 13 = .ok (.i2l, 1) := dk_133 (dk_at dksX1_simulate_0 13 rfl rfl)
theorem dX1_simulate_14 : decode cX1_simulate 14 = .ok (.ldc2_w 361, 3) := dk_20 1 105 (dk_at dksX1_simulate_0 14 rfl rfl)
theorem dX1_simulate_17 : decode cX1_simulate 17 = .ok (.invokestatic 119, 3) := dk_184 0 119 (dk_at dksX1_simulate_0 17 rfl rfl)
theorem dX1_simulate_20 : decode cX1_simulate 20 = .ok (.ifCond .eq 7, 3) := dk_153 0 7 (dk_at dksX1_simulate_0 20 rfl rfl)
theorem dX1_simulate_23 : decode cX1_simulate 23 = .ok (.iconst 1, 1) := dk_4 (dk_at dksX1_simulate_0 23 rfl rfl)
theorem dX1_simulate_24 : decode cX1_simulate 24 = .ok (.goto 4, 3) := dk_167 0 4 (dk_at dksX1_simulate_1 0 rfl rfl)
theorem dX1_simulate_27 : decode cX1_simulate 27 = .ok (.iconst 0, 1) := dk_3 (dk_at dksX1_simulate_1 3 rfl rfl)
theorem dX1_simulate_28 : decode cX1_simulate 28 = .ok (.invokestatic 123, 3) := dk_184 0 123 (dk_at dksX1_simulate_1 4 rfl rfl)
theorem dX1_simulate_31 : decode cX1_simulate 31 = .ok (.aload_n 0, 1) := dk_42 (dk_at dksX1_simulate_1 7 rfl rfl)
theorem dX1_simulate_32 : decode cX1_simulate 32 = .ok (.getfield 22, 3) := dk_180 0 22 (dk_at dksX1_simulate_1 8 rfl rfl)
theorem dX1_simulate_35 : decode cX1_simulate 35 = .ok (.invokevirtual 83, 3) := dk_182 0 83 (dk_at dksX1_simulate_1 11 rfl rfl)
theorem dX1_simulate_38 : decode cX1_simulate 38 = .ok (.areturn, 1) := dk_176 (dk_at dksX1_simulate_1 14 rfl rfl)
abbrev cX1_pendingAfter : ByteArray := prog_1_method_59_code
def yX1_pendingAfter : MethodName := ⟨RX1, "pendingAfter", "(II)I"⟩
def dkwX1_pendingAfter_1 : List UInt8 := [185, 1, 4, 1, 0, 172]
abbrev dktX1_pendingAfter_1 : List UInt8 := dkwX1_pendingAfter_1 ++ []
def dkwX1_pendingAfter_0 : List UInt8 := [42, 27, 28, 3, 182, 1, 107, 28, 182, 1, 111, 180, 0, 246, 27, 185, 0, 250, 2, 0, 192, 0, 251]
abbrev dktX1_pendingAfter_0 : List UInt8 := dkwX1_pendingAfter_0 ++ dktX1_pendingAfter_1
theorem dksX1_pendingAfter_0 : cX1_pendingAfter.data.toList.drop 0 = dktX1_pendingAfter_0 := by decide +kernel
theorem dksX1_pendingAfter_1 : cX1_pendingAfter.data.toList.drop 23 = dktX1_pendingAfter_1 := dk_seg dksX1_pendingAfter_0 23 rfl rfl
theorem dX1_pendingAfter_0 : decode cX1_pendingAfter 0 = .ok (.aload_n 0, 1) := dk_42 (dk_at dksX1_pendingAfter_0 0 rfl rfl)
theorem dX1_pendingAfter_1 : decode cX1_pendingAfter 1 = .ok (.iload_n 1, 1) := dk_27 (dk_at dksX1_pendingAfter_0 1 rfl rfl)
theorem dX1_pendingAfter_2 : decode cX1_pendingAfter 2 = .ok (.iload_n 2, 1) := dk_28 (dk_at dksX1_pendingAfter_0 2 rfl rfl)
theorem dX1_pendingAfter_3 : decode cX1_pendingAfter 3 = .ok (.iconst 0, 1) := dk_3 (dk_at dksX1_pendingAfter_0 3 rfl rfl)
theorem dX1_pendingAfter_4 : decode cX1_pendingAfter 4 = .ok (.invokevirtual 363, 3) := dk_182 1 107 (dk_at dksX1_pendingAfter_0 4 rfl rfl)
theorem dX1_pendingAfter_7 : decode cX1_pendingAfter 7 = .ok (.iload_n 2, 1) := dk_28 (dk_at dksX1_pendingAfter_0 7 rfl rfl)
theorem dX1_pendingAfter_8 : decode cX1_pendingAfter 8 = .ok (.invokevirtual 367, 3) := dk_182 1 111 (dk_at dksX1_pendingAfter_0 8 rfl rfl)
theorem dX1_pendingAfter_11 : decode cX1_pendingAfter 11 = .ok (.getfield 246, 3) := dk_180 0 246 (dk_at dksX1_pendingAfter_0 11 rfl rfl)
theorem dX1_pendingAfter_14 : decode cX1_pendingAfter 14 = .ok (.iload_n 1, 1) := dk_27 (dk_at dksX1_pendingAfter_0 14 rfl rfl)
theorem dX1_pendingAfter_15 : decode cX1_pendingAfter 15 = .ok (.invokeinterface 250 2, 5) := by decide +kernel
theorem dX1_pendingAfter_20 : decode cX1_pendingAfter 20 = .ok (.checkcast 251, 3) := dk_192 0 251 (dk_at dksX1_pendingAfter_0 20 rfl rfl)
theorem dX1_pendingAfter_23 : decode cX1_pendingAfter 23 = .ok (.invokeinterface 260 1, 5) := by decide +kernel
theorem dX1_pendingAfter_28 : decode cX1_pendingAfter 28 = .ok (.ireturn, 1) := dk_172 (dk_at dksX1_pendingAfter_1 5 rfl rfl)
abbrev cX1_leastWorkLimit : ByteArray := prog_1_method_63_code
def yX1_leastWorkLimit : MethodName := ⟨RX1, "leastWorkLimit", "(II)I"⟩
def dkwX1_leastWorkLimit_1 : List UInt8 := [25, 4, 28, 182, 1, 111, 27, 184, 1, 136, 153, 0, 5, 29, 172, 132, 3, 1, 167, 255, 217, 2, 172]
abbrev dktX1_leastWorkLimit_1 : List UInt8 := dkwX1_leastWorkLimit_1 ++ []
def dkwX1_leastWorkLimit_0 : List UInt8 := [4, 62, 29, 16, 12, 163, 0, 39, 42, 27, 28, 4, 182, 1, 107, 58, 4, 25, 4, 29, 181, 0, 196]
abbrev dktX1_leastWorkLimit_0 : List UInt8 := dkwX1_leastWorkLimit_0 ++ dktX1_leastWorkLimit_1
theorem dksX1_leastWorkLimit_0 : cX1_leastWorkLimit.data.toList.drop 0 = dktX1_leastWorkLimit_0 := by decide +kernel
theorem dksX1_leastWorkLimit_1 : cX1_leastWorkLimit.data.toList.drop 23 = dktX1_leastWorkLimit_1 := dk_seg dksX1_leastWorkLimit_0 23 rfl rfl
theorem dX1_leastWorkLimit_0 : decode cX1_leastWorkLimit 0 = .ok (.iconst 1, 1) := dk_4 (dk_at dksX1_leastWorkLimit_0 0 rfl rfl)
theorem dX1_leastWorkLimit_1 : decode cX1_leastWorkLimit 1 = .ok (.istore_n 3, 1) := dk_62 (dk_at dksX1_leastWorkLimit_0 1 rfl rfl)
theorem dX1_leastWorkLimit_2 : decode cX1_leastWorkLimit 2 = .ok (.iload_n 3, 1) := dk_29 (dk_at dksX1_leastWorkLimit_0 2 rfl rfl)
theorem dX1_leastWorkLimit_3 : decode cX1_leastWorkLimit 3 = .ok (.bipush 12, 2) := dk_16 12 (dk_at dksX1_leastWorkLimit_0 3 rfl rfl)
theorem dX1_leastWorkLimit_5 : decode cX1_leastWorkLimit 5 = .ok (.if_icmp .gt 39, 3) := dk_163 0 39 (dk_at dksX1_leastWorkLimit_0 5 rfl rfl)
theorem dX1_leastWorkLimit_8 : decode cX1_leastWorkLimit 8 = .ok (.aload_n 0, 1) := dk_42 (dk_at dksX1_leastWorkLimit_0 8 rfl rfl)
theorem dX1_leastWorkLimit_9 : decode cX1_leastWorkLimit 9 = .ok (.iload_n 1, 1) := dk_27 (dk_at dksX1_leastWorkLimit_0 9 rfl rfl)
theorem dX1_leastWorkLimit_10 : decode cX1_leastWorkLimit 10 = .ok (.iload_n 2, 1) := dk_28 (dk_at dksX1_leastWorkLimit_0 10 rfl rfl)
theorem dX1_leastWorkLimit_11 : decode cX1_leastWorkLimit 11 = .ok (.iconst 1, 1) := dk_4 (dk_at dksX1_leastWorkLimit_0 11 rfl rfl)
theorem dX1_leastWorkLimit_12 : decode cX1_leastWorkLimit 12 = .ok (.invokevirtual 363, 3) := dk_182 1 107 (dk_at dksX1_leastWorkLimit_0 12 rfl rfl)
theorem dX1_leastWorkLimit_15 : decode cX1_leastWorkLimit 15 = .ok (.astore 4, 2) := dk_58 4 (dk_at dksX1_leastWorkLimit_0 15 rfl rfl)
theorem dX1_leastWorkLimit_17 : decode cX1_leastWorkLimit 17 = .ok (.aload 4, 2) := dk_25 4 (dk_at dksX1_leastWorkLimit_0 17 rfl rfl)
theorem dX1_leastWorkLimit_19 : decode cX1_leastWorkLimit 19 = .ok (.iload_n 3, 1) := dk_29 (dk_at dksX1_leastWorkLimit_0 19 rfl rfl)
theorem dX1_leastWorkLimit_20 : decode cX1_leastWorkLimit 20 = .ok (.putfield 196, 3) := dk_181 0 196 (dk_at dksX1_leastWorkLimit_0 20 rfl rfl)
theorem dX1_leastWorkLimit_23 : decode cX1_leastWorkLimit 23 = .ok (.aload 4, 2) := dk_25 4 (dk_at dksX1_leastWorkLimit_1 0 rfl rfl)
theorem dX1_leastWorkLimit_25 : decode cX1_leastWorkLimit 25 = .ok (.iload_n 2, 1) := dk_28 (dk_at dksX1_leastWorkLimit_1 2 rfl rfl)
theorem dX1_leastWorkLimit_26 : decode cX1_leastWorkLimit 26 = .ok (.invokevirtual 367, 3) := dk_182 1 111 (dk_at dksX1_leastWorkLimit_1 3 rfl rfl)
theorem dX1_leastWorkLimit_29 : decode cX1_leastWorkLimit 29 = .ok (.iload_n 1, 1) := dk_27 (dk_at dksX1_leastWorkLimit_1 6 rfl rfl)
theorem dX1_leastWorkLimit_30 : decode cX1_leastWorkLimit 30 = .ok (.invokestatic 392, 3) := dk_184 1 136 (dk_at dksX1_leastWorkLimit_1 7 rfl rfl)
theorem dX1_leastWorkLimit_33 : decode cX1_leastWorkLimit 33 = .ok (.ifCond .eq 5, 3) := dk_153 0 5 (dk_at dksX1_leastWorkLimit_1 10 rfl rfl)
theorem dX1_leastWorkLimit_36 : decode cX1_leastWorkLimit 36 = .ok (.iload_n 3, 1) := dk_29 (dk_at dksX1_leastWorkLimit_1 13 rfl rfl)
theorem dX1_leastWorkLimit_37 : decode cX1_leastWorkLimit 37 = .ok (.ireturn, 1) := dk_172 (dk_at dksX1_leastWorkLimit_1 14 rfl rfl)
theorem dX1_leastWorkLimit_38 : decode cX1_leastWorkLimit 38 = .ok (.iinc 3 1, 3) := dk_132 3 1 (dk_at dksX1_leastWorkLimit_1 15 rfl rfl)
theorem dX1_leastWorkLimit_41 : decode cX1_leastWorkLimit 41 = .ok (.goto (-39), 3) := dk_167 255 217 (dk_at dksX1_leastWorkLimit_1 18 rfl rfl)
theorem dX1_leastWorkLimit_44 : decode cX1_leastWorkLimit 44 = .ok (.iconst (-1), 1) := dk_2 (dk_at dksX1_leastWorkLimit_1 21 rfl rfl)
theorem dX1_leastWorkLimit_45 : decode cX1_leastWorkLimit 45 = .ok (.ireturn, 1) := dk_172 (dk_at dksX1_leastWorkLimit_1 22 rfl rfl)
abbrev cX1_isDone : ByteArray := prog_1_method_62_code
def yX1_isDone : MethodName := ⟨RX1, "isDone", "(LHedgeMessages$State;I)Z"⟩
def dkwX1_isDone_1 : List UInt8 := [180, 1, 15, 27, 50, 199, 0, 15, 42, 27, 182, 1, 29, 154, 0, 7, 4, 167, 0, 4, 3, 172]
abbrev dktX1_isDone_1 : List UInt8 := dkwX1_isDone_1 ++ []
def dkwX1_isDone_0 : List UInt8 := [42, 180, 0, 246, 27, 185, 0, 250, 2, 0, 192, 0, 251, 185, 1, 33, 1, 0, 153, 0, 24, 42]
abbrev dktX1_isDone_0 : List UInt8 := dkwX1_isDone_0 ++ dktX1_isDone_1
theorem dksX1_isDone_0 : cX1_isDone.data.toList.drop 0 = dktX1_isDone_0 := by decide +kernel
theorem dksX1_isDone_1 : cX1_isDone.data.toList.drop 22 = dktX1_isDone_1 := dk_seg dksX1_isDone_0 22 rfl rfl
theorem dX1_isDone_0 : decode cX1_isDone 0 = .ok (.aload_n 0, 1) := dk_42 (dk_at dksX1_isDone_0 0 rfl rfl)
theorem dX1_isDone_1 : decode cX1_isDone 1 = .ok (.getfield 246, 3) := dk_180 0 246 (dk_at dksX1_isDone_0 1 rfl rfl)
theorem dX1_isDone_4 : decode cX1_isDone 4 = .ok (.iload_n 1, 1) := dk_27 (dk_at dksX1_isDone_0 4 rfl rfl)
theorem dX1_isDone_5 : decode cX1_isDone 5 = .ok (.invokeinterface 250 2, 5) := by decide +kernel
theorem dX1_isDone_10 : decode cX1_isDone 10 = .ok (.checkcast 251, 3) := dk_192 0 251 (dk_at dksX1_isDone_0 10 rfl rfl)
theorem dX1_isDone_13 : decode cX1_isDone 13 = .ok (.invokeinterface 289 1, 5) := by decide +kernel
theorem dX1_isDone_18 : decode cX1_isDone 18 = .ok (.ifCond .eq 24, 3) := dk_153 0 24 (dk_at dksX1_isDone_0 18 rfl rfl)
theorem dX1_isDone_21 : decode cX1_isDone 21 = .ok (.aload_n 0, 1) := dk_42 (dk_at dksX1_isDone_0 21 rfl rfl)
theorem dX1_isDone_22 : decode cX1_isDone 22 = .ok (.getfield 271, 3) := dk_180 1 15 (dk_at dksX1_isDone_1 0 rfl rfl)
theorem dX1_isDone_25 : decode cX1_isDone 25 = .ok (.iload_n 1, 1) := dk_27 (dk_at dksX1_isDone_1 3 rfl rfl)
theorem dX1_isDone_26 : decode cX1_isDone 26 = .ok (.aaload, 1) := dk_50 (dk_at dksX1_isDone_1 4 rfl rfl)
theorem dX1_isDone_27 : decode cX1_isDone 27 = .ok (.ifnonnull 15, 3) := dk_199 0 15 (dk_at dksX1_isDone_1 5 rfl rfl)
theorem dX1_isDone_30 : decode cX1_isDone 30 = .ok (.aload_n 0, 1) := dk_42 (dk_at dksX1_isDone_1 8 rfl rfl)
theorem dX1_isDone_31 : decode cX1_isDone 31 = .ok (.iload_n 1, 1) := dk_27 (dk_at dksX1_isDone_1 9 rfl rfl)
theorem dX1_isDone_32 : decode cX1_isDone 32 = .ok (.invokevirtual 285, 3) := dk_182 1 29 (dk_at dksX1_isDone_1 10 rfl rfl)
theorem dX1_isDone_35 : decode cX1_isDone 35 = .ok (.ifCond .ne 7, 3) := dk_154 0 7 (dk_at dksX1_isDone_1 13 rfl rfl)
theorem dX1_isDone_38 : decode cX1_isDone 38 = .ok (.iconst 1, 1) := dk_4 (dk_at dksX1_isDone_1 16 rfl rfl)
theorem dX1_isDone_39 : decode cX1_isDone 39 = .ok (.goto 4, 3) := dk_167 0 4 (dk_at dksX1_isDone_1 17 rfl rfl)
theorem dX1_isDone_42 : decode cX1_isDone 42 = .ok (.iconst 0, 1) := dk_3 (dk_at dksX1_isDone_1 20 rfl rfl)
theorem dX1_isDone_43 : decode cX1_isDone 43 = .ok (.ireturn, 1) := dk_172 (dk_at dksX1_isDone_1 21 rfl rfl)
abbrev cX1_messagesQueued : ByteArray := prog_1_method_65_code
def yX1_messagesQueued : MethodName := ⟨RX1, "messagesQueued", "(I)I"⟩
def dkwX1_messagesQueued_0 : List UInt8 := [42, 27, 182, 1, 140, 182, 1, 144, 172]
abbrev dktX1_messagesQueued_0 : List UInt8 := dkwX1_messagesQueued_0 ++ []
theorem dksX1_messagesQueued_0 : cX1_messagesQueued.data.toList.drop 0 = dktX1_messagesQueued_0 := by decide +kernel
theorem dX1_messagesQueued_0 : decode cX1_messagesQueued 0 = .ok (.aload_n 0, 1) := dk_42 (dk_at dksX1_messagesQueued_0 0 rfl rfl)
theorem dX1_messagesQueued_1 : decode cX1_messagesQueued 1 = .ok (.iload_n 1, 1) := dk_27 (dk_at dksX1_messagesQueued_0 1 rfl rfl)
theorem dX1_messagesQueued_2 : decode cX1_messagesQueued 2 = .ok (.invokevirtual 396, 3) := dk_182 1 140 (dk_at dksX1_messagesQueued_0 2 rfl rfl)
theorem dX1_messagesQueued_5 : decode cX1_messagesQueued 5 = .ok (.invokevirtual 400, 3) := dk_182 1 144 (dk_at dksX1_messagesQueued_0 5 rfl rfl)
theorem dX1_messagesQueued_8 : decode cX1_messagesQueued 8 = .ok (.ireturn, 1) := dk_172 (dk_at dksX1_messagesQueued_0 8 rfl rfl)
abbrev cX1_countersOf : ByteArray := prog_1_method_64_code
def yX1_countersOf : MethodName := ⟨RX1, "countersOf", "(I)LHedgeMessages$Counters;"⟩
def dkwX1_countersOf_0 : List UInt8 := [27, 184, 0, 243, 42, 180, 0, 22, 180, 1, 115, 27, 50, 176]
abbrev dktX1_countersOf_0 : List UInt8 := dkwX1_countersOf_0 ++ []
theorem dksX1_countersOf_0 : cX1_countersOf.data.toList.drop 0 = dktX1_countersOf_0 := by decide +kernel
theorem dX1_countersOf_0 : decode cX1_countersOf 0 = .ok (.iload_n 1, 1) := dk_27 (dk_at dksX1_countersOf_0 0 rfl rfl)
theorem dX1_countersOf_1 : decode cX1_countersOf 1 = .ok (.invokestatic 243, 3) := dk_184 0 243 (dk_at dksX1_countersOf_0 1 rfl rfl)
theorem dX1_countersOf_4 : decode cX1_countersOf 4 = .ok (.aload_n 0, 1) := dk_42 (dk_at dksX1_countersOf_0 4 rfl rfl)
theorem dX1_countersOf_5 : decode cX1_countersOf 5 = .ok (.getfield 22, 3) := dk_180 0 22 (dk_at dksX1_countersOf_0 5 rfl rfl)
theorem dX1_countersOf_8 : decode cX1_countersOf 8 = .ok (.getfield 371, 3) := dk_180 1 115 (dk_at dksX1_countersOf_0 8 rfl rfl)
theorem dX1_countersOf_11 : decode cX1_countersOf 11 = .ok (.iload_n 1, 1) := dk_27 (dk_at dksX1_countersOf_0 11 rfl rfl)
theorem dX1_countersOf_12 : decode cX1_countersOf 12 = .ok (.aaload, 1) := dk_50 (dk_at dksX1_countersOf_0 12 rfl rfl)
theorem dX1_countersOf_13 : decode cX1_countersOf 13 = .ok (.areturn, 1) := dk_176 (dk_at dksX1_countersOf_0 13 rfl rfl)
abbrev cX1_messagesDelivered : ByteArray := prog_1_method_66_code
def yX1_messagesDelivered : MethodName := ⟨RX1, "messagesDelivered", "(I)I"⟩
def dkwX1_messagesDelivered_0 : List UInt8 := [42, 27, 182, 1, 140, 182, 1, 119, 172]
abbrev dktX1_messagesDelivered_0 : List UInt8 := dkwX1_messagesDelivered_0 ++ []
theorem dksX1_messagesDelivered_0 : cX1_messagesDelivered.data.toList.drop 0 = dktX1_messagesDelivered_0 := by decide +kernel
theorem dX1_messagesDelivered_0 : decode cX1_messagesDelivered 0 = .ok (.aload_n 0, 1) := dk_42 (dk_at dksX1_messagesDelivered_0 0 rfl rfl)
theorem dX1_messagesDelivered_1 : decode cX1_messagesDelivered 1 = .ok (.iload_n 1, 1) := dk_27 (dk_at dksX1_messagesDelivered_0 1 rfl rfl)
theorem dX1_messagesDelivered_2 : decode cX1_messagesDelivered 2 = .ok (.invokevirtual 396, 3) := dk_182 1 140 (dk_at dksX1_messagesDelivered_0 2 rfl rfl)
theorem dX1_messagesDelivered_5 : decode cX1_messagesDelivered 5 = .ok (.invokevirtual 375, 3) := dk_182 1 119 (dk_at dksX1_messagesDelivered_0 5 rfl rfl)
theorem dX1_messagesDelivered_8 : decode cX1_messagesDelivered 8 = .ok (.ireturn, 1) := dk_172 (dk_at dksX1_messagesDelivered_0 8 rfl rfl)
abbrev cX1_messagesFailed : ByteArray := prog_1_method_67_code
def yX1_messagesFailed : MethodName := ⟨RX1, "messagesFailed", "(I)I"⟩
def dkwX1_messagesFailed_0 : List UInt8 := [42, 27, 182, 1, 140, 182, 1, 147, 172]
abbrev dktX1_messagesFailed_0 : List UInt8 := dkwX1_messagesFailed_0 ++ []
theorem dksX1_messagesFailed_0 : cX1_messagesFailed.data.toList.drop 0 = dktX1_messagesFailed_0 := by decide +kernel
theorem dX1_messagesFailed_0 : decode cX1_messagesFailed 0 = .ok (.aload_n 0, 1) := dk_42 (dk_at dksX1_messagesFailed_0 0 rfl rfl)
theorem dX1_messagesFailed_1 : decode cX1_messagesFailed 1 = .ok (.iload_n 1, 1) := dk_27 (dk_at dksX1_messagesFailed_0 1 rfl rfl)
theorem dX1_messagesFailed_2 : decode cX1_messagesFailed 2 = .ok (.invokevirtual 396, 3) := dk_182 1 140 (dk_at dksX1_messagesFailed_0 2 rfl rfl)
theorem dX1_messagesFailed_5 : decode cX1_messagesFailed 5 = .ok (.invokevirtual 403, 3) := dk_182 1 147 (dk_at dksX1_messagesFailed_0 5 rfl rfl)
theorem dX1_messagesFailed_8 : decode cX1_messagesFailed 8 = .ok (.ireturn, 1) := dk_172 (dk_at dksX1_messagesFailed_0 8 rfl rfl)
abbrev cX1_messagesDropped : ByteArray := prog_1_method_68_code
def yX1_messagesDropped : MethodName := ⟨RX1, "messagesDropped", "(I)I"⟩
def dkwX1_messagesDropped_0 : List UInt8 := [42, 27, 182, 1, 140, 182, 1, 150, 172]
abbrev dktX1_messagesDropped_0 : List UInt8 := dkwX1_messagesDropped_0 ++ []
theorem dksX1_messagesDropped_0 : cX1_messagesDropped.data.toList.drop 0 = dktX1_messagesDropped_0 := by decide +kernel
theorem dX1_messagesDropped_0 : decode cX1_messagesDropped 0 = .ok (.aload_n 0, 1) := dk_42 (dk_at dksX1_messagesDropped_0 0 rfl rfl)
theorem dX1_messagesDropped_1 : decode cX1_messagesDropped 1 = .ok (.iload_n 1, 1) := dk_27 (dk_at dksX1_messagesDropped_0 1 rfl rfl)
theorem dX1_messagesDropped_2 : decode cX1_messagesDropped 2 = .ok (.invokevirtual 396, 3) := dk_182 1 140 (dk_at dksX1_messagesDropped_0 2 rfl rfl)
theorem dX1_messagesDropped_5 : decode cX1_messagesDropped 5 = .ok (.invokevirtual 406, 3) := dk_182 1 150 (dk_at dksX1_messagesDropped_0 5 rfl rfl)
theorem dX1_messagesDropped_8 : decode cX1_messagesDropped 8 = .ok (.ireturn, 1) := dk_172 (dk_at dksX1_messagesDropped_0 8 rfl rfl)
abbrev cX1_plant : ByteArray := prog_1_method_86_code
def yX1_plant : MethodName := ⟨RX1, "plant", "(II)I"⟩
def dkwX1_plant_1 : List UInt8 := [28, 186, 1, 189, 0, 0, 182, 1, 192, 172]
abbrev dktX1_plant_1 : List UInt8 := dkwX1_plant_1 ++ []
def dkwX1_plant_0 : List UInt8 := [42, 180, 0, 22, 27, 184, 0, 212, 28, 133, 20, 1, 185, 20, 1, 187, 184, 0, 119, 184, 0, 123, 42, 27]
abbrev dktX1_plant_0 : List UInt8 := dkwX1_plant_0 ++ dktX1_plant_1
theorem dksX1_plant_0 : cX1_plant.data.toList.drop 0 = dktX1_plant_0 := by decide +kernel
theorem dksX1_plant_1 : cX1_plant.data.toList.drop 24 = dktX1_plant_1 := dk_seg dksX1_plant_0 24 rfl rfl
theorem dX1_plant_0 : decode cX1_plant 0 = .ok (.aload_n 0, 1) := dk_42 (dk_at dksX1_plant_0 0 rfl rfl)
theorem dX1_plant_1 : decode cX1_plant 1 = .ok (.getfield 22, 3) := dk_180 0 22 (dk_at dksX1_plant_0 1 rfl rfl)
theorem dX1_plant_4 : decode cX1_plant 4 = .ok (.iload_n 1, 1) := dk_27 (dk_at dksX1_plant_0 4 rfl rfl)
theorem dX1_plant_5 : decode cX1_plant 5 = .ok (.invokestatic 212, 3) := dk_184 0 212 (dk_at dksX1_plant_0 5 rfl rfl)
theorem dX1_plant_8 : decode cX1_plant 8 = .ok (.iload_n 2, 1) := dk_28 (dk_at dksX1_plant_0 8 rfl rfl)
theorem dX1_plant_9 : decode cX1_plant 9 = .ok (.i2l, 1) := dk_133 (dk_at dksX1_plant_0 9 rfl rfl)
theorem dX1_plant_10 : decode cX1_plant 10 = .ok (.ldc2_w 441, 3) := dk_20 1 185 (dk_at dksX1_plant_0 10 rfl rfl)
theorem dX1_plant_13 : decode cX1_plant 13 = .ok (.ldc2_w 443, 3) := dk_20 1 187 (dk_at dksX1_plant_0 13 rfl rfl)
theorem dX1_plant_16 : decode cX1_plant 16 = .ok (.invokestatic 119, 3) := dk_184 0 119 (dk_at dksX1_plant_0 16 rfl rfl)
theorem dX1_plant_19 : decode cX1_plant 19 = .ok (.invokestatic 123, 3) := dk_184 0 123 (dk_at dksX1_plant_0 19 rfl rfl)
theorem dX1_plant_22 : decode cX1_plant 22 = .ok (.aload_n 0, 1) := dk_42 (dk_at dksX1_plant_0 22 rfl rfl)
theorem dX1_plant_23 : decode cX1_plant 23 = .ok (.iload_n 1, 1) := dk_27 (dk_at dksX1_plant_0 23 rfl rfl)
theorem dX1_plant_24 : decode cX1_plant 24 = .ok (.iload_n 2, 1) := dk_28 (dk_at dksX1_plant_1 0 rfl rfl)
theorem dX1_plant_25 : decode cX1_plant 25 = .ok (.invokedynamic 445, 5) := by decide +kernel
theorem dX1_plant_30 : decode cX1_plant 30 = .ok (.invokevirtual 448, 3) := dk_182 1 192 (dk_at dksX1_plant_1 6 rfl rfl)
theorem dX1_plant_33 : decode cX1_plant 33 = .ok (.ireturn, 1) := dk_172 (dk_at dksX1_plant_1 9 rfl rfl)
abbrev cX1_lambda_plant_0 : ByteArray := prog_1_method_108_code
def yX1_lambda_plant_0 : MethodName := ⟨RX1, "lambda$plant$0", "(IILHedgeMessages$State;)I"⟩
def dkwX1_lambda_plant_0_0 : List UInt8 := [44, 26, 27, 146, 184, 2, 8, 172]
abbrev dktX1_lambda_plant_0_0 : List UInt8 := dkwX1_lambda_plant_0_0 ++ []
theorem dksX1_lambda_plant_0_0 : cX1_lambda_plant_0.data.toList.drop 0 = dktX1_lambda_plant_0_0 := by decide +kernel
theorem dX1_lambda_plant_0_0 : decode cX1_lambda_plant_0 0 = .ok (.aload_n 2, 1) := dk_44 (dk_at dksX1_lambda_plant_0_0 0 rfl rfl)
theorem dX1_lambda_plant_0_1 : decode cX1_lambda_plant_0 1 = .ok (.iload_n 0, 1) := dk_26 (dk_at dksX1_lambda_plant_0_0 1 rfl rfl)
theorem dX1_lambda_plant_0_2 : decode cX1_lambda_plant_0 2 = .ok (.iload_n 1, 1) := dk_27 (dk_at dksX1_lambda_plant_0_0 2 rfl rfl)
theorem dX1_lambda_plant_0_3 : decode cX1_lambda_plant_0 3 = .ok (.i2c, 1) := dk_146 (dk_at dksX1_lambda_plant_0_0 3 rfl rfl)
theorem dX1_lambda_plant_0_4 : decode cX1_lambda_plant_0 4 = .ok (.invokestatic 520, 3) := dk_184 2 8 (dk_at dksX1_lambda_plant_0_0 4 rfl rfl)
theorem dX1_lambda_plant_0_7 : decode cX1_lambda_plant_0 7 = .ok (.ireturn, 1) := dk_172 (dk_at dksX1_lambda_plant_0_0 7 rfl rfl)
abbrev cX1_perform : ByteArray := prog_1_method_7_code
def yX1_perform : MethodName := ⟨RX1, "perform", "(LHedgeMessages$Operation;)I"⟩
def dkwX1_perform_0 : List UInt8 := [42, 180, 0, 22, 182, 0, 83, 77, 43, 44, 185, 0, 86, 2, 0, 62, 42, 44, 182, 0, 92, 29, 172]
abbrev dktX1_perform_0 : List UInt8 := dkwX1_perform_0 ++ []
theorem dksX1_perform_0 : cX1_perform.data.toList.drop 0 = dktX1_perform_0 := by decide +kernel
theorem dX1_perform_0 : decode cX1_perform 0 = .ok (.aload_n 0, 1) := dk_42 (dk_at dksX1_perform_0 0 rfl rfl)
theorem dX1_perform_1 : decode cX1_perform 1 = .ok (.getfield 22, 3) := dk_180 0 22 (dk_at dksX1_perform_0 1 rfl rfl)
theorem dX1_perform_4 : decode cX1_perform 4 = .ok (.invokevirtual 83, 3) := dk_182 0 83 (dk_at dksX1_perform_0 4 rfl rfl)
theorem dX1_perform_7 : decode cX1_perform 7 = .ok (.astore_n 2, 1) := dk_77 (dk_at dksX1_perform_0 7 rfl rfl)
theorem dX1_perform_8 : decode cX1_perform 8 = .ok (.aload_n 1, 1) := dk_43 (dk_at dksX1_perform_0 8 rfl rfl)
theorem dX1_perform_9 : decode cX1_perform 9 = .ok (.aload_n 2, 1) := dk_44 (dk_at dksX1_perform_0 9 rfl rfl)
theorem dX1_perform_10 : decode cX1_perform 10 = .ok (.invokeinterface 86 2, 5) := by decide +kernel
theorem dX1_perform_15 : decode cX1_perform 15 = .ok (.istore_n 3, 1) := dk_62 (dk_at dksX1_perform_0 15 rfl rfl)
theorem dX1_perform_16 : decode cX1_perform 16 = .ok (.aload_n 0, 1) := dk_42 (dk_at dksX1_perform_0 16 rfl rfl)
theorem dX1_perform_17 : decode cX1_perform 17 = .ok (.aload_n 2, 1) := dk_44 (dk_at dksX1_perform_0 17 rfl rfl)
theorem dX1_perform_18 : decode cX1_perform 18 = .ok (.invokevirtual 92, 3) := dk_182 0 92 (dk_at dksX1_perform_0 18 rfl rfl)
theorem dX1_perform_21 : decode cX1_perform 21 = .ok (.iload_n 3, 1) := dk_29 (dk_at dksX1_perform_0 21 rfl rfl)
theorem dX1_perform_22 : decode cX1_perform 22 = .ok (.ireturn, 1) := dk_172 (dk_at dksX1_perform_0 22 rfl rfl)
abbrev cX1_remove : ByteArray := prog_1_method_87_code
def yX1_remove : MethodName := ⟨RX1, "remove", "(I)I"⟩
def dkwX1_remove_0 : List UInt8 := [42, 180, 0, 22, 27, 184, 0, 212, 42, 27, 186, 1, 196, 0, 0, 182, 1, 192, 172]
abbrev dktX1_remove_0 : List UInt8 := dkwX1_remove_0 ++ []
theorem dksX1_remove_0 : cX1_remove.data.toList.drop 0 = dktX1_remove_0 := by decide +kernel
theorem dX1_remove_0 : decode cX1_remove 0 = .ok (.aload_n 0, 1) := dk_42 (dk_at dksX1_remove_0 0 rfl rfl)
theorem dX1_remove_1 : decode cX1_remove 1 = .ok (.getfield 22, 3) := dk_180 0 22 (dk_at dksX1_remove_0 1 rfl rfl)
theorem dX1_remove_4 : decode cX1_remove 4 = .ok (.iload_n 1, 1) := dk_27 (dk_at dksX1_remove_0 4 rfl rfl)
theorem dX1_remove_5 : decode cX1_remove 5 = .ok (.invokestatic 212, 3) := dk_184 0 212 (dk_at dksX1_remove_0 5 rfl rfl)
theorem dX1_remove_8 : decode cX1_remove 8 = .ok (.aload_n 0, 1) := dk_42 (dk_at dksX1_remove_0 8 rfl rfl)
theorem dX1_remove_9 : decode cX1_remove 9 = .ok (.iload_n 1, 1) := dk_27 (dk_at dksX1_remove_0 9 rfl rfl)
theorem dX1_remove_10 : decode cX1_remove 10 = .ok (.invokedynamic 452, 5) := by decide +kernel
theorem dX1_remove_15 : decode cX1_remove 15 = .ok (.invokevirtual 448, 3) := dk_182 1 192 (dk_at dksX1_remove_0 15 rfl rfl)
theorem dX1_remove_18 : decode cX1_remove 18 = .ok (.ireturn, 1) := dk_172 (dk_at dksX1_remove_0 18 rfl rfl)
abbrev cX1_lambda_remove_1 : ByteArray := prog_1_method_107_code
def yX1_lambda_remove_1 : MethodName := ⟨RX1, "lambda$remove$1", "(ILHedgeMessages$State;)I"⟩
def dkwX1_lambda_remove_1_0 : List UInt8 := [43, 26, 184, 2, 5, 172]
abbrev dktX1_lambda_remove_1_0 : List UInt8 := dkwX1_lambda_remove_1_0 ++ []
theorem dksX1_lambda_remove_1_0 : cX1_lambda_remove_1.data.toList.drop 0 = dktX1_lambda_remove_1_0 := by decide +kernel
theorem dX1_lambda_remove_1_0 : decode cX1_lambda_remove_1 0 = .ok (.aload_n 1, 1) := dk_43 (dk_at dksX1_lambda_remove_1_0 0 rfl rfl)
theorem dX1_lambda_remove_1_1 : decode cX1_lambda_remove_1 1 = .ok (.iload_n 0, 1) := dk_26 (dk_at dksX1_lambda_remove_1_0 1 rfl rfl)
theorem dX1_lambda_remove_1_2 : decode cX1_lambda_remove_1 2 = .ok (.invokestatic 517, 3) := dk_184 2 5 (dk_at dksX1_lambda_remove_1_0 2 rfl rfl)
theorem dX1_lambda_remove_1_5 : decode cX1_lambda_remove_1 5 = .ok (.ireturn, 1) := dk_172 (dk_at dksX1_lambda_remove_1_0 5 rfl rfl)
abbrev cX1_trim : ByteArray := prog_1_method_88_code
def yX1_trim : MethodName := ⟨RX1, "trim", "(II)I"⟩
def dkwX1_trim_1 : List UInt8 := [186, 1, 201, 0, 0, 182, 1, 192, 172]
abbrev dktX1_trim_1 : List UInt8 := dkwX1_trim_1 ++ []
def dkwX1_trim_0 : List UInt8 := [42, 180, 0, 22, 27, 184, 0, 212, 28, 133, 10, 20, 1, 199, 184, 0, 119, 184, 0, 123, 42, 27, 28]
abbrev dktX1_trim_0 : List UInt8 := dkwX1_trim_0 ++ dktX1_trim_1
theorem dksX1_trim_0 : cX1_trim.data.toList.drop 0 = dktX1_trim_0 := by decide +kernel
theorem dksX1_trim_1 : cX1_trim.data.toList.drop 23 = dktX1_trim_1 := dk_seg dksX1_trim_0 23 rfl rfl
theorem dX1_trim_0 : decode cX1_trim 0 = .ok (.aload_n 0, 1) := dk_42 (dk_at dksX1_trim_0 0 rfl rfl)
theorem dX1_trim_1 : decode cX1_trim 1 = .ok (.getfield 22, 3) := dk_180 0 22 (dk_at dksX1_trim_0 1 rfl rfl)
theorem dX1_trim_4 : decode cX1_trim 4 = .ok (.iload_n 1, 1) := dk_27 (dk_at dksX1_trim_0 4 rfl rfl)
theorem dX1_trim_5 : decode cX1_trim 5 = .ok (.invokestatic 212, 3) := dk_184 0 212 (dk_at dksX1_trim_0 5 rfl rfl)
theorem dX1_trim_8 : decode cX1_trim 8 = .ok (.iload_n 2, 1) := dk_28 (dk_at dksX1_trim_0 8 rfl rfl)
theorem dX1_trim_9 : decode cX1_trim 9 = .ok (.i2l, 1) := dk_133 (dk_at dksX1_trim_0 9 rfl rfl)
theorem dX1_trim_10 : decode cX1_trim 10 = .ok (.lconst 1, 1) := dk_10 (dk_at dksX1_trim_0 10 rfl rfl)
theorem dX1_trim_11 : decode cX1_trim 11 = .ok (.ldc2_w 455, 3) := dk_20 1 199 (dk_at dksX1_trim_0 11 rfl rfl)
theorem dX1_trim_14 : decode cX1_trim 14 = .ok (.invokestatic 119, 3) := dk_184 0 119 (dk_at dksX1_trim_0 14 rfl rfl)
theorem dX1_trim_17 : decode cX1_trim 17 = .ok (.invokestatic 123, 3) := dk_184 0 123 (dk_at dksX1_trim_0 17 rfl rfl)
theorem dX1_trim_20 : decode cX1_trim 20 = .ok (.aload_n 0, 1) := dk_42 (dk_at dksX1_trim_0 20 rfl rfl)
theorem dX1_trim_21 : decode cX1_trim 21 = .ok (.iload_n 1, 1) := dk_27 (dk_at dksX1_trim_0 21 rfl rfl)
theorem dX1_trim_22 : decode cX1_trim 22 = .ok (.iload_n 2, 1) := dk_28 (dk_at dksX1_trim_0 22 rfl rfl)
theorem dX1_trim_23 : decode cX1_trim 23 = .ok (.invokedynamic 457, 5) := by decide +kernel
theorem dX1_trim_28 : decode cX1_trim 28 = .ok (.invokevirtual 448, 3) := dk_182 1 192 (dk_at dksX1_trim_1 5 rfl rfl)
theorem dX1_trim_31 : decode cX1_trim 31 = .ok (.ireturn, 1) := dk_172 (dk_at dksX1_trim_1 8 rfl rfl)
abbrev cX1_lambda_trim_2 : ByteArray := prog_1_method_106_code
def yX1_lambda_trim_2 : MethodName := ⟨RX1, "lambda$trim$2", "(IILHedgeMessages$State;)I"⟩
def dkwX1_lambda_trim_2_0 : List UInt8 := [44, 26, 27, 184, 2, 2, 172]
abbrev dktX1_lambda_trim_2_0 : List UInt8 := dkwX1_lambda_trim_2_0 ++ []
theorem dksX1_lambda_trim_2_0 : cX1_lambda_trim_2.data.toList.drop 0 = dktX1_lambda_trim_2_0 := by decide +kernel
theorem dX1_lambda_trim_2_0 : decode cX1_lambda_trim_2 0 = .ok (.aload_n 2, 1) := dk_44 (dk_at dksX1_lambda_trim_2_0 0 rfl rfl)
theorem dX1_lambda_trim_2_1 : decode cX1_lambda_trim_2 1 = .ok (.iload_n 0, 1) := dk_26 (dk_at dksX1_lambda_trim_2_0 1 rfl rfl)
theorem dX1_lambda_trim_2_2 : decode cX1_lambda_trim_2 2 = .ok (.iload_n 1, 1) := dk_27 (dk_at dksX1_lambda_trim_2_0 2 rfl rfl)
theorem dX1_lambda_trim_2_3 : decode cX1_lambda_trim_2 3 = .ok (.invokestatic 514, 3) := dk_184 2 2 (dk_at dksX1_lambda_trim_2_0 3 rfl rfl)
theorem dX1_lambda_trim_2_6 : decode cX1_lambda_trim_2 6 = .ok (.ireturn, 1) := dk_172 (dk_at dksX1_lambda_trim_2_0 6 rfl rfl)
abbrev cX1_addNest : ByteArray := prog_1_method_89_code
def yX1_addNest : MethodName := ⟨RX1, "addNest", "(II)I"⟩
def dkwX1_addNest_1 : List UInt8 := [186, 1, 204, 0, 0, 182, 1, 192, 172]
abbrev dktX1_addNest_1 : List UInt8 := dkwX1_addNest_1 ++ []
def dkwX1_addNest_0 : List UInt8 := [42, 180, 0, 22, 27, 184, 0, 212, 28, 133, 10, 20, 1, 202, 184, 0, 119, 184, 0, 123, 42, 27, 28]
abbrev dktX1_addNest_0 : List UInt8 := dkwX1_addNest_0 ++ dktX1_addNest_1
theorem dksX1_addNest_0 : cX1_addNest.data.toList.drop 0 = dktX1_addNest_0 := by decide +kernel
theorem dksX1_addNest_1 : cX1_addNest.data.toList.drop 23 = dktX1_addNest_1 := dk_seg dksX1_addNest_0 23 rfl rfl
theorem dX1_addNest_0 : decode cX1_addNest 0 = .ok (.aload_n 0, 1) := dk_42 (dk_at dksX1_addNest_0 0 rfl rfl)
theorem dX1_addNest_1 : decode cX1_addNest 1 = .ok (.getfield 22, 3) := dk_180 0 22 (dk_at dksX1_addNest_0 1 rfl rfl)
theorem dX1_addNest_4 : decode cX1_addNest 4 = .ok (.iload_n 1, 1) := dk_27 (dk_at dksX1_addNest_0 4 rfl rfl)
theorem dX1_addNest_5 : decode cX1_addNest 5 = .ok (.invokestatic 212, 3) := dk_184 0 212 (dk_at dksX1_addNest_0 5 rfl rfl)
theorem dX1_addNest_8 : decode cX1_addNest 8 = .ok (.iload_n 2, 1) := dk_28 (dk_at dksX1_addNest_0 8 rfl rfl)
theorem dX1_addNest_9 : decode cX1_addNest 9 = .ok (.i2l, 1) := dk_133 (dk_at dksX1_addNest_0 9 rfl rfl)
theorem dX1_addNest_10 : decode cX1_addNest 10 = .ok (.lconst 1, 1) := dk_10 (dk_at dksX1_addNest_0 10 rfl rfl)
theorem dX1_addNest_11 : decode cX1_addNest 11 = .ok (.ldc2_w 458, 3) := dk_20 1 202 (dk_at dksX1_addNest_0 11 rfl rfl)
theorem dX1_addNest_14 : decode cX1_addNest 14 = .ok (.invokestatic 119, 3) := dk_184 0 119 (dk_at dksX1_addNest_0 14 rfl rfl)
theorem dX1_addNest_17 : decode cX1_addNest 17 = .ok (.invokestatic 123, 3) := dk_184 0 123 (dk_at dksX1_addNest_0 17 rfl rfl)
theorem dX1_addNest_20 : decode cX1_addNest 20 = .ok (.aload_n 0, 1) := dk_42 (dk_at dksX1_addNest_0 20 rfl rfl)
theorem dX1_addNest_21 : decode cX1_addNest 21 = .ok (.iload_n 1, 1) := dk_27 (dk_at dksX1_addNest_0 21 rfl rfl)
theorem dX1_addNest_22 : decode cX1_addNest 22 = .ok (.iload_n 2, 1) := dk_28 (dk_at dksX1_addNest_0 22 rfl rfl)
theorem dX1_addNest_23 : decode cX1_addNest 23 = .ok (.invokedynamic 460, 5) := by decide +kernel
theorem dX1_addNest_28 : decode cX1_addNest 28 = .ok (.invokevirtual 448, 3) := dk_182 1 192 (dk_at dksX1_addNest_1 5 rfl rfl)
theorem dX1_addNest_31 : decode cX1_addNest 31 = .ok (.ireturn, 1) := dk_172 (dk_at dksX1_addNest_1 8 rfl rfl)
abbrev cX1_lambda_addNest_3 : ByteArray := prog_1_method_105_code
def yX1_lambda_addNest_3 : MethodName := ⟨RX1, "lambda$addNest$3", "(IILHedgeMessages$State;)I"⟩
def dkwX1_lambda_addNest_3_0 : List UInt8 := [44, 26, 27, 184, 1, 255, 172]
abbrev dktX1_lambda_addNest_3_0 : List UInt8 := dkwX1_lambda_addNest_3_0 ++ []
theorem dksX1_lambda_addNest_3_0 : cX1_lambda_addNest_3.data.toList.drop 0 = dktX1_lambda_addNest_3_0 := by decide +kernel
theorem dX1_lambda_addNest_3_0 : decode cX1_lambda_addNest_3 0 = .ok (.aload_n 2, 1) := dk_44 (dk_at dksX1_lambda_addNest_3_0 0 rfl rfl)
theorem dX1_lambda_addNest_3_1 : decode cX1_lambda_addNest_3 1 = .ok (.iload_n 0, 1) := dk_26 (dk_at dksX1_lambda_addNest_3_0 1 rfl rfl)
theorem dX1_lambda_addNest_3_2 : decode cX1_lambda_addNest_3 2 = .ok (.iload_n 1, 1) := dk_27 (dk_at dksX1_lambda_addNest_3_0 2 rfl rfl)
theorem dX1_lambda_addNest_3_3 : decode cX1_lambda_addNest_3 3 = .ok (.invokestatic 511, 3) := dk_184 1 255 (dk_at dksX1_lambda_addNest_3_0 3 rfl rfl)
theorem dX1_lambda_addNest_3_6 : decode cX1_lambda_addNest_3 6 = .ok (.ireturn, 1) := dk_172 (dk_at dksX1_lambda_addNest_3_0 6 rfl rfl)
abbrev cX1_queueMessage : ByteArray := prog_1_method_91_code
def yX1_queueMessage : MethodName := ⟨RX1, "queueMessage", "(I)I"⟩
def dkwX1_queueMessage_2 : List UInt8 := [29, 172]
abbrev dktX1_queueMessage_2 : List UInt8 := dkwX1_queueMessage_2 ++ []
def dkwX1_queueMessage_1 : List UInt8 := [167, 0, 4, 3, 184, 0, 123, 42, 27, 44, 186, 1, 219, 0, 0, 182, 1, 192, 62, 42, 3, 181, 0, 108]
abbrev dktX1_queueMessage_1 : List UInt8 := dkwX1_queueMessage_1 ++ dktX1_queueMessage_2
def dkwX1_queueMessage_0 : List UInt8 := [42, 182, 1, 216, 77, 27, 133, 9, 10, 184, 0, 119, 153, 0, 14, 44, 182, 1, 9, 158, 0, 7, 4]
abbrev dktX1_queueMessage_0 : List UInt8 := dkwX1_queueMessage_0 ++ dktX1_queueMessage_1
theorem dksX1_queueMessage_0 : cX1_queueMessage.data.toList.drop 0 = dktX1_queueMessage_0 := by decide +kernel
theorem dksX1_queueMessage_1 : cX1_queueMessage.data.toList.drop 23 = dktX1_queueMessage_1 := dk_seg dksX1_queueMessage_0 23 rfl rfl
theorem dksX1_queueMessage_2 : cX1_queueMessage.data.toList.drop 47 = dktX1_queueMessage_2 := dk_seg dksX1_queueMessage_1 24 rfl rfl
theorem dX1_queueMessage_0 : decode cX1_queueMessage 0 = .ok (.aload_n 0, 1) := dk_42 (dk_at dksX1_queueMessage_0 0 rfl rfl)
theorem dX1_queueMessage_1 : decode cX1_queueMessage 1 = .ok (.invokevirtual 472, 3) := dk_182 1 216 (dk_at dksX1_queueMessage_0 1 rfl rfl)
theorem dX1_queueMessage_4 : decode cX1_queueMessage 4 = .ok (.astore_n 2, 1) := dk_77 (dk_at dksX1_queueMessage_0 4 rfl rfl)
theorem dX1_queueMessage_5 : decode cX1_queueMessage 5 = .ok (.iload_n 1, 1) := dk_27 (dk_at dksX1_queueMessage_0 5 rfl rfl)
theorem dX1_queueMessage_6 : decode cX1_queueMessage 6 = .ok (.i2l, 1) := dk_133 (dk_at dksX1_queueMessage_0 6 rfl rfl)
theorem dX1_queueMessage_7 : decode cX1_queueMessage 7 = .ok (.lconst 0, 1) := dk_9 (dk_at dksX1_queueMessage_0 7 rfl rfl)
theorem dX1_queueMessage_8 : decode cX1_queueMessage 8 = .ok (.lconst 1, 1) := dk_10 (dk_at dksX1_queueMessage_0 8 rfl rfl)
theorem dX1_queueMessage_9 : decode cX1_queueMessage 9 = .ok (.invokestatic 119, 3) := dk_184 0 119 (dk_at dksX1_queueMessage_0 9 rfl rfl)
theorem dX1_queueMessage_12 : decode cX1_queueMessage 12 = .ok (.ifCond .eq 14, 3) := dk_153 0 14 (dk_at dksX1_queueMessage_0 12 rfl rfl)
theorem dX1_queueMessage_15 : decode cX1_queueMessage 15 = .ok (.aload_n 2, 1) := dk_44 (dk_at dksX1_queueMessage_0 15 rfl rfl)
theorem dX1_queueMessage_16 : decode cX1_queueMessage 16 = .ok (.invokevirtual 265, 3) := dk_182 1 9 (dk_at dksX1_queueMessage_0 16 rfl rfl)
theorem dX1_queueMessage_19 : decode cX1_queueMessage 19 = .ok (.ifCond .le 7, 3) := dk_158 0 7 (dk_at dksX1_queueMessage_0 19 rfl rfl)
theorem dX1_queueMessage_22 : decode cX1_queueMessage 22 = .ok (.iconst 1, 1) := dk_4 (dk_at dksX1_queueMessage_0 22 rfl rfl)
theorem dX1_queueMessage_23 : decode cX1_queueMessage 23 = .ok (.goto 4, 3) := dk_167 0 4 (dk_at dksX1_queueMessage_1 0 rfl rfl)
theorem dX1_queueMessage_26 : decode cX1_queueMessage 26 = .ok (.iconst 0, 1) := dk_3 (dk_at dksX1_queueMessage_1 3 rfl rfl)
theorem dX1_queueMessage_27 : decode cX1_queueMessage 27 = .ok (.invokestatic 123, 3) := dk_184 0 123 (dk_at dksX1_queueMessage_1 4 rfl rfl)
theorem dX1_queueMessage_30 : decode cX1_queueMessage 30 = .ok (.aload_n 0, 1) := dk_42 (dk_at dksX1_queueMessage_1 7 rfl rfl)
theorem dX1_queueMessage_31 : decode cX1_queueMessage 31 = .ok (.iload_n 1, 1) := dk_27 (dk_at dksX1_queueMessage_1 8 rfl rfl)
theorem dX1_queueMessage_32 : decode cX1_queueMessage 32 = .ok (.aload_n 2, 1) := dk_44 (dk_at dksX1_queueMessage_1 9 rfl rfl)
theorem dX1_queueMessage_33 : decode cX1_queueMessage 33 = .ok (.invokedynamic 475, 5) := by decide +kernel
theorem dX1_queueMessage_38 : decode cX1_queueMessage 38 = .ok (.invokevirtual 448, 3) := dk_182 1 192 (dk_at dksX1_queueMessage_1 15 rfl rfl)
theorem dX1_queueMessage_41 : decode cX1_queueMessage 41 = .ok (.istore_n 3, 1) := dk_62 (dk_at dksX1_queueMessage_1 18 rfl rfl)
theorem dX1_queueMessage_42 : decode cX1_queueMessage 42 = .ok (.aload_n 0, 1) := dk_42 (dk_at dksX1_queueMessage_1 19 rfl rfl)
theorem dX1_queueMessage_43 : decode cX1_queueMessage 43 = .ok (.iconst 0, 1) := dk_3 (dk_at dksX1_queueMessage_1 20 rfl rfl)
theorem dX1_queueMessage_44 : decode cX1_queueMessage 44 = .ok (.putfield 108, 3) := dk_181 0 108 (dk_at dksX1_queueMessage_1 21 rfl rfl)
theorem dX1_queueMessage_47 : decode cX1_queueMessage 47 = .ok (.iload_n 3, 1) := dk_29 (dk_at dksX1_queueMessage_2 0 rfl rfl)
theorem dX1_queueMessage_48 : decode cX1_queueMessage 48 = .ok (.ireturn, 1) := dk_172 (dk_at dksX1_queueMessage_2 1 rfl rfl)
abbrev cX1_bufferWord : ByteArray := prog_1_method_90_code
def yX1_bufferWord : MethodName := ⟨RX1, "bufferWord", "()Ljava/lang/String;"⟩
def dkwX1_bufferWord_3 : List UInt8 := [164, 0, 9, 19, 1, 205, 167, 0, 7, 43, 182, 1, 212, 176]
abbrev dktX1_bufferWord_3 : List UInt8 := dkwX1_bufferWord_3 ++ []
def dkwX1_bufferWord_2 : List UInt8 := [42, 180, 0, 35, 28, 51, 146, 182, 1, 207, 87, 132, 2, 1, 167, 255, 204, 43, 182, 1, 211, 16, 12]
abbrev dktX1_bufferWord_2 : List UInt8 := dkwX1_bufferWord_2 ++ dktX1_bufferWord_3
def dkwX1_bufferWord_1 : List UInt8 := [42, 180, 0, 35, 28, 51, 133, 20, 1, 185, 20, 1, 187, 184, 0, 119, 154, 0, 7, 19, 1, 205, 176, 43]
abbrev dktX1_bufferWord_1 : List UInt8 := dkwX1_bufferWord_1 ++ dktX1_bufferWord_2
def dkwX1_bufferWord_0 : List UInt8 := [187, 0, 43, 89, 183, 0, 45, 76, 3, 61, 28, 42, 180, 0, 108, 162, 0, 50, 28, 16, 12, 163, 0, 44]
abbrev dktX1_bufferWord_0 : List UInt8 := dkwX1_bufferWord_0 ++ dktX1_bufferWord_1
theorem dksX1_bufferWord_0 : cX1_bufferWord.data.toList.drop 0 = dktX1_bufferWord_0 := by decide +kernel
theorem dksX1_bufferWord_1 : cX1_bufferWord.data.toList.drop 24 = dktX1_bufferWord_1 := dk_seg dksX1_bufferWord_0 24 rfl rfl
theorem dksX1_bufferWord_2 : cX1_bufferWord.data.toList.drop 48 = dktX1_bufferWord_2 := dk_seg dksX1_bufferWord_1 24 rfl rfl
theorem dksX1_bufferWord_3 : cX1_bufferWord.data.toList.drop 71 = dktX1_bufferWord_3 := dk_seg dksX1_bufferWord_2 23 rfl rfl
theorem dX1_bufferWord_0 : decode cX1_bufferWord 0 = .ok (.new 43, 3) := dk_187 0 43 (dk_at dksX1_bufferWord_0 0 rfl rfl)
theorem dX1_bufferWord_3 : decode cX1_bufferWord 3 = .ok (.dup, 1) := dk_89 (dk_at dksX1_bufferWord_0 3 rfl rfl)
theorem dX1_bufferWord_4 : decode cX1_bufferWord 4 = .ok (.invokespecial 45, 3) := dk_183 0 45 (dk_at dksX1_bufferWord_0 4 rfl rfl)
theorem dX1_bufferWord_7 : decode cX1_bufferWord 7 = .ok (.astore_n 1, 1) := dk_76 (dk_at dksX1_bufferWord_0 7 rfl rfl)
theorem dX1_bufferWord_8 : decode cX1_bufferWord 8 = .ok (.iconst 0, 1) := dk_3 (dk_at dksX1_bufferWord_0 8 rfl rfl)
theorem dX1_bufferWord_9 : decode cX1_bufferWord 9 = .ok (.istore_n 2, 1) := dk_61 (dk_at dksX1_bufferWord_0 9 rfl rfl)
theorem dX1_bufferWord_10 : decode cX1_bufferWord 10 = .ok (.iload_n 2, 1) := dk_28 (dk_at dksX1_bufferWord_0 10 rfl rfl)
theorem dX1_bufferWord_11 : decode cX1_bufferWord 11 = .ok (.aload_n 0, 1) := dk_42 (dk_at dksX1_bufferWord_0 11 rfl rfl)
theorem dX1_bufferWord_12 : decode cX1_bufferWord 12 = .ok (.getfield 108, 3) := dk_180 0 108 (dk_at dksX1_bufferWord_0 12 rfl rfl)
theorem dX1_bufferWord_15 : decode cX1_bufferWord 15 = .ok (.if_icmp .ge 50, 3) := dk_162 0 50 (dk_at dksX1_bufferWord_0 15 rfl rfl)
theorem dX1_bufferWord_18 : decode cX1_bufferWord 18 = .ok (.iload_n 2, 1) := dk_28 (dk_at dksX1_bufferWord_0 18 rfl rfl)
theorem dX1_bufferWord_19 : decode cX1_bufferWord 19 = .ok (.bipush 12, 2) := dk_16 12 (dk_at dksX1_bufferWord_0 19 rfl rfl)
theorem dX1_bufferWord_21 : decode cX1_bufferWord 21 = .ok (.if_icmp .gt 44, 3) := dk_163 0 44 (dk_at dksX1_bufferWord_0 21 rfl rfl)
theorem dX1_bufferWord_24 : decode cX1_bufferWord 24 = .ok (.aload_n 0, 1) := dk_42 (dk_at dksX1_bufferWord_1 0 rfl rfl)
theorem dX1_bufferWord_25 : decode cX1_bufferWord 25 = .ok (.getfield 35, 3) := dk_180 0 35 (dk_at dksX1_bufferWord_1 1 rfl rfl)
theorem dX1_bufferWord_28 : decode cX1_bufferWord 28 = .ok (.iload_n 2, 1) := dk_28 (dk_at dksX1_bufferWord_1 4 rfl rfl)
theorem dX1_bufferWord_29 : decode cX1_bufferWord 29 = .ok (.baload, 1) := dk_51 (dk_at dksX1_bufferWord_1 5 rfl rfl)
theorem dX1_bufferWord_30 : decode cX1_bufferWord 30 = .ok (.i2l, 1) := dk_133 (dk_at dksX1_bufferWord_1 6 rfl rfl)
theorem dX1_bufferWord_31 : decode cX1_bufferWord 31 = .ok (.ldc2_w 441, 3) := dk_20 1 185 (dk_at dksX1_bufferWord_1 7 rfl rfl)
theorem dX1_bufferWord_34 : decode cX1_bufferWord 34 = .ok (.ldc2_w 443, 3) := dk_20 1 187 (dk_at dksX1_bufferWord_1 10 rfl rfl)
theorem dX1_bufferWord_37 : decode cX1_bufferWord 37 = .ok (.invokestatic 119, 3) := dk_184 0 119 (dk_at dksX1_bufferWord_1 13 rfl rfl)
theorem dX1_bufferWord_40 : decode cX1_bufferWord 40 = .ok (.ifCond .ne 7, 3) := dk_154 0 7 (dk_at dksX1_bufferWord_1 16 rfl rfl)
theorem dX1_bufferWord_43 : decode cX1_bufferWord 43 = .ok (.ldc_w 461, 3) := dk_19 1 205 (dk_at dksX1_bufferWord_1 19 rfl rfl)
theorem dX1_bufferWord_46 : decode cX1_bufferWord 46 = .ok (.areturn, 1) := dk_176 (dk_at dksX1_bufferWord_1 22 rfl rfl)
theorem dX1_bufferWord_47 : decode cX1_bufferWord 47 = .ok (.aload_n 1, 1) := dk_43 (dk_at dksX1_bufferWord_1 23 rfl rfl)
theorem dX1_bufferWord_48 : decode cX1_bufferWord 48 = .ok (.aload_n 0, 1) := dk_42 (dk_at dksX1_bufferWord_2 0 rfl rfl)
theorem dX1_bufferWord_49 : decode cX1_bufferWord 49 = .ok (.getfield 35, 3) := dk_180 0 35 (dk_at dksX1_bufferWord_2 1 rfl rfl)
theorem dX1_bufferWord_52 : decode cX1_bufferWord 52 = .ok (.iload_n 2, 1) := dk_28 (dk_at dksX1_bufferWord_2 4 rfl rfl)
theorem dX1_bufferWord_53 : decode cX1_bufferWord 53 = .ok (.baload, 1) := dk_51 (dk_at dksX1_bufferWord_2 5 rfl rfl)
theorem dX1_bufferWord_54 : decode cX1_bufferWord 54 = .ok (.i2c, 1) := dk_146 (dk_at dksX1_bufferWord_2 6 rfl rfl)
theorem dX1_bufferWord_55 : decode cX1_bufferWord 55 = .ok (.invokevirtual 463, 3) := dk_182 1 207 (dk_at dksX1_bufferWord_2 7 rfl rfl)
theorem dX1_bufferWord_58 : decode cX1_bufferWord 58 = .ok (.pop, 1) := dk_87 (dk_at dksX1_bufferWord_2 10 rfl rfl)
theorem dX1_bufferWord_59 : decode cX1_bufferWord 59 = .ok (.iinc 2 1, 3) := dk_132 2 1 (dk_at dksX1_bufferWord_2 11 rfl rfl)
theorem dX1_bufferWord_62 : decode cX1_bufferWord 62 = .ok (.goto (-52), 3) := dk_167 255 204 (dk_at dksX1_bufferWord_2 14 rfl rfl)
theorem dX1_bufferWord_65 : decode cX1_bufferWord 65 = .ok (.aload_n 1, 1) := dk_43 (dk_at dksX1_bufferWord_2 17 rfl rfl)
theorem dX1_bufferWord_66 : decode cX1_bufferWord 66 = .ok (.invokevirtual 467, 3) := dk_182 1 211 (dk_at dksX1_bufferWord_2 18 rfl rfl)
theorem dX1_bufferWord_69 : decode cX1_bufferWord 69 = .ok (.bipush 12, 2) := dk_16 12 (dk_at dksX1_bufferWord_2 21 rfl rfl)
theorem dX1_bufferWord_71 : decode cX1_bufferWord 71 = .ok (.if_icmp .le 9, 3) := dk_164 0 9 (dk_at dksX1_bufferWord_3 0 rfl rfl)
theorem dX1_bufferWord_74 : decode cX1_bufferWord 74 = .ok (.ldc_w 461, 3) := dk_19 1 205 (dk_at dksX1_bufferWord_3 3 rfl rfl)
theorem dX1_bufferWord_77 : decode cX1_bufferWord 77 = .ok (.goto 7, 3) := dk_167 0 7 (dk_at dksX1_bufferWord_3 6 rfl rfl)
theorem dX1_bufferWord_80 : decode cX1_bufferWord 80 = .ok (.aload_n 1, 1) := dk_43 (dk_at dksX1_bufferWord_3 9 rfl rfl)
theorem dX1_bufferWord_81 : decode cX1_bufferWord 81 = .ok (.invokevirtual 468, 3) := dk_182 1 212 (dk_at dksX1_bufferWord_3 10 rfl rfl)
theorem dX1_bufferWord_84 : decode cX1_bufferWord 84 = .ok (.areturn, 1) := dk_176 (dk_at dksX1_bufferWord_3 13 rfl rfl)
abbrev cX1_lambda_queueMessage_4 : ByteArray := prog_1_method_104_code
def yX1_lambda_queueMessage_4 : MethodName := ⟨RX1, "lambda$queueMessage$4", "(ILjava/lang/String;LHedgeMessages$State;)I"⟩
def dkwX1_lambda_queueMessage_4_0 : List UInt8 := [44, 26, 43, 184, 1, 251, 172]
abbrev dktX1_lambda_queueMessage_4_0 : List UInt8 := dkwX1_lambda_queueMessage_4_0 ++ []
theorem dksX1_lambda_queueMessage_4_0 : cX1_lambda_queueMessage_4.data.toList.drop 0 = dktX1_lambda_queueMessage_4_0 := by decide +kernel
theorem dX1_lambda_queueMessage_4_0 : decode cX1_lambda_queueMessage_4 0 = .ok (.aload_n 2, 1) := dk_44 (dk_at dksX1_lambda_queueMessage_4_0 0 rfl rfl)
theorem dX1_lambda_queueMessage_4_1 : decode cX1_lambda_queueMessage_4 1 = .ok (.iload_n 0, 1) := dk_26 (dk_at dksX1_lambda_queueMessage_4_0 1 rfl rfl)
theorem dX1_lambda_queueMessage_4_2 : decode cX1_lambda_queueMessage_4 2 = .ok (.aload_n 1, 1) := dk_43 (dk_at dksX1_lambda_queueMessage_4_0 2 rfl rfl)
theorem dX1_lambda_queueMessage_4_3 : decode cX1_lambda_queueMessage_4 3 = .ok (.invokestatic 507, 3) := dk_184 1 251 (dk_at dksX1_lambda_queueMessage_4_0 3 rfl rfl)
theorem dX1_lambda_queueMessage_4_6 : decode cX1_lambda_queueMessage_4 6 = .ok (.ireturn, 1) := dk_172 (dk_at dksX1_lambda_queueMessage_4_0 6 rfl rfl)
abbrev cX1_cancelMessage : ByteArray := prog_1_method_92_code
def yX1_cancelMessage : MethodName := ⟨RX1, "cancelMessage", "(II)I"⟩
def dkwX1_cancelMessage_0 : List UInt8 := [27, 184, 0, 243, 42, 27, 28, 186, 1, 222, 0, 0, 182, 1, 192, 172]
abbrev dktX1_cancelMessage_0 : List UInt8 := dkwX1_cancelMessage_0 ++ []
theorem dksX1_cancelMessage_0 : cX1_cancelMessage.data.toList.drop 0 = dktX1_cancelMessage_0 := by decide +kernel
theorem dX1_cancelMessage_0 : decode cX1_cancelMessage 0 = .ok (.iload_n 1, 1) := dk_27 (dk_at dksX1_cancelMessage_0 0 rfl rfl)
theorem dX1_cancelMessage_1 : decode cX1_cancelMessage 1 = .ok (.invokestatic 243, 3) := dk_184 0 243 (dk_at dksX1_cancelMessage_0 1 rfl rfl)
theorem dX1_cancelMessage_4 : decode cX1_cancelMessage 4 = .ok (.aload_n 0, 1) := dk_42 (dk_at dksX1_cancelMessage_0 4 rfl rfl)
theorem dX1_cancelMessage_5 : decode cX1_cancelMessage 5 = .ok (.iload_n 1, 1) := dk_27 (dk_at dksX1_cancelMessage_0 5 rfl rfl)
theorem dX1_cancelMessage_6 : decode cX1_cancelMessage 6 = .ok (.iload_n 2, 1) := dk_28 (dk_at dksX1_cancelMessage_0 6 rfl rfl)
theorem dX1_cancelMessage_7 : decode cX1_cancelMessage 7 = .ok (.invokedynamic 478, 5) := by decide +kernel
theorem dX1_cancelMessage_12 : decode cX1_cancelMessage 12 = .ok (.invokevirtual 448, 3) := dk_182 1 192 (dk_at dksX1_cancelMessage_0 12 rfl rfl)
theorem dX1_cancelMessage_15 : decode cX1_cancelMessage 15 = .ok (.ireturn, 1) := dk_172 (dk_at dksX1_cancelMessage_0 15 rfl rfl)
abbrev cX1_lambda_cancelMessage_5 : ByteArray := prog_1_method_103_code
def yX1_lambda_cancelMessage_5 : MethodName := ⟨RX1, "lambda$cancelMessage$5", "(IILHedgeMessages$State;)I"⟩
def dkwX1_lambda_cancelMessage_5_0 : List UInt8 := [44, 26, 27, 184, 1, 247, 172]
abbrev dktX1_lambda_cancelMessage_5_0 : List UInt8 := dkwX1_lambda_cancelMessage_5_0 ++ []
theorem dksX1_lambda_cancelMessage_5_0 : cX1_lambda_cancelMessage_5.data.toList.drop 0 = dktX1_lambda_cancelMessage_5_0 := by decide +kernel
theorem dX1_lambda_cancelMessage_5_0 : decode cX1_lambda_cancelMessage_5 0 = .ok (.aload_n 2, 1) := dk_44 (dk_at dksX1_lambda_cancelMessage_5_0 0 rfl rfl)
theorem dX1_lambda_cancelMessage_5_1 : decode cX1_lambda_cancelMessage_5 1 = .ok (.iload_n 0, 1) := dk_26 (dk_at dksX1_lambda_cancelMessage_5_0 1 rfl rfl)
theorem dX1_lambda_cancelMessage_5_2 : decode cX1_lambda_cancelMessage_5 2 = .ok (.iload_n 1, 1) := dk_27 (dk_at dksX1_lambda_cancelMessage_5_0 2 rfl rfl)
theorem dX1_lambda_cancelMessage_5_3 : decode cX1_lambda_cancelMessage_5 3 = .ok (.invokestatic 503, 3) := dk_184 1 247 (dk_at dksX1_lambda_cancelMessage_5_0 3 rfl rfl)
theorem dX1_lambda_cancelMessage_5_6 : decode cX1_lambda_cancelMessage_5 6 = .ok (.ireturn, 1) := dk_172 (dk_at dksX1_lambda_cancelMessage_5_0 6 rfl rfl)
abbrev cX1_setWorkLimit : ByteArray := prog_1_method_93_code
def yX1_setWorkLimit : MethodName := ⟨RX1, "setWorkLimit", "(I)I"⟩
def dkwX1_setWorkLimit_0 : List UInt8 := [27, 133, 10, 20, 1, 223, 184, 0, 119, 184, 0, 123, 42, 27, 186, 1, 225, 0, 0, 182, 1, 192, 172]
abbrev dktX1_setWorkLimit_0 : List UInt8 := dkwX1_setWorkLimit_0 ++ []
theorem dksX1_setWorkLimit_0 : cX1_setWorkLimit.data.toList.drop 0 = dktX1_setWorkLimit_0 := by decide +kernel
theorem dX1_setWorkLimit_0 : decode cX1_setWorkLimit 0 = .ok (.iload_n 1, 1) := dk_27 (dk_at dksX1_setWorkLimit_0 0 rfl rfl)
theorem dX1_setWorkLimit_1 : decode cX1_setWorkLimit 1 = .ok (.i2l, 1) := dk_133 (dk_at dksX1_setWorkLimit_0 1 rfl rfl)
theorem dX1_setWorkLimit_2 : decode cX1_setWorkLimit 2 = .ok (.lconst 1, 1) := dk_10 (dk_at dksX1_setWorkLimit_0 2 rfl rfl)
theorem dX1_setWorkLimit_3 : decode cX1_setWorkLimit 3 = .ok (.ldc2_w 479, 3) := dk_20 1 223 (dk_at dksX1_setWorkLimit_0 3 rfl rfl)
theorem dX1_setWorkLimit_6 : decode cX1_setWorkLimit 6 = .ok (.invokestatic 119, 3) := dk_184 0 119 (dk_at dksX1_setWorkLimit_0 6 rfl rfl)
theorem dX1_setWorkLimit_9 : decode cX1_setWorkLimit 9 = .ok (.invokestatic 123, 3) := dk_184 0 123 (dk_at dksX1_setWorkLimit_0 9 rfl rfl)
theorem dX1_setWorkLimit_12 : decode cX1_setWorkLimit 12 = .ok (.aload_n 0, 1) := dk_42 (dk_at dksX1_setWorkLimit_0 12 rfl rfl)
theorem dX1_setWorkLimit_13 : decode cX1_setWorkLimit 13 = .ok (.iload_n 1, 1) := dk_27 (dk_at dksX1_setWorkLimit_0 13 rfl rfl)
theorem dX1_setWorkLimit_14 : decode cX1_setWorkLimit 14 = .ok (.invokedynamic 481, 5) := by decide +kernel
theorem dX1_setWorkLimit_19 : decode cX1_setWorkLimit 19 = .ok (.invokevirtual 448, 3) := dk_182 1 192 (dk_at dksX1_setWorkLimit_0 19 rfl rfl)
theorem dX1_setWorkLimit_22 : decode cX1_setWorkLimit 22 = .ok (.ireturn, 1) := dk_172 (dk_at dksX1_setWorkLimit_0 22 rfl rfl)
abbrev cX1_lambda_setWorkLimit_6 : ByteArray := prog_1_method_102_code
def yX1_lambda_setWorkLimit_6 : MethodName := ⟨RX1, "lambda$setWorkLimit$6", "(ILHedgeMessages$State;)I"⟩
def dkwX1_lambda_setWorkLimit_6_0 : List UInt8 := [43, 26, 184, 1, 244, 172]
abbrev dktX1_lambda_setWorkLimit_6_0 : List UInt8 := dkwX1_lambda_setWorkLimit_6_0 ++ []
theorem dksX1_lambda_setWorkLimit_6_0 : cX1_lambda_setWorkLimit_6.data.toList.drop 0 = dktX1_lambda_setWorkLimit_6_0 := by decide +kernel
theorem dX1_lambda_setWorkLimit_6_0 : decode cX1_lambda_setWorkLimit_6 0 = .ok (.aload_n 1, 1) := dk_43 (dk_at dksX1_lambda_setWorkLimit_6_0 0 rfl rfl)
theorem dX1_lambda_setWorkLimit_6_1 : decode cX1_lambda_setWorkLimit_6 1 = .ok (.iload_n 0, 1) := dk_26 (dk_at dksX1_lambda_setWorkLimit_6_0 1 rfl rfl)
theorem dX1_lambda_setWorkLimit_6_2 : decode cX1_lambda_setWorkLimit_6 2 = .ok (.invokestatic 500, 3) := dk_184 1 244 (dk_at dksX1_lambda_setWorkLimit_6_0 2 rfl rfl)
theorem dX1_lambda_setWorkLimit_6_5 : decode cX1_lambda_setWorkLimit_6 5 = .ok (.ireturn, 1) := dk_172 (dk_at dksX1_lambda_setWorkLimit_6_0 5 rfl rfl)
abbrev cX1_endDays : ByteArray := prog_1_method_94_code
def yX1_endDays : MethodName := ⟨RX1, "endDays", "(I)I"⟩
def dkwX1_endDays_0 : List UInt8 := [27, 133, 10, 20, 1, 105, 184, 0, 119, 184, 0, 123, 42, 27, 186, 1, 226, 0, 0, 182, 1, 192, 172]
abbrev dktX1_endDays_0 : List UInt8 := dkwX1_endDays_0 ++ []
theorem dksX1_endDays_0 : cX1_endDays.data.toList.drop 0 = dktX1_endDays_0 := by decide +kernel
theorem dX1_endDays_0 : decode cX1_endDays 0 = .ok (.iload_n 1, 1) := dk_27 (dk_at dksX1_endDays_0 0 rfl rfl)
theorem dX1_endDays_1 : decode cX1_endDays 1 = .ok (.i2l, 1) := dk_133 (dk_at dksX1_endDays_0 1 rfl rfl)
theorem dX1_endDays_2 : decode cX1_endDays 2 = .ok (.lconst 1, 1) := dk_10 (dk_at dksX1_endDays_0 2 rfl rfl)
theorem dX1_endDays_3 : decode cX1_endDays 3 = .ok (.ldc2_w 361, 3) := dk_20 1 105 (dk_at dksX1_endDays_0 3 rfl rfl)
theorem dX1_endDays_6 : decode cX1_endDays 6 = .ok (.invokestatic 119, 3) := dk_184 0 119 (dk_at dksX1_endDays_0 6 rfl rfl)
theorem dX1_endDays_9 : decode cX1_endDays 9 = .ok (.invokestatic 123, 3) := dk_184 0 123 (dk_at dksX1_endDays_0 9 rfl rfl)
theorem dX1_endDays_12 : decode cX1_endDays 12 = .ok (.aload_n 0, 1) := dk_42 (dk_at dksX1_endDays_0 12 rfl rfl)
theorem dX1_endDays_13 : decode cX1_endDays 13 = .ok (.iload_n 1, 1) := dk_27 (dk_at dksX1_endDays_0 13 rfl rfl)
theorem dX1_endDays_14 : decode cX1_endDays 14 = .ok (.invokedynamic 482, 5) := by decide +kernel
theorem dX1_endDays_19 : decode cX1_endDays 19 = .ok (.invokevirtual 448, 3) := dk_182 1 192 (dk_at dksX1_endDays_0 19 rfl rfl)
theorem dX1_endDays_22 : decode cX1_endDays 22 = .ok (.ireturn, 1) := dk_172 (dk_at dksX1_endDays_0 22 rfl rfl)
abbrev cX1_lambda_endDays_7 : ByteArray := prog_1_method_101_code
def yX1_lambda_endDays_7 : MethodName := ⟨RX1, "lambda$endDays$7", "(ILHedgeMessages$State;)I"⟩
def dkwX1_lambda_endDays_7_0 : List UInt8 := [43, 26, 184, 1, 241, 172]
abbrev dktX1_lambda_endDays_7_0 : List UInt8 := dkwX1_lambda_endDays_7_0 ++ []
theorem dksX1_lambda_endDays_7_0 : cX1_lambda_endDays_7.data.toList.drop 0 = dktX1_lambda_endDays_7_0 := by decide +kernel
theorem dX1_lambda_endDays_7_0 : decode cX1_lambda_endDays_7 0 = .ok (.aload_n 1, 1) := dk_43 (dk_at dksX1_lambda_endDays_7_0 0 rfl rfl)
theorem dX1_lambda_endDays_7_1 : decode cX1_lambda_endDays_7 1 = .ok (.iload_n 0, 1) := dk_26 (dk_at dksX1_lambda_endDays_7_0 1 rfl rfl)
theorem dX1_lambda_endDays_7_2 : decode cX1_lambda_endDays_7 2 = .ok (.invokestatic 497, 3) := dk_184 1 241 (dk_at dksX1_lambda_endDays_7_0 2 rfl rfl)
theorem dX1_lambda_endDays_7_5 : decode cX1_lambda_endDays_7 5 = .ok (.ireturn, 1) := dk_172 (dk_at dksX1_lambda_endDays_7_0 5 rfl rfl)
abbrev cX1_undo : ByteArray := prog_1_method_95_code
def yX1_undo : MethodName := ⟨RX1, "undo", "()I"⟩
def dkwX1_undo_1 : List UInt8 := [182, 1, 228, 192, 0, 50, 181, 0, 22, 42, 180, 0, 31, 182, 0, 96, 172]
abbrev dktX1_undo_1 : List UInt8 := dkwX1_undo_1 ++ []
def dkwX1_undo_0 : List UInt8 := [42, 180, 0, 31, 182, 1, 227, 154, 0, 7, 4, 167, 0, 4, 3, 184, 0, 111, 42, 42, 180, 0, 31]
abbrev dktX1_undo_0 : List UInt8 := dkwX1_undo_0 ++ dktX1_undo_1
theorem dksX1_undo_0 : cX1_undo.data.toList.drop 0 = dktX1_undo_0 := by decide +kernel
theorem dksX1_undo_1 : cX1_undo.data.toList.drop 23 = dktX1_undo_1 := dk_seg dksX1_undo_0 23 rfl rfl
theorem dX1_undo_0 : decode cX1_undo 0 = .ok (.aload_n 0, 1) := dk_42 (dk_at dksX1_undo_0 0 rfl rfl)
theorem dX1_undo_1 : decode cX1_undo 1 = .ok (.getfield 31, 3) := dk_180 0 31 (dk_at dksX1_undo_0 1 rfl rfl)
theorem dX1_undo_4 : decode cX1_undo 4 = .ok (.invokevirtual 483, 3) := dk_182 1 227 (dk_at dksX1_undo_0 4 rfl rfl)
theorem dX1_undo_7 : decode cX1_undo 7 = .ok (.ifCond .ne 7, 3) := dk_154 0 7 (dk_at dksX1_undo_0 7 rfl rfl)
theorem dX1_undo_10 : decode cX1_undo 10 = .ok (.iconst 1, 1) := dk_4 (dk_at dksX1_undo_0 10 rfl rfl)
theorem dX1_undo_11 : decode cX1_undo 11 = .ok (.goto 4, 3) := dk_167 0 4 (dk_at dksX1_undo_0 11 rfl rfl)
theorem dX1_undo_14 : decode cX1_undo 14 = .ok (.iconst 0, 1) := dk_3 (dk_at dksX1_undo_0 14 rfl rfl)
theorem dX1_undo_15 : decode cX1_undo 15 = .ok (.invokestatic 111, 3) := dk_184 0 111 (dk_at dksX1_undo_0 15 rfl rfl)
theorem dX1_undo_18 : decode cX1_undo 18 = .ok (.aload_n 0, 1) := dk_42 (dk_at dksX1_undo_0 18 rfl rfl)
theorem dX1_undo_19 : decode cX1_undo 19 = .ok (.aload_n 0, 1) := dk_42 (dk_at dksX1_undo_0 19 rfl rfl)
theorem dX1_undo_20 : decode cX1_undo 20 = .ok (.getfield 31, 3) := dk_180 0 31 (dk_at dksX1_undo_0 20 rfl rfl)
theorem dX1_undo_23 : decode cX1_undo 23 = .ok (.invokevirtual 484, 3) := dk_182 1 228 (dk_at dksX1_undo_1 0 rfl rfl)
theorem dX1_undo_26 : decode cX1_undo 26 = .ok (.checkcast 50, 3) := dk_192 0 50 (dk_at dksX1_undo_1 3 rfl rfl)
theorem dX1_undo_29 : decode cX1_undo 29 = .ok (.putfield 22, 3) := dk_181 0 22 (dk_at dksX1_undo_1 6 rfl rfl)
theorem dX1_undo_32 : decode cX1_undo 32 = .ok (.aload_n 0, 1) := dk_42 (dk_at dksX1_undo_1 9 rfl rfl)
theorem dX1_undo_33 : decode cX1_undo 33 = .ok (.getfield 31, 3) := dk_180 0 31 (dk_at dksX1_undo_1 10 rfl rfl)
theorem dX1_undo_36 : decode cX1_undo 36 = .ok (.invokevirtual 96, 3) := dk_182 0 96 (dk_at dksX1_undo_1 13 rfl rfl)
theorem dX1_undo_39 : decode cX1_undo 39 = .ok (.ireturn, 1) := dk_172 (dk_at dksX1_undo_1 16 rfl rfl)
abbrev cX1_restore : ByteArray := prog_1_method_97_code
def yX1_restore : MethodName := ⟨RX1, "restore", "()I"⟩
def dkwX1_restore_1 : List UInt8 := [181, 0, 22, 42, 180, 0, 31, 182, 0, 176, 42, 180, 0, 22, 180, 0, 190, 172]
abbrev dktX1_restore_1 : List UInt8 := dkwX1_restore_1 ++ []
def dkwX1_restore_0 : List UInt8 := [42, 180, 1, 231, 198, 0, 7, 4, 167, 0, 4, 3, 184, 0, 111, 42, 42, 180, 1, 231, 182, 0, 83]
abbrev dktX1_restore_0 : List UInt8 := dkwX1_restore_0 ++ dktX1_restore_1
theorem dksX1_restore_0 : cX1_restore.data.toList.drop 0 = dktX1_restore_0 := by decide +kernel
theorem dksX1_restore_1 : cX1_restore.data.toList.drop 23 = dktX1_restore_1 := dk_seg dksX1_restore_0 23 rfl rfl
theorem dX1_restore_0 : decode cX1_restore 0 = .ok (.aload_n 0, 1) := dk_42 (dk_at dksX1_restore_0 0 rfl rfl)
theorem dX1_restore_1 : decode cX1_restore 1 = .ok (.getfield 487, 3) := dk_180 1 231 (dk_at dksX1_restore_0 1 rfl rfl)
theorem dX1_restore_4 : decode cX1_restore 4 = .ok (.ifnull 7, 3) := dk_198 0 7 (dk_at dksX1_restore_0 4 rfl rfl)
theorem dX1_restore_7 : decode cX1_restore 7 = .ok (.iconst 1, 1) := dk_4 (dk_at dksX1_restore_0 7 rfl rfl)
theorem dX1_restore_8 : decode cX1_restore 8 = .ok (.goto 4, 3) := dk_167 0 4 (dk_at dksX1_restore_0 8 rfl rfl)
theorem dX1_restore_11 : decode cX1_restore 11 = .ok (.iconst 0, 1) := dk_3 (dk_at dksX1_restore_0 11 rfl rfl)
theorem dX1_restore_12 : decode cX1_restore 12 = .ok (.invokestatic 111, 3) := dk_184 0 111 (dk_at dksX1_restore_0 12 rfl rfl)
theorem dX1_restore_15 : decode cX1_restore 15 = .ok (.aload_n 0, 1) := dk_42 (dk_at dksX1_restore_0 15 rfl rfl)
theorem dX1_restore_16 : decode cX1_restore 16 = .ok (.aload_n 0, 1) := dk_42 (dk_at dksX1_restore_0 16 rfl rfl)
theorem dX1_restore_17 : decode cX1_restore 17 = .ok (.getfield 487, 3) := dk_180 1 231 (dk_at dksX1_restore_0 17 rfl rfl)
theorem dX1_restore_20 : decode cX1_restore 20 = .ok (.invokevirtual 83, 3) := dk_182 0 83 (dk_at dksX1_restore_0 20 rfl rfl)
theorem dX1_restore_23 : decode cX1_restore 23 = .ok (.putfield 22, 3) := dk_181 0 22 (dk_at dksX1_restore_1 0 rfl rfl)
theorem dX1_restore_26 : decode cX1_restore 26 = .ok (.aload_n 0, 1) := dk_42 (dk_at dksX1_restore_1 3 rfl rfl)
theorem dX1_restore_27 : decode cX1_restore 27 = .ok (.getfield 31, 3) := dk_180 0 31 (dk_at dksX1_restore_1 4 rfl rfl)
theorem dX1_restore_30 : decode cX1_restore 30 = .ok (.invokevirtual 176, 3) := dk_182 0 176 (dk_at dksX1_restore_1 7 rfl rfl)
theorem dX1_restore_33 : decode cX1_restore 33 = .ok (.aload_n 0, 1) := dk_42 (dk_at dksX1_restore_1 10 rfl rfl)
theorem dX1_restore_34 : decode cX1_restore 34 = .ok (.getfield 22, 3) := dk_180 0 22 (dk_at dksX1_restore_1 11 rfl rfl)
theorem dX1_restore_37 : decode cX1_restore 37 = .ok (.getfield 190, 3) := dk_180 0 190 (dk_at dksX1_restore_1 14 rfl rfl)
theorem dX1_restore_40 : decode cX1_restore 40 = .ok (.ireturn, 1) := dk_172 (dk_at dksX1_restore_1 17 rfl rfl)
theorem q145 : (Jvm.Cond.initialized "HedgeMessages") ∈ lw_all := lw_g (lw_at lw_m1 1 rfl) rfl
theorem q188 : (Jvm.Cond.instantiable "HedgeMessages" (8 : Nat)) ∈ lw_all := lw_g (lw_at lw_m1 44 rfl) rfl
theorem q190 : (Jvm.Cond.instanceMethod ({ cls := "HedgeMessages", name := "<init>", desc := "()V" } : Jvm.MethodName)) ∈ lw_all := lw_g (lw_at lw_m1 46 rfl) rfl
theorem q191 : (Jvm.Cond.code ({ cls := "HedgeMessages", name := "<init>", desc := "()V" } : Jvm.MethodName) prog_1_method_5_code (1 : Nat) (Option.none : Option Jvm.ClassFile.FieldType)) ∈ lw_all := lw_g (lw_at lw_m1 47 rfl) rfl
theorem q192 : (Jvm.Cond.methodLink "HedgeMessages" (13 : Nat) ({ cls := "java/lang/Object", name := "<init>", desc := "()V" } : Jvm.MethodName)) ∈ lw_all := lw_g (lw_at lw_m1 48 rfl) rfl
theorem q195 : (Jvm.Cond.methodLink "HedgeMessages" (16 : Nat) ({ cls := "HedgeMessages", name := "initialState", desc := "()LHedgeMessages$State;" } : Jvm.MethodName)) ∈ lw_all := lw_g (lw_at lw_m1 51 rfl) rfl
theorem q196 : (Jvm.Cond.static ({ cls := "HedgeMessages", name := "initialState", desc := "()LHedgeMessages$State;" } : Jvm.MethodName)) ∈ lw_all := lw_g (lw_at lw_m1 52 rfl) rfl
theorem q197 : (Jvm.Cond.code ({ cls := "HedgeMessages", name := "initialState", desc := "()LHedgeMessages$State;" } : Jvm.MethodName) prog_1_method_6_code (1 : Nat) (Option.some (Jvm.ClassFile.FieldType.object "HedgeMessages$State"))) ∈ lw_all := lw_g (lw_at lw_m1 53 rfl) rfl
theorem q198 : (Jvm.Cond.classLink "HedgeMessages" (50 : Nat) "HedgeMessages$State") ∈ lw_all := lw_g (lw_at lw_m1 54 rfl) rfl
theorem q200 : (Jvm.Cond.methodLink "HedgeMessages" (52 : Nat) ({ cls := "HedgeMessages$State", name := "<init>", desc := "(IIIIII)V" } : Jvm.MethodName)) ∈ lw_all := lw_g (lw_at lw_m1 56 rfl) rfl
theorem q621 : (Jvm.Cond.selects "HedgeMessages" ({ cls := "java/lang/Object", name := "getClass", desc := "()Ljava/lang/Class;" } : Jvm.MethodName) ({ cls := "java/lang/Object", name := "getClass", desc := "()Ljava/lang/Class;" } : Jvm.MethodName)) ∈ lw_all := lw_g (lw_at lw_m2 237 rfl) rfl
theorem q655 : (Jvm.Cond.fieldLinkNest "HedgeMessages" (352 : Nat) "HedgeMessages$State" "legalLength" "I" "HedgeMessages") ∈ lw_tbl := lw_at lw_m3 31 rfl
theorem q657 : (Jvm.Cond.fieldLinkNest "HedgeMessages" (355 : Nat) "HedgeMessages$State" "interval" "I" "HedgeMessages") ∈ lw_tbl := lw_at lw_m3 33 rfl
theorem q659 : (Jvm.Cond.fieldLinkNest "HedgeMessages" (329 : Nat) "HedgeMessages$State" "yardSize" "I" "HedgeMessages") ∈ lw_tbl := lw_at lw_m3 35 rfl
theorem q663 : (Jvm.Cond.fieldLinkNest "HedgeMessages" (216 : Nat) "HedgeMessages$State" "twigs" "[LHedgeMessages$Twig;" "HedgeMessages") ∈ lw_tbl := lw_at lw_m3 39 rfl
theorem q665 : (Jvm.Cond.fieldLinkNest "HedgeMessages" (64 : Nat) "HedgeMessages$State" "nests" "[I" "HedgeMessages") ∈ lw_tbl := lw_at lw_m3 41 rfl
theorem q668 : (Jvm.Cond.fieldLinkNest "HedgeMessages" (246 : Nat) "HedgeMessages$State" "queues" "Ljava/util/List;" "HedgeMessages") ∈ lw_tbl := lw_at lw_m3 44 rfl
theorem q670 : (Jvm.Cond.fieldLinkNest "HedgeMessages" (271 : Nat) "HedgeMessages$State" "inProgress" "[LHedgeMessages$Message;" "HedgeMessages") ∈ lw_tbl := lw_at lw_m3 46 rfl
theorem q672 : (Jvm.Cond.fieldLinkNest "HedgeMessages" (371 : Nat) "HedgeMessages$State" "counters" "[LHedgeMessages$Counters;" "HedgeMessages") ∈ lw_tbl := lw_at lw_m3 48 rfl
theorem q674 : (Jvm.Cond.fieldLinkNest "HedgeMessages" (425 : Nat) "HedgeMessages$State" "posted" "Ljava/util/List;" "HedgeMessages") ∈ lw_tbl := lw_at lw_m3 50 rfl
theorem q676 : (Jvm.Cond.fieldLinkNest "HedgeMessages" (196 : Nat) "HedgeMessages$State" "workLimit" "I" "HedgeMessages") ∈ lw_tbl := lw_at lw_m3 52 rfl
theorem q678 : (Jvm.Cond.fieldLinkNest "HedgeMessages" (199 : Nat) "HedgeMessages$State" "actionsLeft" "I" "HedgeMessages") ∈ lw_tbl := lw_at lw_m3 54 rfl
theorem q680 : (Jvm.Cond.fieldLinkNest "HedgeMessages" (190 : Nat) "HedgeMessages$State" "day" "I" "HedgeMessages") ∈ lw_tbl := lw_at lw_m3 56 rfl
theorem q682 : (Jvm.Cond.fieldLinkNest "HedgeMessages" (409 : Nat) "HedgeMessages$State" "planted" "I" "HedgeMessages") ∈ lw_tbl := lw_at lw_m3 58 rfl
theorem q684 : (Jvm.Cond.fieldLinkNest "HedgeMessages" (412 : Nat) "HedgeMessages$State" "pruned" "I" "HedgeMessages") ∈ lw_tbl := lw_at lw_m3 60 rfl
theorem q686 : (Jvm.Cond.fieldLinkNest "HedgeMessages" (415 : Nat) "HedgeMessages$State" "removed" "I" "HedgeMessages") ∈ lw_tbl := lw_at lw_m3 62 rfl
theorem q720 : (Jvm.Cond.classLink "HedgeMessages" (55 : Nat) "HedgeMessages$Twig") ∈ lw_all := lw_g (lw_at lw_m3 96 rfl) rfl
theorem q722 : (Jvm.Cond.methodLink "HedgeMessages" (57 : Nat) ({ cls := "HedgeMessages$Twig", name := "<init>", desc := "(CII)V" } : Jvm.MethodName)) ∈ lw_all := lw_g (lw_at lw_m3 98 rfl) rfl
theorem q730 : (Jvm.Cond.fieldLinkNest "HedgeMessages" (224 : Nat) "HedgeMessages$Twig" "letter" "C" "HedgeMessages") ∈ lw_tbl := lw_at lw_m3 106 rfl
theorem q732 : (Jvm.Cond.fieldLinkNest "HedgeMessages" (228 : Nat) "HedgeMessages$Twig" "owner" "I" "HedgeMessages") ∈ lw_tbl := lw_at lw_m3 108 rfl
theorem q734 : (Jvm.Cond.fieldLinkNest "HedgeMessages" (336 : Nat) "HedgeMessages$Twig" "ofMessage" "Z" "HedgeMessages") ∈ lw_tbl := lw_at lw_m3 110 rfl
theorem q737 : (Jvm.Cond.fieldLinkNest "HedgeMessages" (231 : Nat) "HedgeMessages$Twig" "length" "I" "HedgeMessages") ∈ lw_tbl := lw_at lw_m3 113 rfl
theorem q747 : (Jvm.Cond.methodLink "HedgeMessages" (60 : Nat) ({ cls := "HedgeMessages$State", name := "plant", desc := "(ILHedgeMessages$Twig;)V" } : Jvm.MethodName)) ∈ lw_all := lw_g (lw_at lw_m3 123 rfl) rfl
theorem q751 : (Jvm.Cond.classLink "HedgeMessages" (68 : Nat) "HedgeMessages$Message") ∈ lw_all := lw_g (lw_at lw_m3 127 rfl) rfl
theorem q753 : (Jvm.Cond.stringRef "HedgeMessages" (70 : Nat) "hello") ∈ lw_tbl := lw_at lw_m3 129 rfl
theorem q754 : (Jvm.Cond.methodLink "HedgeMessages" (72 : Nat) ({ cls := "HedgeMessages$Message", name := "<init>", desc := "(ILjava/lang/String;)V" } : Jvm.MethodName)) ∈ lw_all := lw_g (lw_at lw_m3 130 rfl) rfl
theorem q760 : (Jvm.Cond.fieldLinkNest "HedgeMessages" (418 : Nat) "HedgeMessages$Message" "sender" "I" "HedgeMessages") ∈ lw_tbl := lw_at lw_m3 136 rfl
theorem q763 : (Jvm.Cond.fieldLinkNest "HedgeMessages" (261 : Nat) "HedgeMessages$Message" "word" "Ljava/lang/String;" "HedgeMessages") ∈ lw_tbl := lw_at lw_m3 139 rfl
theorem q766 : (Jvm.Cond.fieldLinkNest "HedgeMessages" (282 : Nat) "HedgeMessages$Message" "start" "I" "HedgeMessages") ∈ lw_tbl := lw_at lw_m3 142 rfl
theorem q769 : (Jvm.Cond.fieldLinkNest "HedgeMessages" (279 : Nat) "HedgeMessages$Message" "written" "I" "HedgeMessages") ∈ lw_tbl := lw_at lw_m3 145 rfl
theorem q779 : (Jvm.Cond.methodLink "HedgeMessages" (75 : Nat) ({ cls := "HedgeMessages$State", name := "queue", desc := "(LHedgeMessages$Message;)V" } : Jvm.MethodName)) ∈ lw_all := lw_g (lw_at lw_m3 155 rfl) rfl
theorem q808 : (Jvm.Cond.stringRef "HedgeMessages" (79 : Nat) "yes") ∈ lw_tbl := lw_at lw_m3 184 rfl
theorem q809 : (Jvm.Cond.stringRef "HedgeMessages" (81 : Nat) "no") ∈ lw_tbl := lw_at lw_m3 185 rfl
theorem q810 : (Jvm.Cond.classLink "HedgeMessages" (26 : Nat) "java/util/ArrayDeque") ∈ lw_all := lw_g (lw_at lw_m3 186 rfl) rfl
theorem q812 : (Jvm.Cond.methodLink "HedgeMessages" (28 : Nat) ({ cls := "java/util/ArrayDeque", name := "<init>", desc := "(I)V" } : Jvm.MethodName)) ∈ lw_all := lw_g (lw_at lw_m3 188 rfl) rfl
theorem q830 : (Jvm.Cond.classLink "HedgeMessages" (43 : Nat) "java/lang/StringBuilder") ∈ lw_all := lw_g (lw_at lw_m3 206 rfl) rfl
theorem q831 : (Jvm.Cond.methodLink "HedgeMessages" (45 : Nat) ({ cls := "java/lang/StringBuilder", name := "<init>", desc := "()V" } : Jvm.MethodName)) ∈ lw_all := lw_g (lw_at lw_m3 207 rfl) rfl
theorem q833 : (Jvm.Cond.fieldLink "HedgeMessages" (22 : Nat) "HedgeMessages" "state" "LHedgeMessages$State;") ∈ lw_all := lw_g (lw_at lw_m3 209 rfl) rfl
theorem q834 : (Jvm.Cond.fieldLink "HedgeMessages" (487 : Nat) "HedgeMessages" "savedState" "LHedgeMessages$State;") ∈ lw_all := lw_g (lw_at lw_m3 210 rfl) rfl
theorem q835 : (Jvm.Cond.fieldLink "HedgeMessages" (31 : Nat) "HedgeMessages" "history" "Ljava/util/ArrayDeque;") ∈ lw_all := lw_g (lw_at lw_m3 211 rfl) rfl
theorem q837 : (Jvm.Cond.fieldLink "HedgeMessages" (35 : Nat) "HedgeMessages" "buffer" "[B") ∈ lw_all := lw_g (lw_at lw_m3 213 rfl) rfl
theorem q839 : (Jvm.Cond.fieldLink "HedgeMessages" (108 : Nat) "HedgeMessages" "bufferLength" "I") ∈ lw_all := lw_g (lw_at lw_m3 215 rfl) rfl
theorem q840 : (Jvm.Cond.fieldLink "HedgeMessages" (155 : Nat) "HedgeMessages" "errorCode" "I") ∈ lw_all := lw_g (lw_at lw_m3 216 rfl) rfl
theorem q841 : (Jvm.Cond.fieldLink "HedgeMessages" (39 : Nat) "HedgeMessages" "errorPosition" "I") ∈ lw_all := lw_g (lw_at lw_m3 217 rfl) rfl
theorem q842 : (Jvm.Cond.fieldLink "HedgeMessages" (46 : Nat) "HedgeMessages" "output" "Ljava/lang/StringBuilder;") ∈ lw_all := lw_g (lw_at lw_m3 218 rfl) rfl
theorem q843 : (Jvm.Cond.lays "HedgeMessages" "HedgeMessages" "state" "LHedgeMessages$State;") ∈ lw_all := lw_g (lw_at lw_m3 219 rfl) rfl
theorem q844 : (Jvm.Cond.soleField "HedgeMessages" "state") ∈ lw_all := lw_g (lw_at lw_m3 220 rfl) rfl
theorem q845 : (Jvm.Cond.lays "HedgeMessages" "HedgeMessages" "savedState" "LHedgeMessages$State;") ∈ lw_all := lw_g (lw_at lw_m3 221 rfl) rfl
theorem q846 : (Jvm.Cond.soleField "HedgeMessages" "savedState") ∈ lw_all := lw_g (lw_at lw_m3 222 rfl) rfl
theorem q847 : (Jvm.Cond.laysFinal "HedgeMessages" "HedgeMessages" "history" "Ljava/util/ArrayDeque;") ∈ lw_all := lw_g (lw_at lw_m3 223 rfl) rfl
theorem q848 : (Jvm.Cond.soleField "HedgeMessages" "history") ∈ lw_all := lw_g (lw_at lw_m3 224 rfl) rfl
theorem q849 : (Jvm.Cond.laysFinal "HedgeMessages" "HedgeMessages" "buffer" "[B") ∈ lw_all := lw_g (lw_at lw_m3 225 rfl) rfl
theorem q850 : (Jvm.Cond.soleField "HedgeMessages" "buffer") ∈ lw_all := lw_g (lw_at lw_m3 226 rfl) rfl
theorem q851 : (Jvm.Cond.lays "HedgeMessages" "HedgeMessages" "bufferLength" "I") ∈ lw_all := lw_g (lw_at lw_m3 227 rfl) rfl
theorem q852 : (Jvm.Cond.soleField "HedgeMessages" "bufferLength") ∈ lw_all := lw_g (lw_at lw_m3 228 rfl) rfl
theorem q853 : (Jvm.Cond.lays "HedgeMessages" "HedgeMessages" "errorCode" "I") ∈ lw_all := lw_g (lw_at lw_m3 229 rfl) rfl
theorem q854 : (Jvm.Cond.soleField "HedgeMessages" "errorCode") ∈ lw_all := lw_g (lw_at lw_m3 230 rfl) rfl
theorem q855 : (Jvm.Cond.lays "HedgeMessages" "HedgeMessages" "errorPosition" "I") ∈ lw_all := lw_g (lw_at lw_m3 231 rfl) rfl
theorem q856 : (Jvm.Cond.soleField "HedgeMessages" "errorPosition") ∈ lw_all := lw_g (lw_at lw_m3 232 rfl) rfl
theorem q857 : (Jvm.Cond.laysFinal "HedgeMessages" "HedgeMessages" "output" "Ljava/lang/StringBuilder;") ∈ lw_all := lw_g (lw_at lw_m3 233 rfl) rfl
theorem q858 : (Jvm.Cond.soleField "HedgeMessages" "output") ∈ lw_all := lw_g (lw_at lw_m3 234 rfl) rfl
theorem q859 : (Jvm.Cond.superclass "HedgeMessages" "java/lang/Object") ∈ lw_all := lw_g (lw_at lw_m3 235 rfl) rfl
theorem q861 : (Jvm.Cond.instanceMethod ({ cls := "HedgeMessages", name := "errorCode", desc := "()I" } : Jvm.MethodName)) ∈ lw_all := lw_g (lw_at lw_m3 237 rfl) rfl
theorem q862 : (Jvm.Cond.selects "HedgeMessages" ({ cls := "HedgeMessages", name := "errorCode", desc := "()I" } : Jvm.MethodName) ({ cls := "HedgeMessages", name := "errorCode", desc := "()I" } : Jvm.MethodName)) ∈ lw_all := lw_g (lw_at lw_m3 238 rfl) rfl
theorem q863 : (Jvm.Cond.code ({ cls := "HedgeMessages", name := "errorCode", desc := "()I" } : Jvm.MethodName) prog_1_method_18_code (1 : Nat) (Option.some Jvm.ClassFile.FieldType.int)) ∈ lw_all := lw_g (lw_at lw_m3 239 rfl) rfl
theorem q865 : (Jvm.Cond.instanceMethod ({ cls := "HedgeMessages", name := "errorPosition", desc := "()I" } : Jvm.MethodName)) ∈ lw_all := lw_g (lw_at lw_m4 1 rfl) rfl
theorem q866 : (Jvm.Cond.selects "HedgeMessages" ({ cls := "HedgeMessages", name := "errorPosition", desc := "()I" } : Jvm.MethodName) ({ cls := "HedgeMessages", name := "errorPosition", desc := "()I" } : Jvm.MethodName)) ∈ lw_all := lw_g (lw_at lw_m4 2 rfl) rfl
theorem q867 : (Jvm.Cond.code ({ cls := "HedgeMessages", name := "errorPosition", desc := "()I" } : Jvm.MethodName) prog_1_method_19_code (1 : Nat) (Option.some Jvm.ClassFile.FieldType.int)) ∈ lw_all := lw_g (lw_at lw_m4 3 rfl) rfl
theorem q869 : (Jvm.Cond.instanceMethod ({ cls := "HedgeMessages", name := "slotCount", desc := "()I" } : Jvm.MethodName)) ∈ lw_all := lw_g (lw_at lw_m4 5 rfl) rfl
theorem q870 : (Jvm.Cond.selects "HedgeMessages" ({ cls := "HedgeMessages", name := "slotCount", desc := "()I" } : Jvm.MethodName) ({ cls := "HedgeMessages", name := "slotCount", desc := "()I" } : Jvm.MethodName)) ∈ lw_all := lw_g (lw_at lw_m4 6 rfl) rfl
theorem q871 : (Jvm.Cond.code ({ cls := "HedgeMessages", name := "slotCount", desc := "()I" } : Jvm.MethodName) prog_1_method_20_code (1 : Nat) (Option.some Jvm.ClassFile.FieldType.int)) ∈ lw_all := lw_g (lw_at lw_m4 7 rfl) rfl
theorem q872 : (Jvm.Cond.methodLink "HedgeMessages" (179 : Nat) ({ cls := "HedgeMessages$State", name := "slots", desc := "()I" } : Jvm.MethodName)) ∈ lw_all := lw_g (lw_at lw_m4 8 rfl) rfl
theorem q877 : (Jvm.Cond.instanceMethod ({ cls := "HedgeMessages", name := "day", desc := "()I" } : Jvm.MethodName)) ∈ lw_all := lw_g (lw_at lw_m4 13 rfl) rfl
theorem q878 : (Jvm.Cond.selects "HedgeMessages" ({ cls := "HedgeMessages", name := "day", desc := "()I" } : Jvm.MethodName) ({ cls := "HedgeMessages", name := "day", desc := "()I" } : Jvm.MethodName)) ∈ lw_all := lw_g (lw_at lw_m4 14 rfl) rfl
theorem q879 : (Jvm.Cond.code ({ cls := "HedgeMessages", name := "day", desc := "()I" } : Jvm.MethodName) prog_1_method_21_code (1 : Nat) (Option.some Jvm.ClassFile.FieldType.int)) ∈ lw_all := lw_g (lw_at lw_m4 15 rfl) rfl
theorem q881 : (Jvm.Cond.instanceMethod ({ cls := "HedgeMessages", name := "activeGardener", desc := "()I" } : Jvm.MethodName)) ∈ lw_all := lw_g (lw_at lw_m4 17 rfl) rfl
theorem q882 : (Jvm.Cond.selects "HedgeMessages" ({ cls := "HedgeMessages", name := "activeGardener", desc := "()I" } : Jvm.MethodName) ({ cls := "HedgeMessages", name := "activeGardener", desc := "()I" } : Jvm.MethodName)) ∈ lw_all := lw_g (lw_at lw_m4 18 rfl) rfl
theorem q883 : (Jvm.Cond.code ({ cls := "HedgeMessages", name := "activeGardener", desc := "()I" } : Jvm.MethodName) prog_1_method_22_code (1 : Nat) (Option.some Jvm.ClassFile.FieldType.int)) ∈ lw_all := lw_g (lw_at lw_m4 19 rfl) rfl
theorem q884 : (Jvm.Cond.methodLink "HedgeMessages" (193 : Nat) ({ cls := "HedgeMessages$State", name := "active", desc := "()I" } : Jvm.MethodName)) ∈ lw_all := lw_g (lw_at lw_m4 20 rfl) rfl
theorem q889 : (Jvm.Cond.instanceMethod ({ cls := "HedgeMessages", name := "workLimit", desc := "()I" } : Jvm.MethodName)) ∈ lw_all := lw_g (lw_at lw_m4 25 rfl) rfl
theorem q890 : (Jvm.Cond.selects "HedgeMessages" ({ cls := "HedgeMessages", name := "workLimit", desc := "()I" } : Jvm.MethodName) ({ cls := "HedgeMessages", name := "workLimit", desc := "()I" } : Jvm.MethodName)) ∈ lw_all := lw_g (lw_at lw_m4 26 rfl) rfl
theorem q891 : (Jvm.Cond.code ({ cls := "HedgeMessages", name := "workLimit", desc := "()I" } : Jvm.MethodName) prog_1_method_23_code (1 : Nat) (Option.some Jvm.ClassFile.FieldType.int)) ∈ lw_all := lw_g (lw_at lw_m4 27 rfl) rfl
theorem q893 : (Jvm.Cond.instanceMethod ({ cls := "HedgeMessages", name := "actionsLeft", desc := "()I" } : Jvm.MethodName)) ∈ lw_all := lw_g (lw_at lw_m4 29 rfl) rfl
theorem q894 : (Jvm.Cond.selects "HedgeMessages" ({ cls := "HedgeMessages", name := "actionsLeft", desc := "()I" } : Jvm.MethodName) ({ cls := "HedgeMessages", name := "actionsLeft", desc := "()I" } : Jvm.MethodName)) ∈ lw_all := lw_g (lw_at lw_m4 30 rfl) rfl
theorem q895 : (Jvm.Cond.code ({ cls := "HedgeMessages", name := "actionsLeft", desc := "()I" } : Jvm.MethodName) prog_1_method_24_code (1 : Nat) (Option.some Jvm.ClassFile.FieldType.int)) ∈ lw_all := lw_g (lw_at lw_m4 31 rfl) rfl
theorem q897 : (Jvm.Cond.instanceMethod ({ cls := "HedgeMessages", name := "twigCount", desc := "()I" } : Jvm.MethodName)) ∈ lw_all := lw_g (lw_at lw_m4 33 rfl) rfl
theorem q898 : (Jvm.Cond.selects "HedgeMessages" ({ cls := "HedgeMessages", name := "twigCount", desc := "()I" } : Jvm.MethodName) ({ cls := "HedgeMessages", name := "twigCount", desc := "()I" } : Jvm.MethodName)) ∈ lw_all := lw_g (lw_at lw_m4 34 rfl) rfl
theorem q899 : (Jvm.Cond.code ({ cls := "HedgeMessages", name := "twigCount", desc := "()I" } : Jvm.MethodName) prog_1_method_25_code (1 : Nat) (Option.some Jvm.ClassFile.FieldType.int)) ∈ lw_all := lw_g (lw_at lw_m4 35 rfl) rfl
theorem q900 : (Jvm.Cond.methodLink "HedgeMessages" (202 : Nat) ({ cls := "HedgeMessages$State", name := "twigCount", desc := "()I" } : Jvm.MethodName)) ∈ lw_all := lw_g (lw_at lw_m4 36 rfl) rfl
theorem q905 : (Jvm.Cond.instanceMethod ({ cls := "HedgeMessages", name := "nestCount", desc := "()I" } : Jvm.MethodName)) ∈ lw_all := lw_g (lw_at lw_m4 41 rfl) rfl
theorem q906 : (Jvm.Cond.selects "HedgeMessages" ({ cls := "HedgeMessages", name := "nestCount", desc := "()I" } : Jvm.MethodName) ({ cls := "HedgeMessages", name := "nestCount", desc := "()I" } : Jvm.MethodName)) ∈ lw_all := lw_g (lw_at lw_m4 42 rfl) rfl
theorem q907 : (Jvm.Cond.code ({ cls := "HedgeMessages", name := "nestCount", desc := "()I" } : Jvm.MethodName) prog_1_method_34_code (1 : Nat) (Option.some Jvm.ClassFile.FieldType.int)) ∈ lw_all := lw_g (lw_at lw_m4 43 rfl) rfl
theorem q908 : (Jvm.Cond.methodLink "HedgeMessages" (240 : Nat) ({ cls := "HedgeMessages$State", name := "nestCount", desc := "()I" } : Jvm.MethodName)) ∈ lw_all := lw_g (lw_at lw_m4 44 rfl) rfl
theorem q913 : (Jvm.Cond.instanceMethod ({ cls := "HedgeMessages", name := "longestFreeRun", desc := "()I" } : Jvm.MethodName)) ∈ lw_all := lw_g (lw_at lw_m4 49 rfl) rfl
theorem q914 : (Jvm.Cond.selects "HedgeMessages" ({ cls := "HedgeMessages", name := "longestFreeRun", desc := "()I" } : Jvm.MethodName) ({ cls := "HedgeMessages", name := "longestFreeRun", desc := "()I" } : Jvm.MethodName)) ∈ lw_all := lw_g (lw_at lw_m4 50 rfl) rfl
theorem q915 : (Jvm.Cond.code ({ cls := "HedgeMessages", name := "longestFreeRun", desc := "()I" } : Jvm.MethodName) prog_1_method_44_code (3 : Nat) (Option.some Jvm.ClassFile.FieldType.int)) ∈ lw_all := lw_g (lw_at lw_m4 51 rfl) rfl
theorem q916 : (Jvm.Cond.methodLink "HedgeMessages" (297 : Nat) ({ cls := "HedgeMessages$State", name := "freeRun", desc := "(I)I" } : Jvm.MethodName)) ∈ lw_all := lw_g (lw_at lw_m4 52 rfl) rfl
theorem q939 : (Jvm.Cond.static ({ cls := "HedgeMessages", name := "inRange", desc := "(JJJ)Z" } : Jvm.MethodName)) ∈ lw_all := lw_g (lw_at lw_m4 75 rfl) rfl
theorem q940 : (Jvm.Cond.code ({ cls := "HedgeMessages", name := "inRange", desc := "(JJJ)Z" } : Jvm.MethodName) prog_1_method_1_code (6 : Nat) (Option.some Jvm.ClassFile.FieldType.boolean)) ∈ lw_all := lw_g (lw_at lw_m4 76 rfl) rfl
theorem q950 : (Jvm.Cond.methodLink "HedgeMessages" (300 : Nat) ({ cls := "java/lang/Math", name := "max", desc := "(II)I" } : Jvm.MethodName)) ∈ lw_all := lw_g (lw_at lw_m4 86 rfl) rfl
theorem q952 : (Jvm.Cond.instanceMethod ({ cls := "HedgeMessages", name := "yardLetterCount", desc := "(I)I" } : Jvm.MethodName)) ∈ lw_all := lw_g (lw_at lw_m4 88 rfl) rfl
theorem q953 : (Jvm.Cond.selects "HedgeMessages" ({ cls := "HedgeMessages", name := "yardLetterCount", desc := "(I)I" } : Jvm.MethodName) ({ cls := "HedgeMessages", name := "yardLetterCount", desc := "(I)I" } : Jvm.MethodName)) ∈ lw_all := lw_g (lw_at lw_m4 89 rfl) rfl
theorem q954 : (Jvm.Cond.code ({ cls := "HedgeMessages", name := "yardLetterCount", desc := "(I)I" } : Jvm.MethodName) prog_1_method_45_code (5 : Nat) (Option.some Jvm.ClassFile.FieldType.int)) ∈ lw_all := lw_g (lw_at lw_m4 90 rfl) rfl
theorem q955 : (Jvm.Cond.methodLink "HedgeMessages" (306 : Nat) ({ cls := "HedgeMessages$State", name := "occupied", desc := "()Ljava/lang/Iterable;" } : Jvm.MethodName)) ∈ lw_all := lw_g (lw_at lw_m4 91 rfl) rfl
theorem q969 : (Jvm.Cond.interfaceEntry "HedgeMessages" (310 : Nat)) ∈ lw_tbl := lw_at lw_m4 105 rfl
theorem q970 : (Jvm.Cond.methodLink "HedgeMessages" (310 : Nat) ({ cls := "java/lang/Iterable", name := "iterator", desc := "()Ljava/util/Iterator;" } : Jvm.MethodName)) ∈ lw_all := lw_g (lw_at lw_m4 106 rfl) rfl
theorem q1053 : (Jvm.Cond.interfaceEntry "HedgeMessages" (316 : Nat)) ∈ lw_tbl := lw_at lw_m4 189 rfl
theorem q1054 : (Jvm.Cond.methodLink "HedgeMessages" (316 : Nat) ({ cls := "java/util/Iterator", name := "hasNext", desc := "()Z" } : Jvm.MethodName)) ∈ lw_all := lw_g (lw_at lw_m4 190 rfl) rfl
theorem q1075 : (Jvm.Cond.interfaceEntry "HedgeMessages" (321 : Nat)) ∈ lw_tbl := lw_at lw_m4 211 rfl
theorem q1076 : (Jvm.Cond.methodLink "HedgeMessages" (321 : Nat) ({ cls := "java/util/Iterator", name := "next", desc := "()Ljava/lang/Object;" } : Jvm.MethodName)) ∈ lw_all := lw_g (lw_at lw_m4 212 rfl) rfl
theorem q1128 : (Jvm.Cond.classLink "HedgeMessages" (324 : Nat) "java/lang/Integer") ∈ lw_all := lw_g (lw_at lw_m5 24 rfl) rfl
theorem q1129 : (Jvm.Cond.methodLink "HedgeMessages" (326 : Nat) ({ cls := "java/lang/Integer", name := "intValue", desc := "()I" } : Jvm.MethodName)) ∈ lw_all := lw_g (lw_at lw_m5 25 rfl) rfl
theorem q1134 : (Jvm.Cond.instanceMethod ({ cls := "HedgeMessages", name := "daysUntilInspection", desc := "()I" } : Jvm.MethodName)) ∈ lw_all := lw_g (lw_at lw_m5 30 rfl) rfl
theorem q1135 : (Jvm.Cond.selects "HedgeMessages" ({ cls := "HedgeMessages", name := "daysUntilInspection", desc := "()I" } : Jvm.MethodName) ({ cls := "HedgeMessages", name := "daysUntilInspection", desc := "()I" } : Jvm.MethodName)) ∈ lw_all := lw_g (lw_at lw_m5 31 rfl) rfl
theorem q1136 : (Jvm.Cond.code ({ cls := "HedgeMessages", name := "daysUntilInspection", desc := "()I" } : Jvm.MethodName) prog_1_method_55_code (1 : Nat) (Option.some Jvm.ClassFile.FieldType.int)) ∈ lw_all := lw_g (lw_at lw_m5 32 rfl) rfl
theorem q1138 : (Jvm.Cond.instanceMethod ({ cls := "HedgeMessages", name := "bestNestSlot", desc := "()I" } : Jvm.MethodName)) ∈ lw_all := lw_g (lw_at lw_m5 34 rfl) rfl
theorem q1139 : (Jvm.Cond.selects "HedgeMessages" ({ cls := "HedgeMessages", name := "bestNestSlot", desc := "()I" } : Jvm.MethodName) ({ cls := "HedgeMessages", name := "bestNestSlot", desc := "()I" } : Jvm.MethodName)) ∈ lw_all := lw_g (lw_at lw_m5 35 rfl) rfl
theorem q1140 : (Jvm.Cond.code ({ cls := "HedgeMessages", name := "bestNestSlot", desc := "()I" } : Jvm.MethodName) prog_1_method_61_code (4 : Nat) (Option.some Jvm.ClassFile.FieldType.int)) ∈ lw_all := lw_g (lw_at lw_m5 36 rfl) rfl
theorem q1141 : (Jvm.Cond.methodLink "HedgeMessages" (389 : Nat) ({ cls := "HedgeMessages", name := "savedBy", desc := "(I)I" } : Jvm.MethodName)) ∈ lw_all := lw_g (lw_at lw_m5 37 rfl) rfl
theorem q1142 : (Jvm.Cond.privateMethod ({ cls := "HedgeMessages", name := "savedBy", desc := "(I)I" } : Jvm.MethodName)) ∈ lw_tbl := lw_at lw_m5 38 rfl
theorem q1143 : (Jvm.Cond.instanceMethod ({ cls := "HedgeMessages", name := "savedBy", desc := "(I)I" } : Jvm.MethodName)) ∈ lw_all := lw_g (lw_at lw_m5 39 rfl) rfl
theorem q1144 : (Jvm.Cond.code ({ cls := "HedgeMessages", name := "savedBy", desc := "(I)I" } : Jvm.MethodName) prog_1_method_60_code (4 : Nat) (Option.some Jvm.ClassFile.FieldType.int)) ∈ lw_all := lw_g (lw_at lw_m5 40 rfl) rfl
theorem q1145 : (Jvm.Cond.classLink "HedgeMessages" (380 : Nat) "HedgeMessages$1Neighbourhood") ∈ lw_all := lw_g (lw_at lw_m5 41 rfl) rfl
theorem q1147 : (Jvm.Cond.methodLink "HedgeMessages" (382 : Nat) ({ cls := "HedgeMessages$1Neighbourhood", name := "<init>", desc := "(LHedgeMessages;)V" } : Jvm.MethodName)) ∈ lw_all := lw_g (lw_at lw_m5 43 rfl) rfl
theorem q1152 : (Jvm.Cond.fieldLinkNest "HedgeMessages" (386 : Nat) "HedgeMessages$1Neighbourhood" "count" "I" "HedgeMessages") ∈ lw_tbl := lw_at lw_m5 48 rfl
theorem q1159 : (Jvm.Cond.methodLink "HedgeMessages" (383 : Nat) ({ cls := "HedgeMessages$1Neighbourhood", name := "add", desc := "(I)V" } : Jvm.MethodName)) ∈ lw_all := lw_g (lw_at lw_m5 55 rfl) rfl
theorem q1179 : (Jvm.Cond.instanceMethod ({ cls := "HedgeMessages", name := "twigsPlanted", desc := "()I" } : Jvm.MethodName)) ∈ lw_all := lw_g (lw_at lw_m5 75 rfl) rfl
theorem q1180 : (Jvm.Cond.selects "HedgeMessages" ({ cls := "HedgeMessages", name := "twigsPlanted", desc := "()I" } : Jvm.MethodName) ({ cls := "HedgeMessages", name := "twigsPlanted", desc := "()I" } : Jvm.MethodName)) ∈ lw_all := lw_g (lw_at lw_m5 76 rfl) rfl
theorem q1181 : (Jvm.Cond.code ({ cls := "HedgeMessages", name := "twigsPlanted", desc := "()I" } : Jvm.MethodName) prog_1_method_69_code (1 : Nat) (Option.some Jvm.ClassFile.FieldType.int)) ∈ lw_all := lw_g (lw_at lw_m5 77 rfl) rfl
theorem q1183 : (Jvm.Cond.instanceMethod ({ cls := "HedgeMessages", name := "twigsPruned", desc := "()I" } : Jvm.MethodName)) ∈ lw_all := lw_g (lw_at lw_m5 79 rfl) rfl
theorem q1184 : (Jvm.Cond.selects "HedgeMessages" ({ cls := "HedgeMessages", name := "twigsPruned", desc := "()I" } : Jvm.MethodName) ({ cls := "HedgeMessages", name := "twigsPruned", desc := "()I" } : Jvm.MethodName)) ∈ lw_all := lw_g (lw_at lw_m5 80 rfl) rfl
theorem q1185 : (Jvm.Cond.code ({ cls := "HedgeMessages", name := "twigsPruned", desc := "()I" } : Jvm.MethodName) prog_1_method_70_code (1 : Nat) (Option.some Jvm.ClassFile.FieldType.int)) ∈ lw_all := lw_g (lw_at lw_m5 81 rfl) rfl
theorem q1187 : (Jvm.Cond.instanceMethod ({ cls := "HedgeMessages", name := "twigsRemoved", desc := "()I" } : Jvm.MethodName)) ∈ lw_all := lw_g (lw_at lw_m5 83 rfl) rfl
theorem q1188 : (Jvm.Cond.selects "HedgeMessages" ({ cls := "HedgeMessages", name := "twigsRemoved", desc := "()I" } : Jvm.MethodName) ({ cls := "HedgeMessages", name := "twigsRemoved", desc := "()I" } : Jvm.MethodName)) ∈ lw_all := lw_g (lw_at lw_m5 84 rfl) rfl
theorem q1189 : (Jvm.Cond.code ({ cls := "HedgeMessages", name := "twigsRemoved", desc := "()I" } : Jvm.MethodName) prog_1_method_71_code (1 : Nat) (Option.some Jvm.ClassFile.FieldType.int)) ∈ lw_all := lw_g (lw_at lw_m5 85 rfl) rfl
theorem q1191 : (Jvm.Cond.instanceMethod ({ cls := "HedgeMessages", name := "twigImbalance", desc := "()I" } : Jvm.MethodName)) ∈ lw_all := lw_g (lw_at lw_m5 87 rfl) rfl
theorem q1192 : (Jvm.Cond.selects "HedgeMessages" ({ cls := "HedgeMessages", name := "twigImbalance", desc := "()I" } : Jvm.MethodName) ({ cls := "HedgeMessages", name := "twigImbalance", desc := "()I" } : Jvm.MethodName)) ∈ lw_all := lw_g (lw_at lw_m5 88 rfl) rfl
theorem q1193 : (Jvm.Cond.code ({ cls := "HedgeMessages", name := "twigImbalance", desc := "()I" } : Jvm.MethodName) prog_1_method_72_code (1 : Nat) (Option.some Jvm.ClassFile.FieldType.int)) ∈ lw_all := lw_g (lw_at lw_m5 89 rfl) rfl
theorem q1195 : (Jvm.Cond.instanceMethod ({ cls := "HedgeMessages", name := "messageImbalance", desc := "()I" } : Jvm.MethodName)) ∈ lw_all := lw_g (lw_at lw_m5 91 rfl) rfl
theorem q1196 : (Jvm.Cond.selects "HedgeMessages" ({ cls := "HedgeMessages", name := "messageImbalance", desc := "()I" } : Jvm.MethodName) ({ cls := "HedgeMessages", name := "messageImbalance", desc := "()I" } : Jvm.MethodName)) ∈ lw_all := lw_g (lw_at lw_m5 92 rfl) rfl
theorem q1197 : (Jvm.Cond.code ({ cls := "HedgeMessages", name := "messageImbalance", desc := "()I" } : Jvm.MethodName) prog_1_method_73_code (4 : Nat) (Option.some Jvm.ClassFile.FieldType.int)) ∈ lw_all := lw_g (lw_at lw_m5 93 rfl) rfl
theorem q1198 : (Jvm.Cond.methodLink "HedgeMessages" (400 : Nat) ({ cls := "HedgeMessages$Counters", name := "queued", desc := "()I" } : Jvm.MethodName)) ∈ lw_all := lw_g (lw_at lw_m5 94 rfl) rfl
theorem q1202 : (Jvm.Cond.methodLink "HedgeMessages" (375 : Nat) ({ cls := "HedgeMessages$Counters", name := "delivered", desc := "()I" } : Jvm.MethodName)) ∈ lw_all := lw_g (lw_at lw_m5 98 rfl) rfl
theorem q1206 : (Jvm.Cond.methodLink "HedgeMessages" (406 : Nat) ({ cls := "HedgeMessages$Counters", name := "dropped", desc := "()I" } : Jvm.MethodName)) ∈ lw_all := lw_g (lw_at lw_m5 102 rfl) rfl
theorem q1210 : (Jvm.Cond.interfaceEntry "HedgeMessages" (250 : Nat)) ∈ lw_tbl := lw_at lw_m5 106 rfl
theorem q1211 : (Jvm.Cond.methodLink "HedgeMessages" (250 : Nat) ({ cls := "java/util/List", name := "get", desc := "(I)Ljava/lang/Object;" } : Jvm.MethodName)) ∈ lw_all := lw_g (lw_at lw_m5 107 rfl) rfl
theorem q1212 : (Jvm.Cond.classLink "HedgeMessages" (251 : Nat) "java/util/List") ∈ lw_all := lw_g (lw_at lw_m5 108 rfl) rfl
theorem q1213 : (Jvm.Cond.interfaceEntry "HedgeMessages" (260 : Nat)) ∈ lw_tbl := lw_at lw_m5 109 rfl
theorem q1214 : (Jvm.Cond.methodLink "HedgeMessages" (260 : Nat) ({ cls := "java/util/List", name := "size", desc := "()I" } : Jvm.MethodName)) ∈ lw_all := lw_g (lw_at lw_m5 110 rfl) rfl
theorem q1215 : (Jvm.Cond.methodLink "HedgeMessages" (285 : Nat) ({ cls := "HedgeMessages$State", name := "postedCount", desc := "(I)I" } : Jvm.MethodName)) ∈ lw_all := lw_g (lw_at lw_m5 111 rfl) rfl
theorem q1229 : (Jvm.Cond.instanceMethod ({ cls := "HedgeMessages", name := "wrongLetters", desc := "()I" } : Jvm.MethodName)) ∈ lw_all := lw_g (lw_at lw_m5 125 rfl) rfl
theorem q1230 : (Jvm.Cond.selects "HedgeMessages" ({ cls := "HedgeMessages", name := "wrongLetters", desc := "()I" } : Jvm.MethodName) ({ cls := "HedgeMessages", name := "wrongLetters", desc := "()I" } : Jvm.MethodName)) ∈ lw_all := lw_g (lw_at lw_m5 126 rfl) rfl
theorem q1231 : (Jvm.Cond.code ({ cls := "HedgeMessages", name := "wrongLetters", desc := "()I" } : Jvm.MethodName) prog_1_method_75_code (6 : Nat) (Option.some Jvm.ClassFile.FieldType.int)) ∈ lw_all := lw_g (lw_at lw_m5 127 rfl) rfl
theorem q1232 : (Jvm.Cond.methodLink "HedgeMessages" (421 : Nat) ({ cls := "HedgeMessages", name := "wrongLettersOf", desc := "(LHedgeMessages$Message;)I" } : Jvm.MethodName)) ∈ lw_all := lw_g (lw_at lw_m5 128 rfl) rfl
theorem q1233 : (Jvm.Cond.privateMethod ({ cls := "HedgeMessages", name := "wrongLettersOf", desc := "(LHedgeMessages$Message;)I" } : Jvm.MethodName)) ∈ lw_tbl := lw_at lw_m5 129 rfl
theorem q1234 : (Jvm.Cond.instanceMethod ({ cls := "HedgeMessages", name := "wrongLettersOf", desc := "(LHedgeMessages$Message;)I" } : Jvm.MethodName)) ∈ lw_all := lw_g (lw_at lw_m5 130 rfl) rfl
theorem q1235 : (Jvm.Cond.code ({ cls := "HedgeMessages", name := "wrongLettersOf", desc := "(LHedgeMessages$Message;)I" } : Jvm.MethodName) prog_1_method_74_code (5 : Nat) (Option.some Jvm.ClassFile.FieldType.int)) ∈ lw_all := lw_g (lw_at lw_m5 131 rfl) rfl
theorem q1236 : (Jvm.Cond.methodLink "HedgeMessages" (267 : Nat) ({ cls := "java/lang/String", name := "charAt", desc := "(I)C" } : Jvm.MethodName)) ∈ lw_all := lw_g (lw_at lw_m5 132 rfl) rfl
theorem q1258 : (Jvm.Cond.interfaceEntry "HedgeMessages" (428 : Nat)) ∈ lw_tbl := lw_at lw_m5 154 rfl
theorem q1259 : (Jvm.Cond.methodLink "HedgeMessages" (428 : Nat) ({ cls := "java/util/List", name := "iterator", desc := "()Ljava/util/Iterator;" } : Jvm.MethodName)) ∈ lw_all := lw_g (lw_at lw_m5 155 rfl) rfl
theorem q1261 : (Jvm.Cond.instanceMethod ({ cls := "HedgeMessages", name := "meanLength", desc := "()F" } : Jvm.MethodName)) ∈ lw_all := lw_g (lw_at lw_m5 157 rfl) rfl
theorem q1262 : (Jvm.Cond.selects "HedgeMessages" ({ cls := "HedgeMessages", name := "meanLength", desc := "()F" } : Jvm.MethodName) ({ cls := "HedgeMessages", name := "meanLength", desc := "()F" } : Jvm.MethodName)) ∈ lw_all := lw_g (lw_at lw_m5 158 rfl) rfl
theorem q1263 : (Jvm.Cond.code ({ cls := "HedgeMessages", name := "meanLength", desc := "()F" } : Jvm.MethodName) prog_1_method_76_code (5 : Nat) (Option.some Jvm.ClassFile.FieldType.float)) ∈ lw_all := lw_g (lw_at lw_m5 159 rfl) rfl
theorem q1265 : (Jvm.Cond.instanceMethod ({ cls := "HedgeMessages", name := "occupancy", desc := "()D" } : Jvm.MethodName)) ∈ lw_all := lw_g (lw_at lw_m5 161 rfl) rfl
theorem q1266 : (Jvm.Cond.selects "HedgeMessages" ({ cls := "HedgeMessages", name := "occupancy", desc := "()D" } : Jvm.MethodName) ({ cls := "HedgeMessages", name := "occupancy", desc := "()D" } : Jvm.MethodName)) ∈ lw_all := lw_g (lw_at lw_m5 162 rfl) rfl
theorem q1267 : (Jvm.Cond.code ({ cls := "HedgeMessages", name := "occupancy", desc := "()D" } : Jvm.MethodName) prog_1_method_77_code (1 : Nat) (Option.some Jvm.ClassFile.FieldType.double)) ∈ lw_all := lw_g (lw_at lw_m5 163 rfl) rfl
theorem q1269 : (Jvm.Cond.instanceMethod ({ cls := "HedgeMessages", name := "save", desc := "()I" } : Jvm.MethodName)) ∈ lw_all := lw_g (lw_at lw_m5 165 rfl) rfl
theorem q1270 : (Jvm.Cond.selects "HedgeMessages" ({ cls := "HedgeMessages", name := "save", desc := "()I" } : Jvm.MethodName) ({ cls := "HedgeMessages", name := "save", desc := "()I" } : Jvm.MethodName)) ∈ lw_all := lw_g (lw_at lw_m5 166 rfl) rfl
theorem q1271 : (Jvm.Cond.code ({ cls := "HedgeMessages", name := "save", desc := "()I" } : Jvm.MethodName) prog_1_method_96_code (1 : Nat) (Option.some Jvm.ClassFile.FieldType.int)) ∈ lw_all := lw_g (lw_at lw_m5 167 rfl) rfl
theorem q1272 : (Jvm.Cond.methodLink "HedgeMessages" (83 : Nat) ({ cls := "HedgeMessages$State", name := "copy", desc := "()LHedgeMessages$State;" } : Jvm.MethodName)) ∈ lw_all := lw_g (lw_at lw_m5 168 rfl) rfl
theorem q1330 : (Jvm.Cond.instanceMethod ({ cls := "HedgeMessages", name := "formatHedge", desc := "()I" } : Jvm.MethodName)) ∈ lw_all := lw_g (lw_at lw_m5 226 rfl) rfl
theorem q1331 : (Jvm.Cond.selects "HedgeMessages" ({ cls := "HedgeMessages", name := "formatHedge", desc := "()I" } : Jvm.MethodName) ({ cls := "HedgeMessages", name := "formatHedge", desc := "()I" } : Jvm.MethodName)) ∈ lw_all := lw_g (lw_at lw_m5 227 rfl) rfl
theorem q1332 : (Jvm.Cond.code ({ cls := "HedgeMessages", name := "formatHedge", desc := "()I" } : Jvm.MethodName) prog_1_method_99_code (2 : Nat) (Option.some Jvm.ClassFile.FieldType.int)) ∈ lw_all := lw_g (lw_at lw_m5 228 rfl) rfl
theorem q1333 : (Jvm.Cond.methodLink "HedgeMessages" (490 : Nat) ({ cls := "java/lang/StringBuilder", name := "setLength", desc := "(I)V" } : Jvm.MethodName)) ∈ lw_all := lw_g (lw_at lw_m5 229 rfl) rfl
theorem q1401 : (Jvm.Cond.methodLink "HedgeMessages" (493 : Nat) ({ cls := "HedgeMessages", name := "symbol", desc := "(I)C" } : Jvm.MethodName)) ∈ lw_all := lw_g (lw_at lw_m6 57 rfl) rfl
theorem q1402 : (Jvm.Cond.privateMethod ({ cls := "HedgeMessages", name := "symbol", desc := "(I)C" } : Jvm.MethodName)) ∈ lw_tbl := lw_at lw_m6 58 rfl
theorem q1403 : (Jvm.Cond.instanceMethod ({ cls := "HedgeMessages", name := "symbol", desc := "(I)C" } : Jvm.MethodName)) ∈ lw_all := lw_g (lw_at lw_m6 59 rfl) rfl
theorem q1404 : (Jvm.Cond.code ({ cls := "HedgeMessages", name := "symbol", desc := "(I)C" } : Jvm.MethodName) prog_1_method_98_code (3 : Nat) (Option.some Jvm.ClassFile.FieldType.char)) ∈ lw_all := lw_g (lw_at lw_m6 60 rfl) rfl
theorem q1405 : (Jvm.Cond.methodLink "HedgeMessages" (234 : Nat) ({ cls := "HedgeMessages$State", name := "isReserved", desc := "(I)Z" } : Jvm.MethodName)) ∈ lw_all := lw_g (lw_at lw_m6 61 rfl) rfl
theorem q1406 : (Jvm.Cond.methodLink "HedgeMessages" (463 : Nat) ({ cls := "java/lang/StringBuilder", name := "append", desc := "(C)Ljava/lang/StringBuilder;" } : Jvm.MethodName)) ∈ lw_all := lw_g (lw_at lw_m6 62 rfl) rfl
theorem q1419 : (Jvm.Cond.methodLink "HedgeMessages" (467 : Nat) ({ cls := "java/lang/StringBuilder", name := "length", desc := "()I" } : Jvm.MethodName)) ∈ lw_all := lw_g (lw_at lw_m6 75 rfl) rfl
theorem q1421 : (Jvm.Cond.instanceMethod ({ cls := "HedgeMessages", name := "outputByte", desc := "(I)I" } : Jvm.MethodName)) ∈ lw_all := lw_g (lw_at lw_m6 77 rfl) rfl
theorem q1422 : (Jvm.Cond.selects "HedgeMessages" ({ cls := "HedgeMessages", name := "outputByte", desc := "(I)I" } : Jvm.MethodName) ({ cls := "HedgeMessages", name := "outputByte", desc := "(I)I" } : Jvm.MethodName)) ∈ lw_all := lw_g (lw_at lw_m6 78 rfl) rfl
theorem q1423 : (Jvm.Cond.code ({ cls := "HedgeMessages", name := "outputByte", desc := "(I)I" } : Jvm.MethodName) prog_1_method_100_code (2 : Nat) (Option.some Jvm.ClassFile.FieldType.int)) ∈ lw_all := lw_g (lw_at lw_m6 79 rfl) rfl
theorem q1424 : (Jvm.Cond.methodLink "HedgeMessages" (119 : Nat) ({ cls := "HedgeMessages", name := "inRange", desc := "(JJJ)Z" } : Jvm.MethodName)) ∈ lw_all := lw_g (lw_at lw_m6 80 rfl) rfl
theorem q1425 : (Jvm.Cond.methodLink "HedgeMessages" (496 : Nat) ({ cls := "java/lang/StringBuilder", name := "charAt", desc := "(I)C" } : Jvm.MethodName)) ∈ lw_all := lw_g (lw_at lw_m6 81 rfl) rfl
theorem q1440 : (Jvm.Cond.instanceMethod ({ cls := "HedgeMessages", name := "append", desc := "(IIIII)I" } : Jvm.MethodName)) ∈ lw_all := lw_g (lw_at lw_m6 96 rfl) rfl
theorem q1441 : (Jvm.Cond.selects "HedgeMessages" ({ cls := "HedgeMessages", name := "append", desc := "(IIIII)I" } : Jvm.MethodName) ({ cls := "HedgeMessages", name := "append", desc := "(IIIII)I" } : Jvm.MethodName)) ∈ lw_all := lw_g (lw_at lw_m6 97 rfl) rfl
theorem q1442 : (Jvm.Cond.code ({ cls := "HedgeMessages", name := "append", desc := "(IIIII)I" } : Jvm.MethodName) prog_1_method_10_code (6 : Nat) (Option.some Jvm.ClassFile.FieldType.int)) ∈ lw_all := lw_g (lw_at lw_m6 98 rfl) rfl
theorem q1443 : (Jvm.Cond.methodLink "HedgeMessages" (111 : Nat) ({ cls := "HedgeMessages", name := "checkState", desc := "(Z)V" } : Jvm.MethodName)) ∈ lw_all := lw_g (lw_at lw_m6 99 rfl) rfl
theorem q1444 : (Jvm.Cond.static ({ cls := "HedgeMessages", name := "checkState", desc := "(Z)V" } : Jvm.MethodName)) ∈ lw_all := lw_g (lw_at lw_m6 100 rfl) rfl
theorem q1445 : (Jvm.Cond.code ({ cls := "HedgeMessages", name := "checkState", desc := "(Z)V" } : Jvm.MethodName) prog_1_method_4_code (1 : Nat) (Option.none : Option Jvm.ClassFile.FieldType)) ∈ lw_all := lw_g (lw_at lw_m6 101 rfl) rfl
theorem q1446 : (Jvm.Cond.classLink "HedgeMessages" (10 : Nat) "java/lang/IllegalStateException") ∈ lw_all := lw_g (lw_at lw_m6 102 rfl) rfl
theorem q1455 : (Jvm.Cond.methodLink "HedgeMessages" (12 : Nat) ({ cls := "java/lang/IllegalStateException", name := "<init>", desc := "()V" } : Jvm.MethodName)) ∈ lw_all := lw_g (lw_at lw_m6 111 rfl) rfl
theorem q1467 : (Jvm.Cond.methodLink "HedgeMessages" (115 : Nat) ({ cls := "HedgeMessages", name := "appendWords", desc := "([I)V" } : Jvm.MethodName)) ∈ lw_all := lw_g (lw_at lw_m6 123 rfl) rfl
theorem q1468 : (Jvm.Cond.privateMethod ({ cls := "HedgeMessages", name := "appendWords", desc := "([I)V" } : Jvm.MethodName)) ∈ lw_tbl := lw_at lw_m6 124 rfl
theorem q1469 : (Jvm.Cond.instanceMethod ({ cls := "HedgeMessages", name := "appendWords", desc := "([I)V" } : Jvm.MethodName)) ∈ lw_all := lw_g (lw_at lw_m6 125 rfl) rfl
theorem q1470 : (Jvm.Cond.code ({ cls := "HedgeMessages", name := "appendWords", desc := "([I)V" } : Jvm.MethodName) prog_1_method_9_code (7 : Nat) (Option.none : Option Jvm.ClassFile.FieldType)) ∈ lw_all := lw_g (lw_at lw_m6 126 rfl) rfl
theorem q1476 : (Jvm.Cond.instanceMethod ({ cls := "HedgeMessages", name := "truncate", desc := "(I)I" } : Jvm.MethodName)) ∈ lw_all := lw_g (lw_at lw_m6 132 rfl) rfl
theorem q1477 : (Jvm.Cond.selects "HedgeMessages" ({ cls := "HedgeMessages", name := "truncate", desc := "(I)I" } : Jvm.MethodName) ({ cls := "HedgeMessages", name := "truncate", desc := "(I)I" } : Jvm.MethodName)) ∈ lw_all := lw_g (lw_at lw_m6 133 rfl) rfl
theorem q1478 : (Jvm.Cond.code ({ cls := "HedgeMessages", name := "truncate", desc := "(I)I" } : Jvm.MethodName) prog_1_method_11_code (2 : Nat) (Option.some Jvm.ClassFile.FieldType.int)) ∈ lw_all := lw_g (lw_at lw_m6 134 rfl) rfl
theorem q1479 : (Jvm.Cond.methodLink "HedgeMessages" (123 : Nat) ({ cls := "HedgeMessages", name := "checkArgument", desc := "(Z)V" } : Jvm.MethodName)) ∈ lw_all := lw_g (lw_at lw_m6 135 rfl) rfl
theorem q1480 : (Jvm.Cond.static ({ cls := "HedgeMessages", name := "checkArgument", desc := "(Z)V" } : Jvm.MethodName)) ∈ lw_all := lw_g (lw_at lw_m6 136 rfl) rfl
theorem q1481 : (Jvm.Cond.code ({ cls := "HedgeMessages", name := "checkArgument", desc := "(Z)V" } : Jvm.MethodName) prog_1_method_3_code (1 : Nat) (Option.none : Option Jvm.ClassFile.FieldType)) ∈ lw_all := lw_g (lw_at lw_m6 137 rfl) rfl
theorem q1482 : (Jvm.Cond.classLink "HedgeMessages" (7 : Nat) "java/lang/IllegalArgumentException") ∈ lw_all := lw_g (lw_at lw_m6 138 rfl) rfl
theorem q1483 : (Jvm.Cond.methodLink "HedgeMessages" (9 : Nat) ({ cls := "java/lang/IllegalArgumentException", name := "<init>", desc := "()V" } : Jvm.MethodName)) ∈ lw_all := lw_g (lw_at lw_m6 139 rfl) rfl
theorem q1491 : (Jvm.Cond.instanceMethod ({ cls := "HedgeMessages", name := "load", desc := "()I" } : Jvm.MethodName)) ∈ lw_all := lw_g (lw_at lw_m6 147 rfl) rfl
theorem q1492 : (Jvm.Cond.selects "HedgeMessages" ({ cls := "HedgeMessages", name := "load", desc := "()I" } : Jvm.MethodName) ({ cls := "HedgeMessages", name := "load", desc := "()I" } : Jvm.MethodName)) ∈ lw_all := lw_g (lw_at lw_m6 148 rfl) rfl
theorem q1493 : (Jvm.Cond.codeWith ({ cls := "HedgeMessages", name := "load", desc := "()I" } : Jvm.MethodName) prog_1_method_15_code (4 : Nat) (Option.some Jvm.ClassFile.FieldType.int) [((0 : Nat), (12 : Nat), (20 : Nat), (151 : Nat)), ((0 : Nat), (12 : Nat), (27 : Nat), (0 : Nat)), ((20 : Nat), (28 : Nat), (27 : Nat), (0 : Nat))]) ∈ lw_all := lw_g (lw_at lw_m6 149 rfl) rfl
theorem q1494 : (Jvm.Cond.classLink "HedgeMessages" (151 : Nat) "HedgeMessages$ParseError") ∈ lw_all := lw_g (lw_at lw_m6 150 rfl) rfl
theorem q1495 : (Jvm.Cond.classLink "HedgeMessages" (161 : Nat) "HedgeMessages$Parser") ∈ lw_all := lw_g (lw_at lw_m6 151 rfl) rfl
theorem q1497 : (Jvm.Cond.methodLink "HedgeMessages" (163 : Nat) ({ cls := "HedgeMessages$Parser", name := "<init>", desc := "(LHedgeMessages;)V" } : Jvm.MethodName)) ∈ lw_all := lw_g (lw_at lw_m6 153 rfl) rfl
theorem q1549 : (Jvm.Cond.methodLink "HedgeMessages" (166 : Nat) ({ cls := "HedgeMessages$Parser", name := "configuration", desc := "()LHedgeMessages$State;" } : Jvm.MethodName)) ∈ lw_all := lw_g (lw_at lw_m6 205 rfl) rfl
theorem q1585 : (Jvm.Cond.fieldLinkNest "HedgeMessages" (150 : Nat) "HedgeMessages$ParseError" "code" "I" "HedgeMessages") ∈ lw_tbl := lw_at lw_m7 1 rfl
theorem q1587 : (Jvm.Cond.fieldLinkNest "HedgeMessages" (158 : Nat) "HedgeMessages$ParseError" "position" "I" "HedgeMessages") ∈ lw_tbl := lw_at lw_m7 3 rfl
theorem q1706 : (Jvm.Cond.methodLink "HedgeMessages" (169 : Nat) ({ cls := "HedgeMessages", name := "report", desc := "(LHedgeMessages$ParseError;)Ljava/lang/IllegalArgumentException;" } : Jvm.MethodName)) ∈ lw_all := lw_g (lw_at lw_m7 122 rfl) rfl
theorem q1707 : (Jvm.Cond.privateMethod ({ cls := "HedgeMessages", name := "report", desc := "(LHedgeMessages$ParseError;)Ljava/lang/IllegalArgumentException;" } : Jvm.MethodName)) ∈ lw_tbl := lw_at lw_m7 123 rfl
theorem q1708 : (Jvm.Cond.instanceMethod ({ cls := "HedgeMessages", name := "report", desc := "(LHedgeMessages$ParseError;)Ljava/lang/IllegalArgumentException;" } : Jvm.MethodName)) ∈ lw_all := lw_g (lw_at lw_m7 124 rfl) rfl
theorem q1709 : (Jvm.Cond.code ({ cls := "HedgeMessages", name := "report", desc := "(LHedgeMessages$ParseError;)Ljava/lang/IllegalArgumentException;" } : Jvm.MethodName) prog_1_method_13_code (2 : Nat) (Option.some (Jvm.ClassFile.FieldType.object "java/lang/IllegalArgumentException"))) ∈ lw_all := lw_g (lw_at lw_m7 125 rfl) rfl
theorem q1710 : (Jvm.Cond.methodLink "HedgeMessages" (173 : Nat) ({ cls := "HedgeMessages", name := "clearError", desc := "()V" } : Jvm.MethodName)) ∈ lw_all := lw_g (lw_at lw_m7 126 rfl) rfl
theorem q1711 : (Jvm.Cond.privateMethod ({ cls := "HedgeMessages", name := "clearError", desc := "()V" } : Jvm.MethodName)) ∈ lw_tbl := lw_at lw_m7 127 rfl
theorem q1712 : (Jvm.Cond.instanceMethod ({ cls := "HedgeMessages", name := "clearError", desc := "()V" } : Jvm.MethodName)) ∈ lw_all := lw_g (lw_at lw_m7 128 rfl) rfl
theorem q1713 : (Jvm.Cond.code ({ cls := "HedgeMessages", name := "clearError", desc := "()V" } : Jvm.MethodName) prog_1_method_14_code (1 : Nat) (Option.none : Option Jvm.ClassFile.FieldType)) ∈ lw_all := lw_g (lw_at lw_m7 129 rfl) rfl
theorem q1714 : (Jvm.Cond.methodLink "HedgeMessages" (176 : Nat) ({ cls := "java/util/ArrayDeque", name := "clear", desc := "()V" } : Jvm.MethodName)) ∈ lw_all := lw_g (lw_at lw_m7 130 rfl) rfl
theorem q1725 : (Jvm.Cond.instanceMethod ({ cls := "HedgeMessages", name := "executeCommands", desc := "()I" } : Jvm.MethodName)) ∈ lw_all := lw_g (lw_at lw_m7 141 rfl) rfl
theorem q1726 : (Jvm.Cond.selects "HedgeMessages" ({ cls := "HedgeMessages", name := "executeCommands", desc := "()I" } : Jvm.MethodName) ({ cls := "HedgeMessages", name := "executeCommands", desc := "()I" } : Jvm.MethodName)) ∈ lw_all := lw_g (lw_at lw_m7 142 rfl) rfl
theorem q1727 : (Jvm.Cond.codeWith ({ cls := "HedgeMessages", name := "executeCommands", desc := "()I" } : Jvm.MethodName) prog_1_method_17_code (4 : Nat) (Option.some Jvm.ClassFile.FieldType.int) [((0 : Nat), (12 : Nat), (20 : Nat), (151 : Nat)), ((0 : Nat), (12 : Nat), (27 : Nat), (0 : Nat)), ((20 : Nat), (28 : Nat), (27 : Nat), (0 : Nat))]) ∈ lw_all := lw_g (lw_at lw_m7 143 rfl) rfl
theorem q1728 : (Jvm.Cond.methodLink "HedgeMessages" (182 : Nat) ({ cls := "HedgeMessages$Parser", name := "commands", desc := "()[LHedgeMessages$Operation;" } : Jvm.MethodName)) ∈ lw_all := lw_g (lw_at lw_m7 144 rfl) rfl
theorem q1735 : (Jvm.Cond.static ({ cls := "HedgeMessages", name := "isCommand", desc := "(Ljava/lang/String;)Z" } : Jvm.MethodName)) ∈ lw_all := lw_g (lw_at lw_m7 151 rfl) rfl
theorem q1736 : (Jvm.Cond.code ({ cls := "HedgeMessages", name := "isCommand", desc := "(Ljava/lang/String;)Z" } : Jvm.MethodName) prog_1_method_12_code (3 : Nat) (Option.some Jvm.ClassFile.FieldType.boolean)) ∈ lw_all := lw_g (lw_at lw_m7 152 rfl) rfl
theorem q1737 : (Jvm.Cond.methodLink "HedgeMessages" (126 : Nat) ({ cls := "java/lang/String", name := "hashCode", desc := "()I" } : Jvm.MethodName)) ∈ lw_all := lw_g (lw_at lw_m7 153 rfl) rfl
theorem q1738 : (Jvm.Cond.stringRef "HedgeMessages" (131 : Nat) "plant") ∈ lw_tbl := lw_at lw_m7 154 rfl
theorem q1739 : (Jvm.Cond.methodLink "HedgeMessages" (132 : Nat) ({ cls := "java/lang/String", name := "equals", desc := "(Ljava/lang/Object;)Z" } : Jvm.MethodName)) ∈ lw_all := lw_g (lw_at lw_m7 155 rfl) rfl
theorem q1740 : (Jvm.Cond.stringRef "HedgeMessages" (136 : Nat) "remove") ∈ lw_tbl := lw_at lw_m7 156 rfl
theorem q1741 : (Jvm.Cond.stringRef "HedgeMessages" (138 : Nat) "trim") ∈ lw_tbl := lw_at lw_m7 157 rfl
theorem q1742 : (Jvm.Cond.stringRef "HedgeMessages" (140 : Nat) "nest") ∈ lw_tbl := lw_at lw_m7 158 rfl
theorem q1743 : (Jvm.Cond.stringRef "HedgeMessages" (142 : Nat) "message") ∈ lw_tbl := lw_at lw_m7 159 rfl
theorem q1744 : (Jvm.Cond.stringRef "HedgeMessages" (144 : Nat) "cancel") ∈ lw_tbl := lw_at lw_m7 160 rfl
theorem q1745 : (Jvm.Cond.stringRef "HedgeMessages" (146 : Nat) "work") ∈ lw_tbl := lw_at lw_m7 161 rfl
theorem q1746 : (Jvm.Cond.stringRef "HedgeMessages" (148 : Nat) "end") ∈ lw_tbl := lw_at lw_m7 162 rfl
theorem q1767 : (Jvm.Cond.static ({ cls := "HedgeMessages", name := "applyPlant", desc := "(LHedgeMessages$State;IC)I" } : Jvm.MethodName)) ∈ lw_all := lw_g (lw_at lw_m7 183 rfl) rfl
theorem q1768 : (Jvm.Cond.code ({ cls := "HedgeMessages", name := "applyPlant", desc := "(LHedgeMessages$State;IC)I" } : Jvm.MethodName) prog_1_method_78_code (3 : Nat) (Option.some Jvm.ClassFile.FieldType.int)) ∈ lw_all := lw_g (lw_at lw_m7 184 rfl) rfl
theorem q1769 : (Jvm.Cond.methodLink "HedgeMessages" (340 : Nat) ({ cls := "HedgeMessages", name := "plantReason", desc := "(LHedgeMessages$State;I)I" } : Jvm.MethodName)) ∈ lw_all := lw_g (lw_at lw_m7 185 rfl) rfl
theorem q1770 : (Jvm.Cond.static ({ cls := "HedgeMessages", name := "plantReason", desc := "(LHedgeMessages$State;I)I" } : Jvm.MethodName)) ∈ lw_all := lw_g (lw_at lw_m7 186 rfl) rfl
theorem q1771 : (Jvm.Cond.code ({ cls := "HedgeMessages", name := "plantReason", desc := "(LHedgeMessages$State;I)I" } : Jvm.MethodName) prog_1_method_46_code (2 : Nat) (Option.some Jvm.ClassFile.FieldType.int)) ∈ lw_all := lw_g (lw_at lw_m7 187 rfl) rfl
theorem q1772 : (Jvm.Cond.methodLink "HedgeMessages" (212 : Nat) ({ cls := "HedgeMessages", name := "checkSlot", desc := "(LHedgeMessages$State;I)V" } : Jvm.MethodName)) ∈ lw_all := lw_g (lw_at lw_m7 188 rfl) rfl
theorem q1773 : (Jvm.Cond.static ({ cls := "HedgeMessages", name := "checkSlot", desc := "(LHedgeMessages$State;I)V" } : Jvm.MethodName)) ∈ lw_all := lw_g (lw_at lw_m7 189 rfl) rfl
theorem q1774 : (Jvm.Cond.code ({ cls := "HedgeMessages", name := "checkSlot", desc := "(LHedgeMessages$State;I)V" } : Jvm.MethodName) prog_1_method_26_code (2 : Nat) (Option.none : Option Jvm.ClassFile.FieldType)) ∈ lw_all := lw_g (lw_at lw_m7 190 rfl) rfl
theorem q1775 : (Jvm.Cond.methodLink "HedgeMessages" (205 : Nat) ({ cls := "HedgeMessages$State", name := "isSlot", desc := "(I)Z" } : Jvm.MethodName)) ∈ lw_all := lw_g (lw_at lw_m7 191 rfl) rfl
theorem q1776 : (Jvm.Cond.methodLink "HedgeMessages" (209 : Nat) ({ cls := "HedgeMessages", name := "checkIndex", desc := "(Z)V" } : Jvm.MethodName)) ∈ lw_all := lw_g (lw_at lw_m7 192 rfl) rfl
theorem q1777 : (Jvm.Cond.static ({ cls := "HedgeMessages", name := "checkIndex", desc := "(Z)V" } : Jvm.MethodName)) ∈ lw_all := lw_g (lw_at lw_m7 193 rfl) rfl
theorem q1778 : (Jvm.Cond.code ({ cls := "HedgeMessages", name := "checkIndex", desc := "(Z)V" } : Jvm.MethodName) prog_1_method_2_code (1 : Nat) (Option.none : Option Jvm.ClassFile.FieldType)) ∈ lw_all := lw_g (lw_at lw_m7 194 rfl) rfl
theorem q1779 : (Jvm.Cond.classLink "HedgeMessages" (1 : Nat) "java/lang/IndexOutOfBoundsException") ∈ lw_all := lw_g (lw_at lw_m7 195 rfl) rfl
theorem q1788 : (Jvm.Cond.methodLink "HedgeMessages" (3 : Nat) ({ cls := "java/lang/IndexOutOfBoundsException", name := "<init>", desc := "()V" } : Jvm.MethodName)) ∈ lw_all := lw_g (lw_at lw_m7 204 rfl) rfl
theorem q1801 : (Jvm.Cond.static ({ cls := "HedgeMessages", name := "applyRemove", desc := "(LHedgeMessages$State;I)I" } : Jvm.MethodName)) ∈ lw_all := lw_g (lw_at lw_m7 217 rfl) rfl
theorem q1802 : (Jvm.Cond.code ({ cls := "HedgeMessages", name := "applyRemove", desc := "(LHedgeMessages$State;I)I" } : Jvm.MethodName) prog_1_method_79_code (3 : Nat) (Option.some Jvm.ClassFile.FieldType.int)) ∈ lw_all := lw_g (lw_at lw_m7 218 rfl) rfl
theorem q1803 : (Jvm.Cond.methodLink "HedgeMessages" (343 : Nat) ({ cls := "HedgeMessages", name := "removeReason", desc := "(LHedgeMessages$State;I)I" } : Jvm.MethodName)) ∈ lw_all := lw_g (lw_at lw_m7 219 rfl) rfl
theorem q1804 : (Jvm.Cond.static ({ cls := "HedgeMessages", name := "removeReason", desc := "(LHedgeMessages$State;I)I" } : Jvm.MethodName)) ∈ lw_all := lw_g (lw_at lw_m7 220 rfl) rfl
theorem q1805 : (Jvm.Cond.code ({ cls := "HedgeMessages", name := "removeReason", desc := "(LHedgeMessages$State;I)I" } : Jvm.MethodName) prog_1_method_48_code (3 : Nat) (Option.some Jvm.ClassFile.FieldType.int)) ∈ lw_all := lw_g (lw_at lw_m7 221 rfl) rfl
theorem q1806 : (Jvm.Cond.methodLink "HedgeMessages" (332 : Nat) ({ cls := "HedgeMessages", name := "accessReason", desc := "(LHedgeMessages$State;I)I" } : Jvm.MethodName)) ∈ lw_all := lw_g (lw_at lw_m7 222 rfl) rfl
theorem q1807 : (Jvm.Cond.static ({ cls := "HedgeMessages", name := "accessReason", desc := "(LHedgeMessages$State;I)I" } : Jvm.MethodName)) ∈ lw_all := lw_g (lw_at lw_m7 223 rfl) rfl
theorem q1808 : (Jvm.Cond.code ({ cls := "HedgeMessages", name := "accessReason", desc := "(LHedgeMessages$State;I)I" } : Jvm.MethodName) prog_1_method_47_code (3 : Nat) (Option.some Jvm.ClassFile.FieldType.int)) ∈ lw_all := lw_g (lw_at lw_m7 224 rfl) rfl
theorem q1809 : (Jvm.Cond.methodLink "HedgeMessages" (237 : Nat) ({ cls := "HedgeMessages$State", name := "isProtected", desc := "(I)Z" } : Jvm.MethodName)) ∈ lw_all := lw_g (lw_at lw_m7 225 rfl) rfl
theorem q1810 : (Jvm.Cond.methodLink "HedgeMessages" (429 : Nat) ({ cls := "HedgeMessages$State", name := "remove", desc := "(I)V" } : Jvm.MethodName)) ∈ lw_all := lw_g (lw_at lw_m7 226 rfl) rfl
theorem q1821 : (Jvm.Cond.static ({ cls := "HedgeMessages", name := "applyTrim", desc := "(LHedgeMessages$State;II)I" } : Jvm.MethodName)) ∈ lw_all := lw_g (lw_at lw_m7 237 rfl) rfl
theorem q1822 : (Jvm.Cond.code ({ cls := "HedgeMessages", name := "applyTrim", desc := "(LHedgeMessages$State;II)I" } : Jvm.MethodName) prog_1_method_80_code (4 : Nat) (Option.some Jvm.ClassFile.FieldType.int)) ∈ lw_all := lw_g (lw_at lw_m7 238 rfl) rfl
theorem q1823 : (Jvm.Cond.methodLink "HedgeMessages" (346 : Nat) ({ cls := "HedgeMessages", name := "trimReason", desc := "(LHedgeMessages$State;I)I" } : Jvm.MethodName)) ∈ lw_all := lw_g (lw_at lw_m7 239 rfl) rfl
theorem q1824 : (Jvm.Cond.static ({ cls := "HedgeMessages", name := "trimReason", desc := "(LHedgeMessages$State;I)I" } : Jvm.MethodName)) ∈ lw_all := lw_g (lw_at lw_m8 0 rfl) rfl
theorem q1825 : (Jvm.Cond.code ({ cls := "HedgeMessages", name := "trimReason", desc := "(LHedgeMessages$State;I)I" } : Jvm.MethodName) prog_1_method_49_code (3 : Nat) (Option.some Jvm.ClassFile.FieldType.int)) ∈ lw_all := lw_g (lw_at lw_m8 1 rfl) rfl
theorem q1833 : (Jvm.Cond.static ({ cls := "HedgeMessages", name := "applyNest", desc := "(LHedgeMessages$State;II)I" } : Jvm.MethodName)) ∈ lw_all := lw_g (lw_at lw_m8 9 rfl) rfl
theorem q1834 : (Jvm.Cond.code ({ cls := "HedgeMessages", name := "applyNest", desc := "(LHedgeMessages$State;II)I" } : Jvm.MethodName) prog_1_method_81_code (3 : Nat) (Option.some Jvm.ClassFile.FieldType.int)) ∈ lw_all := lw_g (lw_at lw_m8 10 rfl) rfl
theorem q1842 : (Jvm.Cond.static ({ cls := "HedgeMessages", name := "applyQueue", desc := "(LHedgeMessages$State;ILjava/lang/String;)I" } : Jvm.MethodName)) ∈ lw_all := lw_g (lw_at lw_m8 18 rfl) rfl
theorem q1843 : (Jvm.Cond.code ({ cls := "HedgeMessages", name := "applyQueue", desc := "(LHedgeMessages$State;ILjava/lang/String;)I" } : Jvm.MethodName) prog_1_method_82_code (3 : Nat) (Option.some Jvm.ClassFile.FieldType.int)) ∈ lw_all := lw_g (lw_at lw_m8 19 rfl) rfl
theorem q1844 : (Jvm.Cond.methodLink "HedgeMessages" (431 : Nat) ({ cls := "HedgeMessages$State", name := "isQueueFull", desc := "(I)Z" } : Jvm.MethodName)) ∈ lw_all := lw_g (lw_at lw_m8 20 rfl) rfl
theorem q1852 : (Jvm.Cond.static ({ cls := "HedgeMessages", name := "applyCancel", desc := "(LHedgeMessages$State;II)I" } : Jvm.MethodName)) ∈ lw_all := lw_g (lw_at lw_m8 28 rfl) rfl
theorem q1853 : (Jvm.Cond.code ({ cls := "HedgeMessages", name := "applyCancel", desc := "(LHedgeMessages$State;II)I" } : Jvm.MethodName) prog_1_method_83_code (5 : Nat) (Option.some Jvm.ClassFile.FieldType.int)) ∈ lw_all := lw_g (lw_at lw_m8 29 rfl) rfl
theorem q1854 : (Jvm.Cond.interfaceEntry "HedgeMessages" (434 : Nat)) ∈ lw_tbl := lw_at lw_m8 30 rfl
theorem q1855 : (Jvm.Cond.methodLink "HedgeMessages" (434 : Nat) ({ cls := "java/util/List", name := "remove", desc := "(I)Ljava/lang/Object;" } : Jvm.MethodName)) ∈ lw_all := lw_g (lw_at lw_m8 31 rfl) rfl
theorem q1867 : (Jvm.Cond.methodLink "HedgeMessages" (436 : Nat) ({ cls := "HedgeMessages$Counters", name := "drop", desc := "()LHedgeMessages$Counters;" } : Jvm.MethodName)) ∈ lw_all := lw_g (lw_at lw_m8 43 rfl) rfl
theorem q1871 : (Jvm.Cond.methodLink "HedgeMessages" (293 : Nat) ({ cls := "HedgeMessages$Message", name := "length", desc := "()I" } : Jvm.MethodName)) ∈ lw_all := lw_g (lw_at lw_m8 47 rfl) rfl
theorem q1879 : (Jvm.Cond.static ({ cls := "HedgeMessages", name := "applyWorkLimit", desc := "(LHedgeMessages$State;I)I" } : Jvm.MethodName)) ∈ lw_all := lw_g (lw_at lw_m8 55 rfl) rfl
theorem q1880 : (Jvm.Cond.code ({ cls := "HedgeMessages", name := "applyWorkLimit", desc := "(LHedgeMessages$State;I)I" } : Jvm.MethodName) prog_1_method_84_code (3 : Nat) (Option.some Jvm.ClassFile.FieldType.int)) ∈ lw_all := lw_g (lw_at lw_m8 56 rfl) rfl
theorem q1888 : (Jvm.Cond.static ({ cls := "HedgeMessages", name := "applyEndDays", desc := "(LHedgeMessages$State;I)I" } : Jvm.MethodName)) ∈ lw_all := lw_g (lw_at lw_m8 64 rfl) rfl
theorem q1889 : (Jvm.Cond.code ({ cls := "HedgeMessages", name := "applyEndDays", desc := "(LHedgeMessages$State;I)I" } : Jvm.MethodName) prog_1_method_85_code (3 : Nat) (Option.some Jvm.ClassFile.FieldType.int)) ∈ lw_all := lw_g (lw_at lw_m8 65 rfl) rfl
theorem q1890 : (Jvm.Cond.methodLink "HedgeMessages" (440 : Nat) ({ cls := "HedgeMessages$State", name := "delivered", desc := "()I" } : Jvm.MethodName)) ∈ lw_all := lw_g (lw_at lw_m8 66 rfl) rfl
theorem q1895 : (Jvm.Cond.methodLink "HedgeMessages" (367 : Nat) ({ cls := "HedgeMessages$State", name := "after", desc := "(I)LHedgeMessages$State;" } : Jvm.MethodName)) ∈ lw_all := lw_g (lw_at lw_m8 71 rfl) rfl
theorem q1985 : (Jvm.Cond.methodLink "HedgeMessages" (186 : Nat) ({ cls := "HedgeMessages", name := "execute", desc := "(LHedgeMessages$State;[LHedgeMessages$Operation;)I" } : Jvm.MethodName)) ∈ lw_all := lw_g (lw_at lw_m8 161 rfl) rfl
theorem q1986 : (Jvm.Cond.static ({ cls := "HedgeMessages", name := "execute", desc := "(LHedgeMessages$State;[LHedgeMessages$Operation;)I" } : Jvm.MethodName)) ∈ lw_all := lw_g (lw_at lw_m8 162 rfl) rfl
theorem q1987 : (Jvm.Cond.codeWith ({ cls := "HedgeMessages", name := "execute", desc := "(LHedgeMessages$State;[LHedgeMessages$Operation;)I" } : Jvm.MethodName) prog_1_method_16_code (4 : Nat) (Option.some Jvm.ClassFile.FieldType.int) [((2 : Nat), (24 : Nat), (27 : Nat), (1 : Nat)), ((2 : Nat), (24 : Nat), (27 : Nat), (10 : Nat))]) ∈ lw_all := lw_g (lw_at lw_m8 163 rfl) rfl
theorem q1990 : (Jvm.Cond.interfaceEntry "HedgeMessages" (86 : Nat)) ∈ lw_tbl := lw_at lw_m8 166 rfl
theorem q1991 : (Jvm.Cond.methodLink "HedgeMessages" (86 : Nat) ({ cls := "HedgeMessages$Operation", name := "apply", desc := "(LHedgeMessages$State;)I" } : Jvm.MethodName)) ∈ lw_all := lw_g (lw_at lw_m8 167 rfl) rfl
theorem q1994 : (Jvm.Cond.methodLink "HedgeMessages" (92 : Nat) ({ cls := "HedgeMessages", name := "record", desc := "(LHedgeMessages$State;)V" } : Jvm.MethodName)) ∈ lw_all := lw_g (lw_at lw_m8 170 rfl) rfl
theorem q1995 : (Jvm.Cond.privateMethod ({ cls := "HedgeMessages", name := "record", desc := "(LHedgeMessages$State;)V" } : Jvm.MethodName)) ∈ lw_tbl := lw_at lw_m8 171 rfl
theorem q1996 : (Jvm.Cond.instanceMethod ({ cls := "HedgeMessages", name := "record", desc := "(LHedgeMessages$State;)V" } : Jvm.MethodName)) ∈ lw_all := lw_g (lw_at lw_m8 172 rfl) rfl
theorem q1997 : (Jvm.Cond.code ({ cls := "HedgeMessages", name := "record", desc := "(LHedgeMessages$State;)V" } : Jvm.MethodName) prog_1_method_8_code (3 : Nat) (Option.none : Option Jvm.ClassFile.FieldType)) ∈ lw_all := lw_g (lw_at lw_m8 173 rfl) rfl
theorem q1998 : (Jvm.Cond.methodLink "HedgeMessages" (96 : Nat) ({ cls := "java/util/ArrayDeque", name := "size", desc := "()I" } : Jvm.MethodName)) ∈ lw_all := lw_g (lw_at lw_m8 174 rfl) rfl
theorem q1999 : (Jvm.Cond.methodLink "HedgeMessages" (100 : Nat) ({ cls := "java/util/ArrayDeque", name := "removeFirst", desc := "()Ljava/lang/Object;" } : Jvm.MethodName)) ∈ lw_all := lw_g (lw_at lw_m8 175 rfl) rfl
theorem q2011 : (Jvm.Cond.methodLink "HedgeMessages" (104 : Nat) ({ cls := "java/util/ArrayDeque", name := "addLast", desc := "(Ljava/lang/Object;)V" } : Jvm.MethodName)) ∈ lw_all := lw_g (lw_at lw_m8 187 rfl) rfl
theorem q2036 : (Jvm.Cond.instanceMethod ({ cls := "HedgeMessages", name := "letterAt", desc := "(I)I" } : Jvm.MethodName)) ∈ lw_all := lw_g (lw_at lw_m8 212 rfl) rfl
theorem q2037 : (Jvm.Cond.selects "HedgeMessages" ({ cls := "HedgeMessages", name := "letterAt", desc := "(I)I" } : Jvm.MethodName) ({ cls := "HedgeMessages", name := "letterAt", desc := "(I)I" } : Jvm.MethodName)) ∈ lw_all := lw_g (lw_at lw_m8 213 rfl) rfl
theorem q2038 : (Jvm.Cond.code ({ cls := "HedgeMessages", name := "letterAt", desc := "(I)I" } : Jvm.MethodName) prog_1_method_28_code (3 : Nat) (Option.some Jvm.ClassFile.FieldType.int)) ∈ lw_all := lw_g (lw_at lw_m8 214 rfl) rfl
theorem q2039 : (Jvm.Cond.methodLink "HedgeMessages" (220 : Nat) ({ cls := "HedgeMessages", name := "twigAt", desc := "(I)LHedgeMessages$Twig;" } : Jvm.MethodName)) ∈ lw_all := lw_g (lw_at lw_m8 215 rfl) rfl
theorem q2040 : (Jvm.Cond.privateMethod ({ cls := "HedgeMessages", name := "twigAt", desc := "(I)LHedgeMessages$Twig;" } : Jvm.MethodName)) ∈ lw_tbl := lw_at lw_m8 216 rfl
theorem q2041 : (Jvm.Cond.instanceMethod ({ cls := "HedgeMessages", name := "twigAt", desc := "(I)LHedgeMessages$Twig;" } : Jvm.MethodName)) ∈ lw_all := lw_g (lw_at lw_m8 217 rfl) rfl
theorem q2042 : (Jvm.Cond.code ({ cls := "HedgeMessages", name := "twigAt", desc := "(I)LHedgeMessages$Twig;" } : Jvm.MethodName) prog_1_method_27_code (2 : Nat) (Option.some (Jvm.ClassFile.FieldType.object "HedgeMessages$Twig"))) ∈ lw_all := lw_g (lw_at lw_m8 218 rfl) rfl
theorem q2047 : (Jvm.Cond.instanceMethod ({ cls := "HedgeMessages", name := "ownerAt", desc := "(I)I" } : Jvm.MethodName)) ∈ lw_all := lw_g (lw_at lw_m8 223 rfl) rfl
theorem q2048 : (Jvm.Cond.selects "HedgeMessages" ({ cls := "HedgeMessages", name := "ownerAt", desc := "(I)I" } : Jvm.MethodName) ({ cls := "HedgeMessages", name := "ownerAt", desc := "(I)I" } : Jvm.MethodName)) ∈ lw_all := lw_g (lw_at lw_m8 224 rfl) rfl
theorem q2049 : (Jvm.Cond.code ({ cls := "HedgeMessages", name := "ownerAt", desc := "(I)I" } : Jvm.MethodName) prog_1_method_29_code (3 : Nat) (Option.some Jvm.ClassFile.FieldType.int)) ∈ lw_all := lw_g (lw_at lw_m8 225 rfl) rfl
theorem q2054 : (Jvm.Cond.instanceMethod ({ cls := "HedgeMessages", name := "lengthAt", desc := "(I)I" } : Jvm.MethodName)) ∈ lw_all := lw_g (lw_at lw_m8 230 rfl) rfl
theorem q2055 : (Jvm.Cond.selects "HedgeMessages" ({ cls := "HedgeMessages", name := "lengthAt", desc := "(I)I" } : Jvm.MethodName) ({ cls := "HedgeMessages", name := "lengthAt", desc := "(I)I" } : Jvm.MethodName)) ∈ lw_all := lw_g (lw_at lw_m8 231 rfl) rfl
theorem q2056 : (Jvm.Cond.code ({ cls := "HedgeMessages", name := "lengthAt", desc := "(I)I" } : Jvm.MethodName) prog_1_method_30_code (3 : Nat) (Option.some Jvm.ClassFile.FieldType.int)) ∈ lw_all := lw_g (lw_at lw_m8 232 rfl) rfl
theorem q2061 : (Jvm.Cond.instanceMethod ({ cls := "HedgeMessages", name := "isReserved", desc := "(I)Z" } : Jvm.MethodName)) ∈ lw_all := lw_g (lw_at lw_m8 237 rfl) rfl
theorem q2062 : (Jvm.Cond.selects "HedgeMessages" ({ cls := "HedgeMessages", name := "isReserved", desc := "(I)Z" } : Jvm.MethodName) ({ cls := "HedgeMessages", name := "isReserved", desc := "(I)Z" } : Jvm.MethodName)) ∈ lw_all := lw_g (lw_at lw_m8 238 rfl) rfl
theorem q2063 : (Jvm.Cond.code ({ cls := "HedgeMessages", name := "isReserved", desc := "(I)Z" } : Jvm.MethodName) prog_1_method_31_code (2 : Nat) (Option.some Jvm.ClassFile.FieldType.boolean)) ∈ lw_all := lw_g (lw_at lw_m8 239 rfl) rfl
theorem q2068 : (Jvm.Cond.instanceMethod ({ cls := "HedgeMessages", name := "nestDays", desc := "(I)I" } : Jvm.MethodName)) ∈ lw_all := lw_g (lw_at lw_m9 4 rfl) rfl
theorem q2069 : (Jvm.Cond.selects "HedgeMessages" ({ cls := "HedgeMessages", name := "nestDays", desc := "(I)I" } : Jvm.MethodName) ({ cls := "HedgeMessages", name := "nestDays", desc := "(I)I" } : Jvm.MethodName)) ∈ lw_all := lw_g (lw_at lw_m9 5 rfl) rfl
theorem q2070 : (Jvm.Cond.code ({ cls := "HedgeMessages", name := "nestDays", desc := "(I)I" } : Jvm.MethodName) prog_1_method_32_code (2 : Nat) (Option.some Jvm.ClassFile.FieldType.int)) ∈ lw_all := lw_g (lw_at lw_m9 6 rfl) rfl
theorem q2075 : (Jvm.Cond.instanceMethod ({ cls := "HedgeMessages", name := "isProtected", desc := "(I)Z" } : Jvm.MethodName)) ∈ lw_all := lw_g (lw_at lw_m9 11 rfl) rfl
theorem q2076 : (Jvm.Cond.selects "HedgeMessages" ({ cls := "HedgeMessages", name := "isProtected", desc := "(I)Z" } : Jvm.MethodName) ({ cls := "HedgeMessages", name := "isProtected", desc := "(I)Z" } : Jvm.MethodName)) ∈ lw_all := lw_g (lw_at lw_m9 12 rfl) rfl
theorem q2077 : (Jvm.Cond.code ({ cls := "HedgeMessages", name := "isProtected", desc := "(I)Z" } : Jvm.MethodName) prog_1_method_33_code (2 : Nat) (Option.some Jvm.ClassFile.FieldType.boolean)) ∈ lw_all := lw_g (lw_at lw_m9 13 rfl) rfl
theorem q2082 : (Jvm.Cond.instanceMethod ({ cls := "HedgeMessages", name := "pendingCount", desc := "(I)I" } : Jvm.MethodName)) ∈ lw_all := lw_g (lw_at lw_m9 18 rfl) rfl
theorem q2083 : (Jvm.Cond.selects "HedgeMessages" ({ cls := "HedgeMessages", name := "pendingCount", desc := "(I)I" } : Jvm.MethodName) ({ cls := "HedgeMessages", name := "pendingCount", desc := "(I)I" } : Jvm.MethodName)) ∈ lw_all := lw_g (lw_at lw_m9 19 rfl) rfl
theorem q2084 : (Jvm.Cond.code ({ cls := "HedgeMessages", name := "pendingCount", desc := "(I)I" } : Jvm.MethodName) prog_1_method_37_code (2 : Nat) (Option.some Jvm.ClassFile.FieldType.int)) ∈ lw_all := lw_g (lw_at lw_m9 20 rfl) rfl
theorem q2085 : (Jvm.Cond.methodLink "HedgeMessages" (256 : Nat) ({ cls := "HedgeMessages", name := "queueOf", desc := "(I)Ljava/util/List;" } : Jvm.MethodName)) ∈ lw_all := lw_g (lw_at lw_m9 21 rfl) rfl
theorem q2086 : (Jvm.Cond.privateMethod ({ cls := "HedgeMessages", name := "queueOf", desc := "(I)Ljava/util/List;" } : Jvm.MethodName)) ∈ lw_tbl := lw_at lw_m9 22 rfl
theorem q2087 : (Jvm.Cond.instanceMethod ({ cls := "HedgeMessages", name := "queueOf", desc := "(I)Ljava/util/List;" } : Jvm.MethodName)) ∈ lw_all := lw_g (lw_at lw_m9 23 rfl) rfl
theorem q2088 : (Jvm.Cond.code ({ cls := "HedgeMessages", name := "queueOf", desc := "(I)Ljava/util/List;" } : Jvm.MethodName) prog_1_method_36_code (2 : Nat) (Option.some (Jvm.ClassFile.FieldType.object "java/util/List"))) ∈ lw_all := lw_g (lw_at lw_m9 24 rfl) rfl
theorem q2089 : (Jvm.Cond.methodLink "HedgeMessages" (243 : Nat) ({ cls := "HedgeMessages", name := "checkGardener", desc := "(I)V" } : Jvm.MethodName)) ∈ lw_all := lw_g (lw_at lw_m9 25 rfl) rfl
theorem q2090 : (Jvm.Cond.static ({ cls := "HedgeMessages", name := "checkGardener", desc := "(I)V" } : Jvm.MethodName)) ∈ lw_all := lw_g (lw_at lw_m9 26 rfl) rfl
theorem q2091 : (Jvm.Cond.code ({ cls := "HedgeMessages", name := "checkGardener", desc := "(I)V" } : Jvm.MethodName) prog_1_method_35_code (1 : Nat) (Option.none : Option Jvm.ClassFile.FieldType)) ∈ lw_all := lw_g (lw_at lw_m9 27 rfl) rfl
theorem q2096 : (Jvm.Cond.instanceMethod ({ cls := "HedgeMessages", name := "pendingLetter", desc := "(III)I" } : Jvm.MethodName)) ∈ lw_all := lw_g (lw_at lw_m9 32 rfl) rfl
theorem q2097 : (Jvm.Cond.selects "HedgeMessages" ({ cls := "HedgeMessages", name := "pendingLetter", desc := "(III)I" } : Jvm.MethodName) ({ cls := "HedgeMessages", name := "pendingLetter", desc := "(III)I" } : Jvm.MethodName)) ∈ lw_all := lw_g (lw_at lw_m9 33 rfl) rfl
theorem q2098 : (Jvm.Cond.code ({ cls := "HedgeMessages", name := "pendingLetter", desc := "(III)I" } : Jvm.MethodName) prog_1_method_38_code (6 : Nat) (Option.some Jvm.ClassFile.FieldType.int)) ∈ lw_all := lw_g (lw_at lw_m9 34 rfl) rfl
theorem q2099 : (Jvm.Cond.methodLink "HedgeMessages" (265 : Nat) ({ cls := "java/lang/String", name := "length", desc := "()I" } : Jvm.MethodName)) ∈ lw_all := lw_g (lw_at lw_m9 35 rfl) rfl
theorem q2104 : (Jvm.Cond.instanceMethod ({ cls := "HedgeMessages", name := "lettersWritten", desc := "(I)I" } : Jvm.MethodName)) ∈ lw_all := lw_g (lw_at lw_m9 40 rfl) rfl
theorem q2105 : (Jvm.Cond.selects "HedgeMessages" ({ cls := "HedgeMessages", name := "lettersWritten", desc := "(I)I" } : Jvm.MethodName) ({ cls := "HedgeMessages", name := "lettersWritten", desc := "(I)I" } : Jvm.MethodName)) ∈ lw_all := lw_g (lw_at lw_m9 41 rfl) rfl
theorem q2106 : (Jvm.Cond.code ({ cls := "HedgeMessages", name := "lettersWritten", desc := "(I)I" } : Jvm.MethodName) prog_1_method_40_code (3 : Nat) (Option.some Jvm.ClassFile.FieldType.int)) ∈ lw_all := lw_g (lw_at lw_m9 42 rfl) rfl
theorem q2107 : (Jvm.Cond.methodLink "HedgeMessages" (275 : Nat) ({ cls := "HedgeMessages", name := "inProgressOf", desc := "(I)LHedgeMessages$Message;" } : Jvm.MethodName)) ∈ lw_all := lw_g (lw_at lw_m9 43 rfl) rfl
theorem q2108 : (Jvm.Cond.privateMethod ({ cls := "HedgeMessages", name := "inProgressOf", desc := "(I)LHedgeMessages$Message;" } : Jvm.MethodName)) ∈ lw_tbl := lw_at lw_m9 44 rfl
theorem q2109 : (Jvm.Cond.instanceMethod ({ cls := "HedgeMessages", name := "inProgressOf", desc := "(I)LHedgeMessages$Message;" } : Jvm.MethodName)) ∈ lw_all := lw_g (lw_at lw_m9 45 rfl) rfl
theorem q2110 : (Jvm.Cond.code ({ cls := "HedgeMessages", name := "inProgressOf", desc := "(I)LHedgeMessages$Message;" } : Jvm.MethodName) prog_1_method_39_code (2 : Nat) (Option.some (Jvm.ClassFile.FieldType.object "HedgeMessages$Message"))) ∈ lw_all := lw_g (lw_at lw_m9 46 rfl) rfl
theorem q2115 : (Jvm.Cond.instanceMethod ({ cls := "HedgeMessages", name := "startSlot", desc := "(I)I" } : Jvm.MethodName)) ∈ lw_all := lw_g (lw_at lw_m9 51 rfl) rfl
theorem q2116 : (Jvm.Cond.selects "HedgeMessages" ({ cls := "HedgeMessages", name := "startSlot", desc := "(I)I" } : Jvm.MethodName) ({ cls := "HedgeMessages", name := "startSlot", desc := "(I)I" } : Jvm.MethodName)) ∈ lw_all := lw_g (lw_at lw_m9 52 rfl) rfl
theorem q2117 : (Jvm.Cond.code ({ cls := "HedgeMessages", name := "startSlot", desc := "(I)I" } : Jvm.MethodName) prog_1_method_41_code (3 : Nat) (Option.some Jvm.ClassFile.FieldType.int)) ∈ lw_all := lw_g (lw_at lw_m9 53 rfl) rfl
theorem q2122 : (Jvm.Cond.instanceMethod ({ cls := "HedgeMessages", name := "postedCount", desc := "(I)I" } : Jvm.MethodName)) ∈ lw_all := lw_g (lw_at lw_m9 58 rfl) rfl
theorem q2123 : (Jvm.Cond.selects "HedgeMessages" ({ cls := "HedgeMessages", name := "postedCount", desc := "(I)I" } : Jvm.MethodName) ({ cls := "HedgeMessages", name := "postedCount", desc := "(I)I" } : Jvm.MethodName)) ∈ lw_all := lw_g (lw_at lw_m9 59 rfl) rfl
theorem q2124 : (Jvm.Cond.code ({ cls := "HedgeMessages", name := "postedCount", desc := "(I)I" } : Jvm.MethodName) prog_1_method_42_code (2 : Nat) (Option.some Jvm.ClassFile.FieldType.int)) ∈ lw_all := lw_g (lw_at lw_m9 60 rfl) rfl
theorem q2129 : (Jvm.Cond.instanceMethod ({ cls := "HedgeMessages", name := "nextStartSlot", desc := "(I)I" } : Jvm.MethodName)) ∈ lw_all := lw_g (lw_at lw_m9 65 rfl) rfl
theorem q2130 : (Jvm.Cond.selects "HedgeMessages" ({ cls := "HedgeMessages", name := "nextStartSlot", desc := "(I)I" } : Jvm.MethodName) ({ cls := "HedgeMessages", name := "nextStartSlot", desc := "(I)I" } : Jvm.MethodName)) ∈ lw_all := lw_g (lw_at lw_m9 66 rfl) rfl
theorem q2131 : (Jvm.Cond.code ({ cls := "HedgeMessages", name := "nextStartSlot", desc := "(I)I" } : Jvm.MethodName) prog_1_method_43_code (3 : Nat) (Option.some Jvm.ClassFile.FieldType.int)) ∈ lw_all := lw_g (lw_at lw_m9 67 rfl) rfl
theorem q2132 : (Jvm.Cond.interfaceEntry "HedgeMessages" (289 : Nat)) ∈ lw_tbl := lw_at lw_m9 68 rfl
theorem q2133 : (Jvm.Cond.methodLink "HedgeMessages" (289 : Nat) ({ cls := "java/util/List", name := "isEmpty", desc := "()Z" } : Jvm.MethodName)) ∈ lw_all := lw_g (lw_at lw_m9 69 rfl) rfl
theorem q2134 : (Jvm.Cond.methodLink "HedgeMessages" (294 : Nat) ({ cls := "HedgeMessages$State", name := "startSlot", desc := "(I)I" } : Jvm.MethodName)) ∈ lw_all := lw_g (lw_at lw_m9 70 rfl) rfl
theorem q2139 : (Jvm.Cond.instanceMethod ({ cls := "HedgeMessages", name := "plantReason", desc := "(I)I" } : Jvm.MethodName)) ∈ lw_all := lw_g (lw_at lw_m9 75 rfl) rfl
theorem q2140 : (Jvm.Cond.selects "HedgeMessages" ({ cls := "HedgeMessages", name := "plantReason", desc := "(I)I" } : Jvm.MethodName) ({ cls := "HedgeMessages", name := "plantReason", desc := "(I)I" } : Jvm.MethodName)) ∈ lw_all := lw_g (lw_at lw_m9 76 rfl) rfl
theorem q2141 : (Jvm.Cond.code ({ cls := "HedgeMessages", name := "plantReason", desc := "(I)I" } : Jvm.MethodName) prog_1_method_50_code (2 : Nat) (Option.some Jvm.ClassFile.FieldType.int)) ∈ lw_all := lw_g (lw_at lw_m9 77 rfl) rfl
theorem q2146 : (Jvm.Cond.instanceMethod ({ cls := "HedgeMessages", name := "removeReason", desc := "(I)I" } : Jvm.MethodName)) ∈ lw_all := lw_g (lw_at lw_m9 82 rfl) rfl
theorem q2147 : (Jvm.Cond.selects "HedgeMessages" ({ cls := "HedgeMessages", name := "removeReason", desc := "(I)I" } : Jvm.MethodName) ({ cls := "HedgeMessages", name := "removeReason", desc := "(I)I" } : Jvm.MethodName)) ∈ lw_all := lw_g (lw_at lw_m9 83 rfl) rfl
theorem q2148 : (Jvm.Cond.code ({ cls := "HedgeMessages", name := "removeReason", desc := "(I)I" } : Jvm.MethodName) prog_1_method_51_code (2 : Nat) (Option.some Jvm.ClassFile.FieldType.int)) ∈ lw_all := lw_g (lw_at lw_m9 84 rfl) rfl
theorem q2153 : (Jvm.Cond.instanceMethod ({ cls := "HedgeMessages", name := "trimReason", desc := "(I)I" } : Jvm.MethodName)) ∈ lw_all := lw_g (lw_at lw_m9 89 rfl) rfl
theorem q2154 : (Jvm.Cond.selects "HedgeMessages" ({ cls := "HedgeMessages", name := "trimReason", desc := "(I)I" } : Jvm.MethodName) ({ cls := "HedgeMessages", name := "trimReason", desc := "(I)I" } : Jvm.MethodName)) ∈ lw_all := lw_g (lw_at lw_m9 90 rfl) rfl
theorem q2155 : (Jvm.Cond.code ({ cls := "HedgeMessages", name := "trimReason", desc := "(I)I" } : Jvm.MethodName) prog_1_method_52_code (2 : Nat) (Option.some Jvm.ClassFile.FieldType.int)) ∈ lw_all := lw_g (lw_at lw_m9 91 rfl) rfl
theorem q2160 : (Jvm.Cond.instanceMethod ({ cls := "HedgeMessages", name := "writeReason", desc := "(I)I" } : Jvm.MethodName)) ∈ lw_all := lw_g (lw_at lw_m9 96 rfl) rfl
theorem q2161 : (Jvm.Cond.selects "HedgeMessages" ({ cls := "HedgeMessages", name := "writeReason", desc := "(I)I" } : Jvm.MethodName) ({ cls := "HedgeMessages", name := "writeReason", desc := "(I)I" } : Jvm.MethodName)) ∈ lw_all := lw_g (lw_at lw_m9 97 rfl) rfl
theorem q2162 : (Jvm.Cond.code ({ cls := "HedgeMessages", name := "writeReason", desc := "(I)I" } : Jvm.MethodName) prog_1_method_53_code (2 : Nat) (Option.some Jvm.ClassFile.FieldType.int)) ∈ lw_all := lw_g (lw_at lw_m9 98 rfl) rfl
theorem q2163 : (Jvm.Cond.methodLink "HedgeMessages" (349 : Nat) ({ cls := "HedgeMessages", name := "nextStartSlot", desc := "(I)I" } : Jvm.MethodName)) ∈ lw_all := lw_g (lw_at lw_m9 99 rfl) rfl
theorem q2168 : (Jvm.Cond.instanceMethod ({ cls := "HedgeMessages", name := "keepReason", desc := "(I)I" } : Jvm.MethodName)) ∈ lw_all := lw_g (lw_at lw_m9 104 rfl) rfl
theorem q2169 : (Jvm.Cond.selects "HedgeMessages" ({ cls := "HedgeMessages", name := "keepReason", desc := "(I)I" } : Jvm.MethodName) ({ cls := "HedgeMessages", name := "keepReason", desc := "(I)I" } : Jvm.MethodName)) ∈ lw_all := lw_g (lw_at lw_m9 105 rfl) rfl
theorem q2170 : (Jvm.Cond.code ({ cls := "HedgeMessages", name := "keepReason", desc := "(I)I" } : Jvm.MethodName) prog_1_method_54_code (3 : Nat) (Option.some Jvm.ClassFile.FieldType.int)) ∈ lw_all := lw_g (lw_at lw_m9 106 rfl) rfl
theorem q2175 : (Jvm.Cond.instanceMethod ({ cls := "HedgeMessages", name := "daysUntilPruned", desc := "(I)I" } : Jvm.MethodName)) ∈ lw_all := lw_g (lw_at lw_m9 111 rfl) rfl
theorem q2176 : (Jvm.Cond.selects "HedgeMessages" ({ cls := "HedgeMessages", name := "daysUntilPruned", desc := "(I)I" } : Jvm.MethodName) ({ cls := "HedgeMessages", name := "daysUntilPruned", desc := "(I)I" } : Jvm.MethodName)) ∈ lw_all := lw_g (lw_at lw_m9 112 rfl) rfl
theorem q2177 : (Jvm.Cond.code ({ cls := "HedgeMessages", name := "daysUntilPruned", desc := "(I)I" } : Jvm.MethodName) prog_1_method_56_code (4 : Nat) (Option.some Jvm.ClassFile.FieldType.int)) ∈ lw_all := lw_g (lw_at lw_m9 113 rfl) rfl
theorem q2178 : (Jvm.Cond.methodLink "HedgeMessages" (358 : Nat) ({ cls := "HedgeMessages$State", name := "endDay", desc := "()V" } : Jvm.MethodName)) ∈ lw_all := lw_g (lw_at lw_m9 114 rfl) rfl
theorem q2183 : (Jvm.Cond.instanceMethod ({ cls := "HedgeMessages", name := "deliveredAfter", desc := "(II)I" } : Jvm.MethodName)) ∈ lw_all := lw_g (lw_at lw_m9 119 rfl) rfl
theorem q2184 : (Jvm.Cond.selects "HedgeMessages" ({ cls := "HedgeMessages", name := "deliveredAfter", desc := "(II)I" } : Jvm.MethodName) ({ cls := "HedgeMessages", name := "deliveredAfter", desc := "(II)I" } : Jvm.MethodName)) ∈ lw_all := lw_g (lw_at lw_m9 120 rfl) rfl
theorem q2185 : (Jvm.Cond.code ({ cls := "HedgeMessages", name := "deliveredAfter", desc := "(II)I" } : Jvm.MethodName) prog_1_method_58_code (4 : Nat) (Option.some Jvm.ClassFile.FieldType.int)) ∈ lw_all := lw_g (lw_at lw_m9 121 rfl) rfl
theorem q2186 : (Jvm.Cond.methodLink "HedgeMessages" (363 : Nat) ({ cls := "HedgeMessages", name := "simulate", desc := "(III)LHedgeMessages$State;" } : Jvm.MethodName)) ∈ lw_all := lw_g (lw_at lw_m9 122 rfl) rfl
theorem q2187 : (Jvm.Cond.privateMethod ({ cls := "HedgeMessages", name := "simulate", desc := "(III)LHedgeMessages$State;" } : Jvm.MethodName)) ∈ lw_tbl := lw_at lw_m9 123 rfl
theorem q2188 : (Jvm.Cond.instanceMethod ({ cls := "HedgeMessages", name := "simulate", desc := "(III)LHedgeMessages$State;" } : Jvm.MethodName)) ∈ lw_all := lw_g (lw_at lw_m9 124 rfl) rfl
theorem q2189 : (Jvm.Cond.code ({ cls := "HedgeMessages", name := "simulate", desc := "(III)LHedgeMessages$State;" } : Jvm.MethodName) prog_1_method_57_code (4 : Nat) (Option.some (Jvm.ClassFile.FieldType.object "HedgeMessages$State"))) ∈ lw_all := lw_g (lw_at lw_m9 125 rfl) rfl
theorem q2190 : (Jvm.Cond.constantLong "HedgeMessages" (361 : Nat) (60 : Int64)) ∈ lw_all := lw_g (lw_at lw_m9 126 rfl) rfl
theorem q2195 : (Jvm.Cond.instanceMethod ({ cls := "HedgeMessages", name := "pendingAfter", desc := "(II)I" } : Jvm.MethodName)) ∈ lw_all := lw_g (lw_at lw_m9 131 rfl) rfl
theorem q2196 : (Jvm.Cond.selects "HedgeMessages" ({ cls := "HedgeMessages", name := "pendingAfter", desc := "(II)I" } : Jvm.MethodName) ({ cls := "HedgeMessages", name := "pendingAfter", desc := "(II)I" } : Jvm.MethodName)) ∈ lw_all := lw_g (lw_at lw_m9 132 rfl) rfl
theorem q2197 : (Jvm.Cond.code ({ cls := "HedgeMessages", name := "pendingAfter", desc := "(II)I" } : Jvm.MethodName) prog_1_method_59_code (3 : Nat) (Option.some Jvm.ClassFile.FieldType.int)) ∈ lw_all := lw_g (lw_at lw_m9 133 rfl) rfl
theorem q2202 : (Jvm.Cond.instanceMethod ({ cls := "HedgeMessages", name := "leastWorkLimit", desc := "(II)I" } : Jvm.MethodName)) ∈ lw_all := lw_g (lw_at lw_m9 138 rfl) rfl
theorem q2203 : (Jvm.Cond.selects "HedgeMessages" ({ cls := "HedgeMessages", name := "leastWorkLimit", desc := "(II)I" } : Jvm.MethodName) ({ cls := "HedgeMessages", name := "leastWorkLimit", desc := "(II)I" } : Jvm.MethodName)) ∈ lw_all := lw_g (lw_at lw_m9 139 rfl) rfl
theorem q2204 : (Jvm.Cond.code ({ cls := "HedgeMessages", name := "leastWorkLimit", desc := "(II)I" } : Jvm.MethodName) prog_1_method_63_code (5 : Nat) (Option.some Jvm.ClassFile.FieldType.int)) ∈ lw_all := lw_g (lw_at lw_m9 140 rfl) rfl
theorem q2205 : (Jvm.Cond.methodLink "HedgeMessages" (392 : Nat) ({ cls := "HedgeMessages", name := "isDone", desc := "(LHedgeMessages$State;I)Z" } : Jvm.MethodName)) ∈ lw_all := lw_g (lw_at lw_m9 141 rfl) rfl
theorem q2206 : (Jvm.Cond.static ({ cls := "HedgeMessages", name := "isDone", desc := "(LHedgeMessages$State;I)Z" } : Jvm.MethodName)) ∈ lw_all := lw_g (lw_at lw_m9 142 rfl) rfl
theorem q2207 : (Jvm.Cond.code ({ cls := "HedgeMessages", name := "isDone", desc := "(LHedgeMessages$State;I)Z" } : Jvm.MethodName) prog_1_method_62_code (2 : Nat) (Option.some Jvm.ClassFile.FieldType.boolean)) ∈ lw_all := lw_g (lw_at lw_m9 143 rfl) rfl
theorem q2212 : (Jvm.Cond.instanceMethod ({ cls := "HedgeMessages", name := "messagesQueued", desc := "(I)I" } : Jvm.MethodName)) ∈ lw_all := lw_g (lw_at lw_m9 148 rfl) rfl
theorem q2213 : (Jvm.Cond.selects "HedgeMessages" ({ cls := "HedgeMessages", name := "messagesQueued", desc := "(I)I" } : Jvm.MethodName) ({ cls := "HedgeMessages", name := "messagesQueued", desc := "(I)I" } : Jvm.MethodName)) ∈ lw_all := lw_g (lw_at lw_m9 149 rfl) rfl
theorem q2214 : (Jvm.Cond.code ({ cls := "HedgeMessages", name := "messagesQueued", desc := "(I)I" } : Jvm.MethodName) prog_1_method_65_code (2 : Nat) (Option.some Jvm.ClassFile.FieldType.int)) ∈ lw_all := lw_g (lw_at lw_m9 150 rfl) rfl
theorem q2215 : (Jvm.Cond.methodLink "HedgeMessages" (396 : Nat) ({ cls := "HedgeMessages", name := "countersOf", desc := "(I)LHedgeMessages$Counters;" } : Jvm.MethodName)) ∈ lw_all := lw_g (lw_at lw_m9 151 rfl) rfl
theorem q2216 : (Jvm.Cond.privateMethod ({ cls := "HedgeMessages", name := "countersOf", desc := "(I)LHedgeMessages$Counters;" } : Jvm.MethodName)) ∈ lw_tbl := lw_at lw_m9 152 rfl
theorem q2217 : (Jvm.Cond.instanceMethod ({ cls := "HedgeMessages", name := "countersOf", desc := "(I)LHedgeMessages$Counters;" } : Jvm.MethodName)) ∈ lw_all := lw_g (lw_at lw_m9 153 rfl) rfl
theorem q2218 : (Jvm.Cond.code ({ cls := "HedgeMessages", name := "countersOf", desc := "(I)LHedgeMessages$Counters;" } : Jvm.MethodName) prog_1_method_64_code (2 : Nat) (Option.some (Jvm.ClassFile.FieldType.object "HedgeMessages$Counters"))) ∈ lw_all := lw_g (lw_at lw_m9 154 rfl) rfl
theorem q2223 : (Jvm.Cond.instanceMethod ({ cls := "HedgeMessages", name := "messagesDelivered", desc := "(I)I" } : Jvm.MethodName)) ∈ lw_all := lw_g (lw_at lw_m9 159 rfl) rfl
theorem q2224 : (Jvm.Cond.selects "HedgeMessages" ({ cls := "HedgeMessages", name := "messagesDelivered", desc := "(I)I" } : Jvm.MethodName) ({ cls := "HedgeMessages", name := "messagesDelivered", desc := "(I)I" } : Jvm.MethodName)) ∈ lw_all := lw_g (lw_at lw_m9 160 rfl) rfl
theorem q2225 : (Jvm.Cond.code ({ cls := "HedgeMessages", name := "messagesDelivered", desc := "(I)I" } : Jvm.MethodName) prog_1_method_66_code (2 : Nat) (Option.some Jvm.ClassFile.FieldType.int)) ∈ lw_all := lw_g (lw_at lw_m9 161 rfl) rfl
theorem q2230 : (Jvm.Cond.instanceMethod ({ cls := "HedgeMessages", name := "messagesFailed", desc := "(I)I" } : Jvm.MethodName)) ∈ lw_all := lw_g (lw_at lw_m9 166 rfl) rfl
theorem q2231 : (Jvm.Cond.selects "HedgeMessages" ({ cls := "HedgeMessages", name := "messagesFailed", desc := "(I)I" } : Jvm.MethodName) ({ cls := "HedgeMessages", name := "messagesFailed", desc := "(I)I" } : Jvm.MethodName)) ∈ lw_all := lw_g (lw_at lw_m9 167 rfl) rfl
theorem q2232 : (Jvm.Cond.code ({ cls := "HedgeMessages", name := "messagesFailed", desc := "(I)I" } : Jvm.MethodName) prog_1_method_67_code (2 : Nat) (Option.some Jvm.ClassFile.FieldType.int)) ∈ lw_all := lw_g (lw_at lw_m9 168 rfl) rfl
theorem q2233 : (Jvm.Cond.methodLink "HedgeMessages" (403 : Nat) ({ cls := "HedgeMessages$Counters", name := "failed", desc := "()I" } : Jvm.MethodName)) ∈ lw_all := lw_g (lw_at lw_m9 169 rfl) rfl
theorem q2241 : (Jvm.Cond.instanceMethod ({ cls := "HedgeMessages", name := "messagesDropped", desc := "(I)I" } : Jvm.MethodName)) ∈ lw_all := lw_g (lw_at lw_m9 177 rfl) rfl
theorem q2242 : (Jvm.Cond.selects "HedgeMessages" ({ cls := "HedgeMessages", name := "messagesDropped", desc := "(I)I" } : Jvm.MethodName) ({ cls := "HedgeMessages", name := "messagesDropped", desc := "(I)I" } : Jvm.MethodName)) ∈ lw_all := lw_g (lw_at lw_m9 178 rfl) rfl
theorem q2243 : (Jvm.Cond.code ({ cls := "HedgeMessages", name := "messagesDropped", desc := "(I)I" } : Jvm.MethodName) prog_1_method_68_code (2 : Nat) (Option.some Jvm.ClassFile.FieldType.int)) ∈ lw_all := lw_g (lw_at lw_m9 179 rfl) rfl
theorem q2248 : (Jvm.Cond.instanceMethod ({ cls := "HedgeMessages", name := "plant", desc := "(II)I" } : Jvm.MethodName)) ∈ lw_all := lw_g (lw_at lw_m9 184 rfl) rfl
theorem q2249 : (Jvm.Cond.selects "HedgeMessages" ({ cls := "HedgeMessages", name := "plant", desc := "(II)I" } : Jvm.MethodName) ({ cls := "HedgeMessages", name := "plant", desc := "(II)I" } : Jvm.MethodName)) ∈ lw_all := lw_g (lw_at lw_m9 185 rfl) rfl
theorem q2250 : (Jvm.Cond.code ({ cls := "HedgeMessages", name := "plant", desc := "(II)I" } : Jvm.MethodName) prog_1_method_86_code (3 : Nat) (Option.some Jvm.ClassFile.FieldType.int)) ∈ lw_all := lw_g (lw_at lw_m9 186 rfl) rfl
theorem q2251 : (Jvm.Cond.constantLong "HedgeMessages" (441 : Nat) (97 : Int64)) ∈ lw_all := lw_g (lw_at lw_m9 187 rfl) rfl
theorem q2252 : (Jvm.Cond.constantLong "HedgeMessages" (443 : Nat) (122 : Int64)) ∈ lw_all := lw_g (lw_at lw_m9 188 rfl) rfl
theorem q2253 : (Jvm.Cond.static ({ cls := "HedgeMessages", name := "lambda$plant$0", desc := "(IILHedgeMessages$State;)I" } : Jvm.MethodName)) ∈ lw_all := lw_g (lw_at lw_m9 189 rfl) rfl
theorem q2254 : (Jvm.Cond.code ({ cls := "HedgeMessages", name := "lambda$plant$0", desc := "(IILHedgeMessages$State;)I" } : Jvm.MethodName) prog_1_method_108_code (3 : Nat) (Option.some Jvm.ClassFile.FieldType.int)) ∈ lw_all := lw_g (lw_at lw_m9 190 rfl) rfl
theorem q2255 : (Jvm.Cond.methodLink "HedgeMessages" (520 : Nat) ({ cls := "HedgeMessages", name := "applyPlant", desc := "(LHedgeMessages$State;IC)I" } : Jvm.MethodName)) ∈ lw_all := lw_g (lw_at lw_m9 191 rfl) rfl
theorem q2256 : (Jvm.Cond.methodLink "HedgeMessages" (448 : Nat) ({ cls := "HedgeMessages", name := "perform", desc := "(LHedgeMessages$Operation;)I" } : Jvm.MethodName)) ∈ lw_all := lw_g (lw_at lw_m9 192 rfl) rfl
theorem q2257 : (Jvm.Cond.privateMethod ({ cls := "HedgeMessages", name := "perform", desc := "(LHedgeMessages$Operation;)I" } : Jvm.MethodName)) ∈ lw_tbl := lw_at lw_m9 193 rfl
theorem q2258 : (Jvm.Cond.instanceMethod ({ cls := "HedgeMessages", name := "perform", desc := "(LHedgeMessages$Operation;)I" } : Jvm.MethodName)) ∈ lw_all := lw_g (lw_at lw_m9 194 rfl) rfl
theorem q2259 : (Jvm.Cond.code ({ cls := "HedgeMessages", name := "perform", desc := "(LHedgeMessages$Operation;)I" } : Jvm.MethodName) prog_1_method_7_code (4 : Nat) (Option.some Jvm.ClassFile.FieldType.int)) ∈ lw_all := lw_g (lw_at lw_m9 195 rfl) rfl
theorem q2264 : (Jvm.Cond.instanceMethod ({ cls := "HedgeMessages", name := "remove", desc := "(I)I" } : Jvm.MethodName)) ∈ lw_all := lw_g (lw_at lw_m9 200 rfl) rfl
theorem q2265 : (Jvm.Cond.selects "HedgeMessages" ({ cls := "HedgeMessages", name := "remove", desc := "(I)I" } : Jvm.MethodName) ({ cls := "HedgeMessages", name := "remove", desc := "(I)I" } : Jvm.MethodName)) ∈ lw_all := lw_g (lw_at lw_m9 201 rfl) rfl
theorem q2266 : (Jvm.Cond.code ({ cls := "HedgeMessages", name := "remove", desc := "(I)I" } : Jvm.MethodName) prog_1_method_87_code (2 : Nat) (Option.some Jvm.ClassFile.FieldType.int)) ∈ lw_all := lw_g (lw_at lw_m9 202 rfl) rfl
theorem q2267 : (Jvm.Cond.static ({ cls := "HedgeMessages", name := "lambda$remove$1", desc := "(ILHedgeMessages$State;)I" } : Jvm.MethodName)) ∈ lw_all := lw_g (lw_at lw_m9 203 rfl) rfl
theorem q2268 : (Jvm.Cond.code ({ cls := "HedgeMessages", name := "lambda$remove$1", desc := "(ILHedgeMessages$State;)I" } : Jvm.MethodName) prog_1_method_107_code (2 : Nat) (Option.some Jvm.ClassFile.FieldType.int)) ∈ lw_all := lw_g (lw_at lw_m9 204 rfl) rfl
theorem q2269 : (Jvm.Cond.methodLink "HedgeMessages" (517 : Nat) ({ cls := "HedgeMessages", name := "applyRemove", desc := "(LHedgeMessages$State;I)I" } : Jvm.MethodName)) ∈ lw_all := lw_g (lw_at lw_m9 205 rfl) rfl
theorem q2274 : (Jvm.Cond.instanceMethod ({ cls := "HedgeMessages", name := "trim", desc := "(II)I" } : Jvm.MethodName)) ∈ lw_all := lw_g (lw_at lw_m9 210 rfl) rfl
theorem q2275 : (Jvm.Cond.selects "HedgeMessages" ({ cls := "HedgeMessages", name := "trim", desc := "(II)I" } : Jvm.MethodName) ({ cls := "HedgeMessages", name := "trim", desc := "(II)I" } : Jvm.MethodName)) ∈ lw_all := lw_g (lw_at lw_m9 211 rfl) rfl
theorem q2276 : (Jvm.Cond.code ({ cls := "HedgeMessages", name := "trim", desc := "(II)I" } : Jvm.MethodName) prog_1_method_88_code (3 : Nat) (Option.some Jvm.ClassFile.FieldType.int)) ∈ lw_all := lw_g (lw_at lw_m9 212 rfl) rfl
theorem q2277 : (Jvm.Cond.constantLong "HedgeMessages" (455 : Nat) (99 : Int64)) ∈ lw_all := lw_g (lw_at lw_m9 213 rfl) rfl
theorem q2278 : (Jvm.Cond.static ({ cls := "HedgeMessages", name := "lambda$trim$2", desc := "(IILHedgeMessages$State;)I" } : Jvm.MethodName)) ∈ lw_all := lw_g (lw_at lw_m9 214 rfl) rfl
theorem q2279 : (Jvm.Cond.code ({ cls := "HedgeMessages", name := "lambda$trim$2", desc := "(IILHedgeMessages$State;)I" } : Jvm.MethodName) prog_1_method_106_code (3 : Nat) (Option.some Jvm.ClassFile.FieldType.int)) ∈ lw_all := lw_g (lw_at lw_m9 215 rfl) rfl
theorem q2280 : (Jvm.Cond.methodLink "HedgeMessages" (514 : Nat) ({ cls := "HedgeMessages", name := "applyTrim", desc := "(LHedgeMessages$State;II)I" } : Jvm.MethodName)) ∈ lw_all := lw_g (lw_at lw_m9 216 rfl) rfl
theorem q2285 : (Jvm.Cond.instanceMethod ({ cls := "HedgeMessages", name := "addNest", desc := "(II)I" } : Jvm.MethodName)) ∈ lw_all := lw_g (lw_at lw_m9 221 rfl) rfl
theorem q2286 : (Jvm.Cond.selects "HedgeMessages" ({ cls := "HedgeMessages", name := "addNest", desc := "(II)I" } : Jvm.MethodName) ({ cls := "HedgeMessages", name := "addNest", desc := "(II)I" } : Jvm.MethodName)) ∈ lw_all := lw_g (lw_at lw_m9 222 rfl) rfl
theorem q2287 : (Jvm.Cond.code ({ cls := "HedgeMessages", name := "addNest", desc := "(II)I" } : Jvm.MethodName) prog_1_method_89_code (3 : Nat) (Option.some Jvm.ClassFile.FieldType.int)) ∈ lw_all := lw_g (lw_at lw_m9 223 rfl) rfl
theorem q2288 : (Jvm.Cond.constantLong "HedgeMessages" (458 : Nat) (30 : Int64)) ∈ lw_all := lw_g (lw_at lw_m9 224 rfl) rfl
theorem q2289 : (Jvm.Cond.static ({ cls := "HedgeMessages", name := "lambda$addNest$3", desc := "(IILHedgeMessages$State;)I" } : Jvm.MethodName)) ∈ lw_all := lw_g (lw_at lw_m9 225 rfl) rfl
theorem q2290 : (Jvm.Cond.code ({ cls := "HedgeMessages", name := "lambda$addNest$3", desc := "(IILHedgeMessages$State;)I" } : Jvm.MethodName) prog_1_method_105_code (3 : Nat) (Option.some Jvm.ClassFile.FieldType.int)) ∈ lw_all := lw_g (lw_at lw_m9 226 rfl) rfl
theorem q2291 : (Jvm.Cond.methodLink "HedgeMessages" (511 : Nat) ({ cls := "HedgeMessages", name := "applyNest", desc := "(LHedgeMessages$State;II)I" } : Jvm.MethodName)) ∈ lw_all := lw_g (lw_at lw_m9 227 rfl) rfl
theorem q2296 : (Jvm.Cond.instanceMethod ({ cls := "HedgeMessages", name := "queueMessage", desc := "(I)I" } : Jvm.MethodName)) ∈ lw_all := lw_g (lw_at lw_m9 232 rfl) rfl
theorem q2297 : (Jvm.Cond.selects "HedgeMessages" ({ cls := "HedgeMessages", name := "queueMessage", desc := "(I)I" } : Jvm.MethodName) ({ cls := "HedgeMessages", name := "queueMessage", desc := "(I)I" } : Jvm.MethodName)) ∈ lw_all := lw_g (lw_at lw_m9 233 rfl) rfl
theorem q2298 : (Jvm.Cond.code ({ cls := "HedgeMessages", name := "queueMessage", desc := "(I)I" } : Jvm.MethodName) prog_1_method_91_code (4 : Nat) (Option.some Jvm.ClassFile.FieldType.int)) ∈ lw_all := lw_g (lw_at lw_m9 234 rfl) rfl
theorem q2299 : (Jvm.Cond.methodLink "HedgeMessages" (472 : Nat) ({ cls := "HedgeMessages", name := "bufferWord", desc := "()Ljava/lang/String;" } : Jvm.MethodName)) ∈ lw_all := lw_g (lw_at lw_m9 235 rfl) rfl
theorem q2300 : (Jvm.Cond.privateMethod ({ cls := "HedgeMessages", name := "bufferWord", desc := "()Ljava/lang/String;" } : Jvm.MethodName)) ∈ lw_tbl := lw_at lw_m9 236 rfl
theorem q2301 : (Jvm.Cond.instanceMethod ({ cls := "HedgeMessages", name := "bufferWord", desc := "()Ljava/lang/String;" } : Jvm.MethodName)) ∈ lw_all := lw_g (lw_at lw_m9 237 rfl) rfl
theorem q2302 : (Jvm.Cond.code ({ cls := "HedgeMessages", name := "bufferWord", desc := "()Ljava/lang/String;" } : Jvm.MethodName) prog_1_method_90_code (3 : Nat) (Option.some (Jvm.ClassFile.FieldType.object "java/lang/String"))) ∈ lw_all := lw_g (lw_at lw_m9 238 rfl) rfl
theorem q2303 : (Jvm.Cond.stringRef "HedgeMessages" (461 : Nat) "") ∈ lw_tbl := lw_at lw_m9 239 rfl
theorem q2304 : (Jvm.Cond.methodLink "HedgeMessages" (468 : Nat) ({ cls := "java/lang/StringBuilder", name := "toString", desc := "()Ljava/lang/String;" } : Jvm.MethodName)) ∈ lw_all := lw_g (lw_at lw_m10 0 rfl) rfl
theorem q2305 : (Jvm.Cond.static ({ cls := "HedgeMessages", name := "lambda$queueMessage$4", desc := "(ILjava/lang/String;LHedgeMessages$State;)I" } : Jvm.MethodName)) ∈ lw_all := lw_g (lw_at lw_m10 1 rfl) rfl
theorem q2306 : (Jvm.Cond.code ({ cls := "HedgeMessages", name := "lambda$queueMessage$4", desc := "(ILjava/lang/String;LHedgeMessages$State;)I" } : Jvm.MethodName) prog_1_method_104_code (3 : Nat) (Option.some Jvm.ClassFile.FieldType.int)) ∈ lw_all := lw_g (lw_at lw_m10 2 rfl) rfl
theorem q2307 : (Jvm.Cond.methodLink "HedgeMessages" (507 : Nat) ({ cls := "HedgeMessages", name := "applyQueue", desc := "(LHedgeMessages$State;ILjava/lang/String;)I" } : Jvm.MethodName)) ∈ lw_all := lw_g (lw_at lw_m10 3 rfl) rfl
theorem q2312 : (Jvm.Cond.instanceMethod ({ cls := "HedgeMessages", name := "cancelMessage", desc := "(II)I" } : Jvm.MethodName)) ∈ lw_all := lw_g (lw_at lw_m10 8 rfl) rfl
theorem q2313 : (Jvm.Cond.selects "HedgeMessages" ({ cls := "HedgeMessages", name := "cancelMessage", desc := "(II)I" } : Jvm.MethodName) ({ cls := "HedgeMessages", name := "cancelMessage", desc := "(II)I" } : Jvm.MethodName)) ∈ lw_all := lw_g (lw_at lw_m10 9 rfl) rfl
theorem q2314 : (Jvm.Cond.code ({ cls := "HedgeMessages", name := "cancelMessage", desc := "(II)I" } : Jvm.MethodName) prog_1_method_92_code (3 : Nat) (Option.some Jvm.ClassFile.FieldType.int)) ∈ lw_all := lw_g (lw_at lw_m10 10 rfl) rfl
theorem q2315 : (Jvm.Cond.static ({ cls := "HedgeMessages", name := "lambda$cancelMessage$5", desc := "(IILHedgeMessages$State;)I" } : Jvm.MethodName)) ∈ lw_all := lw_g (lw_at lw_m10 11 rfl) rfl
theorem q2316 : (Jvm.Cond.code ({ cls := "HedgeMessages", name := "lambda$cancelMessage$5", desc := "(IILHedgeMessages$State;)I" } : Jvm.MethodName) prog_1_method_103_code (3 : Nat) (Option.some Jvm.ClassFile.FieldType.int)) ∈ lw_all := lw_g (lw_at lw_m10 12 rfl) rfl
theorem q2317 : (Jvm.Cond.methodLink "HedgeMessages" (503 : Nat) ({ cls := "HedgeMessages", name := "applyCancel", desc := "(LHedgeMessages$State;II)I" } : Jvm.MethodName)) ∈ lw_all := lw_g (lw_at lw_m10 13 rfl) rfl
theorem q2322 : (Jvm.Cond.instanceMethod ({ cls := "HedgeMessages", name := "setWorkLimit", desc := "(I)I" } : Jvm.MethodName)) ∈ lw_all := lw_g (lw_at lw_m10 18 rfl) rfl
theorem q2323 : (Jvm.Cond.selects "HedgeMessages" ({ cls := "HedgeMessages", name := "setWorkLimit", desc := "(I)I" } : Jvm.MethodName) ({ cls := "HedgeMessages", name := "setWorkLimit", desc := "(I)I" } : Jvm.MethodName)) ∈ lw_all := lw_g (lw_at lw_m10 19 rfl) rfl
theorem q2324 : (Jvm.Cond.code ({ cls := "HedgeMessages", name := "setWorkLimit", desc := "(I)I" } : Jvm.MethodName) prog_1_method_93_code (2 : Nat) (Option.some Jvm.ClassFile.FieldType.int)) ∈ lw_all := lw_g (lw_at lw_m10 20 rfl) rfl
theorem q2325 : (Jvm.Cond.constantLong "HedgeMessages" (479 : Nat) (12 : Int64)) ∈ lw_all := lw_g (lw_at lw_m10 21 rfl) rfl
theorem q2326 : (Jvm.Cond.static ({ cls := "HedgeMessages", name := "lambda$setWorkLimit$6", desc := "(ILHedgeMessages$State;)I" } : Jvm.MethodName)) ∈ lw_all := lw_g (lw_at lw_m10 22 rfl) rfl
theorem q2327 : (Jvm.Cond.code ({ cls := "HedgeMessages", name := "lambda$setWorkLimit$6", desc := "(ILHedgeMessages$State;)I" } : Jvm.MethodName) prog_1_method_102_code (2 : Nat) (Option.some Jvm.ClassFile.FieldType.int)) ∈ lw_all := lw_g (lw_at lw_m10 23 rfl) rfl
theorem q2328 : (Jvm.Cond.methodLink "HedgeMessages" (500 : Nat) ({ cls := "HedgeMessages", name := "applyWorkLimit", desc := "(LHedgeMessages$State;I)I" } : Jvm.MethodName)) ∈ lw_all := lw_g (lw_at lw_m10 24 rfl) rfl
theorem q2333 : (Jvm.Cond.instanceMethod ({ cls := "HedgeMessages", name := "endDays", desc := "(I)I" } : Jvm.MethodName)) ∈ lw_all := lw_g (lw_at lw_m10 29 rfl) rfl
theorem q2334 : (Jvm.Cond.selects "HedgeMessages" ({ cls := "HedgeMessages", name := "endDays", desc := "(I)I" } : Jvm.MethodName) ({ cls := "HedgeMessages", name := "endDays", desc := "(I)I" } : Jvm.MethodName)) ∈ lw_all := lw_g (lw_at lw_m10 30 rfl) rfl
theorem q2335 : (Jvm.Cond.code ({ cls := "HedgeMessages", name := "endDays", desc := "(I)I" } : Jvm.MethodName) prog_1_method_94_code (2 : Nat) (Option.some Jvm.ClassFile.FieldType.int)) ∈ lw_all := lw_g (lw_at lw_m10 31 rfl) rfl
theorem q2336 : (Jvm.Cond.static ({ cls := "HedgeMessages", name := "lambda$endDays$7", desc := "(ILHedgeMessages$State;)I" } : Jvm.MethodName)) ∈ lw_all := lw_g (lw_at lw_m10 32 rfl) rfl
theorem q2337 : (Jvm.Cond.code ({ cls := "HedgeMessages", name := "lambda$endDays$7", desc := "(ILHedgeMessages$State;)I" } : Jvm.MethodName) prog_1_method_101_code (2 : Nat) (Option.some Jvm.ClassFile.FieldType.int)) ∈ lw_all := lw_g (lw_at lw_m10 33 rfl) rfl
theorem q2338 : (Jvm.Cond.methodLink "HedgeMessages" (497 : Nat) ({ cls := "HedgeMessages", name := "applyEndDays", desc := "(LHedgeMessages$State;I)I" } : Jvm.MethodName)) ∈ lw_all := lw_g (lw_at lw_m10 34 rfl) rfl
theorem q2343 : (Jvm.Cond.instanceMethod ({ cls := "HedgeMessages", name := "undo", desc := "()I" } : Jvm.MethodName)) ∈ lw_all := lw_g (lw_at lw_m10 39 rfl) rfl
theorem q2344 : (Jvm.Cond.selects "HedgeMessages" ({ cls := "HedgeMessages", name := "undo", desc := "()I" } : Jvm.MethodName) ({ cls := "HedgeMessages", name := "undo", desc := "()I" } : Jvm.MethodName)) ∈ lw_all := lw_g (lw_at lw_m10 40 rfl) rfl
theorem q2345 : (Jvm.Cond.code ({ cls := "HedgeMessages", name := "undo", desc := "()I" } : Jvm.MethodName) prog_1_method_95_code (1 : Nat) (Option.some Jvm.ClassFile.FieldType.int)) ∈ lw_all := lw_g (lw_at lw_m10 41 rfl) rfl
theorem q2346 : (Jvm.Cond.methodLink "HedgeMessages" (483 : Nat) ({ cls := "java/util/ArrayDeque", name := "isEmpty", desc := "()Z" } : Jvm.MethodName)) ∈ lw_all := lw_g (lw_at lw_m10 42 rfl) rfl
theorem q2350 : (Jvm.Cond.methodLink "HedgeMessages" (484 : Nat) ({ cls := "java/util/ArrayDeque", name := "removeLast", desc := "()Ljava/lang/Object;" } : Jvm.MethodName)) ∈ lw_all := lw_g (lw_at lw_m10 46 rfl) rfl
theorem q2365 : (Jvm.Cond.instanceMethod ({ cls := "HedgeMessages", name := "restore", desc := "()I" } : Jvm.MethodName)) ∈ lw_all := lw_g (lw_at lw_m10 61 rfl) rfl
theorem q2366 : (Jvm.Cond.selects "HedgeMessages" ({ cls := "HedgeMessages", name := "restore", desc := "()I" } : Jvm.MethodName) ({ cls := "HedgeMessages", name := "restore", desc := "()I" } : Jvm.MethodName)) ∈ lw_all := lw_g (lw_at lw_m10 62 rfl) rfl
theorem q2367 : (Jvm.Cond.code ({ cls := "HedgeMessages", name := "restore", desc := "()I" } : Jvm.MethodName) prog_1_method_97_code (1 : Nat) (Option.some Jvm.ClassFile.FieldType.int)) ∈ lw_all := lw_g (lw_at lw_m10 63 rfl) rfl
theorem q3132 : (Jvm.Cond.castable "HedgeMessages" "java/lang/Object") ∈ lw_tbl := lw_at lw_m13 108 rfl
theorem in_X1 : ∀ w ∈ wsX10, w ∈ lw_all := lw_in wsX10 [843, 845, 847, 849, 851, 853, 855, 857] (by decide +kernel) (by decide +kernel)

/-! HedgeMessages$State -/
set_option maxRecDepth 100000
def RX2 : String := "HedgeMessages$State"
def TX2 : u_T := fun k => match k with
  | 0 => ("HedgeMessages$State", "growth", "I", true)
  | 1 => ("HedgeMessages$State", "legalLength", "I", true)
  | 2 => ("HedgeMessages$State", "interval", "I", true)
  | 3 => ("HedgeMessages$State", "yardSize", "I", true)
  | 4 => ("HedgeMessages$State", "twigs", "[LHedgeMessages$Twig;", true)
  | 5 => ("HedgeMessages$State", "nests", "[I", true)
  | 6 => ("HedgeMessages$State", "queues", "Ljava/util/List;", true)
  | 7 => ("HedgeMessages$State", "inProgress", "[LHedgeMessages$Message;", true)
  | 8 => ("HedgeMessages$State", "counters", "[LHedgeMessages$Counters;", true)
  | 9 => ("HedgeMessages$State", "posted", "Ljava/util/List;", true)
  | 10 => ("HedgeMessages$State", "workLimit", "I", false)
  | 11 => ("HedgeMessages$State", "actionsLeft", "I", false)
  | 12 => ("HedgeMessages$State", "day", "I", false)
  | 13 => ("HedgeMessages$State", "planted", "I", false)
  | 14 => ("HedgeMessages$State", "pruned", "I", false)
  | _ => ("HedgeMessages$State", "removed", "I", false)
def tyX2 : Nat → FieldType := fun k => match k with
  | 0 => .int
  | 1 => .int
  | 2 => .int
  | 3 => .int
  | 4 => .array (.object "HedgeMessages$Twig")
  | 5 => .array .int
  | 6 => .object "java/util/List"
  | 7 => .array (.object "HedgeMessages$Message")
  | 8 => .array (.object "HedgeMessages$Counters")
  | 9 => .object "java/util/List"
  | 10 => .int
  | 11 => .int
  | 12 => .int
  | 13 => .int
  | 14 => .int
  | _ => .int
abbrev wsX20 : List Cond := u_ws RX2 TX2 16
set_option maxRecDepth 100000 in
theorem nmX2 : ∀ a, a < 16 → ∀ b, b < 16 → a ≠ b → (TX2 a).2.1 ≠ (TX2 b).2.1 := by decide +kernel
set_option maxRecDepth 100000 in
theorem tyX2_ok : ∀ k, k < 16 → parseFieldDescriptor (TX2 k).2.2.1 = some (tyX2 k) := by decide +kernel
abbrev cX2_init : ByteArray := prog_9_method_1_code
def yX2_init : MethodName := ⟨RX2, "<init>", "(IIIIII)V"⟩
def dkwX2_init_2 : List UInt8 := [28, 181, 0, 20, 177]
abbrev dktX2_init_2 : List UInt8 := dkwX2_init_2 ++ []
def dkwX2_init_1 : List UInt8 := [89, 183, 0, 7, 83, 89, 4, 187, 0, 5, 89, 183, 0, 7, 83, 183, 0, 11, 42, 28, 181, 0, 16, 42]
abbrev dktX2_init_1 : List UInt8 := dkwX2_init_1 ++ dktX2_init_2
def dkwX2_init_0 : List UInt8 := [42, 29, 21, 4, 21, 5, 21, 6, 27, 189, 0, 3, 27, 188, 10, 5, 189, 0, 5, 89, 3, 187, 0, 5]
abbrev dktX2_init_0 : List UInt8 := dkwX2_init_0 ++ dktX2_init_1
theorem dksX2_init_0 : cX2_init.data.toList.drop 0 = dktX2_init_0 := by decide +kernel
theorem dksX2_init_1 : cX2_init.data.toList.drop 24 = dktX2_init_1 := dk_seg dksX2_init_0 24 rfl rfl
theorem dksX2_init_2 : cX2_init.data.toList.drop 48 = dktX2_init_2 := dk_seg dksX2_init_1 24 rfl rfl
theorem dX2_init_0 : decode cX2_init 0 = .ok (.aload_n 0, 1) := dk_42 (dk_at dksX2_init_0 0 rfl rfl)
theorem dX2_init_1 : decode cX2_init 1 = .ok (.iload_n 3, 1) := dk_29 (dk_at dksX2_init_0 1 rfl rfl)
theorem dX2_init_2 : decode cX2_init 2 = .ok (.iload 4, 2) := dk_21 4 (dk_at dksX2_init_0 2 rfl rfl)
theorem dX2_init_4 : decode cX2_init 4 = .ok (.iload 5, 2) := dk_21 5 (dk_at dksX2_init_0 4 rfl rfl)
theorem dX2_init_6 : decode cX2_init 6 = .ok (.iload 6, 2) := dk_21 6 (dk_at dksX2_init_0 6 rfl rfl)
theorem dX2_init_8 : decode cX2_init 8 = .ok (.iload_n 1, 1) := dk_27 (dk_at dksX2_init_0 8 rfl rfl)
theorem dX2_init_9 : decode cX2_init 9 = .ok (.anewarray 3, 3) := dk_189 0 3 (dk_at dksX2_init_0 9 rfl rfl)
theorem dX2_init_12 : decode cX2_init 12 = .ok (.iload_n 1, 1) := dk_27 (dk_at dksX2_init_0 12 rfl rfl)
theorem dX2_init_13 : decode cX2_init 13 = .ok (.newarray .int, 2) := dk_188_10 (dk_at dksX2_init_0 13 rfl rfl)
theorem dX2_init_15 : decode cX2_init 15 = .ok (.iconst 2, 1) := dk_5 (dk_at dksX2_init_0 15 rfl rfl)
theorem dX2_init_16 : decode cX2_init 16 = .ok (.anewarray 5, 3) := dk_189 0 5 (dk_at dksX2_init_0 16 rfl rfl)
theorem dX2_init_19 : decode cX2_init 19 = .ok (.dup, 1) := dk_89 (dk_at dksX2_init_0 19 rfl rfl)
theorem dX2_init_20 : decode cX2_init 20 = .ok (.iconst 0, 1) := dk_3 (dk_at dksX2_init_0 20 rfl rfl)
theorem dX2_init_21 : decode cX2_init 21 = .ok (.new 5, 3) := dk_187 0 5 (dk_at dksX2_init_0 21 rfl rfl)
theorem dX2_init_24 : decode cX2_init 24 = .ok (.dup, 1) := dk_89 (dk_at dksX2_init_1 0 rfl rfl)
theorem dX2_init_25 : decode cX2_init 25 = .ok (.invokespecial 7, 3) := dk_183 0 7 (dk_at dksX2_init_1 1 rfl rfl)
theorem dX2_init_28 : decode cX2_init 28 = .ok (.aastore, 1) := dk_83 (dk_at dksX2_init_1 4 rfl rfl)
theorem dX2_init_29 : decode cX2_init 29 = .ok (.dup, 1) := dk_89 (dk_at dksX2_init_1 5 rfl rfl)
theorem dX2_init_30 : decode cX2_init 30 = .ok (.iconst 1, 1) := dk_4 (dk_at dksX2_init_1 6 rfl rfl)
theorem dX2_init_31 : decode cX2_init 31 = .ok (.new 5, 3) := dk_187 0 5 (dk_at dksX2_init_1 7 rfl rfl)
theorem dX2_init_34 : decode cX2_init 34 = .ok (.dup, 1) := dk_89 (dk_at dksX2_init_1 10 rfl rfl)
theorem dX2_init_35 : decode cX2_init 35 = .ok (.invokespecial 7, 3) := dk_183 0 7 (dk_at dksX2_init_1 11 rfl rfl)
theorem dX2_init_38 : decode cX2_init 38 = .ok (.aastore, 1) := dk_83 (dk_at dksX2_init_1 14 rfl rfl)
theorem dX2_init_39 : decode cX2_init 39 = .ok (.invokespecial 11, 3) := dk_183 0 11 (dk_at dksX2_init_1 15 rfl rfl)
theorem dX2_init_42 : decode cX2_init 42 = .ok (.aload_n 0, 1) := dk_42 (dk_at dksX2_init_1 18 rfl rfl)
theorem dX2_init_43 : decode cX2_init 43 = .ok (.iload_n 2, 1) := dk_28 (dk_at dksX2_init_1 19 rfl rfl)
theorem dX2_init_44 : decode cX2_init 44 = .ok (.putfield 16, 3) := dk_181 0 16 (dk_at dksX2_init_1 20 rfl rfl)
theorem dX2_init_47 : decode cX2_init 47 = .ok (.aload_n 0, 1) := dk_42 (dk_at dksX2_init_1 23 rfl rfl)
theorem dX2_init_48 : decode cX2_init 48 = .ok (.iload_n 2, 1) := dk_28 (dk_at dksX2_init_2 0 rfl rfl)
theorem dX2_init_49 : decode cX2_init 49 = .ok (.putfield 20, 3) := dk_181 0 20 (dk_at dksX2_init_2 1 rfl rfl)
theorem dX2_init_52 : decode cX2_init 52 = .ok (.return_, 1) := dk_177 (dk_at dksX2_init_2 4 rfl rfl)
abbrev cX2_init_2 : ByteArray := prog_9_method_2_code
def yX2_init_2 : MethodName := ⟨RX2, "<init>", "(IIII[LHedgeMessages$Twig;[I[LHedgeMessages$Counters;)V"⟩
def dkwX2_init_2_4 : List UInt8 := [185, 0, 69, 2, 0, 87, 132, 8, 1, 167, 255, 230, 177]
abbrev dktX2_init_2_4 : List UInt8 := dkwX2_init_2_4 ++ []
def dkwX2_init_2_3 : List UInt8 := [181, 0, 65, 3, 54, 8, 21, 8, 5, 162, 0, 26, 42, 180, 0, 31, 187, 0, 26, 89, 183, 0, 41]
abbrev dktX2_init_2_3 : List UInt8 := dkwX2_init_2_3 ++ dktX2_init_2_4
def dkwX2_init_2_2 : List UInt8 := [181, 0, 51, 42, 21, 4, 181, 0, 54, 42, 25, 5, 181, 0, 57, 42, 25, 6, 181, 0, 61, 42, 25, 7]
abbrev dktX2_init_2_2 : List UInt8 := dkwX2_init_2_2 ++ dktX2_init_2_3
def dkwX2_init_2_1 : List UInt8 := [42, 187, 0, 26, 89, 183, 0, 41, 181, 0, 42, 42, 27, 181, 0, 45, 42, 28, 181, 0, 48, 42, 29]
abbrev dktX2_init_2_1 : List UInt8 := dkwX2_init_2_1 ++ dktX2_init_2_2
def dkwX2_init_2_0 : List UInt8 := [42, 183, 0, 23, 42, 187, 0, 26, 89, 5, 183, 0, 28, 181, 0, 31, 42, 5, 189, 0, 35, 181, 0, 37]
abbrev dktX2_init_2_0 : List UInt8 := dkwX2_init_2_0 ++ dktX2_init_2_1
theorem dksX2_init_2_0 : cX2_init_2.data.toList.drop 0 = dktX2_init_2_0 := by decide +kernel
theorem dksX2_init_2_1 : cX2_init_2.data.toList.drop 24 = dktX2_init_2_1 := dk_seg dksX2_init_2_0 24 rfl rfl
theorem dksX2_init_2_2 : cX2_init_2.data.toList.drop 47 = dktX2_init_2_2 := dk_seg dksX2_init_2_1 23 rfl rfl
theorem dksX2_init_2_3 : cX2_init_2.data.toList.drop 71 = dktX2_init_2_3 := dk_seg dksX2_init_2_2 24 rfl rfl
theorem dksX2_init_2_4 : cX2_init_2.data.toList.drop 94 = dktX2_init_2_4 := dk_seg dksX2_init_2_3 23 rfl rfl
theorem dX2_init_2_0 : decode cX2_init_2 0 = .ok (.aload_n 0, 1) := dk_42 (dk_at dksX2_init_2_0 0 rfl rfl)
theorem dX2_init_2_1 : decode cX2_init_2 1 = .ok (.invokespecial 23, 3) := dk_183 0 23 (dk_at dksX2_init_2_0 1 rfl rfl)
theorem dX2_init_2_4 : decode cX2_init_2 4 = .ok (.aload_n 0, 1) := dk_42 (dk_at dksX2_init_2_0 4 rfl rfl)
theorem dX2_init_2_5 : decode cX2_init_2 5 = .ok (.new 26, 3) := dk_187 0 26 (dk_at dksX2_init_2_0 5 rfl rfl)
theorem dX2_init_2_8 : decode cX2_init_2 8 = .ok (.dup, 1) := dk_89 (dk_at dksX2_init_2_0 8 rfl rfl)
theorem dX2_init_2_9 : decode cX2_init_2 9 = .ok (.iconst 2, 1) := dk_5 (dk_at dksX2_init_2_0 9 rfl rfl)
theorem dX2_init_2_10 : decode cX2_init_2 10 = .ok (.invokespecial 28, 3) := dk_183 0 28 (dk_at dksX2_init_2_0 10 rfl rfl)
theorem dX2_init_2_13 : decode cX2_init_2 13 = .ok (.putfield 31, 3) := dk_181 0 31 (dk_at dksX2_init_2_0 13 rfl rfl)
theorem dX2_init_2_16 : decode cX2_init_2 16 = .ok (.aload_n 0, 1) := dk_42 (dk_at dksX2_init_2_0 16 rfl rfl)
theorem dX2_init_2_17 : decode cX2_init_2 17 = .ok (.iconst 2, 1) := dk_5 (dk_at dksX2_init_2_0 17 rfl rfl)
theorem dX2_init_2_18 : decode cX2_init_2 18 = .ok (.anewarray 35, 3) := dk_189 0 35 (dk_at dksX2_init_2_0 18 rfl rfl)
theorem dX2_init_2_21 : decode cX2_init_2 21 = .ok (.putfield 37, 3) := dk_181 0 37 (dk_at dksX2_init_2_0 21 rfl rfl)
theorem dX2_init_2_24 : decode cX2_init_2 24 = .ok (.aload_n 0, 1) := dk_42 (dk_at dksX2_init_2_1 0 rfl rfl)
theorem dX2_init_2_25 : decode cX2_init_2 25 = .ok (.new 26, 3) := dk_187 0 26 (dk_at dksX2_init_2_1 1 rfl rfl)
theorem dX2_init_2_28 : decode cX2_init_2 28 = .ok (.dup, 1) := dk_89 (dk_at dksX2_init_2_1 4 rfl rfl)
theorem dX2_init_2_29 : decode cX2_init_2 29 = .ok (.invokespecial 41, 3) := dk_183 0 41 (dk_at dksX2_init_2_1 5 rfl rfl)
theorem dX2_init_2_32 : decode cX2_init_2 32 = .ok (.putfield 42, 3) := dk_181 0 42 (dk_at dksX2_init_2_1 8 rfl rfl)
theorem dX2_init_2_35 : decode cX2_init_2 35 = .ok (.aload_n 0, 1) := dk_42 (dk_at dksX2_init_2_1 11 rfl rfl)
theorem dX2_init_2_36 : decode cX2_init_2 36 = .ok (.iload_n 1, 1) := dk_27 (dk_at dksX2_init_2_1 12 rfl rfl)
theorem dX2_init_2_37 : decode cX2_init_2 37 = .ok (.putfield 45, 3) := dk_181 0 45 (dk_at dksX2_init_2_1 13 rfl rfl)
theorem dX2_init_2_40 : decode cX2_init_2 40 = .ok (.aload_n 0, 1) := dk_42 (dk_at dksX2_init_2_1 16 rfl rfl)
theorem dX2_init_2_41 : decode cX2_init_2 41 = .ok (.iload_n 2, 1) := dk_28 (dk_at dksX2_init_2_1 17 rfl rfl)
theorem dX2_init_2_42 : decode cX2_init_2 42 = .ok (.putfield 48, 3) := dk_181 0 48 (dk_at dksX2_init_2_1 18 rfl rfl)
theorem dX2_init_2_45 : decode cX2_init_2 45 = .ok (.aload_n 0, 1) := dk_42 (dk_at dksX2_init_2_1 21 rfl rfl)
theorem dX2_init_2_46 : decode cX2_init_2 46 = .ok (.iload_n 3, 1) := dk_29 (dk_at dksX2_init_2_1 22 rfl rfl)
theorem dX2_init_2_47 : decode cX2_init_2 47 = .ok (.putfield 51, 3) := dk_181 0 51 (dk_at dksX2_init_2_2 0 rfl rfl)
theorem dX2_init_2_50 : decode cX2_init_2 50 = .ok (.aload_n 0, 1) := dk_42 (dk_at dksX2_init_2_2 3 rfl rfl)
theorem dX2_init_2_51 : decode cX2_init_2 51 = .ok (.iload 4, 2) := dk_21 4 (dk_at dksX2_init_2_2 4 rfl rfl)
theorem dX2_init_2_53 : decode cX2_init_2 53 = .ok (.putfield 54, 3) := dk_181 0 54 (dk_at dksX2_init_2_2 6 rfl rfl)
theorem dX2_init_2_56 : decode cX2_init_2 56 = .ok (.aload_n 0, 1) := dk_42 (dk_at dksX2_init_2_2 9 rfl rfl)
theorem dX2_init_2_57 : decode cX2_init_2 57 = .ok (.aload 5, 2) := dk_25 5 (dk_at dksX2_init_2_2 10 rfl rfl)
theorem dX2_init_2_59 : decode cX2_init_2 59 = .ok (.putfield 57, 3) := dk_181 0 57 (dk_at dksX2_init_2_2 12 rfl rfl)
theorem dX2_init_2_62 : decode cX2_init_2 62 = .ok (.aload_n 0, 1) := dk_42 (dk_at dksX2_init_2_2 15 rfl rfl)
theorem dX2_init_2_63 : decode cX2_init_2 63 = .ok (.aload 6, 2) := dk_25 6 (dk_at dksX2_init_2_2 16 rfl rfl)
theorem dX2_init_2_65 : decode cX2_init_2 65 = .ok (.putfield 61, 3) := dk_181 0 61 (dk_at dksX2_init_2_2 18 rfl rfl)
theorem dX2_init_2_68 : decode cX2_init_2 68 = .ok (.aload_n 0, 1) := dk_42 (dk_at dksX2_init_2_2 21 rfl rfl)
theorem dX2_init_2_69 : decode cX2_init_2 69 = .ok (.aload 7, 2) := dk_25 7 (dk_at dksX2_init_2_2 22 rfl rfl)
theorem dX2_init_2_71 : decode cX2_init_2 71 = .ok (.putfield 65, 3) := dk_181 0 65 (dk_at dksX2_init_2_3 0 rfl rfl)
theorem dX2_init_2_74 : decode cX2_init_2 74 = .ok (.iconst 0, 1) := dk_3 (dk_at dksX2_init_2_3 3 rfl rfl)
theorem dX2_init_2_75 : decode cX2_init_2 75 = .ok (.istore 8, 2) := dk_54 8 (dk_at dksX2_init_2_3 4 rfl rfl)
theorem dX2_init_2_77 : decode cX2_init_2 77 = .ok (.iload 8, 2) := dk_21 8 (dk_at dksX2_init_2_3 6 rfl rfl)
theorem dX2_init_2_79 : decode cX2_init_2 79 = .ok (.iconst 2, 1) := dk_5 (dk_at dksX2_init_2_3 8 rfl rfl)
theorem dX2_init_2_80 : decode cX2_init_2 80 = .ok (.if_icmp .ge 26, 3) := dk_162 0 26 (dk_at dksX2_init_2_3 9 rfl rfl)
theorem dX2_init_2_83 : decode cX2_init_2 83 = .ok (.aload_n 0, 1) := dk_42 (dk_at dksX2_init_2_3 12 rfl rfl)
theorem dX2_init_2_84 : decode cX2_init_2 84 = .ok (.getfield 31, 3) := dk_180 0 31 (dk_at dksX2_init_2_3 13 rfl rfl)
theorem dX2_init_2_87 : decode cX2_init_2 87 = .ok (.new 26, 3) := dk_187 0 26 (dk_at dksX2_init_2_3 16 rfl rfl)
theorem dX2_init_2_90 : decode cX2_init_2 90 = .ok (.dup, 1) := dk_89 (dk_at dksX2_init_2_3 19 rfl rfl)
theorem dX2_init_2_91 : decode cX2_init_2 91 = .ok (.invokespecial 41, 3) := dk_183 0 41 (dk_at dksX2_init_2_3 20 rfl rfl)
theorem dX2_init_2_94 : decode cX2_init_2 94 = .ok (.invokeinterface 69 2, 5) := by decide +kernel
theorem dX2_init_2_99 : decode cX2_init_2 99 = .ok (.pop, 1) := dk_87 (dk_at dksX2_init_2_4 5 rfl rfl)
theorem dX2_init_2_100 : decode cX2_init_2 100 = .ok (.iinc 8 1, 3) := dk_132 8 1 (dk_at dksX2_init_2_4 6 rfl rfl)
theorem dX2_init_2_103 : decode cX2_init_2 103 = .ok (.goto (-26), 3) := dk_167 255 230 (dk_at dksX2_init_2_4 9 rfl rfl)
theorem dX2_init_2_106 : decode cX2_init_2 106 = .ok (.return_, 1) := dk_177 (dk_at dksX2_init_2_4 12 rfl rfl)
abbrev cX2_plant : ByteArray := prog_9_method_17_code
def yX2_plant : MethodName := ⟨RX2, "plant", "(ILHedgeMessages$Twig;)V"⟩
def dkwX2_plant_0 : List UInt8 := [42, 180, 0, 57, 27, 44, 83, 42, 89, 180, 0, 113, 4, 96, 181, 0, 113, 177]
abbrev dktX2_plant_0 : List UInt8 := dkwX2_plant_0 ++ []
theorem dksX2_plant_0 : cX2_plant.data.toList.drop 0 = dktX2_plant_0 := by decide +kernel
theorem dX2_plant_0 : decode cX2_plant 0 = .ok (.aload_n 0, 1) := dk_42 (dk_at dksX2_plant_0 0 rfl rfl)
theorem dX2_plant_1 : decode cX2_plant 1 = .ok (.getfield 57, 3) := dk_180 0 57 (dk_at dksX2_plant_0 1 rfl rfl)
theorem dX2_plant_4 : decode cX2_plant 4 = .ok (.iload_n 1, 1) := dk_27 (dk_at dksX2_plant_0 4 rfl rfl)
theorem dX2_plant_5 : decode cX2_plant 5 = .ok (.aload_n 2, 1) := dk_44 (dk_at dksX2_plant_0 5 rfl rfl)
theorem dX2_plant_6 : decode cX2_plant 6 = .ok (.aastore, 1) := dk_83 (dk_at dksX2_plant_0 6 rfl rfl)
theorem dX2_plant_7 : decode cX2_plant 7 = .ok (.aload_n 0, 1) := dk_42 (dk_at dksX2_plant_0 7 rfl rfl)
theorem dX2_plant_8 : decode cX2_plant 8 = .ok (.dup, 1) := dk_89 (dk_at dksX2_plant_0 8 rfl rfl)
theorem dX2_plant_9 : decode cX2_plant 9 = .ok (.getfield 113, 3) := dk_180 0 113 (dk_at dksX2_plant_0 9 rfl rfl)
theorem dX2_plant_12 : decode cX2_plant 12 = .ok (.iconst 1, 1) := dk_4 (dk_at dksX2_plant_0 12 rfl rfl)
theorem dX2_plant_13 : decode cX2_plant 13 = .ok (.iadd, 1) := dk_96 (dk_at dksX2_plant_0 13 rfl rfl)
theorem dX2_plant_14 : decode cX2_plant 14 = .ok (.putfield 113, 3) := dk_181 0 113 (dk_at dksX2_plant_0 14 rfl rfl)
theorem dX2_plant_17 : decode cX2_plant 17 = .ok (.return_, 1) := dk_177 (dk_at dksX2_plant_0 17 rfl rfl)
abbrev cX2_queue : ByteArray := prog_9_method_20_code
def yX2_queue : MethodName := ⟨RX2, "queue", "(LHedgeMessages$Message;)V"⟩
def dkwX2_queue_1 : List UInt8 := [180, 0, 65, 43, 180, 0, 167, 42, 180, 0, 65, 43, 180, 0, 167, 50, 182, 0, 179, 83, 177]
abbrev dktX2_queue_1 : List UInt8 := dkwX2_queue_1 ++ []
def dkwX2_queue_0 : List UInt8 := [42, 180, 0, 31, 43, 180, 0, 167, 185, 0, 84, 2, 0, 192, 0, 70, 43, 185, 0, 69, 2, 0, 87, 42]
abbrev dktX2_queue_0 : List UInt8 := dkwX2_queue_0 ++ dktX2_queue_1
theorem dksX2_queue_0 : cX2_queue.data.toList.drop 0 = dktX2_queue_0 := by decide +kernel
theorem dksX2_queue_1 : cX2_queue.data.toList.drop 24 = dktX2_queue_1 := dk_seg dksX2_queue_0 24 rfl rfl
theorem dX2_queue_0 : decode cX2_queue 0 = .ok (.aload_n 0, 1) := dk_42 (dk_at dksX2_queue_0 0 rfl rfl)
theorem dX2_queue_1 : decode cX2_queue 1 = .ok (.getfield 31, 3) := dk_180 0 31 (dk_at dksX2_queue_0 1 rfl rfl)
theorem dX2_queue_4 : decode cX2_queue 4 = .ok (.aload_n 1, 1) := dk_43 (dk_at dksX2_queue_0 4 rfl rfl)
theorem dX2_queue_5 : decode cX2_queue 5 = .ok (.getfield 167, 3) := dk_180 0 167 (dk_at dksX2_queue_0 5 rfl rfl)
theorem dX2_queue_8 : decode cX2_queue 8 = .ok (.invokeinterface 84 2, 5) := by decide +kernel
theorem dX2_queue_13 : decode cX2_queue 13 = .ok (.checkcast 70, 3) := dk_192 0 70 (dk_at dksX2_queue_0 13 rfl rfl)
theorem dX2_queue_16 : decode cX2_queue 16 = .ok (.aload_n 1, 1) := dk_43 (dk_at dksX2_queue_0 16 rfl rfl)
theorem dX2_queue_17 : decode cX2_queue 17 = .ok (.invokeinterface 69 2, 5) := by decide +kernel
theorem dX2_queue_22 : decode cX2_queue 22 = .ok (.pop, 1) := dk_87 (dk_at dksX2_queue_0 22 rfl rfl)
theorem dX2_queue_23 : decode cX2_queue 23 = .ok (.aload_n 0, 1) := dk_42 (dk_at dksX2_queue_0 23 rfl rfl)
theorem dX2_queue_24 : decode cX2_queue 24 = .ok (.getfield 65, 3) := dk_180 0 65 (dk_at dksX2_queue_1 0 rfl rfl)
theorem dX2_queue_27 : decode cX2_queue 27 = .ok (.aload_n 1, 1) := dk_43 (dk_at dksX2_queue_1 3 rfl rfl)
theorem dX2_queue_28 : decode cX2_queue 28 = .ok (.getfield 167, 3) := dk_180 0 167 (dk_at dksX2_queue_1 4 rfl rfl)
theorem dX2_queue_31 : decode cX2_queue 31 = .ok (.aload_n 0, 1) := dk_42 (dk_at dksX2_queue_1 7 rfl rfl)
theorem dX2_queue_32 : decode cX2_queue 32 = .ok (.getfield 65, 3) := dk_180 0 65 (dk_at dksX2_queue_1 8 rfl rfl)
theorem dX2_queue_35 : decode cX2_queue 35 = .ok (.aload_n 1, 1) := dk_43 (dk_at dksX2_queue_1 11 rfl rfl)
theorem dX2_queue_36 : decode cX2_queue 36 = .ok (.getfield 167, 3) := dk_180 0 167 (dk_at dksX2_queue_1 12 rfl rfl)
theorem dX2_queue_39 : decode cX2_queue 39 = .ok (.aaload, 1) := dk_50 (dk_at dksX2_queue_1 15 rfl rfl)
theorem dX2_queue_40 : decode cX2_queue 40 = .ok (.invokevirtual 179, 3) := dk_182 0 179 (dk_at dksX2_queue_1 16 rfl rfl)
theorem dX2_queue_43 : decode cX2_queue 43 = .ok (.aastore, 1) := dk_83 (dk_at dksX2_queue_1 19 rfl rfl)
theorem dX2_queue_44 : decode cX2_queue 44 = .ok (.return_, 1) := dk_177 (dk_at dksX2_queue_1 20 rfl rfl)
abbrev cX2_slots : ByteArray := prog_9_method_4_code
def yX2_slots : MethodName := ⟨RX2, "slots", "()I"⟩
def dkwX2_slots_0 : List UInt8 := [42, 180, 0, 57, 190, 172]
abbrev dktX2_slots_0 : List UInt8 := dkwX2_slots_0 ++ []
theorem dksX2_slots_0 : cX2_slots.data.toList.drop 0 = dktX2_slots_0 := by decide +kernel
theorem dX2_slots_0 : decode cX2_slots 0 = .ok (.aload_n 0, 1) := dk_42 (dk_at dksX2_slots_0 0 rfl rfl)
theorem dX2_slots_1 : decode cX2_slots 1 = .ok (.getfield 57, 3) := dk_180 0 57 (dk_at dksX2_slots_0 1 rfl rfl)
theorem dX2_slots_4 : decode cX2_slots 4 = .ok (.arraylength, 1) := dk_190 (dk_at dksX2_slots_0 4 rfl rfl)
theorem dX2_slots_5 : decode cX2_slots 5 = .ok (.ireturn, 1) := dk_172 (dk_at dksX2_slots_0 5 rfl rfl)
abbrev cX2_active : ByteArray := prog_9_method_6_code
def yX2_active : MethodName := ⟨RX2, "active", "()I"⟩
def dkwX2_active_0 : List UInt8 := [42, 180, 0, 110, 5, 112, 172]
abbrev dktX2_active_0 : List UInt8 := dkwX2_active_0 ++ []
theorem dksX2_active_0 : cX2_active.data.toList.drop 0 = dktX2_active_0 := by decide +kernel
theorem dX2_active_0 : decode cX2_active 0 = .ok (.aload_n 0, 1) := dk_42 (dk_at dksX2_active_0 0 rfl rfl)
theorem dX2_active_1 : decode cX2_active 1 = .ok (.getfield 110, 3) := dk_180 0 110 (dk_at dksX2_active_0 1 rfl rfl)
theorem dX2_active_4 : decode cX2_active 4 = .ok (.iconst 2, 1) := dk_5 (dk_at dksX2_active_0 4 rfl rfl)
theorem dX2_active_5 : decode cX2_active 5 = .ok (.irem, 1) := dk_112 (dk_at dksX2_active_0 5 rfl rfl)
theorem dX2_active_6 : decode cX2_active 6 = .ok (.ireturn, 1) := dk_172 (dk_at dksX2_active_0 6 rfl rfl)
abbrev cX2_twigCount : ByteArray := prog_9_method_8_code
def yX2_twigCount : MethodName := ⟨RX2, "twigCount", "()I"⟩
def dkwX2_twigCount_1 : List UInt8 := [58, 5, 27, 25, 5, 199, 0, 7, 3, 167, 0, 4, 4, 96, 60, 132, 4, 1, 167, 255, 228, 27, 172]
abbrev dktX2_twigCount_1 : List UInt8 := dkwX2_twigCount_1 ++ []
def dkwX2_twigCount_0 : List UInt8 := [3, 60, 42, 180, 0, 57, 77, 44, 190, 62, 3, 54, 4, 21, 4, 29, 162, 0, 28, 44, 21, 4, 50]
abbrev dktX2_twigCount_0 : List UInt8 := dkwX2_twigCount_0 ++ dktX2_twigCount_1
theorem dksX2_twigCount_0 : cX2_twigCount.data.toList.drop 0 = dktX2_twigCount_0 := by decide +kernel
theorem dksX2_twigCount_1 : cX2_twigCount.data.toList.drop 23 = dktX2_twigCount_1 := dk_seg dksX2_twigCount_0 23 rfl rfl
theorem dX2_twigCount_0 : decode cX2_twigCount 0 = .ok (.iconst 0, 1) := dk_3 (dk_at dksX2_twigCount_0 0 rfl rfl)
theorem dX2_twigCount_1 : decode cX2_twigCount 1 = .ok (.istore_n 1, 1) := dk_60 (dk_at dksX2_twigCount_0 1 rfl rfl)
theorem dX2_twigCount_2 : decode cX2_twigCount 2 = .ok (.aload_n 0, 1) := dk_42 (dk_at dksX2_twigCount_0 2 rfl rfl)
theorem dX2_twigCount_3 : decode cX2_twigCount 3 = .ok (.getfield 57, 3) := dk_180 0 57 (dk_at dksX2_twigCount_0 3 rfl rfl)
theorem dX2_twigCount_6 : decode cX2_twigCount 6 = .ok (.astore_n 2, 1) := dk_77 (dk_at dksX2_twigCount_0 6 rfl rfl)
theorem dX2_twigCount_7 : decode cX2_twigCount 7 = .ok (.aload_n 2, 1) := dk_44 (dk_at dksX2_twigCount_0 7 rfl rfl)
theorem dX2_twigCount_8 : decode cX2_twigCount 8 = .ok (.arraylength, 1) := dk_190 (dk_at dksX2_twigCount_0 8 rfl rfl)
theorem dX2_twigCount_9 : decode cX2_twigCount 9 = .ok (.istore_n 3, 1) := dk_62 (dk_at dksX2_twigCount_0 9 rfl rfl)
theorem dX2_twigCount_10 : decode cX2_twigCount 10 = .ok (.iconst 0, 1) := dk_3 (dk_at dksX2_twigCount_0 10 rfl rfl)
theorem dX2_twigCount_11 : decode cX2_twigCount 11 = .ok (.istore 4, 2) := dk_54 4 (dk_at dksX2_twigCount_0 11 rfl rfl)
theorem dX2_twigCount_13 : decode cX2_twigCount 13 = .ok (.iload 4, 2) := dk_21 4 (dk_at dksX2_twigCount_0 13 rfl rfl)
theorem dX2_twigCount_15 : decode cX2_twigCount 15 = .ok (.iload_n 3, 1) := dk_29 (dk_at dksX2_twigCount_0 15 rfl rfl)
theorem dX2_twigCount_16 : decode cX2_twigCount 16 = .ok (.if_icmp .ge 28, 3) := dk_162 0 28 (dk_at dksX2_twigCount_0 16 rfl rfl)
theorem dX2_twigCount_19 : decode cX2_twigCount 19 = .ok (.aload_n 2, 1) := dk_44 (dk_at dksX2_twigCount_0 19 rfl rfl)
theorem dX2_twigCount_20 : decode cX2_twigCount 20 = .ok (.iload 4, 2) := dk_21 4 (dk_at dksX2_twigCount_0 20 rfl rfl)
theorem dX2_twigCount_22 : decode cX2_twigCount 22 = .ok (.aaload, 1) := dk_50 (dk_at dksX2_twigCount_0 22 rfl rfl)
theorem dX2_twigCount_23 : decode cX2_twigCount 23 = .ok (.astore 5, 2) := dk_58 5 (dk_at dksX2_twigCount_1 0 rfl rfl)
theorem dX2_twigCount_25 : decode cX2_twigCount 25 = .ok (.iload_n 1, 1) := dk_27 (dk_at dksX2_twigCount_1 2 rfl rfl)
theorem dX2_twigCount_26 : decode cX2_twigCount 26 = .ok (.aload 5, 2) := dk_25 5 (dk_at dksX2_twigCount_1 3 rfl rfl)
theorem dX2_twigCount_28 : decode cX2_twigCount 28 = .ok (.ifnonnull 7, 3) := dk_199 0 7 (dk_at dksX2_twigCount_1 5 rfl rfl)
theorem dX2_twigCount_31 : decode cX2_twigCount 31 = .ok (.iconst 0, 1) := dk_3 (dk_at dksX2_twigCount_1 8 rfl rfl)
theorem dX2_twigCount_32 : decode cX2_twigCount 32 = .ok (.goto 4, 3) := dk_167 0 4 (dk_at dksX2_twigCount_1 9 rfl rfl)
theorem dX2_twigCount_35 : decode cX2_twigCount 35 = .ok (.iconst 1, 1) := dk_4 (dk_at dksX2_twigCount_1 12 rfl rfl)
theorem dX2_twigCount_36 : decode cX2_twigCount 36 = .ok (.iadd, 1) := dk_96 (dk_at dksX2_twigCount_1 13 rfl rfl)
theorem dX2_twigCount_37 : decode cX2_twigCount 37 = .ok (.istore_n 1, 1) := dk_60 (dk_at dksX2_twigCount_1 14 rfl rfl)
theorem dX2_twigCount_38 : decode cX2_twigCount 38 = .ok (.iinc 4 1, 3) := dk_132 4 1 (dk_at dksX2_twigCount_1 15 rfl rfl)
theorem dX2_twigCount_41 : decode cX2_twigCount 41 = .ok (.goto (-28), 3) := dk_167 255 228 (dk_at dksX2_twigCount_1 18 rfl rfl)
theorem dX2_twigCount_44 : decode cX2_twigCount 44 = .ok (.iload_n 1, 1) := dk_27 (dk_at dksX2_twigCount_1 21 rfl rfl)
theorem dX2_twigCount_45 : decode cX2_twigCount 45 = .ok (.ireturn, 1) := dk_172 (dk_at dksX2_twigCount_1 22 rfl rfl)
abbrev cX2_nestCount : ByteArray := prog_9_method_9_code
def yX2_nestCount : MethodName := ⟨RX2, "nestCount", "()I"⟩
def dkwX2_nestCount_1 : List UInt8 := [54, 5, 27, 21, 5, 158, 0, 7, 4, 167, 0, 4, 3, 96, 60, 132, 4, 1, 167, 255, 228, 27, 172]
abbrev dktX2_nestCount_1 : List UInt8 := dkwX2_nestCount_1 ++ []
def dkwX2_nestCount_0 : List UInt8 := [3, 60, 42, 180, 0, 61, 77, 44, 190, 62, 3, 54, 4, 21, 4, 29, 162, 0, 28, 44, 21, 4, 46]
abbrev dktX2_nestCount_0 : List UInt8 := dkwX2_nestCount_0 ++ dktX2_nestCount_1
theorem dksX2_nestCount_0 : cX2_nestCount.data.toList.drop 0 = dktX2_nestCount_0 := by decide +kernel
theorem dksX2_nestCount_1 : cX2_nestCount.data.toList.drop 23 = dktX2_nestCount_1 := dk_seg dksX2_nestCount_0 23 rfl rfl
theorem dX2_nestCount_0 : decode cX2_nestCount 0 = .ok (.iconst 0, 1) := dk_3 (dk_at dksX2_nestCount_0 0 rfl rfl)
theorem dX2_nestCount_1 : decode cX2_nestCount 1 = .ok (.istore_n 1, 1) := dk_60 (dk_at dksX2_nestCount_0 1 rfl rfl)
theorem dX2_nestCount_2 : decode cX2_nestCount 2 = .ok (.aload_n 0, 1) := dk_42 (dk_at dksX2_nestCount_0 2 rfl rfl)
theorem dX2_nestCount_3 : decode cX2_nestCount 3 = .ok (.getfield 61, 3) := dk_180 0 61 (dk_at dksX2_nestCount_0 3 rfl rfl)
theorem dX2_nestCount_6 : decode cX2_nestCount 6 = .ok (.astore_n 2, 1) := dk_77 (dk_at dksX2_nestCount_0 6 rfl rfl)
theorem dX2_nestCount_7 : decode cX2_nestCount 7 = .ok (.aload_n 2, 1) := dk_44 (dk_at dksX2_nestCount_0 7 rfl rfl)
theorem dX2_nestCount_8 : decode cX2_nestCount 8 = .ok (.arraylength, 1) := dk_190 (dk_at dksX2_nestCount_0 8 rfl rfl)
theorem dX2_nestCount_9 : decode cX2_nestCount 9 = .ok (.istore_n 3, 1) := dk_62 (dk_at dksX2_nestCount_0 9 rfl rfl)
theorem dX2_nestCount_10 : decode cX2_nestCount 10 = .ok (.iconst 0, 1) := dk_3 (dk_at dksX2_nestCount_0 10 rfl rfl)
theorem dX2_nestCount_11 : decode cX2_nestCount 11 = .ok (.istore 4, 2) := dk_54 4 (dk_at dksX2_nestCount_0 11 rfl rfl)
theorem dX2_nestCount_13 : decode cX2_nestCount 13 = .ok (.iload 4, 2) := dk_21 4 (dk_at dksX2_nestCount_0 13 rfl rfl)
theorem dX2_nestCount_15 : decode cX2_nestCount 15 = .ok (.iload_n 3, 1) := dk_29 (dk_at dksX2_nestCount_0 15 rfl rfl)
theorem dX2_nestCount_16 : decode cX2_nestCount 16 = .ok (.if_icmp .ge 28, 3) := dk_162 0 28 (dk_at dksX2_nestCount_0 16 rfl rfl)
theorem dX2_nestCount_19 : decode cX2_nestCount 19 = .ok (.aload_n 2, 1) := dk_44 (dk_at dksX2_nestCount_0 19 rfl rfl)
theorem dX2_nestCount_20 : decode cX2_nestCount 20 = .ok (.iload 4, 2) := dk_21 4 (dk_at dksX2_nestCount_0 20 rfl rfl)
theorem dX2_nestCount_22 : decode cX2_nestCount 22 = .ok (.iaload, 1) := dk_46 (dk_at dksX2_nestCount_0 22 rfl rfl)
theorem dX2_nestCount_23 : decode cX2_nestCount 23 = .ok (.istore 5, 2) := dk_54 5 (dk_at dksX2_nestCount_1 0 rfl rfl)
theorem dX2_nestCount_25 : decode cX2_nestCount 25 = .ok (.iload_n 1, 1) := dk_27 (dk_at dksX2_nestCount_1 2 rfl rfl)
theorem dX2_nestCount_26 : decode cX2_nestCount 26 = .ok (.iload 5, 2) := dk_21 5 (dk_at dksX2_nestCount_1 3 rfl rfl)
theorem dX2_nestCount_28 : decode cX2_nestCount 28 = .ok (.ifCond .le 7, 3) := dk_158 0 7 (dk_at dksX2_nestCount_1 5 rfl rfl)
theorem dX2_nestCount_31 : decode cX2_nestCount 31 = .ok (.iconst 1, 1) := dk_4 (dk_at dksX2_nestCount_1 8 rfl rfl)
theorem dX2_nestCount_32 : decode cX2_nestCount 32 = .ok (.goto 4, 3) := dk_167 0 4 (dk_at dksX2_nestCount_1 9 rfl rfl)
theorem dX2_nestCount_35 : decode cX2_nestCount 35 = .ok (.iconst 0, 1) := dk_3 (dk_at dksX2_nestCount_1 12 rfl rfl)
theorem dX2_nestCount_36 : decode cX2_nestCount 36 = .ok (.iadd, 1) := dk_96 (dk_at dksX2_nestCount_1 13 rfl rfl)
theorem dX2_nestCount_37 : decode cX2_nestCount 37 = .ok (.istore_n 1, 1) := dk_60 (dk_at dksX2_nestCount_1 14 rfl rfl)
theorem dX2_nestCount_38 : decode cX2_nestCount 38 = .ok (.iinc 4 1, 3) := dk_132 4 1 (dk_at dksX2_nestCount_1 15 rfl rfl)
theorem dX2_nestCount_41 : decode cX2_nestCount 41 = .ok (.goto (-28), 3) := dk_167 255 228 (dk_at dksX2_nestCount_1 18 rfl rfl)
theorem dX2_nestCount_44 : decode cX2_nestCount 44 = .ok (.iload_n 1, 1) := dk_27 (dk_at dksX2_nestCount_1 21 rfl rfl)
theorem dX2_nestCount_45 : decode cX2_nestCount 45 = .ok (.ireturn, 1) := dk_172 (dk_at dksX2_nestCount_1 22 rfl rfl)
abbrev cX2_freeRun : ByteArray := prog_9_method_15_code
def yX2_freeRun : MethodName := ⟨RX2, "freeRun", "(I)I"⟩
def dkwX2_freeRun_1 : List UInt8 := [28, 27, 100, 172]
abbrev dktX2_freeRun_1 : List UInt8 := dkwX2_freeRun_1 ++ []
def dkwX2_freeRun_0 : List UInt8 := [27, 61, 28, 42, 182, 0, 122, 162, 0, 17, 42, 28, 182, 0, 164, 153, 0, 9, 132, 2, 1, 167, 255, 237]
abbrev dktX2_freeRun_0 : List UInt8 := dkwX2_freeRun_0 ++ dktX2_freeRun_1
theorem dksX2_freeRun_0 : cX2_freeRun.data.toList.drop 0 = dktX2_freeRun_0 := by decide +kernel
theorem dksX2_freeRun_1 : cX2_freeRun.data.toList.drop 24 = dktX2_freeRun_1 := dk_seg dksX2_freeRun_0 24 rfl rfl
theorem dX2_freeRun_0 : decode cX2_freeRun 0 = .ok (.iload_n 1, 1) := dk_27 (dk_at dksX2_freeRun_0 0 rfl rfl)
theorem dX2_freeRun_1 : decode cX2_freeRun 1 = .ok (.istore_n 2, 1) := dk_61 (dk_at dksX2_freeRun_0 1 rfl rfl)
theorem dX2_freeRun_2 : decode cX2_freeRun 2 = .ok (.iload_n 2, 1) := dk_28 (dk_at dksX2_freeRun_0 2 rfl rfl)
theorem dX2_freeRun_3 : decode cX2_freeRun 3 = .ok (.aload_n 0, 1) := dk_42 (dk_at dksX2_freeRun_0 3 rfl rfl)
theorem dX2_freeRun_4 : decode cX2_freeRun 4 = .ok (.invokevirtual 122, 3) := dk_182 0 122 (dk_at dksX2_freeRun_0 4 rfl rfl)
theorem dX2_freeRun_7 : decode cX2_freeRun 7 = .ok (.if_icmp .ge 17, 3) := dk_162 0 17 (dk_at dksX2_freeRun_0 7 rfl rfl)
theorem dX2_freeRun_10 : decode cX2_freeRun 10 = .ok (.aload_n 0, 1) := dk_42 (dk_at dksX2_freeRun_0 10 rfl rfl)
theorem dX2_freeRun_11 : decode cX2_freeRun 11 = .ok (.iload_n 2, 1) := dk_28 (dk_at dksX2_freeRun_0 11 rfl rfl)
theorem dX2_freeRun_12 : decode cX2_freeRun 12 = .ok (.invokevirtual 164, 3) := dk_182 0 164 (dk_at dksX2_freeRun_0 12 rfl rfl)
theorem dX2_freeRun_15 : decode cX2_freeRun 15 = .ok (.ifCond .eq 9, 3) := dk_153 0 9 (dk_at dksX2_freeRun_0 15 rfl rfl)
theorem dX2_freeRun_18 : decode cX2_freeRun 18 = .ok (.iinc 2 1, 3) := dk_132 2 1 (dk_at dksX2_freeRun_0 18 rfl rfl)
theorem dX2_freeRun_21 : decode cX2_freeRun 21 = .ok (.goto (-19), 3) := dk_167 255 237 (dk_at dksX2_freeRun_0 21 rfl rfl)
theorem dX2_freeRun_24 : decode cX2_freeRun 24 = .ok (.iload_n 2, 1) := dk_28 (dk_at dksX2_freeRun_1 0 rfl rfl)
theorem dX2_freeRun_25 : decode cX2_freeRun 25 = .ok (.iload_n 1, 1) := dk_27 (dk_at dksX2_freeRun_1 1 rfl rfl)
theorem dX2_freeRun_26 : decode cX2_freeRun 26 = .ok (.isub, 1) := dk_100 (dk_at dksX2_freeRun_1 2 rfl rfl)
theorem dX2_freeRun_27 : decode cX2_freeRun 27 = .ok (.ireturn, 1) := dk_172 (dk_at dksX2_freeRun_1 3 rfl rfl)
abbrev cX2_isFree : ByteArray := prog_9_method_12_code
def yX2_isFree : MethodName := ⟨RX2, "isFree", "(I)Z"⟩
def dkwX2_isFree_1 : List UInt8 := [154, 0, 7, 4, 167, 0, 4, 3, 172]
abbrev dktX2_isFree_1 : List UInt8 := dkwX2_isFree_1 ++ []
def dkwX2_isFree_0 : List UInt8 := [42, 180, 0, 57, 27, 50, 199, 0, 24, 42, 180, 0, 61, 27, 46, 154, 0, 15, 42, 27, 182, 0, 151]
abbrev dktX2_isFree_0 : List UInt8 := dkwX2_isFree_0 ++ dktX2_isFree_1
theorem dksX2_isFree_0 : cX2_isFree.data.toList.drop 0 = dktX2_isFree_0 := by decide +kernel
theorem dksX2_isFree_1 : cX2_isFree.data.toList.drop 23 = dktX2_isFree_1 := dk_seg dksX2_isFree_0 23 rfl rfl
theorem dX2_isFree_0 : decode cX2_isFree 0 = .ok (.aload_n 0, 1) := dk_42 (dk_at dksX2_isFree_0 0 rfl rfl)
theorem dX2_isFree_1 : decode cX2_isFree 1 = .ok (.getfield 57, 3) := dk_180 0 57 (dk_at dksX2_isFree_0 1 rfl rfl)
theorem dX2_isFree_4 : decode cX2_isFree 4 = .ok (.iload_n 1, 1) := dk_27 (dk_at dksX2_isFree_0 4 rfl rfl)
theorem dX2_isFree_5 : decode cX2_isFree 5 = .ok (.aaload, 1) := dk_50 (dk_at dksX2_isFree_0 5 rfl rfl)
theorem dX2_isFree_6 : decode cX2_isFree 6 = .ok (.ifnonnull 24, 3) := dk_199 0 24 (dk_at dksX2_isFree_0 6 rfl rfl)
theorem dX2_isFree_9 : decode cX2_isFree 9 = .ok (.aload_n 0, 1) := dk_42 (dk_at dksX2_isFree_0 9 rfl rfl)
theorem dX2_isFree_10 : decode cX2_isFree 10 = .ok (.getfield 61, 3) := dk_180 0 61 (dk_at dksX2_isFree_0 10 rfl rfl)
theorem dX2_isFree_13 : decode cX2_isFree 13 = .ok (.iload_n 1, 1) := dk_27 (dk_at dksX2_isFree_0 13 rfl rfl)
theorem dX2_isFree_14 : decode cX2_isFree 14 = .ok (.iaload, 1) := dk_46 (dk_at dksX2_isFree_0 14 rfl rfl)
theorem dX2_isFree_15 : decode cX2_isFree 15 = .ok (.ifCond .ne 15, 3) := dk_154 0 15 (dk_at dksX2_isFree_0 15 rfl rfl)
theorem dX2_isFree_18 : decode cX2_isFree 18 = .ok (.aload_n 0, 1) := dk_42 (dk_at dksX2_isFree_0 18 rfl rfl)
theorem dX2_isFree_19 : decode cX2_isFree 19 = .ok (.iload_n 1, 1) := dk_27 (dk_at dksX2_isFree_0 19 rfl rfl)
theorem dX2_isFree_20 : decode cX2_isFree 20 = .ok (.invokevirtual 151, 3) := dk_182 0 151 (dk_at dksX2_isFree_0 20 rfl rfl)
theorem dX2_isFree_23 : decode cX2_isFree 23 = .ok (.ifCond .ne 7, 3) := dk_154 0 7 (dk_at dksX2_isFree_1 0 rfl rfl)
theorem dX2_isFree_26 : decode cX2_isFree 26 = .ok (.iconst 1, 1) := dk_4 (dk_at dksX2_isFree_1 3 rfl rfl)
theorem dX2_isFree_27 : decode cX2_isFree 27 = .ok (.goto 4, 3) := dk_167 0 4 (dk_at dksX2_isFree_1 4 rfl rfl)
theorem dX2_isFree_30 : decode cX2_isFree 30 = .ok (.iconst 0, 1) := dk_3 (dk_at dksX2_isFree_1 7 rfl rfl)
theorem dX2_isFree_31 : decode cX2_isFree 31 = .ok (.ireturn, 1) := dk_172 (dk_at dksX2_isFree_1 8 rfl rfl)
abbrev cX2_isReserved : ByteArray := prog_9_method_11_code
def yX2_isReserved : MethodName := ⟨RX2, "isReserved", "(I)Z"⟩
def dkwX2_isReserved_3 : List UInt8 := [192, 0, 35, 27, 182, 0, 144, 153, 0, 5, 4, 172, 132, 2, 1, 167, 255, 218, 3, 172]
abbrev dktX2_isReserved_3 : List UInt8 := dkwX2_isReserved_3 ++ []
def dkwX2_isReserved_2 : List UInt8 := [28, 42, 180, 0, 42, 185, 0, 148, 1, 0, 162, 0, 31, 42, 180, 0, 42, 28, 185, 0, 84, 2, 0]
abbrev dktX2_isReserved_2 : List UInt8 := dkwX2_isReserved_2 ++ dktX2_isReserved_3
def dkwX2_isReserved_1 : List UInt8 := [25, 5, 198, 0, 14, 25, 5, 27, 182, 0, 144, 153, 0, 5, 4, 172, 132, 4, 1, 167, 255, 225, 3, 61]
abbrev dktX2_isReserved_1 : List UInt8 := dkwX2_isReserved_1 ++ dktX2_isReserved_2
def dkwX2_isReserved_0 : List UInt8 := [42, 180, 0, 37, 77, 44, 190, 62, 3, 54, 4, 21, 4, 29, 162, 0, 31, 44, 21, 4, 50, 58, 5]
abbrev dktX2_isReserved_0 : List UInt8 := dkwX2_isReserved_0 ++ dktX2_isReserved_1
theorem dksX2_isReserved_0 : cX2_isReserved.data.toList.drop 0 = dktX2_isReserved_0 := by decide +kernel
theorem dksX2_isReserved_1 : cX2_isReserved.data.toList.drop 23 = dktX2_isReserved_1 := dk_seg dksX2_isReserved_0 23 rfl rfl
theorem dksX2_isReserved_2 : cX2_isReserved.data.toList.drop 47 = dktX2_isReserved_2 := dk_seg dksX2_isReserved_1 24 rfl rfl
theorem dksX2_isReserved_3 : cX2_isReserved.data.toList.drop 70 = dktX2_isReserved_3 := dk_seg dksX2_isReserved_2 23 rfl rfl
theorem dX2_isReserved_0 : decode cX2_isReserved 0 = .ok (.aload_n 0, 1) := dk_42 (dk_at dksX2_isReserved_0 0 rfl rfl)
theorem dX2_isReserved_1 : decode cX2_isReserved 1 = .ok (.getfield 37, 3) := dk_180 0 37 (dk_at dksX2_isReserved_0 1 rfl rfl)
theorem dX2_isReserved_4 : decode cX2_isReserved 4 = .ok (.astore_n 2, 1) := dk_77 (dk_at dksX2_isReserved_0 4 rfl rfl)
theorem dX2_isReserved_5 : decode cX2_isReserved 5 = .ok (.aload_n 2, 1) := dk_44 (dk_at dksX2_isReserved_0 5 rfl rfl)
theorem dX2_isReserved_6 : decode cX2_isReserved 6 = .ok (.arraylength, 1) := dk_190 (dk_at dksX2_isReserved_0 6 rfl rfl)
theorem dX2_isReserved_7 : decode cX2_isReserved 7 = .ok (.istore_n 3, 1) := dk_62 (dk_at dksX2_isReserved_0 7 rfl rfl)
theorem dX2_isReserved_8 : decode cX2_isReserved 8 = .ok (.iconst 0, 1) := dk_3 (dk_at dksX2_isReserved_0 8 rfl rfl)
theorem dX2_isReserved_9 : decode cX2_isReserved 9 = .ok (.istore 4, 2) := dk_54 4 (dk_at dksX2_isReserved_0 9 rfl rfl)
theorem dX2_isReserved_11 : decode cX2_isReserved 11 = .ok (.iload 4, 2) := dk_21 4 (dk_at dksX2_isReserved_0 11 rfl rfl)
theorem dX2_isReserved_13 : decode cX2_isReserved 13 = .ok (.iload_n 3, 1) := dk_29 (dk_at dksX2_isReserved_0 13 rfl rfl)
theorem dX2_isReserved_14 : decode cX2_isReserved 14 = .ok (.if_icmp .ge 31, 3) := dk_162 0 31 (dk_at dksX2_isReserved_0 14 rfl rfl)
theorem dX2_isReserved_17 : decode cX2_isReserved 17 = .ok (.aload_n 2, 1) := dk_44 (dk_at dksX2_isReserved_0 17 rfl rfl)
theorem dX2_isReserved_18 : decode cX2_isReserved 18 = .ok (.iload 4, 2) := dk_21 4 (dk_at dksX2_isReserved_0 18 rfl rfl)
theorem dX2_isReserved_20 : decode cX2_isReserved 20 = .ok (.aaload, 1) := dk_50 (dk_at dksX2_isReserved_0 20 rfl rfl)
theorem dX2_isReserved_21 : decode cX2_isReserved 21 = .ok (.astore 5, 2) := dk_58 5 (dk_at dksX2_isReserved_0 21 rfl rfl)
theorem dX2_isReserved_23 : decode cX2_isReserved 23 = .ok (.aload 5, 2) := dk_25 5 (dk_at dksX2_isReserved_1 0 rfl rfl)
theorem dX2_isReserved_25 : decode cX2_isReserved 25 = .ok (.ifnull 14, 3) := dk_198 0 14 (dk_at dksX2_isReserved_1 2 rfl rfl)
theorem dX2_isReserved_28 : decode cX2_isReserved 28 = .ok (.aload 5, 2) := dk_25 5 (dk_at dksX2_isReserved_1 5 rfl rfl)
theorem dX2_isReserved_30 : decode cX2_isReserved 30 = .ok (.iload_n 1, 1) := dk_27 (dk_at dksX2_isReserved_1 7 rfl rfl)
theorem dX2_isReserved_31 : decode cX2_isReserved 31 = .ok (.invokevirtual 144, 3) := dk_182 0 144 (dk_at dksX2_isReserved_1 8 rfl rfl)
theorem dX2_isReserved_34 : decode cX2_isReserved 34 = .ok (.ifCond .eq 5, 3) := dk_153 0 5 (dk_at dksX2_isReserved_1 11 rfl rfl)
theorem dX2_isReserved_37 : decode cX2_isReserved 37 = .ok (.iconst 1, 1) := dk_4 (dk_at dksX2_isReserved_1 14 rfl rfl)
theorem dX2_isReserved_38 : decode cX2_isReserved 38 = .ok (.ireturn, 1) := dk_172 (dk_at dksX2_isReserved_1 15 rfl rfl)
theorem dX2_isReserved_39 : decode cX2_isReserved 39 = .ok (.iinc 4 1, 3) := dk_132 4 1 (dk_at dksX2_isReserved_1 16 rfl rfl)
theorem dX2_isReserved_42 : decode cX2_isReserved 42 = .ok (.goto (-31), 3) := dk_167 255 225 (dk_at dksX2_isReserved_1 19 rfl rfl)
theorem dX2_isReserved_45 : decode cX2_isReserved 45 = .ok (.iconst 0, 1) := dk_3 (dk_at dksX2_isReserved_1 22 rfl rfl)
theorem dX2_isReserved_46 : decode cX2_isReserved 46 = .ok (.istore_n 2, 1) := dk_61 (dk_at dksX2_isReserved_1 23 rfl rfl)
theorem dX2_isReserved_47 : decode cX2_isReserved 47 = .ok (.iload_n 2, 1) := dk_28 (dk_at dksX2_isReserved_2 0 rfl rfl)
theorem dX2_isReserved_48 : decode cX2_isReserved 48 = .ok (.aload_n 0, 1) := dk_42 (dk_at dksX2_isReserved_2 1 rfl rfl)
theorem dX2_isReserved_49 : decode cX2_isReserved 49 = .ok (.getfield 42, 3) := dk_180 0 42 (dk_at dksX2_isReserved_2 2 rfl rfl)
theorem dX2_isReserved_52 : decode cX2_isReserved 52 = .ok (.invokeinterface 148 1, 5) := by decide +kernel
theorem dX2_isReserved_57 : decode cX2_isReserved 57 = .ok (.if_icmp .ge 31, 3) := dk_162 0 31 (dk_at dksX2_isReserved_2 10 rfl rfl)
theorem dX2_isReserved_60 : decode cX2_isReserved 60 = .ok (.aload_n 0, 1) := dk_42 (dk_at dksX2_isReserved_2 13 rfl rfl)
theorem dX2_isReserved_61 : decode cX2_isReserved 61 = .ok (.getfield 42, 3) := dk_180 0 42 (dk_at dksX2_isReserved_2 14 rfl rfl)
theorem dX2_isReserved_64 : decode cX2_isReserved 64 = .ok (.iload_n 2, 1) := dk_28 (dk_at dksX2_isReserved_2 17 rfl rfl)
theorem dX2_isReserved_65 : decode cX2_isReserved 65 = .ok (.invokeinterface 84 2, 5) := by decide +kernel
theorem dX2_isReserved_70 : decode cX2_isReserved 70 = .ok (.checkcast 35, 3) := dk_192 0 35 (dk_at dksX2_isReserved_3 0 rfl rfl)
theorem dX2_isReserved_73 : decode cX2_isReserved 73 = .ok (.iload_n 1, 1) := dk_27 (dk_at dksX2_isReserved_3 3 rfl rfl)
theorem dX2_isReserved_74 : decode cX2_isReserved 74 = .ok (.invokevirtual 144, 3) := dk_182 0 144 (dk_at dksX2_isReserved_3 4 rfl rfl)
theorem dX2_isReserved_77 : decode cX2_isReserved 77 = .ok (.ifCond .eq 5, 3) := dk_153 0 5 (dk_at dksX2_isReserved_3 7 rfl rfl)
theorem dX2_isReserved_80 : decode cX2_isReserved 80 = .ok (.iconst 1, 1) := dk_4 (dk_at dksX2_isReserved_3 10 rfl rfl)
theorem dX2_isReserved_81 : decode cX2_isReserved 81 = .ok (.ireturn, 1) := dk_172 (dk_at dksX2_isReserved_3 11 rfl rfl)
theorem dX2_isReserved_82 : decode cX2_isReserved 82 = .ok (.iinc 2 1, 3) := dk_132 2 1 (dk_at dksX2_isReserved_3 12 rfl rfl)
theorem dX2_isReserved_85 : decode cX2_isReserved 85 = .ok (.goto (-38), 3) := dk_167 255 218 (dk_at dksX2_isReserved_3 15 rfl rfl)
theorem dX2_isReserved_88 : decode cX2_isReserved 88 = .ok (.iconst 0, 1) := dk_3 (dk_at dksX2_isReserved_3 18 rfl rfl)
theorem dX2_isReserved_89 : decode cX2_isReserved 89 = .ok (.ireturn, 1) := dk_172 (dk_at dksX2_isReserved_3 19 rfl rfl)
abbrev cX2_occupied : ByteArray := prog_9_method_7_code
def yX2_occupied : MethodName := ⟨RX2, "occupied", "()Ljava/lang/Iterable;"⟩
def dkwX2_occupied_0 : List UInt8 := [187, 0, 130, 89, 42, 183, 0, 132, 176]
abbrev dktX2_occupied_0 : List UInt8 := dkwX2_occupied_0 ++ []
theorem dksX2_occupied_0 : cX2_occupied.data.toList.drop 0 = dktX2_occupied_0 := by decide +kernel
theorem dX2_occupied_0 : decode cX2_occupied 0 = .ok (.new 130, 3) := dk_187 0 130 (dk_at dksX2_occupied_0 0 rfl rfl)
theorem dX2_occupied_3 : decode cX2_occupied 3 = .ok (.dup, 1) := dk_89 (dk_at dksX2_occupied_0 3 rfl rfl)
theorem dX2_occupied_4 : decode cX2_occupied 4 = .ok (.aload_n 0, 1) := dk_42 (dk_at dksX2_occupied_0 4 rfl rfl)
theorem dX2_occupied_5 : decode cX2_occupied 5 = .ok (.invokespecial 132, 3) := dk_183 0 132 (dk_at dksX2_occupied_0 5 rfl rfl)
theorem dX2_occupied_8 : decode cX2_occupied 8 = .ok (.areturn, 1) := dk_176 (dk_at dksX2_occupied_0 8 rfl rfl)
abbrev cX2_isSlot : ByteArray := prog_9_method_5_code
def yX2_isSlot : MethodName := ⟨RX2, "isSlot", "(I)Z"⟩
def dkwX2_isSlot_0 : List UInt8 := [27, 133, 9, 42, 182, 0, 122, 4, 100, 133, 184, 0, 126, 172]
abbrev dktX2_isSlot_0 : List UInt8 := dkwX2_isSlot_0 ++ []
theorem dksX2_isSlot_0 : cX2_isSlot.data.toList.drop 0 = dktX2_isSlot_0 := by decide +kernel
theorem dX2_isSlot_0 : decode cX2_isSlot 0 = .ok (.iload_n 1, 1) := dk_27 (dk_at dksX2_isSlot_0 0 rfl rfl)
theorem dX2_isSlot_1 : decode cX2_isSlot 1 = .ok (.i2l, 1) := dk_133 (dk_at dksX2_isSlot_0 1 rfl rfl)
theorem dX2_isSlot_2 : decode cX2_isSlot 2 = .ok (.lconst 0, 1) := dk_9 (dk_at dksX2_isSlot_0 2 rfl rfl)
theorem dX2_isSlot_3 : decode cX2_isSlot 3 = .ok (.aload_n 0, 1) := dk_42 (dk_at dksX2_isSlot_0 3 rfl rfl)
theorem dX2_isSlot_4 : decode cX2_isSlot 4 = .ok (.invokevirtual 122, 3) := dk_182 0 122 (dk_at dksX2_isSlot_0 4 rfl rfl)
theorem dX2_isSlot_7 : decode cX2_isSlot 7 = .ok (.iconst 1, 1) := dk_4 (dk_at dksX2_isSlot_0 7 rfl rfl)
theorem dX2_isSlot_8 : decode cX2_isSlot 8 = .ok (.isub, 1) := dk_100 (dk_at dksX2_isSlot_0 8 rfl rfl)
theorem dX2_isSlot_9 : decode cX2_isSlot 9 = .ok (.i2l, 1) := dk_133 (dk_at dksX2_isSlot_0 9 rfl rfl)
theorem dX2_isSlot_10 : decode cX2_isSlot 10 = .ok (.invokestatic 126, 3) := dk_184 0 126 (dk_at dksX2_isSlot_0 10 rfl rfl)
theorem dX2_isSlot_13 : decode cX2_isSlot 13 = .ok (.ireturn, 1) := dk_172 (dk_at dksX2_isSlot_0 13 rfl rfl)
abbrev cX2_isIllegal : ByteArray := prog_9_method_26_code
def yX2_isIllegal : MethodName := ⟨RX2, "isIllegal", "(I)Z"⟩
def dkwX2_isIllegal_1 : List UInt8 := [164, 0, 15, 42, 27, 182, 0, 237, 154, 0, 7, 4, 167, 0, 4, 3, 172]
abbrev dktX2_isIllegal_1 : List UInt8 := dkwX2_isIllegal_1 ++ []
def dkwX2_isIllegal_0 : List UInt8 := [42, 180, 0, 57, 27, 50, 198, 0, 31, 42, 180, 0, 57, 27, 50, 180, 0, 235, 42, 180, 0, 48]
abbrev dktX2_isIllegal_0 : List UInt8 := dkwX2_isIllegal_0 ++ dktX2_isIllegal_1
theorem dksX2_isIllegal_0 : cX2_isIllegal.data.toList.drop 0 = dktX2_isIllegal_0 := by decide +kernel
theorem dksX2_isIllegal_1 : cX2_isIllegal.data.toList.drop 22 = dktX2_isIllegal_1 := dk_seg dksX2_isIllegal_0 22 rfl rfl
theorem dX2_isIllegal_0 : decode cX2_isIllegal 0 = .ok (.aload_n 0, 1) := dk_42 (dk_at dksX2_isIllegal_0 0 rfl rfl)
theorem dX2_isIllegal_1 : decode cX2_isIllegal 1 = .ok (.getfield 57, 3) := dk_180 0 57 (dk_at dksX2_isIllegal_0 1 rfl rfl)
theorem dX2_isIllegal_4 : decode cX2_isIllegal 4 = .ok (.iload_n 1, 1) := dk_27 (dk_at dksX2_isIllegal_0 4 rfl rfl)
theorem dX2_isIllegal_5 : decode cX2_isIllegal 5 = .ok (.aaload, 1) := dk_50 (dk_at dksX2_isIllegal_0 5 rfl rfl)
theorem dX2_isIllegal_6 : decode cX2_isIllegal 6 = .ok (.ifnull 31, 3) := dk_198 0 31 (dk_at dksX2_isIllegal_0 6 rfl rfl)
theorem dX2_isIllegal_9 : decode cX2_isIllegal 9 = .ok (.aload_n 0, 1) := dk_42 (dk_at dksX2_isIllegal_0 9 rfl rfl)
theorem dX2_isIllegal_10 : decode cX2_isIllegal 10 = .ok (.getfield 57, 3) := dk_180 0 57 (dk_at dksX2_isIllegal_0 10 rfl rfl)
theorem dX2_isIllegal_13 : decode cX2_isIllegal 13 = .ok (.iload_n 1, 1) := dk_27 (dk_at dksX2_isIllegal_0 13 rfl rfl)
theorem dX2_isIllegal_14 : decode cX2_isIllegal 14 = .ok (.aaload, 1) := dk_50 (dk_at dksX2_isIllegal_0 14 rfl rfl)
theorem dX2_isIllegal_15 : decode cX2_isIllegal 15 = .ok (.getfield 235, 3) := dk_180 0 235 (dk_at dksX2_isIllegal_0 15 rfl rfl)
theorem dX2_isIllegal_18 : decode cX2_isIllegal 18 = .ok (.aload_n 0, 1) := dk_42 (dk_at dksX2_isIllegal_0 18 rfl rfl)
theorem dX2_isIllegal_19 : decode cX2_isIllegal 19 = .ok (.getfield 48, 3) := dk_180 0 48 (dk_at dksX2_isIllegal_0 19 rfl rfl)
theorem dX2_isIllegal_22 : decode cX2_isIllegal 22 = .ok (.if_icmp .le 15, 3) := dk_164 0 15 (dk_at dksX2_isIllegal_1 0 rfl rfl)
theorem dX2_isIllegal_25 : decode cX2_isIllegal 25 = .ok (.aload_n 0, 1) := dk_42 (dk_at dksX2_isIllegal_1 3 rfl rfl)
theorem dX2_isIllegal_26 : decode cX2_isIllegal 26 = .ok (.iload_n 1, 1) := dk_27 (dk_at dksX2_isIllegal_1 4 rfl rfl)
theorem dX2_isIllegal_27 : decode cX2_isIllegal 27 = .ok (.invokevirtual 237, 3) := dk_182 0 237 (dk_at dksX2_isIllegal_1 5 rfl rfl)
theorem dX2_isIllegal_30 : decode cX2_isIllegal 30 = .ok (.ifCond .ne 7, 3) := dk_154 0 7 (dk_at dksX2_isIllegal_1 8 rfl rfl)
theorem dX2_isIllegal_33 : decode cX2_isIllegal 33 = .ok (.iconst 1, 1) := dk_4 (dk_at dksX2_isIllegal_1 11 rfl rfl)
theorem dX2_isIllegal_34 : decode cX2_isIllegal 34 = .ok (.goto 4, 3) := dk_167 0 4 (dk_at dksX2_isIllegal_1 12 rfl rfl)
theorem dX2_isIllegal_37 : decode cX2_isIllegal 37 = .ok (.iconst 0, 1) := dk_3 (dk_at dksX2_isIllegal_1 15 rfl rfl)
theorem dX2_isIllegal_38 : decode cX2_isIllegal 38 = .ok (.ireturn, 1) := dk_172 (dk_at dksX2_isIllegal_1 16 rfl rfl)
abbrev cX2_isProtected : ByteArray := prog_9_method_10_code
def yX2_isProtected : MethodName := ⟨RX2, "isProtected", "(I)Z"⟩
def dkwX2_isProtected_1 : List UInt8 := [42, 180, 0, 61, 28, 46, 158, 0, 5, 4, 172, 132, 2, 1, 167, 255, 226, 3, 172]
abbrev dktX2_isProtected_1 : List UInt8 := dkwX2_isProtected_1 ++ []
def dkwX2_isProtected_0 : List UInt8 := [3, 27, 4, 100, 184, 0, 135, 61, 28, 42, 182, 0, 122, 4, 100, 27, 4, 96, 184, 0, 141, 163, 0, 20]
abbrev dktX2_isProtected_0 : List UInt8 := dkwX2_isProtected_0 ++ dktX2_isProtected_1
theorem dksX2_isProtected_0 : cX2_isProtected.data.toList.drop 0 = dktX2_isProtected_0 := by decide +kernel
theorem dksX2_isProtected_1 : cX2_isProtected.data.toList.drop 24 = dktX2_isProtected_1 := dk_seg dksX2_isProtected_0 24 rfl rfl
theorem dX2_isProtected_0 : decode cX2_isProtected 0 = .ok (.iconst 0, 1) := dk_3 (dk_at dksX2_isProtected_0 0 rfl rfl)
theorem dX2_isProtected_1 : decode cX2_isProtected 1 = .ok (.iload_n 1, 1) := dk_27 (dk_at dksX2_isProtected_0 1 rfl rfl)
theorem dX2_isProtected_2 : decode cX2_isProtected 2 = .ok (.iconst 1, 1) := dk_4 (dk_at dksX2_isProtected_0 2 rfl rfl)
theorem dX2_isProtected_3 : decode cX2_isProtected 3 = .ok (.isub, 1) := dk_100 (dk_at dksX2_isProtected_0 3 rfl rfl)
theorem dX2_isProtected_4 : decode cX2_isProtected 4 = .ok (.invokestatic 135, 3) := dk_184 0 135 (dk_at dksX2_isProtected_0 4 rfl rfl)
theorem dX2_isProtected_7 : decode cX2_isProtected 7 = .ok (.istore_n 2, 1) := dk_61 (dk_at dksX2_isProtected_0 7 rfl rfl)
theorem dX2_isProtected_8 : decode cX2_isProtected 8 = .ok (.iload_n 2, 1) := dk_28 (dk_at dksX2_isProtected_0 8 rfl rfl)
theorem dX2_isProtected_9 : decode cX2_isProtected 9 = .ok (.aload_n 0, 1) := dk_42 (dk_at dksX2_isProtected_0 9 rfl rfl)
theorem dX2_isProtected_10 : decode cX2_isProtected 10 = .ok (.invokevirtual 122, 3) := dk_182 0 122 (dk_at dksX2_isProtected_0 10 rfl rfl)
theorem dX2_isProtected_13 : decode cX2_isProtected 13 = .ok (.iconst 1, 1) := dk_4 (dk_at dksX2_isProtected_0 13 rfl rfl)
theorem dX2_isProtected_14 : decode cX2_isProtected 14 = .ok (.isub, 1) := dk_100 (dk_at dksX2_isProtected_0 14 rfl rfl)
theorem dX2_isProtected_15 : decode cX2_isProtected 15 = .ok (.iload_n 1, 1) := dk_27 (dk_at dksX2_isProtected_0 15 rfl rfl)
theorem dX2_isProtected_16 : decode cX2_isProtected 16 = .ok (.iconst 1, 1) := dk_4 (dk_at dksX2_isProtected_0 16 rfl rfl)
theorem dX2_isProtected_17 : decode cX2_isProtected 17 = .ok (.iadd, 1) := dk_96 (dk_at dksX2_isProtected_0 17 rfl rfl)
theorem dX2_isProtected_18 : decode cX2_isProtected 18 = .ok (.invokestatic 141, 3) := dk_184 0 141 (dk_at dksX2_isProtected_0 18 rfl rfl)
theorem dX2_isProtected_21 : decode cX2_isProtected 21 = .ok (.if_icmp .gt 20, 3) := dk_163 0 20 (dk_at dksX2_isProtected_0 21 rfl rfl)
theorem dX2_isProtected_24 : decode cX2_isProtected 24 = .ok (.aload_n 0, 1) := dk_42 (dk_at dksX2_isProtected_1 0 rfl rfl)
theorem dX2_isProtected_25 : decode cX2_isProtected 25 = .ok (.getfield 61, 3) := dk_180 0 61 (dk_at dksX2_isProtected_1 1 rfl rfl)
theorem dX2_isProtected_28 : decode cX2_isProtected 28 = .ok (.iload_n 2, 1) := dk_28 (dk_at dksX2_isProtected_1 4 rfl rfl)
theorem dX2_isProtected_29 : decode cX2_isProtected 29 = .ok (.iaload, 1) := dk_46 (dk_at dksX2_isProtected_1 5 rfl rfl)
theorem dX2_isProtected_30 : decode cX2_isProtected 30 = .ok (.ifCond .le 5, 3) := dk_158 0 5 (dk_at dksX2_isProtected_1 6 rfl rfl)
theorem dX2_isProtected_33 : decode cX2_isProtected 33 = .ok (.iconst 1, 1) := dk_4 (dk_at dksX2_isProtected_1 9 rfl rfl)
theorem dX2_isProtected_34 : decode cX2_isProtected 34 = .ok (.ireturn, 1) := dk_172 (dk_at dksX2_isProtected_1 10 rfl rfl)
theorem dX2_isProtected_35 : decode cX2_isProtected 35 = .ok (.iinc 2 1, 3) := dk_132 2 1 (dk_at dksX2_isProtected_1 11 rfl rfl)
theorem dX2_isProtected_38 : decode cX2_isProtected 38 = .ok (.goto (-30), 3) := dk_167 255 226 (dk_at dksX2_isProtected_1 14 rfl rfl)
theorem dX2_isProtected_41 : decode cX2_isProtected 41 = .ok (.iconst 0, 1) := dk_3 (dk_at dksX2_isProtected_1 17 rfl rfl)
theorem dX2_isProtected_42 : decode cX2_isProtected 42 = .ok (.ireturn, 1) := dk_172 (dk_at dksX2_isProtected_1 18 rfl rfl)
abbrev cX2_postedCount : ByteArray := prog_9_method_16_code
def yX2_postedCount : MethodName := ⟨RX2, "postedCount", "(I)I"⟩
def dkwX2_postedCount_2 : List UInt8 := [3, 96, 61, 167, 255, 219, 28, 172]
abbrev dktX2_postedCount_2 : List UInt8 := dkwX2_postedCount_2 ++ []
def dkwX2_postedCount_1 : List UInt8 := [185, 0, 107, 1, 0, 192, 0, 35, 58, 4, 28, 25, 4, 180, 0, 167, 27, 160, 0, 7, 4, 167, 0, 4]
abbrev dktX2_postedCount_1 : List UInt8 := dkwX2_postedCount_1 ++ dktX2_postedCount_2
def dkwX2_postedCount_0 : List UInt8 := [3, 61, 42, 180, 0, 42, 185, 0, 97, 1, 0, 78, 45, 185, 0, 101, 1, 0, 153, 0, 34, 45]
abbrev dktX2_postedCount_0 : List UInt8 := dkwX2_postedCount_0 ++ dktX2_postedCount_1
theorem dksX2_postedCount_0 : cX2_postedCount.data.toList.drop 0 = dktX2_postedCount_0 := by decide +kernel
theorem dksX2_postedCount_1 : cX2_postedCount.data.toList.drop 22 = dktX2_postedCount_1 := dk_seg dksX2_postedCount_0 22 rfl rfl
theorem dksX2_postedCount_2 : cX2_postedCount.data.toList.drop 46 = dktX2_postedCount_2 := dk_seg dksX2_postedCount_1 24 rfl rfl
theorem dX2_postedCount_0 : decode cX2_postedCount 0 = .ok (.iconst 0, 1) := dk_3 (dk_at dksX2_postedCount_0 0 rfl rfl)
theorem dX2_postedCount_1 : decode cX2_postedCount 1 = .ok (.istore_n 2, 1) := dk_61 (dk_at dksX2_postedCount_0 1 rfl rfl)
theorem dX2_postedCount_2 : decode cX2_postedCount 2 = .ok (.aload_n 0, 1) := dk_42 (dk_at dksX2_postedCount_0 2 rfl rfl)
theorem dX2_postedCount_3 : decode cX2_postedCount 3 = .ok (.getfield 42, 3) := dk_180 0 42 (dk_at dksX2_postedCount_0 3 rfl rfl)
theorem dX2_postedCount_6 : decode cX2_postedCount 6 = .ok (.invokeinterface 97 1, 5) := by decide +kernel
theorem dX2_postedCount_11 : decode cX2_postedCount 11 = .ok (.astore_n 3, 1) := dk_78 (dk_at dksX2_postedCount_0 11 rfl rfl)
theorem dX2_postedCount_12 : decode cX2_postedCount 12 = .ok (.aload_n 3, 1) := dk_45 (dk_at dksX2_postedCount_0 12 rfl rfl)
theorem dX2_postedCount_13 : decode cX2_postedCount 13 = .ok (.invokeinterface 101 1, 5) := by decide +kernel
theorem dX2_postedCount_18 : decode cX2_postedCount 18 = .ok (.ifCond .eq 34, 3) := dk_153 0 34 (dk_at dksX2_postedCount_0 18 rfl rfl)
theorem dX2_postedCount_21 : decode cX2_postedCount 21 = .ok (.aload_n 3, 1) := dk_45 (dk_at dksX2_postedCount_0 21 rfl rfl)
theorem dX2_postedCount_22 : decode cX2_postedCount 22 = .ok (.invokeinterface 107 1, 5) := by decide +kernel
theorem dX2_postedCount_27 : decode cX2_postedCount 27 = .ok (.checkcast 35, 3) := dk_192 0 35 (dk_at dksX2_postedCount_1 5 rfl rfl)
theorem dX2_postedCount_30 : decode cX2_postedCount 30 = .ok (.astore 4, 2) := dk_58 4 (dk_at dksX2_postedCount_1 8 rfl rfl)
theorem dX2_postedCount_32 : decode cX2_postedCount 32 = .ok (.iload_n 2, 1) := dk_28 (dk_at dksX2_postedCount_1 10 rfl rfl)
theorem dX2_postedCount_33 : decode cX2_postedCount 33 = .ok (.aload 4, 2) := dk_25 4 (dk_at dksX2_postedCount_1 11 rfl rfl)
theorem dX2_postedCount_35 : decode cX2_postedCount 35 = .ok (.getfield 167, 3) := dk_180 0 167 (dk_at dksX2_postedCount_1 13 rfl rfl)
theorem dX2_postedCount_38 : decode cX2_postedCount 38 = .ok (.iload_n 1, 1) := dk_27 (dk_at dksX2_postedCount_1 16 rfl rfl)
theorem dX2_postedCount_39 : decode cX2_postedCount 39 = .ok (.if_icmp .ne 7, 3) := dk_160 0 7 (dk_at dksX2_postedCount_1 17 rfl rfl)
theorem dX2_postedCount_42 : decode cX2_postedCount 42 = .ok (.iconst 1, 1) := dk_4 (dk_at dksX2_postedCount_1 20 rfl rfl)
theorem dX2_postedCount_43 : decode cX2_postedCount 43 = .ok (.goto 4, 3) := dk_167 0 4 (dk_at dksX2_postedCount_1 21 rfl rfl)
theorem dX2_postedCount_46 : decode cX2_postedCount 46 = .ok (.iconst 0, 1) := dk_3 (dk_at dksX2_postedCount_2 0 rfl rfl)
theorem dX2_postedCount_47 : decode cX2_postedCount 47 = .ok (.iadd, 1) := dk_96 (dk_at dksX2_postedCount_2 1 rfl rfl)
theorem dX2_postedCount_48 : decode cX2_postedCount 48 = .ok (.istore_n 2, 1) := dk_61 (dk_at dksX2_postedCount_2 2 rfl rfl)
theorem dX2_postedCount_49 : decode cX2_postedCount 49 = .ok (.goto (-37), 3) := dk_167 255 219 (dk_at dksX2_postedCount_2 3 rfl rfl)
theorem dX2_postedCount_52 : decode cX2_postedCount 52 = .ok (.iload_n 2, 1) := dk_28 (dk_at dksX2_postedCount_2 6 rfl rfl)
theorem dX2_postedCount_53 : decode cX2_postedCount 53 = .ok (.ireturn, 1) := dk_172 (dk_at dksX2_postedCount_2 7 rfl rfl)
abbrev cX2_copy : ByteArray := prog_9_method_3_code
def yX2_copy : MethodName := ⟨RX2, "copy", "()LHedgeMessages$State;"⟩
def dkwX2_copy_11 : List UInt8 := [181, 0, 113, 43, 42, 180, 0, 116, 181, 0, 116, 43, 42, 180, 0, 119, 181, 0, 119, 43, 176]
abbrev dktX2_copy_11 : List UInt8 := dkwX2_copy_11 ++ []
def dkwX2_copy_10 : List UInt8 := [181, 0, 16, 43, 42, 180, 0, 20, 181, 0, 20, 43, 42, 180, 0, 110, 181, 0, 110, 43, 42, 180, 0, 113]
abbrev dktX2_copy_10 : List UInt8 := dkwX2_copy_10 ++ dktX2_copy_11
def dkwX2_copy_9 : List UInt8 := [78, 43, 180, 0, 42, 45, 182, 0, 94, 185, 0, 69, 2, 0, 87, 167, 255, 223, 43, 42, 180, 0, 16]
abbrev dktX2_copy_9 : List UInt8 := dkwX2_copy_9 ++ dktX2_copy_10
def dkwX2_copy_8 : List UInt8 := [185, 0, 97, 1, 0, 77, 44, 185, 0, 101, 1, 0, 153, 0, 30, 44, 185, 0, 107, 1, 0, 192, 0, 35]
abbrev dktX2_copy_8 : List UInt8 := dkwX2_copy_8 ++ dktX2_copy_9
def dkwX2_copy_7 : List UInt8 := [42, 180, 0, 37, 28, 50, 182, 0, 94, 83, 132, 2, 1, 167, 255, 188, 42, 180, 0, 42]
abbrev dktX2_copy_7 : List UInt8 := dkwX2_copy_7 ++ dktX2_copy_8
def dkwX2_copy_6 : List UInt8 := [185, 0, 90, 2, 0, 87, 43, 180, 0, 37, 28, 42, 180, 0, 37, 28, 50, 199, 0, 7, 1, 167, 0, 12]
abbrev dktX2_copy_6 : List UInt8 := dkwX2_copy_6 ++ dktX2_copy_7
def dkwX2_copy_5 : List UInt8 := [185, 0, 84, 2, 0, 192, 0, 70, 42, 180, 0, 31, 28, 185, 0, 84, 2, 0, 192, 0, 88]
abbrev dktX2_copy_5 : List UInt8 := dkwX2_copy_5 ++ dktX2_copy_6
def dkwX2_copy_4 : List UInt8 := [182, 0, 80, 83, 132, 2, 1, 167, 255, 220, 3, 61, 28, 5, 162, 0, 69, 43, 180, 0, 31, 28]
abbrev dktX2_copy_4 : List UInt8 := dkwX2_copy_4 ++ dktX2_copy_5
def dkwX2_copy_3 : List UInt8 := [162, 0, 33, 42, 180, 0, 57, 28, 50, 198, 0, 18, 43, 180, 0, 57, 28, 42, 180, 0, 57, 28, 50]
abbrev dktX2_copy_3 : List UInt8 := dkwX2_copy_3 ++ dktX2_copy_4
def dkwX2_copy_2 : List UInt8 := [3, 50, 83, 89, 4, 42, 180, 0, 65, 4, 50, 83, 183, 0, 11, 76, 3, 61, 28, 42, 180, 0, 57, 190]
abbrev dktX2_copy_2 : List UInt8 := dkwX2_copy_2 ++ dktX2_copy_3
def dkwX2_copy_1 : List UInt8 := [190, 189, 0, 3, 42, 180, 0, 61, 182, 0, 75, 192, 0, 76, 5, 189, 0, 5, 89, 3, 42, 180, 0, 65]
abbrev dktX2_copy_1 : List UInt8 := dkwX2_copy_1 ++ dktX2_copy_2
def dkwX2_copy_0 : List UInt8 := [187, 0, 12, 89, 42, 180, 0, 45, 42, 180, 0, 48, 42, 180, 0, 51, 42, 180, 0, 54, 42, 180, 0, 57]
abbrev dktX2_copy_0 : List UInt8 := dkwX2_copy_0 ++ dktX2_copy_1
theorem dksX2_copy_0 : cX2_copy.data.toList.drop 0 = dktX2_copy_0 := by decide +kernel
theorem dksX2_copy_1 : cX2_copy.data.toList.drop 24 = dktX2_copy_1 := dk_seg dksX2_copy_0 24 rfl rfl
theorem dksX2_copy_2 : cX2_copy.data.toList.drop 48 = dktX2_copy_2 := dk_seg dksX2_copy_1 24 rfl rfl
theorem dksX2_copy_3 : cX2_copy.data.toList.drop 72 = dktX2_copy_3 := dk_seg dksX2_copy_2 24 rfl rfl
theorem dksX2_copy_4 : cX2_copy.data.toList.drop 95 = dktX2_copy_4 := dk_seg dksX2_copy_3 23 rfl rfl
theorem dksX2_copy_5 : cX2_copy.data.toList.drop 117 = dktX2_copy_5 := dk_seg dksX2_copy_4 22 rfl rfl
theorem dksX2_copy_6 : cX2_copy.data.toList.drop 138 = dktX2_copy_6 := dk_seg dksX2_copy_5 21 rfl rfl
theorem dksX2_copy_7 : cX2_copy.data.toList.drop 162 = dktX2_copy_7 := dk_seg dksX2_copy_6 24 rfl rfl
theorem dksX2_copy_8 : cX2_copy.data.toList.drop 182 = dktX2_copy_8 := dk_seg dksX2_copy_7 20 rfl rfl
theorem dksX2_copy_9 : cX2_copy.data.toList.drop 206 = dktX2_copy_9 := dk_seg dksX2_copy_8 24 rfl rfl
theorem dksX2_copy_10 : cX2_copy.data.toList.drop 229 = dktX2_copy_10 := dk_seg dksX2_copy_9 23 rfl rfl
theorem dksX2_copy_11 : cX2_copy.data.toList.drop 253 = dktX2_copy_11 := dk_seg dksX2_copy_10 24 rfl rfl
theorem dX2_copy_0 : decode cX2_copy 0 = .ok (.new 12, 3) := dk_187 0 12 (dk_at dksX2_copy_0 0 rfl rfl)
theorem dX2_copy_3 : decode cX2_copy 3 = .ok (.dup, 1) := dk_89 (dk_at dksX2_copy_0 3 rfl rfl)
theorem dX2_copy_4 : decode cX2_copy 4 = .ok (.aload_n 0, 1) := dk_42 (dk_at dksX2_copy_0 4 rfl rfl)
theorem dX2_copy_5 : decode cX2_copy 5 = .ok (.getfield 45, 3) := dk_180 0 45 (dk_at dksX2_copy_0 5 rfl rfl)
theorem dX2_copy_8 : decode cX2_copy 8 = .ok (.aload_n 0, 1) := dk_42 (dk_at dksX2_copy_0 8 rfl rfl)
theorem dX2_copy_9 : decode cX2_copy 9 = .ok (.getfield 48, 3) := dk_180 0 48 (dk_at dksX2_copy_0 9 rfl rfl)
theorem dX2_copy_12 : decode cX2_copy 12 = .ok (.aload_n 0, 1) := dk_42 (dk_at dksX2_copy_0 12 rfl rfl)
theorem dX2_copy_13 : decode cX2_copy 13 = .ok (.getfield 51, 3) := dk_180 0 51 (dk_at dksX2_copy_0 13 rfl rfl)
theorem dX2_copy_16 : decode cX2_copy 16 = .ok (.aload_n 0, 1) := dk_42 (dk_at dksX2_copy_0 16 rfl rfl)
theorem dX2_copy_17 : decode cX2_copy 17 = .ok (.getfield 54, 3) := dk_180 0 54 (dk_at dksX2_copy_0 17 rfl rfl)
theorem dX2_copy_20 : decode cX2_copy 20 = .ok (.aload_n 0, 1) := dk_42 (dk_at dksX2_copy_0 20 rfl rfl)
theorem dX2_copy_21 : decode cX2_copy 21 = .ok (.getfield 57, 3) := dk_180 0 57 (dk_at dksX2_copy_0 21 rfl rfl)
theorem dX2_copy_24 : decode cX2_copy 24 = .ok (.arraylength, 1) := dk_190 (dk_at dksX2_copy_1 0 rfl rfl)
theorem dX2_copy_25 : decode cX2_copy 25 = .ok (.anewarray 3, 3) := dk_189 0 3 (dk_at dksX2_copy_1 1 rfl rfl)
theorem dX2_copy_28 : decode cX2_copy 28 = .ok (.aload_n 0, 1) := dk_42 (dk_at dksX2_copy_1 4 rfl rfl)
theorem dX2_copy_29 : decode cX2_copy 29 = .ok (.getfield 61, 3) := dk_180 0 61 (dk_at dksX2_copy_1 5 rfl rfl)
theorem dX2_copy_32 : decode cX2_copy 32 = .ok (.invokevirtual 75, 3) := dk_182 0 75 (dk_at dksX2_copy_1 8 rfl rfl)
theorem dX2_copy_35 : decode cX2_copy 35 = .ok (.checkcast 76, 3) := dk_192 0 76 (dk_at dksX2_copy_1 11 rfl rfl)
theorem dX2_copy_38 : decode cX2_copy 38 = .ok (.iconst 2, 1) := dk_5 (dk_at dksX2_copy_1 14 rfl rfl)
theorem dX2_copy_39 : decode cX2_copy 39 = .ok (.anewarray 5, 3) := dk_189 0 5 (dk_at dksX2_copy_1 15 rfl rfl)
theorem dX2_copy_42 : decode cX2_copy 42 = .ok (.dup, 1) := dk_89 (dk_at dksX2_copy_1 18 rfl rfl)
theorem dX2_copy_43 : decode cX2_copy 43 = .ok (.iconst 0, 1) := dk_3 (dk_at dksX2_copy_1 19 rfl rfl)
theorem dX2_copy_44 : decode cX2_copy 44 = .ok (.aload_n 0, 1) := dk_42 (dk_at dksX2_copy_1 20 rfl rfl)
theorem dX2_copy_45 : decode cX2_copy 45 = .ok (.getfield 65, 3) := dk_180 0 65 (dk_at dksX2_copy_1 21 rfl rfl)
theorem dX2_copy_48 : decode cX2_copy 48 = .ok (.iconst 0, 1) := dk_3 (dk_at dksX2_copy_2 0 rfl rfl)
theorem dX2_copy_49 : decode cX2_copy 49 = .ok (.aaload, 1) := dk_50 (dk_at dksX2_copy_2 1 rfl rfl)
theorem dX2_copy_50 : decode cX2_copy 50 = .ok (.aastore, 1) := dk_83 (dk_at dksX2_copy_2 2 rfl rfl)
theorem dX2_copy_51 : decode cX2_copy 51 = .ok (.dup, 1) := dk_89 (dk_at dksX2_copy_2 3 rfl rfl)
theorem dX2_copy_52 : decode cX2_copy 52 = .ok (.iconst 1, 1) := dk_4 (dk_at dksX2_copy_2 4 rfl rfl)
theorem dX2_copy_53 : decode cX2_copy 53 = .ok (.aload_n 0, 1) := dk_42 (dk_at dksX2_copy_2 5 rfl rfl)
theorem dX2_copy_54 : decode cX2_copy 54 = .ok (.getfield 65, 3) := dk_180 0 65 (dk_at dksX2_copy_2 6 rfl rfl)
theorem dX2_copy_57 : decode cX2_copy 57 = .ok (.iconst 1, 1) := dk_4 (dk_at dksX2_copy_2 9 rfl rfl)
theorem dX2_copy_58 : decode cX2_copy 58 = .ok (.aaload, 1) := dk_50 (dk_at dksX2_copy_2 10 rfl rfl)
theorem dX2_copy_59 : decode cX2_copy 59 = .ok (.aastore, 1) := dk_83 (dk_at dksX2_copy_2 11 rfl rfl)
theorem dX2_copy_60 : decode cX2_copy 60 = .ok (.invokespecial 11, 3) := dk_183 0 11 (dk_at dksX2_copy_2 12 rfl rfl)
theorem dX2_copy_63 : decode cX2_copy 63 = .ok (.astore_n 1, 1) := dk_76 (dk_at dksX2_copy_2 15 rfl rfl)
theorem dX2_copy_64 : decode cX2_copy 64 = .ok (.iconst 0, 1) := dk_3 (dk_at dksX2_copy_2 16 rfl rfl)
theorem dX2_copy_65 : decode cX2_copy 65 = .ok (.istore_n 2, 1) := dk_61 (dk_at dksX2_copy_2 17 rfl rfl)
theorem dX2_copy_66 : decode cX2_copy 66 = .ok (.iload_n 2, 1) := dk_28 (dk_at dksX2_copy_2 18 rfl rfl)
theorem dX2_copy_67 : decode cX2_copy 67 = .ok (.aload_n 0, 1) := dk_42 (dk_at dksX2_copy_2 19 rfl rfl)
theorem dX2_copy_68 : decode cX2_copy 68 = .ok (.getfield 57, 3) := dk_180 0 57 (dk_at dksX2_copy_2 20 rfl rfl)
theorem dX2_copy_71 : decode cX2_copy 71 = .ok (.arraylength, 1) := dk_190 (dk_at dksX2_copy_2 23 rfl rfl)
theorem dX2_copy_72 : decode cX2_copy 72 = .ok (.if_icmp .ge 33, 3) := dk_162 0 33 (dk_at dksX2_copy_3 0 rfl rfl)
theorem dX2_copy_75 : decode cX2_copy 75 = .ok (.aload_n 0, 1) := dk_42 (dk_at dksX2_copy_3 3 rfl rfl)
theorem dX2_copy_76 : decode cX2_copy 76 = .ok (.getfield 57, 3) := dk_180 0 57 (dk_at dksX2_copy_3 4 rfl rfl)
theorem dX2_copy_79 : decode cX2_copy 79 = .ok (.iload_n 2, 1) := dk_28 (dk_at dksX2_copy_3 7 rfl rfl)
theorem dX2_copy_80 : decode cX2_copy 80 = .ok (.aaload, 1) := dk_50 (dk_at dksX2_copy_3 8 rfl rfl)
theorem dX2_copy_81 : decode cX2_copy 81 = .ok (.ifnull 18, 3) := dk_198 0 18 (dk_at dksX2_copy_3 9 rfl rfl)
theorem dX2_copy_84 : decode cX2_copy 84 = .ok (.aload_n 1, 1) := dk_43 (dk_at dksX2_copy_3 12 rfl rfl)
theorem dX2_copy_85 : decode cX2_copy 85 = .ok (.getfield 57, 3) := dk_180 0 57 (dk_at dksX2_copy_3 13 rfl rfl)
theorem dX2_copy_88 : decode cX2_copy 88 = .ok (.iload_n 2, 1) := dk_28 (dk_at dksX2_copy_3 16 rfl rfl)
theorem dX2_copy_89 : decode cX2_copy 89 = .ok (.aload_n 0, 1) := dk_42 (dk_at dksX2_copy_3 17 rfl rfl)
theorem dX2_copy_90 : decode cX2_copy 90 = .ok (.getfield 57, 3) := dk_180 0 57 (dk_at dksX2_copy_3 18 rfl rfl)
theorem dX2_copy_93 : decode cX2_copy 93 = .ok (.iload_n 2, 1) := dk_28 (dk_at dksX2_copy_3 21 rfl rfl)
theorem dX2_copy_94 : decode cX2_copy 94 = .ok (.aaload, 1) := dk_50 (dk_at dksX2_copy_3 22 rfl rfl)
theorem dX2_copy_95 : decode cX2_copy 95 = .ok (.invokevirtual 80, 3) := dk_182 0 80 (dk_at dksX2_copy_4 0 rfl rfl)
theorem dX2_copy_98 : decode cX2_copy 98 = .ok (.aastore, 1) := dk_83 (dk_at dksX2_copy_4 3 rfl rfl)
theorem dX2_copy_99 : decode cX2_copy 99 = .ok (.iinc 2 1, 3) := dk_132 2 1 (dk_at dksX2_copy_4 4 rfl rfl)
theorem dX2_copy_102 : decode cX2_copy 102 = .ok (.goto (-36), 3) := dk_167 255 220 (dk_at dksX2_copy_4 7 rfl rfl)
theorem dX2_copy_105 : decode cX2_copy 105 = .ok (.iconst 0, 1) := dk_3 (dk_at dksX2_copy_4 10 rfl rfl)
theorem dX2_copy_106 : decode cX2_copy 106 = .ok (.istore_n 2, 1) := dk_61 (dk_at dksX2_copy_4 11 rfl rfl)
theorem dX2_copy_107 : decode cX2_copy 107 = .ok (.iload_n 2, 1) := dk_28 (dk_at dksX2_copy_4 12 rfl rfl)
theorem dX2_copy_108 : decode cX2_copy 108 = .ok (.iconst 2, 1) := dk_5 (dk_at dksX2_copy_4 13 rfl rfl)
theorem dX2_copy_109 : decode cX2_copy 109 = .ok (.if_icmp .ge 69, 3) := dk_162 0 69 (dk_at dksX2_copy_4 14 rfl rfl)
theorem dX2_copy_112 : decode cX2_copy 112 = .ok (.aload_n 1, 1) := dk_43 (dk_at dksX2_copy_4 17 rfl rfl)
theorem dX2_copy_113 : decode cX2_copy 113 = .ok (.getfield 31, 3) := dk_180 0 31 (dk_at dksX2_copy_4 18 rfl rfl)
theorem dX2_copy_116 : decode cX2_copy 116 = .ok (.iload_n 2, 1) := dk_28 (dk_at dksX2_copy_4 21 rfl rfl)
theorem dX2_copy_117 : decode cX2_copy 117 = .ok (.invokeinterface 84 2, 5) := by decide +kernel
theorem dX2_copy_122 : decode cX2_copy 122 = .ok (.checkcast 70, 3) := dk_192 0 70 (dk_at dksX2_copy_5 5 rfl rfl)
theorem dX2_copy_125 : decode cX2_copy 125 = .ok (.aload_n 0, 1) := dk_42 (dk_at dksX2_copy_5 8 rfl rfl)
theorem dX2_copy_126 : decode cX2_copy 126 = .ok (.getfield 31, 3) := dk_180 0 31 (dk_at dksX2_copy_5 9 rfl rfl)
theorem dX2_copy_129 : decode cX2_copy 129 = .ok (.iload_n 2, 1) := dk_28 (dk_at dksX2_copy_5 12 rfl rfl)
theorem dX2_copy_130 : decode cX2_copy 130 = .ok (.invokeinterface 84 2, 5) := by decide +kernel
theorem dX2_copy_135 : decode cX2_copy 135 = .ok (.checkcast 88, 3) := dk_192 0 88 (dk_at dksX2_copy_5 18 rfl rfl)
theorem dX2_copy_138 : decode cX2_copy 138 = .ok (.invokeinterface 90 2, 5) := by decide +kernel
theorem dX2_copy_143 : decode cX2_copy 143 = .ok (.pop, 1) := dk_87 (dk_at dksX2_copy_6 5 rfl rfl)
theorem dX2_copy_144 : decode cX2_copy 144 = .ok (.aload_n 1, 1) := dk_43 (dk_at dksX2_copy_6 6 rfl rfl)
theorem dX2_copy_145 : decode cX2_copy 145 = .ok (.getfield 37, 3) := dk_180 0 37 (dk_at dksX2_copy_6 7 rfl rfl)
theorem dX2_copy_148 : decode cX2_copy 148 = .ok (.iload_n 2, 1) := dk_28 (dk_at dksX2_copy_6 10 rfl rfl)
theorem dX2_copy_149 : decode cX2_copy 149 = .ok (.aload_n 0, 1) := dk_42 (dk_at dksX2_copy_6 11 rfl rfl)
theorem dX2_copy_150 : decode cX2_copy 150 = .ok (.getfield 37, 3) := dk_180 0 37 (dk_at dksX2_copy_6 12 rfl rfl)
theorem dX2_copy_153 : decode cX2_copy 153 = .ok (.iload_n 2, 1) := dk_28 (dk_at dksX2_copy_6 15 rfl rfl)
theorem dX2_copy_154 : decode cX2_copy 154 = .ok (.aaload, 1) := dk_50 (dk_at dksX2_copy_6 16 rfl rfl)
theorem dX2_copy_155 : decode cX2_copy 155 = .ok (.ifnonnull 7, 3) := dk_199 0 7 (dk_at dksX2_copy_6 17 rfl rfl)
theorem dX2_copy_158 : decode cX2_copy 158 = .ok (.aconst_null, 1) := dk_1 (dk_at dksX2_copy_6 20 rfl rfl)
theorem dX2_copy_159 : decode cX2_copy 159 = .ok (.goto 12, 3) := dk_167 0 12 (dk_at dksX2_copy_6 21 rfl rfl)
theorem dX2_copy_162 : decode cX2_copy 162 = .ok (.aload_n 0, 1) := dk_42 (dk_at dksX2_copy_7 0 rfl rfl)
theorem dX2_copy_163 : decode cX2_copy 163 = .ok (.getfield 37, 3) := dk_180 0 37 (dk_at dksX2_copy_7 1 rfl rfl)
theorem dX2_copy_166 : decode cX2_copy 166 = .ok (.iload_n 2, 1) := dk_28 (dk_at dksX2_copy_7 4 rfl rfl)
theorem dX2_copy_167 : decode cX2_copy 167 = .ok (.aaload, 1) := dk_50 (dk_at dksX2_copy_7 5 rfl rfl)
theorem dX2_copy_168 : decode cX2_copy 168 = .ok (.invokevirtual 94, 3) := dk_182 0 94 (dk_at dksX2_copy_7 6 rfl rfl)
theorem dX2_copy_171 : decode cX2_copy 171 = .ok (.aastore, 1) := dk_83 (dk_at dksX2_copy_7 9 rfl rfl)
theorem dX2_copy_172 : decode cX2_copy 172 = .ok (.iinc 2 1, 3) := dk_132 2 1 (dk_at dksX2_copy_7 10 rfl rfl)
theorem dX2_copy_175 : decode cX2_copy 175 = .ok (.goto (-68), 3) := dk_167 255 188 (dk_at dksX2_copy_7 13 rfl rfl)
theorem dX2_copy_178 : decode cX2_copy 178 = .ok (.aload_n 0, 1) := dk_42 (dk_at dksX2_copy_7 16 rfl rfl)
theorem dX2_copy_179 : decode cX2_copy 179 = .ok (.getfield 42, 3) := dk_180 0 42 (dk_at dksX2_copy_7 17 rfl rfl)
theorem dX2_copy_182 : decode cX2_copy 182 = .ok (.invokeinterface 97 1, 5) := by decide +kernel
theorem dX2_copy_187 : decode cX2_copy 187 = .ok (.astore_n 2, 1) := dk_77 (dk_at dksX2_copy_8 5 rfl rfl)
theorem dX2_copy_188 : decode cX2_copy 188 = .ok (.aload_n 2, 1) := dk_44 (dk_at dksX2_copy_8 6 rfl rfl)
theorem dX2_copy_189 : decode cX2_copy 189 = .ok (.invokeinterface 101 1, 5) := by decide +kernel
theorem dX2_copy_194 : decode cX2_copy 194 = .ok (.ifCond .eq 30, 3) := dk_153 0 30 (dk_at dksX2_copy_8 12 rfl rfl)
theorem dX2_copy_197 : decode cX2_copy 197 = .ok (.aload_n 2, 1) := dk_44 (dk_at dksX2_copy_8 15 rfl rfl)
theorem dX2_copy_198 : decode cX2_copy 198 = .ok (.invokeinterface 107 1, 5) := by decide +kernel
theorem dX2_copy_203 : decode cX2_copy 203 = .ok (.checkcast 35, 3) := dk_192 0 35 (dk_at dksX2_copy_8 21 rfl rfl)
theorem dX2_copy_206 : decode cX2_copy 206 = .ok (.astore_n 3, 1) := dk_78 (dk_at dksX2_copy_9 0 rfl rfl)
theorem dX2_copy_207 : decode cX2_copy 207 = .ok (.aload_n 1, 1) := dk_43 (dk_at dksX2_copy_9 1 rfl rfl)
theorem dX2_copy_208 : decode cX2_copy 208 = .ok (.getfield 42, 3) := dk_180 0 42 (dk_at dksX2_copy_9 2 rfl rfl)
theorem dX2_copy_211 : decode cX2_copy 211 = .ok (.aload_n 3, 1) := dk_45 (dk_at dksX2_copy_9 5 rfl rfl)
theorem dX2_copy_212 : decode cX2_copy 212 = .ok (.invokevirtual 94, 3) := dk_182 0 94 (dk_at dksX2_copy_9 6 rfl rfl)
theorem dX2_copy_215 : decode cX2_copy 215 = .ok (.invokeinterface 69 2, 5) := by decide +kernel
theorem dX2_copy_220 : decode cX2_copy 220 = .ok (.pop, 1) := dk_87 (dk_at dksX2_copy_9 14 rfl rfl)
theorem dX2_copy_221 : decode cX2_copy 221 = .ok (.goto (-33), 3) := dk_167 255 223 (dk_at dksX2_copy_9 15 rfl rfl)
theorem dX2_copy_224 : decode cX2_copy 224 = .ok (.aload_n 1, 1) := dk_43 (dk_at dksX2_copy_9 18 rfl rfl)
theorem dX2_copy_225 : decode cX2_copy 225 = .ok (.aload_n 0, 1) := dk_42 (dk_at dksX2_copy_9 19 rfl rfl)
theorem dX2_copy_226 : decode cX2_copy 226 = .ok (.getfield 16, 3) := dk_180 0 16 (dk_at dksX2_copy_9 20 rfl rfl)
theorem dX2_copy_229 : decode cX2_copy 229 = .ok (.putfield 16, 3) := dk_181 0 16 (dk_at dksX2_copy_10 0 rfl rfl)
theorem dX2_copy_232 : decode cX2_copy 232 = .ok (.aload_n 1, 1) := dk_43 (dk_at dksX2_copy_10 3 rfl rfl)
theorem dX2_copy_233 : decode cX2_copy 233 = .ok (.aload_n 0, 1) := dk_42 (dk_at dksX2_copy_10 4 rfl rfl)
theorem dX2_copy_234 : decode cX2_copy 234 = .ok (.getfield 20, 3) := dk_180 0 20 (dk_at dksX2_copy_10 5 rfl rfl)
theorem dX2_copy_237 : decode cX2_copy 237 = .ok (.putfield 20, 3) := dk_181 0 20 (dk_at dksX2_copy_10 8 rfl rfl)
theorem dX2_copy_240 : decode cX2_copy 240 = .ok (.aload_n 1, 1) := dk_43 (dk_at dksX2_copy_10 11 rfl rfl)
theorem dX2_copy_241 : decode cX2_copy 241 = .ok (.aload_n 0, 1) := dk_42 (dk_at dksX2_copy_10 12 rfl rfl)
theorem dX2_copy_242 : decode cX2_copy 242 = .ok (.getfield 110, 3) := dk_180 0 110 (dk_at dksX2_copy_10 13 rfl rfl)
theorem dX2_copy_245 : decode cX2_copy 245 = .ok (.putfield 110, 3) := dk_181 0 110 (dk_at dksX2_copy_10 16 rfl rfl)
theorem dX2_copy_248 : decode cX2_copy 248 = .ok (.aload_n 1, 1) := dk_43 (dk_at dksX2_copy_10 19 rfl rfl)
theorem dX2_copy_249 : decode cX2_copy 249 = .ok (.aload_n 0, 1) := dk_42 (dk_at dksX2_copy_10 20 rfl rfl)
theorem dX2_copy_250 : decode cX2_copy 250 = .ok (.getfield 113, 3) := dk_180 0 113 (dk_at dksX2_copy_10 21 rfl rfl)
theorem dX2_copy_253 : decode cX2_copy 253 = .ok (.putfield 113, 3) := dk_181 0 113 (dk_at dksX2_copy_11 0 rfl rfl)
theorem dX2_copy_256 : decode cX2_copy 256 = .ok (.aload_n 1, 1) := dk_43 (dk_at dksX2_copy_11 3 rfl rfl)
theorem dX2_copy_257 : decode cX2_copy 257 = .ok (.aload_n 0, 1) := dk_42 (dk_at dksX2_copy_11 4 rfl rfl)
theorem dX2_copy_258 : decode cX2_copy 258 = .ok (.getfield 116, 3) := dk_180 0 116 (dk_at dksX2_copy_11 5 rfl rfl)
theorem dX2_copy_261 : decode cX2_copy 261 = .ok (.putfield 116, 3) := dk_181 0 116 (dk_at dksX2_copy_11 8 rfl rfl)
theorem dX2_copy_264 : decode cX2_copy 264 = .ok (.aload_n 1, 1) := dk_43 (dk_at dksX2_copy_11 11 rfl rfl)
theorem dX2_copy_265 : decode cX2_copy 265 = .ok (.aload_n 0, 1) := dk_42 (dk_at dksX2_copy_11 12 rfl rfl)
theorem dX2_copy_266 : decode cX2_copy 266 = .ok (.getfield 119, 3) := dk_180 0 119 (dk_at dksX2_copy_11 13 rfl rfl)
theorem dX2_copy_269 : decode cX2_copy 269 = .ok (.putfield 119, 3) := dk_181 0 119 (dk_at dksX2_copy_11 16 rfl rfl)
theorem dX2_copy_272 : decode cX2_copy 272 = .ok (.aload_n 1, 1) := dk_43 (dk_at dksX2_copy_11 19 rfl rfl)
theorem dX2_copy_273 : decode cX2_copy 273 = .ok (.areturn, 1) := dk_176 (dk_at dksX2_copy_11 20 rfl rfl)
abbrev cX2_isQueueFull : ByteArray := prog_9_method_21_code
def yX2_isQueueFull : MethodName := ⟨RX2, "isQueueFull", "(I)Z"⟩
def dkwX2_isQueueFull_1 : List UInt8 := [167, 0, 4, 3, 172]
abbrev dktX2_isQueueFull_1 : List UInt8 := dkwX2_isQueueFull_1 ++ []
def dkwX2_isQueueFull_0 : List UInt8 := [42, 180, 0, 31, 27, 185, 0, 84, 2, 0, 192, 0, 70, 185, 0, 148, 1, 0, 16, 8, 160, 0, 7, 4]
abbrev dktX2_isQueueFull_0 : List UInt8 := dkwX2_isQueueFull_0 ++ dktX2_isQueueFull_1
theorem dksX2_isQueueFull_0 : cX2_isQueueFull.data.toList.drop 0 = dktX2_isQueueFull_0 := by decide +kernel
theorem dksX2_isQueueFull_1 : cX2_isQueueFull.data.toList.drop 24 = dktX2_isQueueFull_1 := dk_seg dksX2_isQueueFull_0 24 rfl rfl
theorem dX2_isQueueFull_0 : decode cX2_isQueueFull 0 = .ok (.aload_n 0, 1) := dk_42 (dk_at dksX2_isQueueFull_0 0 rfl rfl)
theorem dX2_isQueueFull_1 : decode cX2_isQueueFull 1 = .ok (.getfield 31, 3) := dk_180 0 31 (dk_at dksX2_isQueueFull_0 1 rfl rfl)
theorem dX2_isQueueFull_4 : decode cX2_isQueueFull 4 = .ok (.iload_n 1, 1) := dk_27 (dk_at dksX2_isQueueFull_0 4 rfl rfl)
theorem dX2_isQueueFull_5 : decode cX2_isQueueFull 5 = .ok (.invokeinterface 84 2, 5) := by decide +kernel
theorem dX2_isQueueFull_10 : decode cX2_isQueueFull 10 = .ok (.checkcast 70, 3) := dk_192 0 70 (dk_at dksX2_isQueueFull_0 10 rfl rfl)
theorem dX2_isQueueFull_13 : decode cX2_isQueueFull 13 = .ok (.invokeinterface 148 1, 5) := by decide +kernel
theorem dX2_isQueueFull_18 : decode cX2_isQueueFull 18 = .ok (.bipush 8, 2) := dk_16 8 (dk_at dksX2_isQueueFull_0 18 rfl rfl)
theorem dX2_isQueueFull_20 : decode cX2_isQueueFull 20 = .ok (.if_icmp .ne 7, 3) := dk_160 0 7 (dk_at dksX2_isQueueFull_0 20 rfl rfl)
theorem dX2_isQueueFull_23 : decode cX2_isQueueFull 23 = .ok (.iconst 1, 1) := dk_4 (dk_at dksX2_isQueueFull_0 23 rfl rfl)
theorem dX2_isQueueFull_24 : decode cX2_isQueueFull 24 = .ok (.goto 4, 3) := dk_167 0 4 (dk_at dksX2_isQueueFull_1 0 rfl rfl)
theorem dX2_isQueueFull_27 : decode cX2_isQueueFull 27 = .ok (.iconst 0, 1) := dk_3 (dk_at dksX2_isQueueFull_1 3 rfl rfl)
theorem dX2_isQueueFull_28 : decode cX2_isQueueFull 28 = .ok (.ireturn, 1) := dk_172 (dk_at dksX2_isQueueFull_1 4 rfl rfl)
abbrev cX2_remove : ByteArray := prog_9_method_18_code
def yX2_remove : MethodName := ⟨RX2, "remove", "(I)V"⟩
def dkwX2_remove_0 : List UInt8 := [42, 180, 0, 57, 27, 1, 83, 42, 89, 180, 0, 119, 4, 96, 181, 0, 119, 177]
abbrev dktX2_remove_0 : List UInt8 := dkwX2_remove_0 ++ []
theorem dksX2_remove_0 : cX2_remove.data.toList.drop 0 = dktX2_remove_0 := by decide +kernel
theorem dX2_remove_0 : decode cX2_remove 0 = .ok (.aload_n 0, 1) := dk_42 (dk_at dksX2_remove_0 0 rfl rfl)
theorem dX2_remove_1 : decode cX2_remove 1 = .ok (.getfield 57, 3) := dk_180 0 57 (dk_at dksX2_remove_0 1 rfl rfl)
theorem dX2_remove_4 : decode cX2_remove 4 = .ok (.iload_n 1, 1) := dk_27 (dk_at dksX2_remove_0 4 rfl rfl)
theorem dX2_remove_5 : decode cX2_remove 5 = .ok (.aconst_null, 1) := dk_1 (dk_at dksX2_remove_0 5 rfl rfl)
theorem dX2_remove_6 : decode cX2_remove 6 = .ok (.aastore, 1) := dk_83 (dk_at dksX2_remove_0 6 rfl rfl)
theorem dX2_remove_7 : decode cX2_remove 7 = .ok (.aload_n 0, 1) := dk_42 (dk_at dksX2_remove_0 7 rfl rfl)
theorem dX2_remove_8 : decode cX2_remove 8 = .ok (.dup, 1) := dk_89 (dk_at dksX2_remove_0 8 rfl rfl)
theorem dX2_remove_9 : decode cX2_remove 9 = .ok (.getfield 119, 3) := dk_180 0 119 (dk_at dksX2_remove_0 9 rfl rfl)
theorem dX2_remove_12 : decode cX2_remove 12 = .ok (.iconst 1, 1) := dk_4 (dk_at dksX2_remove_0 12 rfl rfl)
theorem dX2_remove_13 : decode cX2_remove 13 = .ok (.iadd, 1) := dk_96 (dk_at dksX2_remove_0 13 rfl rfl)
theorem dX2_remove_14 : decode cX2_remove 14 = .ok (.putfield 119, 3) := dk_181 0 119 (dk_at dksX2_remove_0 14 rfl rfl)
theorem dX2_remove_17 : decode cX2_remove 17 = .ok (.return_, 1) := dk_177 (dk_at dksX2_remove_0 17 rfl rfl)
abbrev cX2_delivered : ByteArray := prog_9_method_32_code
def yX2_delivered : MethodName := ⟨RX2, "delivered", "()I"⟩
def dkwX2_delivered_0 : List UInt8 := [42, 180, 0, 65, 3, 50, 182, 1, 20, 42, 180, 0, 65, 4, 50, 182, 1, 20, 96, 172]
abbrev dktX2_delivered_0 : List UInt8 := dkwX2_delivered_0 ++ []
theorem dksX2_delivered_0 : cX2_delivered.data.toList.drop 0 = dktX2_delivered_0 := by decide +kernel
theorem dX2_delivered_0 : decode cX2_delivered 0 = .ok (.aload_n 0, 1) := dk_42 (dk_at dksX2_delivered_0 0 rfl rfl)
theorem dX2_delivered_1 : decode cX2_delivered 1 = .ok (.getfield 65, 3) := dk_180 0 65 (dk_at dksX2_delivered_0 1 rfl rfl)
theorem dX2_delivered_4 : decode cX2_delivered 4 = .ok (.iconst 0, 1) := dk_3 (dk_at dksX2_delivered_0 4 rfl rfl)
theorem dX2_delivered_5 : decode cX2_delivered 5 = .ok (.aaload, 1) := dk_50 (dk_at dksX2_delivered_0 5 rfl rfl)
theorem dX2_delivered_6 : decode cX2_delivered 6 = .ok (.invokevirtual 276, 3) := dk_182 1 20 (dk_at dksX2_delivered_0 6 rfl rfl)
theorem dX2_delivered_9 : decode cX2_delivered 9 = .ok (.aload_n 0, 1) := dk_42 (dk_at dksX2_delivered_0 9 rfl rfl)
theorem dX2_delivered_10 : decode cX2_delivered 10 = .ok (.getfield 65, 3) := dk_180 0 65 (dk_at dksX2_delivered_0 10 rfl rfl)
theorem dX2_delivered_13 : decode cX2_delivered 13 = .ok (.iconst 1, 1) := dk_4 (dk_at dksX2_delivered_0 13 rfl rfl)
theorem dX2_delivered_14 : decode cX2_delivered 14 = .ok (.aaload, 1) := dk_50 (dk_at dksX2_delivered_0 14 rfl rfl)
theorem dX2_delivered_15 : decode cX2_delivered 15 = .ok (.invokevirtual 276, 3) := dk_182 1 20 (dk_at dksX2_delivered_0 15 rfl rfl)
theorem dX2_delivered_18 : decode cX2_delivered 18 = .ok (.iadd, 1) := dk_96 (dk_at dksX2_delivered_0 18 rfl rfl)
theorem dX2_delivered_19 : decode cX2_delivered 19 = .ok (.ireturn, 1) := dk_172 (dk_at dksX2_delivered_0 19 rfl rfl)
abbrev cX2_after : ByteArray := prog_9_method_31_code
def yX2_after : MethodName := ⟨RX2, "after", "(I)LHedgeMessages$State;"⟩
def dkwX2_after_0 : List UInt8 := [3, 61, 28, 27, 162, 0, 13, 42, 182, 1, 17, 132, 2, 1, 167, 255, 244, 42, 176]
abbrev dktX2_after_0 : List UInt8 := dkwX2_after_0 ++ []
theorem dksX2_after_0 : cX2_after.data.toList.drop 0 = dktX2_after_0 := by decide +kernel
theorem dX2_after_0 : decode cX2_after 0 = .ok (.iconst 0, 1) := dk_3 (dk_at dksX2_after_0 0 rfl rfl)
theorem dX2_after_1 : decode cX2_after 1 = .ok (.istore_n 2, 1) := dk_61 (dk_at dksX2_after_0 1 rfl rfl)
theorem dX2_after_2 : decode cX2_after 2 = .ok (.iload_n 2, 1) := dk_28 (dk_at dksX2_after_0 2 rfl rfl)
theorem dX2_after_3 : decode cX2_after 3 = .ok (.iload_n 1, 1) := dk_27 (dk_at dksX2_after_0 3 rfl rfl)
theorem dX2_after_4 : decode cX2_after 4 = .ok (.if_icmp .ge 13, 3) := dk_162 0 13 (dk_at dksX2_after_0 4 rfl rfl)
theorem dX2_after_7 : decode cX2_after 7 = .ok (.aload_n 0, 1) := dk_42 (dk_at dksX2_after_0 7 rfl rfl)
theorem dX2_after_8 : decode cX2_after 8 = .ok (.invokevirtual 273, 3) := dk_182 1 17 (dk_at dksX2_after_0 8 rfl rfl)
theorem dX2_after_11 : decode cX2_after 11 = .ok (.iinc 2 1, 3) := dk_132 2 1 (dk_at dksX2_after_0 11 rfl rfl)
theorem dX2_after_14 : decode cX2_after 14 = .ok (.goto (-12), 3) := dk_167 255 244 (dk_at dksX2_after_0 14 rfl rfl)
theorem dX2_after_17 : decode cX2_after 17 = .ok (.aload_n 0, 1) := dk_42 (dk_at dksX2_after_0 17 rfl rfl)
theorem dX2_after_18 : decode cX2_after 18 = .ok (.areturn, 1) := dk_176 (dk_at dksX2_after_0 18 rfl rfl)
abbrev cX2_endDay : ByteArray := prog_9_method_30_code
def yX2_endDay : MethodName := ⟨RX2, "endDay", "()V"⟩
def dkwX2_endDay_2 : List UInt8 := [112, 154, 0, 7, 42, 182, 1, 14, 177]
abbrev dktX2_endDay_2 : List UInt8 := dkwX2_endDay_2 ++ []
def dkwX2_endDay_1 : List UInt8 := [180, 0, 110, 4, 96, 181, 0, 110, 42, 42, 180, 0, 16, 181, 0, 20, 42, 180, 0, 110, 42, 180, 0, 51]
abbrev dktX2_endDay_1 : List UInt8 := dkwX2_endDay_1 ++ dktX2_endDay_2
def dkwX2_endDay_0 : List UInt8 := [42, 4, 42, 182, 1, 3, 100, 182, 1, 6, 42, 42, 182, 1, 3, 182, 1, 8, 42, 182, 1, 11, 42, 89]
abbrev dktX2_endDay_0 : List UInt8 := dkwX2_endDay_0 ++ dktX2_endDay_1
theorem dksX2_endDay_0 : cX2_endDay.data.toList.drop 0 = dktX2_endDay_0 := by decide +kernel
theorem dksX2_endDay_1 : cX2_endDay.data.toList.drop 24 = dktX2_endDay_1 := dk_seg dksX2_endDay_0 24 rfl rfl
theorem dksX2_endDay_2 : cX2_endDay.data.toList.drop 48 = dktX2_endDay_2 := dk_seg dksX2_endDay_1 24 rfl rfl
theorem dX2_endDay_0 : decode cX2_endDay 0 = .ok (.aload_n 0, 1) := dk_42 (dk_at dksX2_endDay_0 0 rfl rfl)
theorem dX2_endDay_1 : decode cX2_endDay 1 = .ok (.iconst 1, 1) := dk_4 (dk_at dksX2_endDay_0 1 rfl rfl)
theorem dX2_endDay_2 : decode cX2_endDay 2 = .ok (.aload_n 0, 1) := dk_42 (dk_at dksX2_endDay_0 2 rfl rfl)
theorem dX2_endDay_3 : decode cX2_endDay 3 = .ok (.invokevirtual 259, 3) := dk_182 1 3 (dk_at dksX2_endDay_0 3 rfl rfl)
theorem dX2_endDay_6 : decode cX2_endDay 6 = .ok (.isub, 1) := dk_100 (dk_at dksX2_endDay_0 6 rfl rfl)
theorem dX2_endDay_7 : decode cX2_endDay 7 = .ok (.invokevirtual 262, 3) := dk_182 1 6 (dk_at dksX2_endDay_0 7 rfl rfl)
theorem dX2_endDay_10 : decode cX2_endDay 10 = .ok (.aload_n 0, 1) := dk_42 (dk_at dksX2_endDay_0 10 rfl rfl)
theorem dX2_endDay_11 : decode cX2_endDay 11 = .ok (.aload_n 0, 1) := dk_42 (dk_at dksX2_endDay_0 11 rfl rfl)
theorem dX2_endDay_12 : decode cX2_endDay 12 = .ok (.invokevirtual 259, 3) := dk_182 1 3 (dk_at dksX2_endDay_0 12 rfl rfl)
theorem dX2_endDay_15 : decode cX2_endDay 15 = .ok (.invokevirtual 264, 3) := dk_182 1 8 (dk_at dksX2_endDay_0 15 rfl rfl)
theorem dX2_endDay_18 : decode cX2_endDay 18 = .ok (.aload_n 0, 1) := dk_42 (dk_at dksX2_endDay_0 18 rfl rfl)
theorem dX2_endDay_19 : decode cX2_endDay 19 = .ok (.invokevirtual 267, 3) := dk_182 1 11 (dk_at dksX2_endDay_0 19 rfl rfl)
theorem dX2_endDay_22 : decode cX2_endDay 22 = .ok (.aload_n 0, 1) := dk_42 (dk_at dksX2_endDay_0 22 rfl rfl)
theorem dX2_endDay_23 : decode cX2_endDay 23 = .ok (.dup, 1) := dk_89 (dk_at dksX2_endDay_0 23 rfl rfl)
theorem dX2_endDay_24 : decode cX2_endDay 24 = .ok (.getfield 110, 3) := dk_180 0 110 (dk_at dksX2_endDay_1 0 rfl rfl)
theorem dX2_endDay_27 : decode cX2_endDay 27 = .ok (.iconst 1, 1) := dk_4 (dk_at dksX2_endDay_1 3 rfl rfl)
theorem dX2_endDay_28 : decode cX2_endDay 28 = .ok (.iadd, 1) := dk_96 (dk_at dksX2_endDay_1 4 rfl rfl)
theorem dX2_endDay_29 : decode cX2_endDay 29 = .ok (.putfield 110, 3) := dk_181 0 110 (dk_at dksX2_endDay_1 5 rfl rfl)
theorem dX2_endDay_32 : decode cX2_endDay 32 = .ok (.aload_n 0, 1) := dk_42 (dk_at dksX2_endDay_1 8 rfl rfl)
theorem dX2_endDay_33 : decode cX2_endDay 33 = .ok (.aload_n 0, 1) := dk_42 (dk_at dksX2_endDay_1 9 rfl rfl)
theorem dX2_endDay_34 : decode cX2_endDay 34 = .ok (.getfield 16, 3) := dk_180 0 16 (dk_at dksX2_endDay_1 10 rfl rfl)
theorem dX2_endDay_37 : decode cX2_endDay 37 = .ok (.putfield 20, 3) := dk_181 0 20 (dk_at dksX2_endDay_1 13 rfl rfl)
theorem dX2_endDay_40 : decode cX2_endDay 40 = .ok (.aload_n 0, 1) := dk_42 (dk_at dksX2_endDay_1 16 rfl rfl)
theorem dX2_endDay_41 : decode cX2_endDay 41 = .ok (.getfield 110, 3) := dk_180 0 110 (dk_at dksX2_endDay_1 17 rfl rfl)
theorem dX2_endDay_44 : decode cX2_endDay 44 = .ok (.aload_n 0, 1) := dk_42 (dk_at dksX2_endDay_1 20 rfl rfl)
theorem dX2_endDay_45 : decode cX2_endDay 45 = .ok (.getfield 51, 3) := dk_180 0 51 (dk_at dksX2_endDay_1 21 rfl rfl)
theorem dX2_endDay_48 : decode cX2_endDay 48 = .ok (.irem, 1) := dk_112 (dk_at dksX2_endDay_2 0 rfl rfl)
theorem dX2_endDay_49 : decode cX2_endDay 49 = .ok (.ifCond .ne 7, 3) := dk_154 0 7 (dk_at dksX2_endDay_2 1 rfl rfl)
theorem dX2_endDay_52 : decode cX2_endDay 52 = .ok (.aload_n 0, 1) := dk_42 (dk_at dksX2_endDay_2 4 rfl rfl)
theorem dX2_endDay_53 : decode cX2_endDay 53 = .ok (.invokevirtual 270, 3) := dk_182 1 14 (dk_at dksX2_endDay_2 5 rfl rfl)
theorem dX2_endDay_56 : decode cX2_endDay 56 = .ok (.return_, 1) := dk_177 (dk_at dksX2_endDay_2 8 rfl rfl)
abbrev cX2_deliver : ByteArray := prog_9_method_22_code
def yX2_deliver : MethodName := ⟨RX2, "deliver", "(I)V"⟩
def dkwX2_deliver_3 : List UInt8 := [42, 180, 0, 65, 27, 50, 182, 0, 189, 83, 167, 255, 180, 177]
abbrev dktX2_deliver_3 : List UInt8 := dkwX2_deliver_3 ++ []
def dkwX2_deliver_2 : List UInt8 := [180, 0, 42, 28, 185, 0, 183, 2, 0, 192, 0, 35, 58, 4, 42, 45, 182, 0, 185, 42, 180, 0, 65, 27]
abbrev dktX2_deliver_2 : List UInt8 := dkwX2_deliver_2 ++ dktX2_deliver_3
def dkwX2_deliver_1 : List UInt8 := [185, 0, 84, 2, 0, 192, 0, 35, 78, 45, 180, 0, 167, 27, 159, 0, 9, 132, 2, 1, 167, 255, 218, 42]
abbrev dktX2_deliver_1 : List UInt8 := dkwX2_deliver_1 ++ dktX2_deliver_2
def dkwX2_deliver_0 : List UInt8 := [3, 61, 28, 42, 180, 0, 42, 185, 0, 148, 1, 0, 162, 0, 69, 42, 180, 0, 42, 28]
abbrev dktX2_deliver_0 : List UInt8 := dkwX2_deliver_0 ++ dktX2_deliver_1
theorem dksX2_deliver_0 : cX2_deliver.data.toList.drop 0 = dktX2_deliver_0 := by decide +kernel
theorem dksX2_deliver_1 : cX2_deliver.data.toList.drop 20 = dktX2_deliver_1 := dk_seg dksX2_deliver_0 20 rfl rfl
theorem dksX2_deliver_2 : cX2_deliver.data.toList.drop 44 = dktX2_deliver_2 := dk_seg dksX2_deliver_1 24 rfl rfl
theorem dksX2_deliver_3 : cX2_deliver.data.toList.drop 68 = dktX2_deliver_3 := dk_seg dksX2_deliver_2 24 rfl rfl
theorem dX2_deliver_0 : decode cX2_deliver 0 = .ok (.iconst 0, 1) := dk_3 (dk_at dksX2_deliver_0 0 rfl rfl)
theorem dX2_deliver_1 : decode cX2_deliver 1 = .ok (.istore_n 2, 1) := dk_61 (dk_at dksX2_deliver_0 1 rfl rfl)
theorem dX2_deliver_2 : decode cX2_deliver 2 = .ok (.iload_n 2, 1) := dk_28 (dk_at dksX2_deliver_0 2 rfl rfl)
theorem dX2_deliver_3 : decode cX2_deliver 3 = .ok (.aload_n 0, 1) := dk_42 (dk_at dksX2_deliver_0 3 rfl rfl)
theorem dX2_deliver_4 : decode cX2_deliver 4 = .ok (.getfield 42, 3) := dk_180 0 42 (dk_at dksX2_deliver_0 4 rfl rfl)
theorem dX2_deliver_7 : decode cX2_deliver 7 = .ok (.invokeinterface 148 1, 5) := by decide +kernel
theorem dX2_deliver_12 : decode cX2_deliver 12 = .ok (.if_icmp .ge 69, 3) := dk_162 0 69 (dk_at dksX2_deliver_0 12 rfl rfl)
theorem dX2_deliver_15 : decode cX2_deliver 15 = .ok (.aload_n 0, 1) := dk_42 (dk_at dksX2_deliver_0 15 rfl rfl)
theorem dX2_deliver_16 : decode cX2_deliver 16 = .ok (.getfield 42, 3) := dk_180 0 42 (dk_at dksX2_deliver_0 16 rfl rfl)
theorem dX2_deliver_19 : decode cX2_deliver 19 = .ok (.iload_n 2, 1) := dk_28 (dk_at dksX2_deliver_0 19 rfl rfl)
theorem dX2_deliver_20 : decode cX2_deliver 20 = .ok (.invokeinterface 84 2, 5) := by decide +kernel
theorem dX2_deliver_25 : decode cX2_deliver 25 = .ok (.checkcast 35, 3) := dk_192 0 35 (dk_at dksX2_deliver_1 5 rfl rfl)
theorem dX2_deliver_28 : decode cX2_deliver 28 = .ok (.astore_n 3, 1) := dk_78 (dk_at dksX2_deliver_1 8 rfl rfl)
theorem dX2_deliver_29 : decode cX2_deliver 29 = .ok (.aload_n 3, 1) := dk_45 (dk_at dksX2_deliver_1 9 rfl rfl)
theorem dX2_deliver_30 : decode cX2_deliver 30 = .ok (.getfield 167, 3) := dk_180 0 167 (dk_at dksX2_deliver_1 10 rfl rfl)
theorem dX2_deliver_33 : decode cX2_deliver 33 = .ok (.iload_n 1, 1) := dk_27 (dk_at dksX2_deliver_1 13 rfl rfl)
theorem dX2_deliver_34 : decode cX2_deliver 34 = .ok (.if_icmp .eq 9, 3) := dk_159 0 9 (dk_at dksX2_deliver_1 14 rfl rfl)
theorem dX2_deliver_37 : decode cX2_deliver 37 = .ok (.iinc 2 1, 3) := dk_132 2 1 (dk_at dksX2_deliver_1 17 rfl rfl)
theorem dX2_deliver_40 : decode cX2_deliver 40 = .ok (.goto (-38), 3) := dk_167 255 218 (dk_at dksX2_deliver_1 20 rfl rfl)
theorem dX2_deliver_43 : decode cX2_deliver 43 = .ok (.aload_n 0, 1) := dk_42 (dk_at dksX2_deliver_1 23 rfl rfl)
theorem dX2_deliver_44 : decode cX2_deliver 44 = .ok (.getfield 42, 3) := dk_180 0 42 (dk_at dksX2_deliver_2 0 rfl rfl)
theorem dX2_deliver_47 : decode cX2_deliver 47 = .ok (.iload_n 2, 1) := dk_28 (dk_at dksX2_deliver_2 3 rfl rfl)
theorem dX2_deliver_48 : decode cX2_deliver 48 = .ok (.invokeinterface 183 2, 5) := by decide +kernel
theorem dX2_deliver_53 : decode cX2_deliver 53 = .ok (.checkcast 35, 3) := dk_192 0 35 (dk_at dksX2_deliver_2 9 rfl rfl)
theorem dX2_deliver_56 : decode cX2_deliver 56 = .ok (.astore 4, 2) := dk_58 4 (dk_at dksX2_deliver_2 12 rfl rfl)
theorem dX2_deliver_58 : decode cX2_deliver 58 = .ok (.aload_n 0, 1) := dk_42 (dk_at dksX2_deliver_2 14 rfl rfl)
theorem dX2_deliver_59 : decode cX2_deliver 59 = .ok (.aload_n 3, 1) := dk_45 (dk_at dksX2_deliver_2 15 rfl rfl)
theorem dX2_deliver_60 : decode cX2_deliver 60 = .ok (.invokevirtual 185, 3) := dk_182 0 185 (dk_at dksX2_deliver_2 16 rfl rfl)
theorem dX2_deliver_63 : decode cX2_deliver 63 = .ok (.aload_n 0, 1) := dk_42 (dk_at dksX2_deliver_2 19 rfl rfl)
theorem dX2_deliver_64 : decode cX2_deliver 64 = .ok (.getfield 65, 3) := dk_180 0 65 (dk_at dksX2_deliver_2 20 rfl rfl)
theorem dX2_deliver_67 : decode cX2_deliver 67 = .ok (.iload_n 1, 1) := dk_27 (dk_at dksX2_deliver_2 23 rfl rfl)
theorem dX2_deliver_68 : decode cX2_deliver 68 = .ok (.aload_n 0, 1) := dk_42 (dk_at dksX2_deliver_3 0 rfl rfl)
theorem dX2_deliver_69 : decode cX2_deliver 69 = .ok (.getfield 65, 3) := dk_180 0 65 (dk_at dksX2_deliver_3 1 rfl rfl)
theorem dX2_deliver_72 : decode cX2_deliver 72 = .ok (.iload_n 1, 1) := dk_27 (dk_at dksX2_deliver_3 4 rfl rfl)
theorem dX2_deliver_73 : decode cX2_deliver 73 = .ok (.aaload, 1) := dk_50 (dk_at dksX2_deliver_3 5 rfl rfl)
theorem dX2_deliver_74 : decode cX2_deliver 74 = .ok (.invokevirtual 189, 3) := dk_182 0 189 (dk_at dksX2_deliver_3 6 rfl rfl)
theorem dX2_deliver_77 : decode cX2_deliver 77 = .ok (.aastore, 1) := dk_83 (dk_at dksX2_deliver_3 9 rfl rfl)
theorem dX2_deliver_78 : decode cX2_deliver 78 = .ok (.goto (-76), 3) := dk_167 255 180 (dk_at dksX2_deliver_3 10 rfl rfl)
theorem dX2_deliver_81 : decode cX2_deliver 81 = .ok (.return_, 1) := dk_177 (dk_at dksX2_deliver_3 13 rfl rfl)
abbrev cX2_removeMessage : ByteArray := prog_9_method_19_code
def yX2_removeMessage : MethodName := ⟨RX2, "removeMessage", "(LHedgeMessages$Message;)V"⟩
def dkwX2_removeMessage_1 : List UInt8 := [42, 43, 180, 0, 173, 28, 96, 182, 0, 176, 132, 2, 1, 167, 255, 221, 177]
abbrev dktX2_removeMessage_1 : List UInt8 := dkwX2_removeMessage_1 ++ []
def dkwX2_removeMessage_0 : List UInt8 := [3, 61, 28, 43, 180, 0, 170, 162, 0, 33, 42, 180, 0, 57, 43, 180, 0, 173, 28, 96, 50, 198, 0, 13]
abbrev dktX2_removeMessage_0 : List UInt8 := dkwX2_removeMessage_0 ++ dktX2_removeMessage_1
theorem dksX2_removeMessage_0 : cX2_removeMessage.data.toList.drop 0 = dktX2_removeMessage_0 := by decide +kernel
theorem dksX2_removeMessage_1 : cX2_removeMessage.data.toList.drop 24 = dktX2_removeMessage_1 := dk_seg dksX2_removeMessage_0 24 rfl rfl
theorem dX2_removeMessage_0 : decode cX2_removeMessage 0 = .ok (.iconst 0, 1) := dk_3 (dk_at dksX2_removeMessage_0 0 rfl rfl)
theorem dX2_removeMessage_1 : decode cX2_removeMessage 1 = .ok (.istore_n 2, 1) := dk_61 (dk_at dksX2_removeMessage_0 1 rfl rfl)
theorem dX2_removeMessage_2 : decode cX2_removeMessage 2 = .ok (.iload_n 2, 1) := dk_28 (dk_at dksX2_removeMessage_0 2 rfl rfl)
theorem dX2_removeMessage_3 : decode cX2_removeMessage 3 = .ok (.aload_n 1, 1) := dk_43 (dk_at dksX2_removeMessage_0 3 rfl rfl)
theorem dX2_removeMessage_4 : decode cX2_removeMessage 4 = .ok (.getfield 170, 3) := dk_180 0 170 (dk_at dksX2_removeMessage_0 4 rfl rfl)
theorem dX2_removeMessage_7 : decode cX2_removeMessage 7 = .ok (.if_icmp .ge 33, 3) := dk_162 0 33 (dk_at dksX2_removeMessage_0 7 rfl rfl)
theorem dX2_removeMessage_10 : decode cX2_removeMessage 10 = .ok (.aload_n 0, 1) := dk_42 (dk_at dksX2_removeMessage_0 10 rfl rfl)
theorem dX2_removeMessage_11 : decode cX2_removeMessage 11 = .ok (.getfield 57, 3) := dk_180 0 57 (dk_at dksX2_removeMessage_0 11 rfl rfl)
theorem dX2_removeMessage_14 : decode cX2_removeMessage 14 = .ok (.aload_n 1, 1) := dk_43 (dk_at dksX2_removeMessage_0 14 rfl rfl)
theorem dX2_removeMessage_15 : decode cX2_removeMessage 15 = .ok (.getfield 173, 3) := dk_180 0 173 (dk_at dksX2_removeMessage_0 15 rfl rfl)
theorem dX2_removeMessage_18 : decode cX2_removeMessage 18 = .ok (.iload_n 2, 1) := dk_28 (dk_at dksX2_removeMessage_0 18 rfl rfl)
theorem dX2_removeMessage_19 : decode cX2_removeMessage 19 = .ok (.iadd, 1) := dk_96 (dk_at dksX2_removeMessage_0 19 rfl rfl)
theorem dX2_removeMessage_20 : decode cX2_removeMessage 20 = .ok (.aaload, 1) := dk_50 (dk_at dksX2_removeMessage_0 20 rfl rfl)
theorem dX2_removeMessage_21 : decode cX2_removeMessage 21 = .ok (.ifnull 13, 3) := dk_198 0 13 (dk_at dksX2_removeMessage_0 21 rfl rfl)
theorem dX2_removeMessage_24 : decode cX2_removeMessage 24 = .ok (.aload_n 0, 1) := dk_42 (dk_at dksX2_removeMessage_1 0 rfl rfl)
theorem dX2_removeMessage_25 : decode cX2_removeMessage 25 = .ok (.aload_n 1, 1) := dk_43 (dk_at dksX2_removeMessage_1 1 rfl rfl)
theorem dX2_removeMessage_26 : decode cX2_removeMessage 26 = .ok (.getfield 173, 3) := dk_180 0 173 (dk_at dksX2_removeMessage_1 2 rfl rfl)
theorem dX2_removeMessage_29 : decode cX2_removeMessage 29 = .ok (.iload_n 2, 1) := dk_28 (dk_at dksX2_removeMessage_1 5 rfl rfl)
theorem dX2_removeMessage_30 : decode cX2_removeMessage 30 = .ok (.iadd, 1) := dk_96 (dk_at dksX2_removeMessage_1 6 rfl rfl)
theorem dX2_removeMessage_31 : decode cX2_removeMessage 31 = .ok (.invokevirtual 176, 3) := dk_182 0 176 (dk_at dksX2_removeMessage_1 7 rfl rfl)
theorem dX2_removeMessage_34 : decode cX2_removeMessage 34 = .ok (.iinc 2 1, 3) := dk_132 2 1 (dk_at dksX2_removeMessage_1 10 rfl rfl)
theorem dX2_removeMessage_37 : decode cX2_removeMessage 37 = .ok (.goto (-35), 3) := dk_167 255 221 (dk_at dksX2_removeMessage_1 13 rfl rfl)
theorem dX2_removeMessage_40 : decode cX2_removeMessage 40 = .ok (.return_, 1) := dk_177 (dk_at dksX2_removeMessage_1 16 rfl rfl)
abbrev cX2_write : ByteArray := prog_9_method_24_code
def yX2_write : MethodName := ⟨RX2, "write", "(I)V"⟩
def dkwX2_write_5 : List UInt8 := [177]
abbrev dktX2_write_5 : List UInt8 := dkwX2_write_5 ++ []
def dkwX2_write_4 : List UInt8 := [167, 255, 164, 42, 180, 0, 42, 44, 185, 0, 69, 2, 0, 87, 42, 180, 0, 37, 27, 1, 83, 167, 255, 143]
abbrev dktX2_write_4 : List UInt8 := dkwX2_write_4 ++ dktX2_write_5
def dkwX2_write_3 : List UInt8 := [4, 96, 181, 0, 170, 42, 89, 180, 0, 20, 4, 100, 181, 0, 20, 44, 182, 0, 220, 154, 0, 6]
abbrev dktX2_write_3 : List UInt8 := dkwX2_write_3 ++ dktX2_write_4
def dkwX2_write_2 : List UInt8 := [180, 0, 203, 44, 180, 0, 170, 182, 0, 207, 27, 4, 4, 183, 0, 213, 182, 0, 216, 44, 89, 180, 0, 170]
abbrev dktX2_write_2 : List UInt8 := dkwX2_write_2 ++ dktX2_write_3
def dkwX2_write_1 : List UInt8 := [42, 180, 0, 37, 27, 50, 77, 42, 44, 180, 0, 173, 44, 180, 0, 170, 96, 187, 0, 3, 89, 44]
abbrev dktX2_write_1 : List UInt8 := dkwX2_write_1 ++ dktX2_write_2
def dkwX2_write_0 : List UInt8 := [42, 180, 0, 20, 158, 0, 112, 42, 180, 0, 37, 27, 50, 199, 0, 11, 42, 27, 182, 0, 201, 153, 0, 95]
abbrev dktX2_write_0 : List UInt8 := dkwX2_write_0 ++ dktX2_write_1
theorem dksX2_write_0 : cX2_write.data.toList.drop 0 = dktX2_write_0 := by decide +kernel
theorem dksX2_write_1 : cX2_write.data.toList.drop 24 = dktX2_write_1 := dk_seg dksX2_write_0 24 rfl rfl
theorem dksX2_write_2 : cX2_write.data.toList.drop 46 = dktX2_write_2 := dk_seg dksX2_write_1 22 rfl rfl
theorem dksX2_write_3 : cX2_write.data.toList.drop 70 = dktX2_write_3 := dk_seg dksX2_write_2 24 rfl rfl
theorem dksX2_write_4 : cX2_write.data.toList.drop 92 = dktX2_write_4 := dk_seg dksX2_write_3 22 rfl rfl
theorem dksX2_write_5 : cX2_write.data.toList.drop 116 = dktX2_write_5 := dk_seg dksX2_write_4 24 rfl rfl
theorem dX2_write_0 : decode cX2_write 0 = .ok (.aload_n 0, 1) := dk_42 (dk_at dksX2_write_0 0 rfl rfl)
theorem dX2_write_1 : decode cX2_write 1 = .ok (.getfield 20, 3) := dk_180 0 20 (dk_at dksX2_write_0 1 rfl rfl)
theorem dX2_write_4 : decode cX2_write 4 = .ok (.ifCond .le 112, 3) := dk_158 0 112 (dk_at dksX2_write_0 4 rfl rfl)
theorem dX2_write_7 : decode cX2_write 7 = .ok (.aload_n 0, 1) := dk_42 (dk_at dksX2_write_0 7 rfl rfl)
theorem dX2_write_8 : decode cX2_write 8 = .ok (.getfield 37, 3) := dk_180 0 37 (dk_at dksX2_write_0 8 rfl rfl)
theorem dX2_write_11 : decode cX2_write 11 = .ok (.iload_n 1, 1) := dk_27 (dk_at dksX2_write_0 11 rfl rfl)
theorem dX2_write_12 : decode cX2_write 12 = .ok (.aaload, 1) := dk_50 (dk_at dksX2_write_0 12 rfl rfl)
theorem dX2_write_13 : decode cX2_write 13 = .ok (.ifnonnull 11, 3) := dk_199 0 11 (dk_at dksX2_write_0 13 rfl rfl)
theorem dX2_write_16 : decode cX2_write 16 = .ok (.aload_n 0, 1) := dk_42 (dk_at dksX2_write_0 16 rfl rfl)
theorem dX2_write_17 : decode cX2_write 17 = .ok (.iload_n 1, 1) := dk_27 (dk_at dksX2_write_0 17 rfl rfl)
theorem dX2_write_18 : decode cX2_write 18 = .ok (.invokevirtual 201, 3) := dk_182 0 201 (dk_at dksX2_write_0 18 rfl rfl)
theorem dX2_write_21 : decode cX2_write 21 = .ok (.ifCond .eq 95, 3) := dk_153 0 95 (dk_at dksX2_write_0 21 rfl rfl)
theorem dX2_write_24 : decode cX2_write 24 = .ok (.aload_n 0, 1) := dk_42 (dk_at dksX2_write_1 0 rfl rfl)
theorem dX2_write_25 : decode cX2_write 25 = .ok (.getfield 37, 3) := dk_180 0 37 (dk_at dksX2_write_1 1 rfl rfl)
theorem dX2_write_28 : decode cX2_write 28 = .ok (.iload_n 1, 1) := dk_27 (dk_at dksX2_write_1 4 rfl rfl)
theorem dX2_write_29 : decode cX2_write 29 = .ok (.aaload, 1) := dk_50 (dk_at dksX2_write_1 5 rfl rfl)
theorem dX2_write_30 : decode cX2_write 30 = .ok (.astore_n 2, 1) := dk_77 (dk_at dksX2_write_1 6 rfl rfl)
theorem dX2_write_31 : decode cX2_write 31 = .ok (.aload_n 0, 1) := dk_42 (dk_at dksX2_write_1 7 rfl rfl)
theorem dX2_write_32 : decode cX2_write 32 = .ok (.aload_n 2, 1) := dk_44 (dk_at dksX2_write_1 8 rfl rfl)
theorem dX2_write_33 : decode cX2_write 33 = .ok (.getfield 173, 3) := dk_180 0 173 (dk_at dksX2_write_1 9 rfl rfl)
theorem dX2_write_36 : decode cX2_write 36 = .ok (.aload_n 2, 1) := dk_44 (dk_at dksX2_write_1 12 rfl rfl)
theorem dX2_write_37 : decode cX2_write 37 = .ok (.getfield 170, 3) := dk_180 0 170 (dk_at dksX2_write_1 13 rfl rfl)
theorem dX2_write_40 : decode cX2_write 40 = .ok (.iadd, 1) := dk_96 (dk_at dksX2_write_1 16 rfl rfl)
theorem dX2_write_41 : decode cX2_write 41 = .ok (.new 3, 3) := dk_187 0 3 (dk_at dksX2_write_1 17 rfl rfl)
theorem dX2_write_44 : decode cX2_write 44 = .ok (.dup, 1) := dk_89 (dk_at dksX2_write_1 20 rfl rfl)
theorem dX2_write_45 : decode cX2_write 45 = .ok (.aload_n 2, 1) := dk_44 (dk_at dksX2_write_1 21 rfl rfl)
theorem dX2_write_46 : decode cX2_write 46 = .ok (.getfield 203, 3) := dk_180 0 203 (dk_at dksX2_write_2 0 rfl rfl)
theorem dX2_write_49 : decode cX2_write 49 = .ok (.aload_n 2, 1) := dk_44 (dk_at dksX2_write_2 3 rfl rfl)
theorem dX2_write_50 : decode cX2_write 50 = .ok (.getfield 170, 3) := dk_180 0 170 (dk_at dksX2_write_2 4 rfl rfl)
theorem dX2_write_53 : decode cX2_write 53 = .ok (.invokevirtual 207, 3) := dk_182 0 207 (dk_at dksX2_write_2 7 rfl rfl)
theorem dX2_write_56 : decode cX2_write 56 = .ok (.iload_n 1, 1) := dk_27 (dk_at dksX2_write_2 10 rfl rfl)
theorem dX2_write_57 : decode cX2_write 57 = .ok (.iconst 1, 1) := dk_4 (dk_at dksX2_write_2 11 rfl rfl)
theorem dX2_write_58 : decode cX2_write 58 = .ok (.iconst 1, 1) := dk_4 (dk_at dksX2_write_2 12 rfl rfl)
theorem dX2_write_59 : decode cX2_write 59 = .ok (.invokespecial 213, 3) := dk_183 0 213 (dk_at dksX2_write_2 13 rfl rfl)
theorem dX2_write_62 : decode cX2_write 62 = .ok (.invokevirtual 216, 3) := dk_182 0 216 (dk_at dksX2_write_2 16 rfl rfl)
theorem dX2_write_65 : decode cX2_write 65 = .ok (.aload_n 2, 1) := dk_44 (dk_at dksX2_write_2 19 rfl rfl)
theorem dX2_write_66 : decode cX2_write 66 = .ok (.dup, 1) := dk_89 (dk_at dksX2_write_2 20 rfl rfl)
theorem dX2_write_67 : decode cX2_write 67 = .ok (.getfield 170, 3) := dk_180 0 170 (dk_at dksX2_write_2 21 rfl rfl)
theorem dX2_write_70 : decode cX2_write 70 = .ok (.iconst 1, 1) := dk_4 (dk_at dksX2_write_3 0 rfl rfl)
theorem dX2_write_71 : decode cX2_write 71 = .ok (.iadd, 1) := dk_96 (dk_at dksX2_write_3 1 rfl rfl)
theorem dX2_write_72 : decode cX2_write 72 = .ok (.putfield 170, 3) := dk_181 0 170 (dk_at dksX2_write_3 2 rfl rfl)
theorem dX2_write_75 : decode cX2_write 75 = .ok (.aload_n 0, 1) := dk_42 (dk_at dksX2_write_3 5 rfl rfl)
theorem dX2_write_76 : decode cX2_write 76 = .ok (.dup, 1) := dk_89 (dk_at dksX2_write_3 6 rfl rfl)
theorem dX2_write_77 : decode cX2_write 77 = .ok (.getfield 20, 3) := dk_180 0 20 (dk_at dksX2_write_3 7 rfl rfl)
theorem dX2_write_80 : decode cX2_write 80 = .ok (.iconst 1, 1) := dk_4 (dk_at dksX2_write_3 10 rfl rfl)
theorem dX2_write_81 : decode cX2_write 81 = .ok (.isub, 1) := dk_100 (dk_at dksX2_write_3 11 rfl rfl)
theorem dX2_write_82 : decode cX2_write 82 = .ok (.putfield 20, 3) := dk_181 0 20 (dk_at dksX2_write_3 12 rfl rfl)
theorem dX2_write_85 : decode cX2_write 85 = .ok (.aload_n 2, 1) := dk_44 (dk_at dksX2_write_3 15 rfl rfl)
theorem dX2_write_86 : decode cX2_write 86 = .ok (.invokevirtual 220, 3) := dk_182 0 220 (dk_at dksX2_write_3 16 rfl rfl)
theorem dX2_write_89 : decode cX2_write 89 = .ok (.ifCond .ne 6, 3) := dk_154 0 6 (dk_at dksX2_write_3 19 rfl rfl)
theorem dX2_write_92 : decode cX2_write 92 = .ok (.goto (-92), 3) := dk_167 255 164 (dk_at dksX2_write_4 0 rfl rfl)
theorem dX2_write_95 : decode cX2_write 95 = .ok (.aload_n 0, 1) := dk_42 (dk_at dksX2_write_4 3 rfl rfl)
theorem dX2_write_96 : decode cX2_write 96 = .ok (.getfield 42, 3) := dk_180 0 42 (dk_at dksX2_write_4 4 rfl rfl)
theorem dX2_write_99 : decode cX2_write 99 = .ok (.aload_n 2, 1) := dk_44 (dk_at dksX2_write_4 7 rfl rfl)
theorem dX2_write_100 : decode cX2_write 100 = .ok (.invokeinterface 69 2, 5) := by decide +kernel
theorem dX2_write_105 : decode cX2_write 105 = .ok (.pop, 1) := dk_87 (dk_at dksX2_write_4 13 rfl rfl)
theorem dX2_write_106 : decode cX2_write 106 = .ok (.aload_n 0, 1) := dk_42 (dk_at dksX2_write_4 14 rfl rfl)
theorem dX2_write_107 : decode cX2_write 107 = .ok (.getfield 37, 3) := dk_180 0 37 (dk_at dksX2_write_4 15 rfl rfl)
theorem dX2_write_110 : decode cX2_write 110 = .ok (.iload_n 1, 1) := dk_27 (dk_at dksX2_write_4 18 rfl rfl)
theorem dX2_write_111 : decode cX2_write 111 = .ok (.aconst_null, 1) := dk_1 (dk_at dksX2_write_4 19 rfl rfl)
theorem dX2_write_112 : decode cX2_write 112 = .ok (.aastore, 1) := dk_83 (dk_at dksX2_write_4 20 rfl rfl)
theorem dX2_write_113 : decode cX2_write 113 = .ok (.goto (-113), 3) := dk_167 255 143 (dk_at dksX2_write_4 21 rfl rfl)
theorem dX2_write_116 : decode cX2_write 116 = .ok (.return_, 1) := dk_177 (dk_at dksX2_write_5 0 rfl rfl)
abbrev cX2_start : ByteArray := prog_9_method_23_code
def yX2_start : MethodName := ⟨RX2, "start", "(I)Z"⟩
def dkwX2_start_3 : List UInt8 := [180, 0, 37, 27, 50, 29, 181, 0, 173, 4, 172]
abbrev dktX2_start_3 : List UInt8 := dkwX2_start_3 ++ []
def dkwX2_start_2 : List UInt8 := [3, 172, 42, 180, 0, 37, 27, 44, 3, 185, 0, 183, 2, 0, 192, 0, 35, 182, 0, 94, 83, 42]
abbrev dktX2_start_2 : List UInt8 := dkwX2_start_2 ++ dktX2_start_3
def dkwX2_start_1 : List UInt8 := [172, 42, 44, 3, 185, 0, 84, 2, 0, 192, 0, 35, 182, 0, 195, 182, 0, 198, 62, 29, 2, 160, 0, 5]
abbrev dktX2_start_1 : List UInt8 := dkwX2_start_1 ++ dktX2_start_2
def dkwX2_start_0 : List UInt8 := [42, 180, 0, 31, 27, 185, 0, 84, 2, 0, 192, 0, 70, 77, 44, 185, 0, 192, 1, 0, 153, 0, 5, 3]
abbrev dktX2_start_0 : List UInt8 := dkwX2_start_0 ++ dktX2_start_1
theorem dksX2_start_0 : cX2_start.data.toList.drop 0 = dktX2_start_0 := by decide +kernel
theorem dksX2_start_1 : cX2_start.data.toList.drop 24 = dktX2_start_1 := dk_seg dksX2_start_0 24 rfl rfl
theorem dksX2_start_2 : cX2_start.data.toList.drop 48 = dktX2_start_2 := dk_seg dksX2_start_1 24 rfl rfl
theorem dksX2_start_3 : cX2_start.data.toList.drop 70 = dktX2_start_3 := dk_seg dksX2_start_2 22 rfl rfl
theorem dX2_start_0 : decode cX2_start 0 = .ok (.aload_n 0, 1) := dk_42 (dk_at dksX2_start_0 0 rfl rfl)
theorem dX2_start_1 : decode cX2_start 1 = .ok (.getfield 31, 3) := dk_180 0 31 (dk_at dksX2_start_0 1 rfl rfl)
theorem dX2_start_4 : decode cX2_start 4 = .ok (.iload_n 1, 1) := dk_27 (dk_at dksX2_start_0 4 rfl rfl)
theorem dX2_start_5 : decode cX2_start 5 = .ok (.invokeinterface 84 2, 5) := by decide +kernel
theorem dX2_start_10 : decode cX2_start 10 = .ok (.checkcast 70, 3) := dk_192 0 70 (dk_at dksX2_start_0 10 rfl rfl)
theorem dX2_start_13 : decode cX2_start 13 = .ok (.astore_n 2, 1) := dk_77 (dk_at dksX2_start_0 13 rfl rfl)
theorem dX2_start_14 : decode cX2_start 14 = .ok (.aload_n 2, 1) := dk_44 (dk_at dksX2_start_0 14 rfl rfl)
theorem dX2_start_15 : decode cX2_start 15 = .ok (.invokeinterface 192 1, 5) := by decide +kernel
theorem dX2_start_20 : decode cX2_start 20 = .ok (.ifCond .eq 5, 3) := dk_153 0 5 (dk_at dksX2_start_0 20 rfl rfl)
theorem dX2_start_23 : decode cX2_start 23 = .ok (.iconst 0, 1) := dk_3 (dk_at dksX2_start_0 23 rfl rfl)
theorem dX2_start_24 : decode cX2_start 24 = .ok (.ireturn, 1) := dk_172 (dk_at dksX2_start_1 0 rfl rfl)
theorem dX2_start_25 : decode cX2_start 25 = .ok (.aload_n 0, 1) := dk_42 (dk_at dksX2_start_1 1 rfl rfl)
theorem dX2_start_26 : decode cX2_start 26 = .ok (.aload_n 2, 1) := dk_44 (dk_at dksX2_start_1 2 rfl rfl)
theorem dX2_start_27 : decode cX2_start 27 = .ok (.iconst 0, 1) := dk_3 (dk_at dksX2_start_1 3 rfl rfl)
theorem dX2_start_28 : decode cX2_start 28 = .ok (.invokeinterface 84 2, 5) := by decide +kernel
theorem dX2_start_33 : decode cX2_start 33 = .ok (.checkcast 35, 3) := dk_192 0 35 (dk_at dksX2_start_1 9 rfl rfl)
theorem dX2_start_36 : decode cX2_start 36 = .ok (.invokevirtual 195, 3) := dk_182 0 195 (dk_at dksX2_start_1 12 rfl rfl)
theorem dX2_start_39 : decode cX2_start 39 = .ok (.invokevirtual 198, 3) := dk_182 0 198 (dk_at dksX2_start_1 15 rfl rfl)
theorem dX2_start_42 : decode cX2_start 42 = .ok (.istore_n 3, 1) := dk_62 (dk_at dksX2_start_1 18 rfl rfl)
theorem dX2_start_43 : decode cX2_start 43 = .ok (.iload_n 3, 1) := dk_29 (dk_at dksX2_start_1 19 rfl rfl)
theorem dX2_start_44 : decode cX2_start 44 = .ok (.iconst (-1), 1) := dk_2 (dk_at dksX2_start_1 20 rfl rfl)
theorem dX2_start_45 : decode cX2_start 45 = .ok (.if_icmp .ne 5, 3) := dk_160 0 5 (dk_at dksX2_start_1 21 rfl rfl)
theorem dX2_start_48 : decode cX2_start 48 = .ok (.iconst 0, 1) := dk_3 (dk_at dksX2_start_2 0 rfl rfl)
theorem dX2_start_49 : decode cX2_start 49 = .ok (.ireturn, 1) := dk_172 (dk_at dksX2_start_2 1 rfl rfl)
theorem dX2_start_50 : decode cX2_start 50 = .ok (.aload_n 0, 1) := dk_42 (dk_at dksX2_start_2 2 rfl rfl)
theorem dX2_start_51 : decode cX2_start 51 = .ok (.getfield 37, 3) := dk_180 0 37 (dk_at dksX2_start_2 3 rfl rfl)
theorem dX2_start_54 : decode cX2_start 54 = .ok (.iload_n 1, 1) := dk_27 (dk_at dksX2_start_2 6 rfl rfl)
theorem dX2_start_55 : decode cX2_start 55 = .ok (.aload_n 2, 1) := dk_44 (dk_at dksX2_start_2 7 rfl rfl)
theorem dX2_start_56 : decode cX2_start 56 = .ok (.iconst 0, 1) := dk_3 (dk_at dksX2_start_2 8 rfl rfl)
theorem dX2_start_57 : decode cX2_start 57 = .ok (.invokeinterface 183 2, 5) := by decide +kernel
theorem dX2_start_62 : decode cX2_start 62 = .ok (.checkcast 35, 3) := dk_192 0 35 (dk_at dksX2_start_2 14 rfl rfl)
theorem dX2_start_65 : decode cX2_start 65 = .ok (.invokevirtual 94, 3) := dk_182 0 94 (dk_at dksX2_start_2 17 rfl rfl)
theorem dX2_start_68 : decode cX2_start 68 = .ok (.aastore, 1) := dk_83 (dk_at dksX2_start_2 20 rfl rfl)
theorem dX2_start_69 : decode cX2_start 69 = .ok (.aload_n 0, 1) := dk_42 (dk_at dksX2_start_2 21 rfl rfl)
theorem dX2_start_70 : decode cX2_start 70 = .ok (.getfield 37, 3) := dk_180 0 37 (dk_at dksX2_start_3 0 rfl rfl)
theorem dX2_start_73 : decode cX2_start 73 = .ok (.iload_n 1, 1) := dk_27 (dk_at dksX2_start_3 3 rfl rfl)
theorem dX2_start_74 : decode cX2_start 74 = .ok (.aaload, 1) := dk_50 (dk_at dksX2_start_3 4 rfl rfl)
theorem dX2_start_75 : decode cX2_start 75 = .ok (.iload_n 3, 1) := dk_29 (dk_at dksX2_start_3 5 rfl rfl)
theorem dX2_start_76 : decode cX2_start 76 = .ok (.putfield 173, 3) := dk_181 0 173 (dk_at dksX2_start_3 6 rfl rfl)
theorem dX2_start_79 : decode cX2_start 79 = .ok (.iconst 1, 1) := dk_4 (dk_at dksX2_start_3 9 rfl rfl)
theorem dX2_start_80 : decode cX2_start 80 = .ok (.ireturn, 1) := dk_172 (dk_at dksX2_start_3 10 rfl rfl)
abbrev cX2_startSlot : ByteArray := prog_9_method_14_code
def yX2_startSlot : MethodName := ⟨RX2, "startSlot", "(I)I"⟩
def dkwX2_startSlot_2 : List UInt8 := [167, 255, 212, 2, 172]
abbrev dktX2_startSlot_2 : List UInt8 := dkwX2_startSlot_2 ++ []
def dkwX2_startSlot_1 : List UInt8 := [27, 96, 182, 0, 157, 153, 0, 14, 42, 28, 182, 0, 160, 27, 161, 0, 5, 28, 172, 132, 2, 1]
abbrev dktX2_startSlot_1 : List UInt8 := dkwX2_startSlot_1 ++ dktX2_startSlot_2
def dkwX2_startSlot_0 : List UInt8 := [3, 61, 28, 27, 96, 42, 182, 0, 122, 163, 0, 40, 42, 28, 4, 100, 182, 0, 157, 153, 0, 24, 42, 28]
abbrev dktX2_startSlot_0 : List UInt8 := dkwX2_startSlot_0 ++ dktX2_startSlot_1
theorem dksX2_startSlot_0 : cX2_startSlot.data.toList.drop 0 = dktX2_startSlot_0 := by decide +kernel
theorem dksX2_startSlot_1 : cX2_startSlot.data.toList.drop 24 = dktX2_startSlot_1 := dk_seg dksX2_startSlot_0 24 rfl rfl
theorem dksX2_startSlot_2 : cX2_startSlot.data.toList.drop 46 = dktX2_startSlot_2 := dk_seg dksX2_startSlot_1 22 rfl rfl
theorem dX2_startSlot_0 : decode cX2_startSlot 0 = .ok (.iconst 0, 1) := dk_3 (dk_at dksX2_startSlot_0 0 rfl rfl)
theorem dX2_startSlot_1 : decode cX2_startSlot 1 = .ok (.istore_n 2, 1) := dk_61 (dk_at dksX2_startSlot_0 1 rfl rfl)
theorem dX2_startSlot_2 : decode cX2_startSlot 2 = .ok (.iload_n 2, 1) := dk_28 (dk_at dksX2_startSlot_0 2 rfl rfl)
theorem dX2_startSlot_3 : decode cX2_startSlot 3 = .ok (.iload_n 1, 1) := dk_27 (dk_at dksX2_startSlot_0 3 rfl rfl)
theorem dX2_startSlot_4 : decode cX2_startSlot 4 = .ok (.iadd, 1) := dk_96 (dk_at dksX2_startSlot_0 4 rfl rfl)
theorem dX2_startSlot_5 : decode cX2_startSlot 5 = .ok (.aload_n 0, 1) := dk_42 (dk_at dksX2_startSlot_0 5 rfl rfl)
theorem dX2_startSlot_6 : decode cX2_startSlot 6 = .ok (.invokevirtual 122, 3) := dk_182 0 122 (dk_at dksX2_startSlot_0 6 rfl rfl)
theorem dX2_startSlot_9 : decode cX2_startSlot 9 = .ok (.if_icmp .gt 40, 3) := dk_163 0 40 (dk_at dksX2_startSlot_0 9 rfl rfl)
theorem dX2_startSlot_12 : decode cX2_startSlot 12 = .ok (.aload_n 0, 1) := dk_42 (dk_at dksX2_startSlot_0 12 rfl rfl)
theorem dX2_startSlot_13 : decode cX2_startSlot 13 = .ok (.iload_n 2, 1) := dk_28 (dk_at dksX2_startSlot_0 13 rfl rfl)
theorem dX2_startSlot_14 : decode cX2_startSlot 14 = .ok (.iconst 1, 1) := dk_4 (dk_at dksX2_startSlot_0 14 rfl rfl)
theorem dX2_startSlot_15 : decode cX2_startSlot 15 = .ok (.isub, 1) := dk_100 (dk_at dksX2_startSlot_0 15 rfl rfl)
theorem dX2_startSlot_16 : decode cX2_startSlot 16 = .ok (.invokevirtual 157, 3) := dk_182 0 157 (dk_at dksX2_startSlot_0 16 rfl rfl)
theorem dX2_startSlot_19 : decode cX2_startSlot 19 = .ok (.ifCond .eq 24, 3) := dk_153 0 24 (dk_at dksX2_startSlot_0 19 rfl rfl)
theorem dX2_startSlot_22 : decode cX2_startSlot 22 = .ok (.aload_n 0, 1) := dk_42 (dk_at dksX2_startSlot_0 22 rfl rfl)
theorem dX2_startSlot_23 : decode cX2_startSlot 23 = .ok (.iload_n 2, 1) := dk_28 (dk_at dksX2_startSlot_0 23 rfl rfl)
theorem dX2_startSlot_24 : decode cX2_startSlot 24 = .ok (.iload_n 1, 1) := dk_27 (dk_at dksX2_startSlot_1 0 rfl rfl)
theorem dX2_startSlot_25 : decode cX2_startSlot 25 = .ok (.iadd, 1) := dk_96 (dk_at dksX2_startSlot_1 1 rfl rfl)
theorem dX2_startSlot_26 : decode cX2_startSlot 26 = .ok (.invokevirtual 157, 3) := dk_182 0 157 (dk_at dksX2_startSlot_1 2 rfl rfl)
theorem dX2_startSlot_29 : decode cX2_startSlot 29 = .ok (.ifCond .eq 14, 3) := dk_153 0 14 (dk_at dksX2_startSlot_1 5 rfl rfl)
theorem dX2_startSlot_32 : decode cX2_startSlot 32 = .ok (.aload_n 0, 1) := dk_42 (dk_at dksX2_startSlot_1 8 rfl rfl)
theorem dX2_startSlot_33 : decode cX2_startSlot 33 = .ok (.iload_n 2, 1) := dk_28 (dk_at dksX2_startSlot_1 9 rfl rfl)
theorem dX2_startSlot_34 : decode cX2_startSlot 34 = .ok (.invokevirtual 160, 3) := dk_182 0 160 (dk_at dksX2_startSlot_1 10 rfl rfl)
theorem dX2_startSlot_37 : decode cX2_startSlot 37 = .ok (.iload_n 1, 1) := dk_27 (dk_at dksX2_startSlot_1 13 rfl rfl)
theorem dX2_startSlot_38 : decode cX2_startSlot 38 = .ok (.if_icmp .lt 5, 3) := dk_161 0 5 (dk_at dksX2_startSlot_1 14 rfl rfl)
theorem dX2_startSlot_41 : decode cX2_startSlot 41 = .ok (.iload_n 2, 1) := dk_28 (dk_at dksX2_startSlot_1 17 rfl rfl)
theorem dX2_startSlot_42 : decode cX2_startSlot 42 = .ok (.ireturn, 1) := dk_172 (dk_at dksX2_startSlot_1 18 rfl rfl)
theorem dX2_startSlot_43 : decode cX2_startSlot 43 = .ok (.iinc 2 1, 3) := dk_132 2 1 (dk_at dksX2_startSlot_1 19 rfl rfl)
theorem dX2_startSlot_46 : decode cX2_startSlot 46 = .ok (.goto (-44), 3) := dk_167 255 212 (dk_at dksX2_startSlot_2 0 rfl rfl)
theorem dX2_startSlot_49 : decode cX2_startSlot 49 = .ok (.iconst (-1), 1) := dk_2 (dk_at dksX2_startSlot_2 3 rfl rfl)
theorem dX2_startSlot_50 : decode cX2_startSlot 50 = .ok (.ireturn, 1) := dk_172 (dk_at dksX2_startSlot_2 4 rfl rfl)
abbrev cX2_isBorder : ByteArray := prog_9_method_13_code
def yX2_isBorder : MethodName := ⟨RX2, "isBorder", "(I)Z"⟩
def dkwX2_isBorder_1 : List UInt8 := [154, 0, 7, 4, 167, 0, 4, 3, 172]
abbrev dktX2_isBorder_1 : List UInt8 := dkwX2_isBorder_1 ++ []
def dkwX2_isBorder_0 : List UInt8 := [42, 27, 182, 0, 154, 153, 0, 20, 42, 180, 0, 57, 27, 50, 199, 0, 15, 42, 27, 182, 0, 151]
abbrev dktX2_isBorder_0 : List UInt8 := dkwX2_isBorder_0 ++ dktX2_isBorder_1
theorem dksX2_isBorder_0 : cX2_isBorder.data.toList.drop 0 = dktX2_isBorder_0 := by decide +kernel
theorem dksX2_isBorder_1 : cX2_isBorder.data.toList.drop 22 = dktX2_isBorder_1 := dk_seg dksX2_isBorder_0 22 rfl rfl
theorem dX2_isBorder_0 : decode cX2_isBorder 0 = .ok (.aload_n 0, 1) := dk_42 (dk_at dksX2_isBorder_0 0 rfl rfl)
theorem dX2_isBorder_1 : decode cX2_isBorder 1 = .ok (.iload_n 1, 1) := dk_27 (dk_at dksX2_isBorder_0 1 rfl rfl)
theorem dX2_isBorder_2 : decode cX2_isBorder 2 = .ok (.invokevirtual 154, 3) := dk_182 0 154 (dk_at dksX2_isBorder_0 2 rfl rfl)
theorem dX2_isBorder_5 : decode cX2_isBorder 5 = .ok (.ifCond .eq 20, 3) := dk_153 0 20 (dk_at dksX2_isBorder_0 5 rfl rfl)
theorem dX2_isBorder_8 : decode cX2_isBorder 8 = .ok (.aload_n 0, 1) := dk_42 (dk_at dksX2_isBorder_0 8 rfl rfl)
theorem dX2_isBorder_9 : decode cX2_isBorder 9 = .ok (.getfield 57, 3) := dk_180 0 57 (dk_at dksX2_isBorder_0 9 rfl rfl)
theorem dX2_isBorder_12 : decode cX2_isBorder 12 = .ok (.iload_n 1, 1) := dk_27 (dk_at dksX2_isBorder_0 12 rfl rfl)
theorem dX2_isBorder_13 : decode cX2_isBorder 13 = .ok (.aaload, 1) := dk_50 (dk_at dksX2_isBorder_0 13 rfl rfl)
theorem dX2_isBorder_14 : decode cX2_isBorder 14 = .ok (.ifnonnull 15, 3) := dk_199 0 15 (dk_at dksX2_isBorder_0 14 rfl rfl)
theorem dX2_isBorder_17 : decode cX2_isBorder 17 = .ok (.aload_n 0, 1) := dk_42 (dk_at dksX2_isBorder_0 17 rfl rfl)
theorem dX2_isBorder_18 : decode cX2_isBorder 18 = .ok (.iload_n 1, 1) := dk_27 (dk_at dksX2_isBorder_0 18 rfl rfl)
theorem dX2_isBorder_19 : decode cX2_isBorder 19 = .ok (.invokevirtual 151, 3) := dk_182 0 151 (dk_at dksX2_isBorder_0 19 rfl rfl)
theorem dX2_isBorder_22 : decode cX2_isBorder 22 = .ok (.ifCond .ne 7, 3) := dk_154 0 7 (dk_at dksX2_isBorder_1 0 rfl rfl)
theorem dX2_isBorder_25 : decode cX2_isBorder 25 = .ok (.iconst 1, 1) := dk_4 (dk_at dksX2_isBorder_1 3 rfl rfl)
theorem dX2_isBorder_26 : decode cX2_isBorder 26 = .ok (.goto 4, 3) := dk_167 0 4 (dk_at dksX2_isBorder_1 4 rfl rfl)
theorem dX2_isBorder_29 : decode cX2_isBorder 29 = .ok (.iconst 0, 1) := dk_3 (dk_at dksX2_isBorder_1 7 rfl rfl)
theorem dX2_isBorder_30 : decode cX2_isBorder 30 = .ok (.ireturn, 1) := dk_172 (dk_at dksX2_isBorder_1 8 rfl rfl)
abbrev cX2_grow : ByteArray := prog_9_method_25_code
def yX2_grow : MethodName := ⟨RX2, "grow", "()V"⟩
def dkwX2_grow_3 : List UInt8 := [27, 3, 42, 180, 0, 61, 27, 46, 4, 100, 184, 0, 135, 79, 132, 1, 1, 167, 255, 227, 177]
abbrev dktX2_grow_3 : List UInt8 := dkwX2_grow_3 ++ []
def dkwX2_grow_2 : List UInt8 := [180, 0, 45, 96, 181, 0, 235, 167, 255, 216, 3, 60, 27, 42, 182, 0, 122, 162, 0, 27, 42, 180, 0, 61]
abbrev dktX2_grow_2 : List UInt8 := dkwX2_grow_2 ++ dktX2_grow_3
def dkwX2_grow_1 : List UInt8 := [185, 0, 107, 1, 0, 192, 0, 230, 182, 0, 232, 61, 42, 180, 0, 57, 28, 50, 89, 180, 0, 235, 42]
abbrev dktX2_grow_1 : List UInt8 := dkwX2_grow_1 ++ dktX2_grow_2
def dkwX2_grow_0 : List UInt8 := [42, 182, 0, 223, 185, 0, 227, 1, 0, 76, 43, 185, 0, 101, 1, 0, 153, 0, 37, 43]
abbrev dktX2_grow_0 : List UInt8 := dkwX2_grow_0 ++ dktX2_grow_1
theorem dksX2_grow_0 : cX2_grow.data.toList.drop 0 = dktX2_grow_0 := by decide +kernel
theorem dksX2_grow_1 : cX2_grow.data.toList.drop 20 = dktX2_grow_1 := dk_seg dksX2_grow_0 20 rfl rfl
theorem dksX2_grow_2 : cX2_grow.data.toList.drop 43 = dktX2_grow_2 := dk_seg dksX2_grow_1 23 rfl rfl
theorem dksX2_grow_3 : cX2_grow.data.toList.drop 67 = dktX2_grow_3 := dk_seg dksX2_grow_2 24 rfl rfl
theorem dX2_grow_0 : decode cX2_grow 0 = .ok (.aload_n 0, 1) := dk_42 (dk_at dksX2_grow_0 0 rfl rfl)
theorem dX2_grow_1 : decode cX2_grow 1 = .ok (.invokevirtual 223, 3) := dk_182 0 223 (dk_at dksX2_grow_0 1 rfl rfl)
theorem dX2_grow_4 : decode cX2_grow 4 = .ok (.invokeinterface 227 1, 5) := by decide +kernel
theorem dX2_grow_9 : decode cX2_grow 9 = .ok (.astore_n 1, 1) := dk_76 (dk_at dksX2_grow_0 9 rfl rfl)
theorem dX2_grow_10 : decode cX2_grow 10 = .ok (.aload_n 1, 1) := dk_43 (dk_at dksX2_grow_0 10 rfl rfl)
theorem dX2_grow_11 : decode cX2_grow 11 = .ok (.invokeinterface 101 1, 5) := by decide +kernel
theorem dX2_grow_16 : decode cX2_grow 16 = .ok (.ifCond .eq 37, 3) := dk_153 0 37 (dk_at dksX2_grow_0 16 rfl rfl)
theorem dX2_grow_19 : decode cX2_grow 19 = .ok (.aload_n 1, 1) := dk_43 (dk_at dksX2_grow_0 19 rfl rfl)
theorem dX2_grow_20 : decode cX2_grow 20 = .ok (.invokeinterface 107 1, 5) := by decide +kernel
theorem dX2_grow_25 : decode cX2_grow 25 = .ok (.checkcast 230, 3) := dk_192 0 230 (dk_at dksX2_grow_1 5 rfl rfl)
theorem dX2_grow_28 : decode cX2_grow 28 = .ok (.invokevirtual 232, 3) := dk_182 0 232 (dk_at dksX2_grow_1 8 rfl rfl)
theorem dX2_grow_31 : decode cX2_grow 31 = .ok (.istore_n 2, 1) := dk_61 (dk_at dksX2_grow_1 11 rfl rfl)
theorem dX2_grow_32 : decode cX2_grow 32 = .ok (.aload_n 0, 1) := dk_42 (dk_at dksX2_grow_1 12 rfl rfl)
theorem dX2_grow_33 : decode cX2_grow 33 = .ok (.getfield 57, 3) := dk_180 0 57 (dk_at dksX2_grow_1 13 rfl rfl)
theorem dX2_grow_36 : decode cX2_grow 36 = .ok (.iload_n 2, 1) := dk_28 (dk_at dksX2_grow_1 16 rfl rfl)
theorem dX2_grow_37 : decode cX2_grow 37 = .ok (.aaload, 1) := dk_50 (dk_at dksX2_grow_1 17 rfl rfl)
theorem dX2_grow_38 : decode cX2_grow 38 = .ok (.dup, 1) := dk_89 (dk_at dksX2_grow_1 18 rfl rfl)
theorem dX2_grow_39 : decode cX2_grow 39 = .ok (.getfield 235, 3) := dk_180 0 235 (dk_at dksX2_grow_1 19 rfl rfl)
theorem dX2_grow_42 : decode cX2_grow 42 = .ok (.aload_n 0, 1) := dk_42 (dk_at dksX2_grow_1 22 rfl rfl)
theorem dX2_grow_43 : decode cX2_grow 43 = .ok (.getfield 45, 3) := dk_180 0 45 (dk_at dksX2_grow_2 0 rfl rfl)
theorem dX2_grow_46 : decode cX2_grow 46 = .ok (.iadd, 1) := dk_96 (dk_at dksX2_grow_2 3 rfl rfl)
theorem dX2_grow_47 : decode cX2_grow 47 = .ok (.putfield 235, 3) := dk_181 0 235 (dk_at dksX2_grow_2 4 rfl rfl)
theorem dX2_grow_50 : decode cX2_grow 50 = .ok (.goto (-40), 3) := dk_167 255 216 (dk_at dksX2_grow_2 7 rfl rfl)
theorem dX2_grow_53 : decode cX2_grow 53 = .ok (.iconst 0, 1) := dk_3 (dk_at dksX2_grow_2 10 rfl rfl)
theorem dX2_grow_54 : decode cX2_grow 54 = .ok (.istore_n 1, 1) := dk_60 (dk_at dksX2_grow_2 11 rfl rfl)
theorem dX2_grow_55 : decode cX2_grow 55 = .ok (.iload_n 1, 1) := dk_27 (dk_at dksX2_grow_2 12 rfl rfl)
theorem dX2_grow_56 : decode cX2_grow 56 = .ok (.aload_n 0, 1) := dk_42 (dk_at dksX2_grow_2 13 rfl rfl)
theorem dX2_grow_57 : decode cX2_grow 57 = .ok (.invokevirtual 122, 3) := dk_182 0 122 (dk_at dksX2_grow_2 14 rfl rfl)
theorem dX2_grow_60 : decode cX2_grow 60 = .ok (.if_icmp .ge 27, 3) := dk_162 0 27 (dk_at dksX2_grow_2 17 rfl rfl)
theorem dX2_grow_63 : decode cX2_grow 63 = .ok (.aload_n 0, 1) := dk_42 (dk_at dksX2_grow_2 20 rfl rfl)
theorem dX2_grow_64 : decode cX2_grow 64 = .ok (.getfield 61, 3) := dk_180 0 61 (dk_at dksX2_grow_2 21 rfl rfl)
theorem dX2_grow_67 : decode cX2_grow 67 = .ok (.iload_n 1, 1) := dk_27 (dk_at dksX2_grow_3 0 rfl rfl)
theorem dX2_grow_68 : decode cX2_grow 68 = .ok (.iconst 0, 1) := dk_3 (dk_at dksX2_grow_3 1 rfl rfl)
theorem dX2_grow_69 : decode cX2_grow 69 = .ok (.aload_n 0, 1) := dk_42 (dk_at dksX2_grow_3 2 rfl rfl)
theorem dX2_grow_70 : decode cX2_grow 70 = .ok (.getfield 61, 3) := dk_180 0 61 (dk_at dksX2_grow_3 3 rfl rfl)
theorem dX2_grow_73 : decode cX2_grow 73 = .ok (.iload_n 1, 1) := dk_27 (dk_at dksX2_grow_3 6 rfl rfl)
theorem dX2_grow_74 : decode cX2_grow 74 = .ok (.iaload, 1) := dk_46 (dk_at dksX2_grow_3 7 rfl rfl)
theorem dX2_grow_75 : decode cX2_grow 75 = .ok (.iconst 1, 1) := dk_4 (dk_at dksX2_grow_3 8 rfl rfl)
theorem dX2_grow_76 : decode cX2_grow 76 = .ok (.isub, 1) := dk_100 (dk_at dksX2_grow_3 9 rfl rfl)
theorem dX2_grow_77 : decode cX2_grow 77 = .ok (.invokestatic 135, 3) := dk_184 0 135 (dk_at dksX2_grow_3 10 rfl rfl)
theorem dX2_grow_80 : decode cX2_grow 80 = .ok (.iastore, 1) := dk_79 (dk_at dksX2_grow_3 13 rfl rfl)
theorem dX2_grow_81 : decode cX2_grow 81 = .ok (.iinc 1 1, 3) := dk_132 1 1 (dk_at dksX2_grow_3 14 rfl rfl)
theorem dX2_grow_84 : decode cX2_grow 84 = .ok (.goto (-29), 3) := dk_167 255 227 (dk_at dksX2_grow_3 17 rfl rfl)
theorem dX2_grow_87 : decode cX2_grow 87 = .ok (.return_, 1) := dk_177 (dk_at dksX2_grow_3 20 rfl rfl)
abbrev cX2_inspect : ByteArray := prog_9_method_29_code
def yX2_inspect : MethodName := ⟨RX2, "inspect", "()V"⟩
def dkwX2_inspect_6 : List UInt8 := [182, 1, 1, 167, 255, 206, 132, 1, 1, 167, 255, 200, 177]
abbrev dktX2_inspect_6 : List UInt8 := dkwX2_inspect_6 ++ []
def dkwX2_inspect_5 : List UInt8 := [192, 0, 35, 182, 0, 253, 153, 0, 23, 42, 42, 180, 0, 42, 27, 185, 0, 183, 2, 0, 192, 0, 35]
abbrev dktX2_inspect_5 : List UInt8 := dkwX2_inspect_5 ++ dktX2_inspect_6
def dkwX2_inspect_4 : List UInt8 := [42, 180, 0, 42, 185, 0, 148, 1, 0, 162, 0, 49, 42, 42, 180, 0, 42, 27, 185, 0, 84, 2, 0]
abbrev dktX2_inspect_4 : List UInt8 := dkwX2_inspect_4 ++ dktX2_inspect_5
def dkwX2_inspect_3 : List UInt8 := [167, 0, 15, 42, 180, 0, 37, 27, 1, 83, 42, 44, 182, 1, 1, 132, 1, 1, 167, 255, 214, 3, 60, 27]
abbrev dktX2_inspect_3 : List UInt8 := dkwX2_inspect_3 ++ dktX2_inspect_4
def dkwX2_inspect_2 : List UInt8 := [27, 5, 162, 0, 43, 42, 180, 0, 37, 27, 50, 77, 44, 198, 0, 26, 42, 44, 182, 0, 253, 154, 0, 6]
abbrev dktX2_inspect_2 : List UInt8 := dkwX2_inspect_2 ++ dktX2_inspect_3
def dkwX2_inspect_1 : List UInt8 := [180, 0, 57, 27, 1, 83, 42, 89, 180, 0, 116, 4, 96, 181, 0, 116, 132, 1, 1, 167, 255, 217, 3, 60]
abbrev dktX2_inspect_1 : List UInt8 := dkwX2_inspect_1 ++ dktX2_inspect_2
def dkwX2_inspect_0 : List UInt8 := [3, 60, 27, 42, 182, 0, 122, 162, 0, 37, 42, 27, 182, 0, 250, 154, 0, 6, 167, 0, 20, 42]
abbrev dktX2_inspect_0 : List UInt8 := dkwX2_inspect_0 ++ dktX2_inspect_1
theorem dksX2_inspect_0 : cX2_inspect.data.toList.drop 0 = dktX2_inspect_0 := by decide +kernel
theorem dksX2_inspect_1 : cX2_inspect.data.toList.drop 22 = dktX2_inspect_1 := dk_seg dksX2_inspect_0 22 rfl rfl
theorem dksX2_inspect_2 : cX2_inspect.data.toList.drop 46 = dktX2_inspect_2 := dk_seg dksX2_inspect_1 24 rfl rfl
theorem dksX2_inspect_3 : cX2_inspect.data.toList.drop 70 = dktX2_inspect_3 := dk_seg dksX2_inspect_2 24 rfl rfl
theorem dksX2_inspect_4 : cX2_inspect.data.toList.drop 94 = dktX2_inspect_4 := dk_seg dksX2_inspect_3 24 rfl rfl
theorem dksX2_inspect_5 : cX2_inspect.data.toList.drop 117 = dktX2_inspect_5 := dk_seg dksX2_inspect_4 23 rfl rfl
theorem dksX2_inspect_6 : cX2_inspect.data.toList.drop 140 = dktX2_inspect_6 := dk_seg dksX2_inspect_5 23 rfl rfl
theorem dX2_inspect_0 : decode cX2_inspect 0 = .ok (.iconst 0, 1) := dk_3 (dk_at dksX2_inspect_0 0 rfl rfl)
theorem dX2_inspect_1 : decode cX2_inspect 1 = .ok (.istore_n 1, 1) := dk_60 (dk_at dksX2_inspect_0 1 rfl rfl)
theorem dX2_inspect_2 : decode cX2_inspect 2 = .ok (.iload_n 1, 1) := dk_27 (dk_at dksX2_inspect_0 2 rfl rfl)
theorem dX2_inspect_3 : decode cX2_inspect 3 = .ok (.aload_n 0, 1) := dk_42 (dk_at dksX2_inspect_0 3 rfl rfl)
theorem dX2_inspect_4 : decode cX2_inspect 4 = .ok (.invokevirtual 122, 3) := dk_182 0 122 (dk_at dksX2_inspect_0 4 rfl rfl)
theorem dX2_inspect_7 : decode cX2_inspect 7 = .ok (.if_icmp .ge 37, 3) := dk_162 0 37 (dk_at dksX2_inspect_0 7 rfl rfl)
theorem dX2_inspect_10 : decode cX2_inspect 10 = .ok (.aload_n 0, 1) := dk_42 (dk_at dksX2_inspect_0 10 rfl rfl)
theorem dX2_inspect_11 : decode cX2_inspect 11 = .ok (.iload_n 1, 1) := dk_27 (dk_at dksX2_inspect_0 11 rfl rfl)
theorem dX2_inspect_12 : decode cX2_inspect 12 = .ok (.invokevirtual 250, 3) := dk_182 0 250 (dk_at dksX2_inspect_0 12 rfl rfl)
theorem dX2_inspect_15 : decode cX2_inspect 15 = .ok (.ifCond .ne 6, 3) := dk_154 0 6 (dk_at dksX2_inspect_0 15 rfl rfl)
theorem dX2_inspect_18 : decode cX2_inspect 18 = .ok (.goto 20, 3) := dk_167 0 20 (dk_at dksX2_inspect_0 18 rfl rfl)
theorem dX2_inspect_21 : decode cX2_inspect 21 = .ok (.aload_n 0, 1) := dk_42 (dk_at dksX2_inspect_0 21 rfl rfl)
theorem dX2_inspect_22 : decode cX2_inspect 22 = .ok (.getfield 57, 3) := dk_180 0 57 (dk_at dksX2_inspect_1 0 rfl rfl)
theorem dX2_inspect_25 : decode cX2_inspect 25 = .ok (.iload_n 1, 1) := dk_27 (dk_at dksX2_inspect_1 3 rfl rfl)
theorem dX2_inspect_26 : decode cX2_inspect 26 = .ok (.aconst_null, 1) := dk_1 (dk_at dksX2_inspect_1 4 rfl rfl)
theorem dX2_inspect_27 : decode cX2_inspect 27 = .ok (.aastore, 1) := dk_83 (dk_at dksX2_inspect_1 5 rfl rfl)
theorem dX2_inspect_28 : decode cX2_inspect 28 = .ok (.aload_n 0, 1) := dk_42 (dk_at dksX2_inspect_1 6 rfl rfl)
theorem dX2_inspect_29 : decode cX2_inspect 29 = .ok (.dup, 1) := dk_89 (dk_at dksX2_inspect_1 7 rfl rfl)
theorem dX2_inspect_30 : decode cX2_inspect 30 = .ok (.getfield 116, 3) := dk_180 0 116 (dk_at dksX2_inspect_1 8 rfl rfl)
theorem dX2_inspect_33 : decode cX2_inspect 33 = .ok (.iconst 1, 1) := dk_4 (dk_at dksX2_inspect_1 11 rfl rfl)
theorem dX2_inspect_34 : decode cX2_inspect 34 = .ok (.iadd, 1) := dk_96 (dk_at dksX2_inspect_1 12 rfl rfl)
theorem dX2_inspect_35 : decode cX2_inspect 35 = .ok (.putfield 116, 3) := dk_181 0 116 (dk_at dksX2_inspect_1 13 rfl rfl)
theorem dX2_inspect_38 : decode cX2_inspect 38 = .ok (.iinc 1 1, 3) := dk_132 1 1 (dk_at dksX2_inspect_1 16 rfl rfl)
theorem dX2_inspect_41 : decode cX2_inspect 41 = .ok (.goto (-39), 3) := dk_167 255 217 (dk_at dksX2_inspect_1 19 rfl rfl)
theorem dX2_inspect_44 : decode cX2_inspect 44 = .ok (.iconst 0, 1) := dk_3 (dk_at dksX2_inspect_1 22 rfl rfl)
theorem dX2_inspect_45 : decode cX2_inspect 45 = .ok (.istore_n 1, 1) := dk_60 (dk_at dksX2_inspect_1 23 rfl rfl)
theorem dX2_inspect_46 : decode cX2_inspect 46 = .ok (.iload_n 1, 1) := dk_27 (dk_at dksX2_inspect_2 0 rfl rfl)
theorem dX2_inspect_47 : decode cX2_inspect 47 = .ok (.iconst 2, 1) := dk_5 (dk_at dksX2_inspect_2 1 rfl rfl)
theorem dX2_inspect_48 : decode cX2_inspect 48 = .ok (.if_icmp .ge 43, 3) := dk_162 0 43 (dk_at dksX2_inspect_2 2 rfl rfl)
theorem dX2_inspect_51 : decode cX2_inspect 51 = .ok (.aload_n 0, 1) := dk_42 (dk_at dksX2_inspect_2 5 rfl rfl)
theorem dX2_inspect_52 : decode cX2_inspect 52 = .ok (.getfield 37, 3) := dk_180 0 37 (dk_at dksX2_inspect_2 6 rfl rfl)
theorem dX2_inspect_55 : decode cX2_inspect 55 = .ok (.iload_n 1, 1) := dk_27 (dk_at dksX2_inspect_2 9 rfl rfl)
theorem dX2_inspect_56 : decode cX2_inspect 56 = .ok (.aaload, 1) := dk_50 (dk_at dksX2_inspect_2 10 rfl rfl)
theorem dX2_inspect_57 : decode cX2_inspect 57 = .ok (.astore_n 2, 1) := dk_77 (dk_at dksX2_inspect_2 11 rfl rfl)
theorem dX2_inspect_58 : decode cX2_inspect 58 = .ok (.aload_n 2, 1) := dk_44 (dk_at dksX2_inspect_2 12 rfl rfl)
theorem dX2_inspect_59 : decode cX2_inspect 59 = .ok (.ifnull 26, 3) := dk_198 0 26 (dk_at dksX2_inspect_2 13 rfl rfl)
theorem dX2_inspect_62 : decode cX2_inspect 62 = .ok (.aload_n 0, 1) := dk_42 (dk_at dksX2_inspect_2 16 rfl rfl)
theorem dX2_inspect_63 : decode cX2_inspect 63 = .ok (.aload_n 2, 1) := dk_44 (dk_at dksX2_inspect_2 17 rfl rfl)
theorem dX2_inspect_64 : decode cX2_inspect 64 = .ok (.invokevirtual 253, 3) := dk_182 0 253 (dk_at dksX2_inspect_2 18 rfl rfl)
theorem dX2_inspect_67 : decode cX2_inspect 67 = .ok (.ifCond .ne 6, 3) := dk_154 0 6 (dk_at dksX2_inspect_2 21 rfl rfl)
theorem dX2_inspect_70 : decode cX2_inspect 70 = .ok (.goto 15, 3) := dk_167 0 15 (dk_at dksX2_inspect_3 0 rfl rfl)
theorem dX2_inspect_73 : decode cX2_inspect 73 = .ok (.aload_n 0, 1) := dk_42 (dk_at dksX2_inspect_3 3 rfl rfl)
theorem dX2_inspect_74 : decode cX2_inspect 74 = .ok (.getfield 37, 3) := dk_180 0 37 (dk_at dksX2_inspect_3 4 rfl rfl)
theorem dX2_inspect_77 : decode cX2_inspect 77 = .ok (.iload_n 1, 1) := dk_27 (dk_at dksX2_inspect_3 7 rfl rfl)
theorem dX2_inspect_78 : decode cX2_inspect 78 = .ok (.aconst_null, 1) := dk_1 (dk_at dksX2_inspect_3 8 rfl rfl)
theorem dX2_inspect_79 : decode cX2_inspect 79 = .ok (.aastore, 1) := dk_83 (dk_at dksX2_inspect_3 9 rfl rfl)
theorem dX2_inspect_80 : decode cX2_inspect 80 = .ok (.aload_n 0, 1) := dk_42 (dk_at dksX2_inspect_3 10 rfl rfl)
theorem dX2_inspect_81 : decode cX2_inspect 81 = .ok (.aload_n 2, 1) := dk_44 (dk_at dksX2_inspect_3 11 rfl rfl)
theorem dX2_inspect_82 : decode cX2_inspect 82 = .ok (.invokevirtual 257, 3) := dk_182 1 1 (dk_at dksX2_inspect_3 12 rfl rfl)
theorem dX2_inspect_85 : decode cX2_inspect 85 = .ok (.iinc 1 1, 3) := dk_132 1 1 (dk_at dksX2_inspect_3 15 rfl rfl)
theorem dX2_inspect_88 : decode cX2_inspect 88 = .ok (.goto (-42), 3) := dk_167 255 214 (dk_at dksX2_inspect_3 18 rfl rfl)
theorem dX2_inspect_91 : decode cX2_inspect 91 = .ok (.iconst 0, 1) := dk_3 (dk_at dksX2_inspect_3 21 rfl rfl)
theorem dX2_inspect_92 : decode cX2_inspect 92 = .ok (.istore_n 1, 1) := dk_60 (dk_at dksX2_inspect_3 22 rfl rfl)
theorem dX2_inspect_93 : decode cX2_inspect 93 = .ok (.iload_n 1, 1) := dk_27 (dk_at dksX2_inspect_3 23 rfl rfl)
theorem dX2_inspect_94 : decode cX2_inspect 94 = .ok (.aload_n 0, 1) := dk_42 (dk_at dksX2_inspect_4 0 rfl rfl)
theorem dX2_inspect_95 : decode cX2_inspect 95 = .ok (.getfield 42, 3) := dk_180 0 42 (dk_at dksX2_inspect_4 1 rfl rfl)
theorem dX2_inspect_98 : decode cX2_inspect 98 = .ok (.invokeinterface 148 1, 5) := by decide +kernel
theorem dX2_inspect_103 : decode cX2_inspect 103 = .ok (.if_icmp .ge 49, 3) := dk_162 0 49 (dk_at dksX2_inspect_4 9 rfl rfl)
theorem dX2_inspect_106 : decode cX2_inspect 106 = .ok (.aload_n 0, 1) := dk_42 (dk_at dksX2_inspect_4 12 rfl rfl)
theorem dX2_inspect_107 : decode cX2_inspect 107 = .ok (.aload_n 0, 1) := dk_42 (dk_at dksX2_inspect_4 13 rfl rfl)
theorem dX2_inspect_108 : decode cX2_inspect 108 = .ok (.getfield 42, 3) := dk_180 0 42 (dk_at dksX2_inspect_4 14 rfl rfl)
theorem dX2_inspect_111 : decode cX2_inspect 111 = .ok (.iload_n 1, 1) := dk_27 (dk_at dksX2_inspect_4 17 rfl rfl)
theorem dX2_inspect_112 : decode cX2_inspect 112 = .ok (.invokeinterface 84 2, 5) := by decide +kernel
theorem dX2_inspect_117 : decode cX2_inspect 117 = .ok (.checkcast 35, 3) := dk_192 0 35 (dk_at dksX2_inspect_5 0 rfl rfl)
theorem dX2_inspect_120 : decode cX2_inspect 120 = .ok (.invokevirtual 253, 3) := dk_182 0 253 (dk_at dksX2_inspect_5 3 rfl rfl)
theorem dX2_inspect_123 : decode cX2_inspect 123 = .ok (.ifCond .eq 23, 3) := dk_153 0 23 (dk_at dksX2_inspect_5 6 rfl rfl)
theorem dX2_inspect_126 : decode cX2_inspect 126 = .ok (.aload_n 0, 1) := dk_42 (dk_at dksX2_inspect_5 9 rfl rfl)
theorem dX2_inspect_127 : decode cX2_inspect 127 = .ok (.aload_n 0, 1) := dk_42 (dk_at dksX2_inspect_5 10 rfl rfl)
theorem dX2_inspect_128 : decode cX2_inspect 128 = .ok (.getfield 42, 3) := dk_180 0 42 (dk_at dksX2_inspect_5 11 rfl rfl)
theorem dX2_inspect_131 : decode cX2_inspect 131 = .ok (.iload_n 1, 1) := dk_27 (dk_at dksX2_inspect_5 14 rfl rfl)
theorem dX2_inspect_132 : decode cX2_inspect 132 = .ok (.invokeinterface 183 2, 5) := by decide +kernel
theorem dX2_inspect_137 : decode cX2_inspect 137 = .ok (.checkcast 35, 3) := dk_192 0 35 (dk_at dksX2_inspect_5 20 rfl rfl)
theorem dX2_inspect_140 : decode cX2_inspect 140 = .ok (.invokevirtual 257, 3) := dk_182 1 1 (dk_at dksX2_inspect_6 0 rfl rfl)
theorem dX2_inspect_143 : decode cX2_inspect 143 = .ok (.goto (-50), 3) := dk_167 255 206 (dk_at dksX2_inspect_6 3 rfl rfl)
theorem dX2_inspect_146 : decode cX2_inspect 146 = .ok (.iinc 1 1, 3) := dk_132 1 1 (dk_at dksX2_inspect_6 6 rfl rfl)
theorem dX2_inspect_149 : decode cX2_inspect 149 = .ok (.goto (-56), 3) := dk_167 255 200 (dk_at dksX2_inspect_6 9 rfl rfl)
theorem dX2_inspect_152 : decode cX2_inspect 152 = .ok (.return_, 1) := dk_177 (dk_at dksX2_inspect_6 12 rfl rfl)
abbrev cX2_lostTwig : ByteArray := prog_9_method_27_code
def yX2_lostTwig : MethodName := ⟨RX2, "lostTwig", "(LHedgeMessages$Message;)Z"⟩
def dkwX2_lostTwig_1 : List UInt8 := [4, 172, 132, 2, 1, 167, 255, 229, 3, 172]
abbrev dktX2_lostTwig_1 : List UInt8 := dkwX2_lostTwig_1 ++ []
def dkwX2_lostTwig_0 : List UInt8 := [3, 61, 28, 43, 180, 0, 170, 162, 0, 25, 42, 180, 0, 57, 43, 180, 0, 173, 28, 96, 50, 199, 0, 5]
abbrev dktX2_lostTwig_0 : List UInt8 := dkwX2_lostTwig_0 ++ dktX2_lostTwig_1
theorem dksX2_lostTwig_0 : cX2_lostTwig.data.toList.drop 0 = dktX2_lostTwig_0 := by decide +kernel
theorem dksX2_lostTwig_1 : cX2_lostTwig.data.toList.drop 24 = dktX2_lostTwig_1 := dk_seg dksX2_lostTwig_0 24 rfl rfl
theorem dX2_lostTwig_0 : decode cX2_lostTwig 0 = .ok (.iconst 0, 1) := dk_3 (dk_at dksX2_lostTwig_0 0 rfl rfl)
theorem dX2_lostTwig_1 : decode cX2_lostTwig 1 = .ok (.istore_n 2, 1) := dk_61 (dk_at dksX2_lostTwig_0 1 rfl rfl)
theorem dX2_lostTwig_2 : decode cX2_lostTwig 2 = .ok (.iload_n 2, 1) := dk_28 (dk_at dksX2_lostTwig_0 2 rfl rfl)
theorem dX2_lostTwig_3 : decode cX2_lostTwig 3 = .ok (.aload_n 1, 1) := dk_43 (dk_at dksX2_lostTwig_0 3 rfl rfl)
theorem dX2_lostTwig_4 : decode cX2_lostTwig 4 = .ok (.getfield 170, 3) := dk_180 0 170 (dk_at dksX2_lostTwig_0 4 rfl rfl)
theorem dX2_lostTwig_7 : decode cX2_lostTwig 7 = .ok (.if_icmp .ge 25, 3) := dk_162 0 25 (dk_at dksX2_lostTwig_0 7 rfl rfl)
theorem dX2_lostTwig_10 : decode cX2_lostTwig 10 = .ok (.aload_n 0, 1) := dk_42 (dk_at dksX2_lostTwig_0 10 rfl rfl)
theorem dX2_lostTwig_11 : decode cX2_lostTwig 11 = .ok (.getfield 57, 3) := dk_180 0 57 (dk_at dksX2_lostTwig_0 11 rfl rfl)
theorem dX2_lostTwig_14 : decode cX2_lostTwig 14 = .ok (.aload_n 1, 1) := dk_43 (dk_at dksX2_lostTwig_0 14 rfl rfl)
theorem dX2_lostTwig_15 : decode cX2_lostTwig 15 = .ok (.getfield 173, 3) := dk_180 0 173 (dk_at dksX2_lostTwig_0 15 rfl rfl)
theorem dX2_lostTwig_18 : decode cX2_lostTwig 18 = .ok (.iload_n 2, 1) := dk_28 (dk_at dksX2_lostTwig_0 18 rfl rfl)
theorem dX2_lostTwig_19 : decode cX2_lostTwig 19 = .ok (.iadd, 1) := dk_96 (dk_at dksX2_lostTwig_0 19 rfl rfl)
theorem dX2_lostTwig_20 : decode cX2_lostTwig 20 = .ok (.aaload, 1) := dk_50 (dk_at dksX2_lostTwig_0 20 rfl rfl)
theorem dX2_lostTwig_21 : decode cX2_lostTwig 21 = .ok (.ifnonnull 5, 3) := dk_199 0 5 (dk_at dksX2_lostTwig_0 21 rfl rfl)
theorem dX2_lostTwig_24 : decode cX2_lostTwig 24 = .ok (.iconst 1, 1) := dk_4 (dk_at dksX2_lostTwig_1 0 rfl rfl)
theorem dX2_lostTwig_25 : decode cX2_lostTwig 25 = .ok (.ireturn, 1) := dk_172 (dk_at dksX2_lostTwig_1 1 rfl rfl)
theorem dX2_lostTwig_26 : decode cX2_lostTwig 26 = .ok (.iinc 2 1, 3) := dk_132 2 1 (dk_at dksX2_lostTwig_1 2 rfl rfl)
theorem dX2_lostTwig_29 : decode cX2_lostTwig 29 = .ok (.goto (-27), 3) := dk_167 255 229 (dk_at dksX2_lostTwig_1 5 rfl rfl)
theorem dX2_lostTwig_32 : decode cX2_lostTwig 32 = .ok (.iconst 0, 1) := dk_3 (dk_at dksX2_lostTwig_1 8 rfl rfl)
theorem dX2_lostTwig_33 : decode cX2_lostTwig 33 = .ok (.ireturn, 1) := dk_172 (dk_at dksX2_lostTwig_1 9 rfl rfl)
abbrev cX2_fail : ByteArray := prog_9_method_28_code
def yX2_fail : MethodName := ⟨RX2, "fail", "(LHedgeMessages$Message;)V"⟩
def dkwX2_fail_2 : List UInt8 := [180, 0, 31, 43, 180, 0, 167, 185, 0, 84, 2, 0, 192, 0, 70, 43, 185, 0, 69, 2, 0, 87, 177]
abbrev dktX2_fail_2 : List UInt8 := dkwX2_fail_2 ++ []
def dkwX2_fail_1 : List UInt8 := [180, 0, 167, 42, 180, 0, 65, 43, 180, 0, 167, 50, 28, 182, 0, 246, 83, 28, 154, 0, 26, 42]
abbrev dktX2_fail_1 : List UInt8 := dkwX2_fail_1 ++ dktX2_fail_2
def dkwX2_fail_0 : List UInt8 := [42, 43, 182, 0, 185, 43, 182, 0, 240, 42, 43, 180, 0, 167, 182, 0, 243, 61, 42, 180, 0, 65, 43]
abbrev dktX2_fail_0 : List UInt8 := dkwX2_fail_0 ++ dktX2_fail_1
theorem dksX2_fail_0 : cX2_fail.data.toList.drop 0 = dktX2_fail_0 := by decide +kernel
theorem dksX2_fail_1 : cX2_fail.data.toList.drop 23 = dktX2_fail_1 := dk_seg dksX2_fail_0 23 rfl rfl
theorem dksX2_fail_2 : cX2_fail.data.toList.drop 45 = dktX2_fail_2 := dk_seg dksX2_fail_1 22 rfl rfl
theorem dX2_fail_0 : decode cX2_fail 0 = .ok (.aload_n 0, 1) := dk_42 (dk_at dksX2_fail_0 0 rfl rfl)
theorem dX2_fail_1 : decode cX2_fail 1 = .ok (.aload_n 1, 1) := dk_43 (dk_at dksX2_fail_0 1 rfl rfl)
theorem dX2_fail_2 : decode cX2_fail 2 = .ok (.invokevirtual 185, 3) := dk_182 0 185 (dk_at dksX2_fail_0 2 rfl rfl)
theorem dX2_fail_5 : decode cX2_fail 5 = .ok (.aload_n 1, 1) := dk_43 (dk_at dksX2_fail_0 5 rfl rfl)
theorem dX2_fail_6 : decode cX2_fail 6 = .ok (.invokevirtual 240, 3) := dk_182 0 240 (dk_at dksX2_fail_0 6 rfl rfl)
theorem dX2_fail_9 : decode cX2_fail 9 = .ok (.aload_n 0, 1) := dk_42 (dk_at dksX2_fail_0 9 rfl rfl)
theorem dX2_fail_10 : decode cX2_fail 10 = .ok (.aload_n 1, 1) := dk_43 (dk_at dksX2_fail_0 10 rfl rfl)
theorem dX2_fail_11 : decode cX2_fail 11 = .ok (.getfield 167, 3) := dk_180 0 167 (dk_at dksX2_fail_0 11 rfl rfl)
theorem dX2_fail_14 : decode cX2_fail 14 = .ok (.invokevirtual 243, 3) := dk_182 0 243 (dk_at dksX2_fail_0 14 rfl rfl)
theorem dX2_fail_17 : decode cX2_fail 17 = .ok (.istore_n 2, 1) := dk_61 (dk_at dksX2_fail_0 17 rfl rfl)
theorem dX2_fail_18 : decode cX2_fail 18 = .ok (.aload_n 0, 1) := dk_42 (dk_at dksX2_fail_0 18 rfl rfl)
theorem dX2_fail_19 : decode cX2_fail 19 = .ok (.getfield 65, 3) := dk_180 0 65 (dk_at dksX2_fail_0 19 rfl rfl)
theorem dX2_fail_22 : decode cX2_fail 22 = .ok (.aload_n 1, 1) := dk_43 (dk_at dksX2_fail_0 22 rfl rfl)
theorem dX2_fail_23 : decode cX2_fail 23 = .ok (.getfield 167, 3) := dk_180 0 167 (dk_at dksX2_fail_1 0 rfl rfl)
theorem dX2_fail_26 : decode cX2_fail 26 = .ok (.aload_n 0, 1) := dk_42 (dk_at dksX2_fail_1 3 rfl rfl)
theorem dX2_fail_27 : decode cX2_fail 27 = .ok (.getfield 65, 3) := dk_180 0 65 (dk_at dksX2_fail_1 4 rfl rfl)
theorem dX2_fail_30 : decode cX2_fail 30 = .ok (.aload_n 1, 1) := dk_43 (dk_at dksX2_fail_1 7 rfl rfl)
theorem dX2_fail_31 : decode cX2_fail 31 = .ok (.getfield 167, 3) := dk_180 0 167 (dk_at dksX2_fail_1 8 rfl rfl)
theorem dX2_fail_34 : decode cX2_fail 34 = .ok (.aaload, 1) := dk_50 (dk_at dksX2_fail_1 11 rfl rfl)
theorem dX2_fail_35 : decode cX2_fail 35 = .ok (.iload_n 2, 1) := dk_28 (dk_at dksX2_fail_1 12 rfl rfl)
theorem dX2_fail_36 : decode cX2_fail 36 = .ok (.invokevirtual 246, 3) := dk_182 0 246 (dk_at dksX2_fail_1 13 rfl rfl)
theorem dX2_fail_39 : decode cX2_fail 39 = .ok (.aastore, 1) := dk_83 (dk_at dksX2_fail_1 16 rfl rfl)
theorem dX2_fail_40 : decode cX2_fail 40 = .ok (.iload_n 2, 1) := dk_28 (dk_at dksX2_fail_1 17 rfl rfl)
theorem dX2_fail_41 : decode cX2_fail 41 = .ok (.ifCond .ne 26, 3) := dk_154 0 26 (dk_at dksX2_fail_1 18 rfl rfl)
theorem dX2_fail_44 : decode cX2_fail 44 = .ok (.aload_n 0, 1) := dk_42 (dk_at dksX2_fail_1 21 rfl rfl)
theorem dX2_fail_45 : decode cX2_fail 45 = .ok (.getfield 31, 3) := dk_180 0 31 (dk_at dksX2_fail_2 0 rfl rfl)
theorem dX2_fail_48 : decode cX2_fail 48 = .ok (.aload_n 1, 1) := dk_43 (dk_at dksX2_fail_2 3 rfl rfl)
theorem dX2_fail_49 : decode cX2_fail 49 = .ok (.getfield 167, 3) := dk_180 0 167 (dk_at dksX2_fail_2 4 rfl rfl)
theorem dX2_fail_52 : decode cX2_fail 52 = .ok (.invokeinterface 84 2, 5) := by decide +kernel
theorem dX2_fail_57 : decode cX2_fail 57 = .ok (.checkcast 70, 3) := dk_192 0 70 (dk_at dksX2_fail_2 12 rfl rfl)
theorem dX2_fail_60 : decode cX2_fail 60 = .ok (.aload_n 1, 1) := dk_43 (dk_at dksX2_fail_2 15 rfl rfl)
theorem dX2_fail_61 : decode cX2_fail 61 = .ok (.invokeinterface 69 2, 5) := by decide +kernel
theorem dX2_fail_66 : decode cX2_fail 66 = .ok (.pop, 1) := dk_87 (dk_at dksX2_fail_2 21 rfl rfl)
theorem dX2_fail_67 : decode cX2_fail 67 = .ok (.return_, 1) := dk_177 (dk_at dksX2_fail_2 22 rfl rfl)
theorem q146 : (Jvm.Cond.initialized "HedgeMessages$State") ∈ lw_all := lw_g (lw_at lw_m1 2 rfl) rfl
theorem q199 : (Jvm.Cond.instantiable "HedgeMessages$State" (16 : Nat)) ∈ lw_all := lw_g (lw_at lw_m1 55 rfl) rfl
theorem q201 : (Jvm.Cond.instanceMethod ({ cls := "HedgeMessages$State", name := "<init>", desc := "(IIIIII)V" } : Jvm.MethodName)) ∈ lw_all := lw_g (lw_at lw_m1 57 rfl) rfl
theorem q202 : (Jvm.Cond.code ({ cls := "HedgeMessages$State", name := "<init>", desc := "(IIIIII)V" } : Jvm.MethodName) prog_9_method_1_code (7 : Nat) (Option.none : Option Jvm.ClassFile.FieldType)) ∈ lw_all := lw_g (lw_at lw_m1 58 rfl) rfl
theorem q203 : (Jvm.Cond.classLink "HedgeMessages$State" (3 : Nat) "HedgeMessages$Twig") ∈ lw_all := lw_g (lw_at lw_m1 59 rfl) rfl
theorem q205 : (Jvm.Cond.classLink "HedgeMessages$State" (5 : Nat) "HedgeMessages$Counters") ∈ lw_all := lw_g (lw_at lw_m1 61 rfl) rfl
theorem q208 : (Jvm.Cond.methodLink "HedgeMessages$State" (7 : Nat) ({ cls := "HedgeMessages$Counters", name := "<init>", desc := "()V" } : Jvm.MethodName)) ∈ lw_all := lw_g (lw_at lw_m1 64 rfl) rfl
theorem q232 : (Jvm.Cond.methodLink "HedgeMessages$State" (11 : Nat) ({ cls := "HedgeMessages$State", name := "<init>", desc := "(IIII[LHedgeMessages$Twig;[I[LHedgeMessages$Counters;)V" } : Jvm.MethodName)) ∈ lw_all := lw_g (lw_at lw_m1 88 rfl) rfl
theorem q233 : (Jvm.Cond.instanceMethod ({ cls := "HedgeMessages$State", name := "<init>", desc := "(IIII[LHedgeMessages$Twig;[I[LHedgeMessages$Counters;)V" } : Jvm.MethodName)) ∈ lw_all := lw_g (lw_at lw_m1 89 rfl) rfl
theorem q234 : (Jvm.Cond.code ({ cls := "HedgeMessages$State", name := "<init>", desc := "(IIII[LHedgeMessages$Twig;[I[LHedgeMessages$Counters;)V" } : Jvm.MethodName) prog_9_method_2_code (9 : Nat) (Option.none : Option Jvm.ClassFile.FieldType)) ∈ lw_all := lw_g (lw_at lw_m1 90 rfl) rfl
theorem q235 : (Jvm.Cond.methodLink "HedgeMessages$State" (23 : Nat) ({ cls := "java/lang/Object", name := "<init>", desc := "()V" } : Jvm.MethodName)) ∈ lw_all := lw_g (lw_at lw_m1 91 rfl) rfl
theorem q236 : (Jvm.Cond.classLink "HedgeMessages$State" (26 : Nat) "java/util/ArrayList") ∈ lw_all := lw_g (lw_at lw_m1 92 rfl) rfl
theorem q238 : (Jvm.Cond.methodLink "HedgeMessages$State" (28 : Nat) ({ cls := "java/util/ArrayList", name := "<init>", desc := "(I)V" } : Jvm.MethodName)) ∈ lw_all := lw_g (lw_at lw_m1 94 rfl) rfl
theorem q585 : (Jvm.Cond.classLink "HedgeMessages$State" (35 : Nat) "HedgeMessages$Message") ∈ lw_all := lw_g (lw_at lw_m2 201 rfl) rfl
theorem q587 : (Jvm.Cond.methodLink "HedgeMessages$State" (41 : Nat) ({ cls := "java/util/ArrayList", name := "<init>", desc := "()V" } : Jvm.MethodName)) ∈ lw_all := lw_g (lw_at lw_m2 203 rfl) rfl
theorem q592 : (Jvm.Cond.interfaceEntry "HedgeMessages$State" (69 : Nat)) ∈ lw_tbl := lw_at lw_m2 208 rfl
theorem q593 : (Jvm.Cond.methodLink "HedgeMessages$State" (69 : Nat) ({ cls := "java/util/List", name := "add", desc := "(Ljava/lang/Object;)Z" } : Jvm.MethodName)) ∈ lw_all := lw_g (lw_at lw_m2 209 rfl) rfl
theorem q628 : (Jvm.Cond.selects "HedgeMessages$State" ({ cls := "java/lang/Object", name := "getClass", desc := "()Ljava/lang/Class;" } : Jvm.MethodName) ({ cls := "java/lang/Object", name := "getClass", desc := "()Ljava/lang/Class;" } : Jvm.MethodName)) ∈ lw_all := lw_g (lw_at lw_m3 4 rfl) rfl
theorem q653 : (Jvm.Cond.fieldLink "HedgeMessages$State" (45 : Nat) "HedgeMessages$State" "growth" "I") ∈ lw_all := lw_g (lw_at lw_m3 29 rfl) rfl
theorem q654 : (Jvm.Cond.fieldLink "HedgeMessages$State" (48 : Nat) "HedgeMessages$State" "legalLength" "I") ∈ lw_all := lw_g (lw_at lw_m3 30 rfl) rfl
theorem q656 : (Jvm.Cond.fieldLink "HedgeMessages$State" (51 : Nat) "HedgeMessages$State" "interval" "I") ∈ lw_all := lw_g (lw_at lw_m3 32 rfl) rfl
theorem q658 : (Jvm.Cond.fieldLink "HedgeMessages$State" (54 : Nat) "HedgeMessages$State" "yardSize" "I") ∈ lw_all := lw_g (lw_at lw_m3 34 rfl) rfl
theorem q661 : (Jvm.Cond.fieldLink "HedgeMessages$State" (57 : Nat) "HedgeMessages$State" "twigs" "[LHedgeMessages$Twig;") ∈ lw_all := lw_g (lw_at lw_m3 37 rfl) rfl
theorem q664 : (Jvm.Cond.fieldLink "HedgeMessages$State" (61 : Nat) "HedgeMessages$State" "nests" "[I") ∈ lw_all := lw_g (lw_at lw_m3 40 rfl) rfl
theorem q667 : (Jvm.Cond.fieldLink "HedgeMessages$State" (31 : Nat) "HedgeMessages$State" "queues" "Ljava/util/List;") ∈ lw_all := lw_g (lw_at lw_m3 43 rfl) rfl
theorem q669 : (Jvm.Cond.fieldLink "HedgeMessages$State" (37 : Nat) "HedgeMessages$State" "inProgress" "[LHedgeMessages$Message;") ∈ lw_all := lw_g (lw_at lw_m3 45 rfl) rfl
theorem q671 : (Jvm.Cond.fieldLink "HedgeMessages$State" (65 : Nat) "HedgeMessages$State" "counters" "[LHedgeMessages$Counters;") ∈ lw_all := lw_g (lw_at lw_m3 47 rfl) rfl
theorem q673 : (Jvm.Cond.fieldLink "HedgeMessages$State" (42 : Nat) "HedgeMessages$State" "posted" "Ljava/util/List;") ∈ lw_all := lw_g (lw_at lw_m3 49 rfl) rfl
theorem q675 : (Jvm.Cond.fieldLink "HedgeMessages$State" (16 : Nat) "HedgeMessages$State" "workLimit" "I") ∈ lw_all := lw_g (lw_at lw_m3 51 rfl) rfl
theorem q677 : (Jvm.Cond.fieldLink "HedgeMessages$State" (20 : Nat) "HedgeMessages$State" "actionsLeft" "I") ∈ lw_all := lw_g (lw_at lw_m3 53 rfl) rfl
theorem q679 : (Jvm.Cond.fieldLink "HedgeMessages$State" (110 : Nat) "HedgeMessages$State" "day" "I") ∈ lw_all := lw_g (lw_at lw_m3 55 rfl) rfl
theorem q681 : (Jvm.Cond.fieldLink "HedgeMessages$State" (113 : Nat) "HedgeMessages$State" "planted" "I") ∈ lw_all := lw_g (lw_at lw_m3 57 rfl) rfl
theorem q683 : (Jvm.Cond.fieldLink "HedgeMessages$State" (116 : Nat) "HedgeMessages$State" "pruned" "I") ∈ lw_all := lw_g (lw_at lw_m3 59 rfl) rfl
theorem q685 : (Jvm.Cond.fieldLink "HedgeMessages$State" (119 : Nat) "HedgeMessages$State" "removed" "I") ∈ lw_all := lw_g (lw_at lw_m3 61 rfl) rfl
theorem q687 : (Jvm.Cond.laysFinal "HedgeMessages$State" "HedgeMessages$State" "growth" "I") ∈ lw_all := lw_g (lw_at lw_m3 63 rfl) rfl
theorem q688 : (Jvm.Cond.soleField "HedgeMessages$State" "growth") ∈ lw_all := lw_g (lw_at lw_m3 64 rfl) rfl
theorem q689 : (Jvm.Cond.laysFinal "HedgeMessages$State" "HedgeMessages$State" "legalLength" "I") ∈ lw_all := lw_g (lw_at lw_m3 65 rfl) rfl
theorem q690 : (Jvm.Cond.soleField "HedgeMessages$State" "legalLength") ∈ lw_all := lw_g (lw_at lw_m3 66 rfl) rfl
theorem q691 : (Jvm.Cond.laysFinal "HedgeMessages$State" "HedgeMessages$State" "interval" "I") ∈ lw_all := lw_g (lw_at lw_m3 67 rfl) rfl
theorem q692 : (Jvm.Cond.soleField "HedgeMessages$State" "interval") ∈ lw_all := lw_g (lw_at lw_m3 68 rfl) rfl
theorem q693 : (Jvm.Cond.laysFinal "HedgeMessages$State" "HedgeMessages$State" "yardSize" "I") ∈ lw_all := lw_g (lw_at lw_m3 69 rfl) rfl
theorem q694 : (Jvm.Cond.soleField "HedgeMessages$State" "yardSize") ∈ lw_all := lw_g (lw_at lw_m3 70 rfl) rfl
theorem q695 : (Jvm.Cond.laysFinal "HedgeMessages$State" "HedgeMessages$State" "twigs" "[LHedgeMessages$Twig;") ∈ lw_all := lw_g (lw_at lw_m3 71 rfl) rfl
theorem q696 : (Jvm.Cond.soleField "HedgeMessages$State" "twigs") ∈ lw_all := lw_g (lw_at lw_m3 72 rfl) rfl
theorem q697 : (Jvm.Cond.laysFinal "HedgeMessages$State" "HedgeMessages$State" "nests" "[I") ∈ lw_all := lw_g (lw_at lw_m3 73 rfl) rfl
theorem q698 : (Jvm.Cond.soleField "HedgeMessages$State" "nests") ∈ lw_all := lw_g (lw_at lw_m3 74 rfl) rfl
theorem q699 : (Jvm.Cond.laysFinal "HedgeMessages$State" "HedgeMessages$State" "queues" "Ljava/util/List;") ∈ lw_all := lw_g (lw_at lw_m3 75 rfl) rfl
theorem q700 : (Jvm.Cond.soleField "HedgeMessages$State" "queues") ∈ lw_all := lw_g (lw_at lw_m3 76 rfl) rfl
theorem q701 : (Jvm.Cond.laysFinal "HedgeMessages$State" "HedgeMessages$State" "inProgress" "[LHedgeMessages$Message;") ∈ lw_all := lw_g (lw_at lw_m3 77 rfl) rfl
theorem q702 : (Jvm.Cond.soleField "HedgeMessages$State" "inProgress") ∈ lw_all := lw_g (lw_at lw_m3 78 rfl) rfl
theorem q703 : (Jvm.Cond.laysFinal "HedgeMessages$State" "HedgeMessages$State" "counters" "[LHedgeMessages$Counters;") ∈ lw_all := lw_g (lw_at lw_m3 79 rfl) rfl
theorem q704 : (Jvm.Cond.soleField "HedgeMessages$State" "counters") ∈ lw_all := lw_g (lw_at lw_m3 80 rfl) rfl
theorem q705 : (Jvm.Cond.laysFinal "HedgeMessages$State" "HedgeMessages$State" "posted" "Ljava/util/List;") ∈ lw_all := lw_g (lw_at lw_m3 81 rfl) rfl
theorem q706 : (Jvm.Cond.soleField "HedgeMessages$State" "posted") ∈ lw_all := lw_g (lw_at lw_m3 82 rfl) rfl
theorem q707 : (Jvm.Cond.lays "HedgeMessages$State" "HedgeMessages$State" "workLimit" "I") ∈ lw_all := lw_g (lw_at lw_m3 83 rfl) rfl
theorem q708 : (Jvm.Cond.soleField "HedgeMessages$State" "workLimit") ∈ lw_all := lw_g (lw_at lw_m3 84 rfl) rfl
theorem q709 : (Jvm.Cond.lays "HedgeMessages$State" "HedgeMessages$State" "actionsLeft" "I") ∈ lw_all := lw_g (lw_at lw_m3 85 rfl) rfl
theorem q710 : (Jvm.Cond.soleField "HedgeMessages$State" "actionsLeft") ∈ lw_all := lw_g (lw_at lw_m3 86 rfl) rfl
theorem q711 : (Jvm.Cond.lays "HedgeMessages$State" "HedgeMessages$State" "day" "I") ∈ lw_all := lw_g (lw_at lw_m3 87 rfl) rfl
theorem q712 : (Jvm.Cond.soleField "HedgeMessages$State" "day") ∈ lw_all := lw_g (lw_at lw_m3 88 rfl) rfl
theorem q713 : (Jvm.Cond.lays "HedgeMessages$State" "HedgeMessages$State" "planted" "I") ∈ lw_all := lw_g (lw_at lw_m3 89 rfl) rfl
theorem q714 : (Jvm.Cond.soleField "HedgeMessages$State" "planted") ∈ lw_all := lw_g (lw_at lw_m3 90 rfl) rfl
theorem q715 : (Jvm.Cond.lays "HedgeMessages$State" "HedgeMessages$State" "pruned" "I") ∈ lw_all := lw_g (lw_at lw_m3 91 rfl) rfl
theorem q716 : (Jvm.Cond.soleField "HedgeMessages$State" "pruned") ∈ lw_all := lw_g (lw_at lw_m3 92 rfl) rfl
theorem q717 : (Jvm.Cond.lays "HedgeMessages$State" "HedgeMessages$State" "removed" "I") ∈ lw_all := lw_g (lw_at lw_m3 93 rfl) rfl
theorem q718 : (Jvm.Cond.soleField "HedgeMessages$State" "removed") ∈ lw_all := lw_g (lw_at lw_m3 94 rfl) rfl
theorem q719 : (Jvm.Cond.superclass "HedgeMessages$State" "java/lang/Object") ∈ lw_all := lw_g (lw_at lw_m3 95 rfl) rfl
theorem q736 : (Jvm.Cond.fieldLinkNest "HedgeMessages$State" (235 : Nat) "HedgeMessages$Twig" "length" "I" "HedgeMessages") ∈ lw_tbl := lw_at lw_m3 112 rfl
theorem q748 : (Jvm.Cond.instanceMethod ({ cls := "HedgeMessages$State", name := "plant", desc := "(ILHedgeMessages$Twig;)V" } : Jvm.MethodName)) ∈ lw_all := lw_g (lw_at lw_m3 124 rfl) rfl
theorem q749 : (Jvm.Cond.selects "HedgeMessages$State" ({ cls := "HedgeMessages$State", name := "plant", desc := "(ILHedgeMessages$Twig;)V" } : Jvm.MethodName) ({ cls := "HedgeMessages$State", name := "plant", desc := "(ILHedgeMessages$Twig;)V" } : Jvm.MethodName)) ∈ lw_all := lw_g (lw_at lw_m3 125 rfl) rfl
theorem q750 : (Jvm.Cond.code ({ cls := "HedgeMessages$State", name := "plant", desc := "(ILHedgeMessages$Twig;)V" } : Jvm.MethodName) prog_9_method_17_code (3 : Nat) (Option.none : Option Jvm.ClassFile.FieldType)) ∈ lw_all := lw_g (lw_at lw_m3 126 rfl) rfl
theorem q759 : (Jvm.Cond.fieldLinkNest "HedgeMessages$State" (167 : Nat) "HedgeMessages$Message" "sender" "I" "HedgeMessages") ∈ lw_tbl := lw_at lw_m3 135 rfl
theorem q762 : (Jvm.Cond.fieldLinkNest "HedgeMessages$State" (203 : Nat) "HedgeMessages$Message" "word" "Ljava/lang/String;" "HedgeMessages") ∈ lw_tbl := lw_at lw_m3 138 rfl
theorem q765 : (Jvm.Cond.fieldLinkNest "HedgeMessages$State" (173 : Nat) "HedgeMessages$Message" "start" "I" "HedgeMessages") ∈ lw_tbl := lw_at lw_m3 141 rfl
theorem q768 : (Jvm.Cond.fieldLinkNest "HedgeMessages$State" (170 : Nat) "HedgeMessages$Message" "written" "I" "HedgeMessages") ∈ lw_tbl := lw_at lw_m3 144 rfl
theorem q780 : (Jvm.Cond.instanceMethod ({ cls := "HedgeMessages$State", name := "queue", desc := "(LHedgeMessages$Message;)V" } : Jvm.MethodName)) ∈ lw_all := lw_g (lw_at lw_m3 156 rfl) rfl
theorem q781 : (Jvm.Cond.selects "HedgeMessages$State" ({ cls := "HedgeMessages$State", name := "queue", desc := "(LHedgeMessages$Message;)V" } : Jvm.MethodName) ({ cls := "HedgeMessages$State", name := "queue", desc := "(LHedgeMessages$Message;)V" } : Jvm.MethodName)) ∈ lw_all := lw_g (lw_at lw_m3 157 rfl) rfl
theorem q782 : (Jvm.Cond.code ({ cls := "HedgeMessages$State", name := "queue", desc := "(LHedgeMessages$Message;)V" } : Jvm.MethodName) prog_9_method_20_code (2 : Nat) (Option.none : Option Jvm.ClassFile.FieldType)) ∈ lw_all := lw_g (lw_at lw_m3 158 rfl) rfl
theorem q783 : (Jvm.Cond.interfaceEntry "HedgeMessages$State" (84 : Nat)) ∈ lw_tbl := lw_at lw_m3 159 rfl
theorem q784 : (Jvm.Cond.methodLink "HedgeMessages$State" (84 : Nat) ({ cls := "java/util/List", name := "get", desc := "(I)Ljava/lang/Object;" } : Jvm.MethodName)) ∈ lw_all := lw_g (lw_at lw_m3 160 rfl) rfl
theorem q802 : (Jvm.Cond.classLink "HedgeMessages$State" (70 : Nat) "java/util/List") ∈ lw_all := lw_g (lw_at lw_m3 178 rfl) rfl
theorem q803 : (Jvm.Cond.methodLink "HedgeMessages$State" (179 : Nat) ({ cls := "HedgeMessages$Counters", name := "queue", desc := "()LHedgeMessages$Counters;" } : Jvm.MethodName)) ∈ lw_all := lw_g (lw_at lw_m3 179 rfl) rfl
theorem q873 : (Jvm.Cond.instanceMethod ({ cls := "HedgeMessages$State", name := "slots", desc := "()I" } : Jvm.MethodName)) ∈ lw_all := lw_g (lw_at lw_m4 9 rfl) rfl
theorem q874 : (Jvm.Cond.selects "HedgeMessages$State" ({ cls := "HedgeMessages$State", name := "slots", desc := "()I" } : Jvm.MethodName) ({ cls := "HedgeMessages$State", name := "slots", desc := "()I" } : Jvm.MethodName)) ∈ lw_all := lw_g (lw_at lw_m4 10 rfl) rfl
theorem q875 : (Jvm.Cond.code ({ cls := "HedgeMessages$State", name := "slots", desc := "()I" } : Jvm.MethodName) prog_9_method_4_code (1 : Nat) (Option.some Jvm.ClassFile.FieldType.int)) ∈ lw_all := lw_g (lw_at lw_m4 11 rfl) rfl
theorem q885 : (Jvm.Cond.instanceMethod ({ cls := "HedgeMessages$State", name := "active", desc := "()I" } : Jvm.MethodName)) ∈ lw_all := lw_g (lw_at lw_m4 21 rfl) rfl
theorem q886 : (Jvm.Cond.selects "HedgeMessages$State" ({ cls := "HedgeMessages$State", name := "active", desc := "()I" } : Jvm.MethodName) ({ cls := "HedgeMessages$State", name := "active", desc := "()I" } : Jvm.MethodName)) ∈ lw_all := lw_g (lw_at lw_m4 22 rfl) rfl
theorem q887 : (Jvm.Cond.code ({ cls := "HedgeMessages$State", name := "active", desc := "()I" } : Jvm.MethodName) prog_9_method_6_code (1 : Nat) (Option.some Jvm.ClassFile.FieldType.int)) ∈ lw_all := lw_g (lw_at lw_m4 23 rfl) rfl
theorem q901 : (Jvm.Cond.instanceMethod ({ cls := "HedgeMessages$State", name := "twigCount", desc := "()I" } : Jvm.MethodName)) ∈ lw_all := lw_g (lw_at lw_m4 37 rfl) rfl
theorem q902 : (Jvm.Cond.selects "HedgeMessages$State" ({ cls := "HedgeMessages$State", name := "twigCount", desc := "()I" } : Jvm.MethodName) ({ cls := "HedgeMessages$State", name := "twigCount", desc := "()I" } : Jvm.MethodName)) ∈ lw_all := lw_g (lw_at lw_m4 38 rfl) rfl
theorem q903 : (Jvm.Cond.code ({ cls := "HedgeMessages$State", name := "twigCount", desc := "()I" } : Jvm.MethodName) prog_9_method_8_code (6 : Nat) (Option.some Jvm.ClassFile.FieldType.int)) ∈ lw_all := lw_g (lw_at lw_m4 39 rfl) rfl
theorem q909 : (Jvm.Cond.instanceMethod ({ cls := "HedgeMessages$State", name := "nestCount", desc := "()I" } : Jvm.MethodName)) ∈ lw_all := lw_g (lw_at lw_m4 45 rfl) rfl
theorem q910 : (Jvm.Cond.selects "HedgeMessages$State" ({ cls := "HedgeMessages$State", name := "nestCount", desc := "()I" } : Jvm.MethodName) ({ cls := "HedgeMessages$State", name := "nestCount", desc := "()I" } : Jvm.MethodName)) ∈ lw_all := lw_g (lw_at lw_m4 46 rfl) rfl
theorem q911 : (Jvm.Cond.code ({ cls := "HedgeMessages$State", name := "nestCount", desc := "()I" } : Jvm.MethodName) prog_9_method_9_code (6 : Nat) (Option.some Jvm.ClassFile.FieldType.int)) ∈ lw_all := lw_g (lw_at lw_m4 47 rfl) rfl
theorem q917 : (Jvm.Cond.instanceMethod ({ cls := "HedgeMessages$State", name := "freeRun", desc := "(I)I" } : Jvm.MethodName)) ∈ lw_all := lw_g (lw_at lw_m4 53 rfl) rfl
theorem q918 : (Jvm.Cond.selects "HedgeMessages$State" ({ cls := "HedgeMessages$State", name := "freeRun", desc := "(I)I" } : Jvm.MethodName) ({ cls := "HedgeMessages$State", name := "freeRun", desc := "(I)I" } : Jvm.MethodName)) ∈ lw_all := lw_g (lw_at lw_m4 54 rfl) rfl
theorem q919 : (Jvm.Cond.code ({ cls := "HedgeMessages$State", name := "freeRun", desc := "(I)I" } : Jvm.MethodName) prog_9_method_15_code (3 : Nat) (Option.some Jvm.ClassFile.FieldType.int)) ∈ lw_all := lw_g (lw_at lw_m4 55 rfl) rfl
theorem q920 : (Jvm.Cond.methodLink "HedgeMessages$State" (122 : Nat) ({ cls := "HedgeMessages$State", name := "slots", desc := "()I" } : Jvm.MethodName)) ∈ lw_all := lw_g (lw_at lw_m4 56 rfl) rfl
theorem q921 : (Jvm.Cond.methodLink "HedgeMessages$State" (164 : Nat) ({ cls := "HedgeMessages$State", name := "isFree", desc := "(I)Z" } : Jvm.MethodName)) ∈ lw_all := lw_g (lw_at lw_m4 57 rfl) rfl
theorem q922 : (Jvm.Cond.instanceMethod ({ cls := "HedgeMessages$State", name := "isFree", desc := "(I)Z" } : Jvm.MethodName)) ∈ lw_all := lw_g (lw_at lw_m4 58 rfl) rfl
theorem q923 : (Jvm.Cond.selects "HedgeMessages$State" ({ cls := "HedgeMessages$State", name := "isFree", desc := "(I)Z" } : Jvm.MethodName) ({ cls := "HedgeMessages$State", name := "isFree", desc := "(I)Z" } : Jvm.MethodName)) ∈ lw_all := lw_g (lw_at lw_m4 59 rfl) rfl
theorem q924 : (Jvm.Cond.code ({ cls := "HedgeMessages$State", name := "isFree", desc := "(I)Z" } : Jvm.MethodName) prog_9_method_12_code (2 : Nat) (Option.some Jvm.ClassFile.FieldType.boolean)) ∈ lw_all := lw_g (lw_at lw_m4 60 rfl) rfl
theorem q925 : (Jvm.Cond.methodLink "HedgeMessages$State" (151 : Nat) ({ cls := "HedgeMessages$State", name := "isReserved", desc := "(I)Z" } : Jvm.MethodName)) ∈ lw_all := lw_g (lw_at lw_m4 61 rfl) rfl
theorem q926 : (Jvm.Cond.instanceMethod ({ cls := "HedgeMessages$State", name := "isReserved", desc := "(I)Z" } : Jvm.MethodName)) ∈ lw_all := lw_g (lw_at lw_m4 62 rfl) rfl
theorem q927 : (Jvm.Cond.selects "HedgeMessages$State" ({ cls := "HedgeMessages$State", name := "isReserved", desc := "(I)Z" } : Jvm.MethodName) ({ cls := "HedgeMessages$State", name := "isReserved", desc := "(I)Z" } : Jvm.MethodName)) ∈ lw_all := lw_g (lw_at lw_m4 63 rfl) rfl
theorem q928 : (Jvm.Cond.code ({ cls := "HedgeMessages$State", name := "isReserved", desc := "(I)Z" } : Jvm.MethodName) prog_9_method_11_code (6 : Nat) (Option.some Jvm.ClassFile.FieldType.boolean)) ∈ lw_all := lw_g (lw_at lw_m4 64 rfl) rfl
theorem q929 : (Jvm.Cond.methodLink "HedgeMessages$State" (144 : Nat) ({ cls := "HedgeMessages$Message", name := "reserves", desc := "(I)Z" } : Jvm.MethodName)) ∈ lw_all := lw_g (lw_at lw_m4 65 rfl) rfl
theorem q941 : (Jvm.Cond.interfaceEntry "HedgeMessages$State" (148 : Nat)) ∈ lw_tbl := lw_at lw_m4 77 rfl
theorem q942 : (Jvm.Cond.methodLink "HedgeMessages$State" (148 : Nat) ({ cls := "java/util/List", name := "size", desc := "()I" } : Jvm.MethodName)) ∈ lw_all := lw_g (lw_at lw_m4 78 rfl) rfl
theorem q956 : (Jvm.Cond.instanceMethod ({ cls := "HedgeMessages$State", name := "occupied", desc := "()Ljava/lang/Iterable;" } : Jvm.MethodName)) ∈ lw_all := lw_g (lw_at lw_m4 92 rfl) rfl
theorem q957 : (Jvm.Cond.selects "HedgeMessages$State" ({ cls := "HedgeMessages$State", name := "occupied", desc := "()Ljava/lang/Iterable;" } : Jvm.MethodName) ({ cls := "HedgeMessages$State", name := "occupied", desc := "()Ljava/lang/Iterable;" } : Jvm.MethodName)) ∈ lw_all := lw_g (lw_at lw_m4 93 rfl) rfl
theorem q958 : (Jvm.Cond.code ({ cls := "HedgeMessages$State", name := "occupied", desc := "()Ljava/lang/Iterable;" } : Jvm.MethodName) prog_9_method_7_code (1 : Nat) (Option.some (Jvm.ClassFile.FieldType.object "java/lang/Iterable"))) ∈ lw_all := lw_g (lw_at lw_m4 94 rfl) rfl
theorem q959 : (Jvm.Cond.classLink "HedgeMessages$State" (130 : Nat) "HedgeMessages$State$1") ∈ lw_all := lw_g (lw_at lw_m4 95 rfl) rfl
theorem q961 : (Jvm.Cond.methodLink "HedgeMessages$State" (132 : Nat) ({ cls := "HedgeMessages$State$1", name := "<init>", desc := "(LHedgeMessages$State;)V" } : Jvm.MethodName)) ∈ lw_all := lw_g (lw_at lw_m4 97 rfl) rfl
theorem q1164 : (Jvm.Cond.instanceMethod ({ cls := "HedgeMessages$State", name := "isSlot", desc := "(I)Z" } : Jvm.MethodName)) ∈ lw_all := lw_g (lw_at lw_m5 60 rfl) rfl
theorem q1165 : (Jvm.Cond.selects "HedgeMessages$State" ({ cls := "HedgeMessages$State", name := "isSlot", desc := "(I)Z" } : Jvm.MethodName) ({ cls := "HedgeMessages$State", name := "isSlot", desc := "(I)Z" } : Jvm.MethodName)) ∈ lw_all := lw_g (lw_at lw_m5 61 rfl) rfl
theorem q1166 : (Jvm.Cond.code ({ cls := "HedgeMessages$State", name := "isSlot", desc := "(I)Z" } : Jvm.MethodName) prog_9_method_5_code (2 : Nat) (Option.some Jvm.ClassFile.FieldType.boolean)) ∈ lw_all := lw_g (lw_at lw_m5 62 rfl) rfl
theorem q1167 : (Jvm.Cond.methodLinkNest "HedgeMessages$State" (126 : Nat) ({ cls := "HedgeMessages", name := "inRange", desc := "(JJJ)Z" } : Jvm.MethodName) "HedgeMessages") ∈ lw_tbl := lw_at lw_m5 63 rfl
theorem q1169 : (Jvm.Cond.instanceMethod ({ cls := "HedgeMessages$State", name := "isIllegal", desc := "(I)Z" } : Jvm.MethodName)) ∈ lw_all := lw_g (lw_at lw_m5 65 rfl) rfl
theorem q1170 : (Jvm.Cond.selects "HedgeMessages$State" ({ cls := "HedgeMessages$State", name := "isIllegal", desc := "(I)Z" } : Jvm.MethodName) ({ cls := "HedgeMessages$State", name := "isIllegal", desc := "(I)Z" } : Jvm.MethodName)) ∈ lw_all := lw_g (lw_at lw_m5 66 rfl) rfl
theorem q1171 : (Jvm.Cond.code ({ cls := "HedgeMessages$State", name := "isIllegal", desc := "(I)Z" } : Jvm.MethodName) prog_9_method_26_code (2 : Nat) (Option.some Jvm.ClassFile.FieldType.boolean)) ∈ lw_all := lw_g (lw_at lw_m5 67 rfl) rfl
theorem q1172 : (Jvm.Cond.methodLink "HedgeMessages$State" (237 : Nat) ({ cls := "HedgeMessages$State", name := "isProtected", desc := "(I)Z" } : Jvm.MethodName)) ∈ lw_all := lw_g (lw_at lw_m5 68 rfl) rfl
theorem q1173 : (Jvm.Cond.instanceMethod ({ cls := "HedgeMessages$State", name := "isProtected", desc := "(I)Z" } : Jvm.MethodName)) ∈ lw_all := lw_g (lw_at lw_m5 69 rfl) rfl
theorem q1174 : (Jvm.Cond.selects "HedgeMessages$State" ({ cls := "HedgeMessages$State", name := "isProtected", desc := "(I)Z" } : Jvm.MethodName) ({ cls := "HedgeMessages$State", name := "isProtected", desc := "(I)Z" } : Jvm.MethodName)) ∈ lw_all := lw_g (lw_at lw_m5 70 rfl) rfl
theorem q1175 : (Jvm.Cond.code ({ cls := "HedgeMessages$State", name := "isProtected", desc := "(I)Z" } : Jvm.MethodName) prog_9_method_10_code (3 : Nat) (Option.some Jvm.ClassFile.FieldType.boolean)) ∈ lw_all := lw_g (lw_at lw_m5 71 rfl) rfl
theorem q1176 : (Jvm.Cond.methodLink "HedgeMessages$State" (135 : Nat) ({ cls := "java/lang/Math", name := "max", desc := "(II)I" } : Jvm.MethodName)) ∈ lw_all := lw_g (lw_at lw_m5 72 rfl) rfl
theorem q1177 : (Jvm.Cond.methodLink "HedgeMessages$State" (141 : Nat) ({ cls := "java/lang/Math", name := "min", desc := "(II)I" } : Jvm.MethodName)) ∈ lw_all := lw_g (lw_at lw_m5 73 rfl) rfl
theorem q1216 : (Jvm.Cond.instanceMethod ({ cls := "HedgeMessages$State", name := "postedCount", desc := "(I)I" } : Jvm.MethodName)) ∈ lw_all := lw_g (lw_at lw_m5 112 rfl) rfl
theorem q1217 : (Jvm.Cond.selects "HedgeMessages$State" ({ cls := "HedgeMessages$State", name := "postedCount", desc := "(I)I" } : Jvm.MethodName) ({ cls := "HedgeMessages$State", name := "postedCount", desc := "(I)I" } : Jvm.MethodName)) ∈ lw_all := lw_g (lw_at lw_m5 113 rfl) rfl
theorem q1218 : (Jvm.Cond.code ({ cls := "HedgeMessages$State", name := "postedCount", desc := "(I)I" } : Jvm.MethodName) prog_9_method_16_code (5 : Nat) (Option.some Jvm.ClassFile.FieldType.int)) ∈ lw_all := lw_g (lw_at lw_m5 114 rfl) rfl
theorem q1219 : (Jvm.Cond.interfaceEntry "HedgeMessages$State" (97 : Nat)) ∈ lw_tbl := lw_at lw_m5 115 rfl
theorem q1220 : (Jvm.Cond.methodLink "HedgeMessages$State" (97 : Nat) ({ cls := "java/util/List", name := "iterator", desc := "()Ljava/util/Iterator;" } : Jvm.MethodName)) ∈ lw_all := lw_g (lw_at lw_m5 116 rfl) rfl
theorem q1224 : (Jvm.Cond.interfaceEntry "HedgeMessages$State" (101 : Nat)) ∈ lw_tbl := lw_at lw_m5 120 rfl
theorem q1225 : (Jvm.Cond.methodLink "HedgeMessages$State" (101 : Nat) ({ cls := "java/util/Iterator", name := "hasNext", desc := "()Z" } : Jvm.MethodName)) ∈ lw_all := lw_g (lw_at lw_m5 121 rfl) rfl
theorem q1226 : (Jvm.Cond.interfaceEntry "HedgeMessages$State" (107 : Nat)) ∈ lw_tbl := lw_at lw_m5 122 rfl
theorem q1227 : (Jvm.Cond.methodLink "HedgeMessages$State" (107 : Nat) ({ cls := "java/util/Iterator", name := "next", desc := "()Ljava/lang/Object;" } : Jvm.MethodName)) ∈ lw_all := lw_g (lw_at lw_m5 123 rfl) rfl
theorem q1273 : (Jvm.Cond.instanceMethod ({ cls := "HedgeMessages$State", name := "copy", desc := "()LHedgeMessages$State;" } : Jvm.MethodName)) ∈ lw_all := lw_g (lw_at lw_m5 169 rfl) rfl
theorem q1274 : (Jvm.Cond.selects "HedgeMessages$State" ({ cls := "HedgeMessages$State", name := "copy", desc := "()LHedgeMessages$State;" } : Jvm.MethodName) ({ cls := "HedgeMessages$State", name := "copy", desc := "()LHedgeMessages$State;" } : Jvm.MethodName)) ∈ lw_all := lw_g (lw_at lw_m5 170 rfl) rfl
theorem q1275 : (Jvm.Cond.code ({ cls := "HedgeMessages$State", name := "copy", desc := "()LHedgeMessages$State;" } : Jvm.MethodName) prog_9_method_3_code (4 : Nat) (Option.some (Jvm.ClassFile.FieldType.object "HedgeMessages$State"))) ∈ lw_all := lw_g (lw_at lw_m5 171 rfl) rfl
theorem q1276 : (Jvm.Cond.classLink "HedgeMessages$State" (12 : Nat) "HedgeMessages$State") ∈ lw_all := lw_g (lw_at lw_m5 172 rfl) rfl
theorem q1277 : (Jvm.Cond.methodLink "HedgeMessages$State" (75 : Nat) ({ cls := "[I", name := "clone", desc := "()Ljava/lang/Object;" } : Jvm.MethodName)) ∈ lw_all := lw_g (lw_at lw_m5 173 rfl) rfl
theorem q1281 : (Jvm.Cond.classLink "HedgeMessages$State" (76 : Nat) "[I") ∈ lw_all := lw_g (lw_at lw_m5 177 rfl) rfl
theorem q1282 : (Jvm.Cond.methodLink "HedgeMessages$State" (80 : Nat) ({ cls := "HedgeMessages$Twig", name := "copy", desc := "()LHedgeMessages$Twig;" } : Jvm.MethodName)) ∈ lw_all := lw_g (lw_at lw_m5 178 rfl) rfl
theorem q1287 : (Jvm.Cond.classLink "HedgeMessages$State" (88 : Nat) "java/util/Collection") ∈ lw_all := lw_g (lw_at lw_m5 183 rfl) rfl
theorem q1288 : (Jvm.Cond.interfaceEntry "HedgeMessages$State" (90 : Nat)) ∈ lw_tbl := lw_at lw_m5 184 rfl
theorem q1289 : (Jvm.Cond.methodLink "HedgeMessages$State" (90 : Nat) ({ cls := "java/util/List", name := "addAll", desc := "(Ljava/util/Collection;)Z" } : Jvm.MethodName)) ∈ lw_all := lw_g (lw_at lw_m5 185 rfl) rfl
theorem q1323 : (Jvm.Cond.methodLink "HedgeMessages$State" (94 : Nat) ({ cls := "HedgeMessages$Message", name := "copy", desc := "()LHedgeMessages$Message;" } : Jvm.MethodName)) ∈ lw_all := lw_g (lw_at lw_m5 219 rfl) rfl
theorem q1700 : (Jvm.Cond.instanceMethod ({ cls := "HedgeMessages$State", name := "isQueueFull", desc := "(I)Z" } : Jvm.MethodName)) ∈ lw_all := lw_g (lw_at lw_m7 116 rfl) rfl
theorem q1701 : (Jvm.Cond.selects "HedgeMessages$State" ({ cls := "HedgeMessages$State", name := "isQueueFull", desc := "(I)Z" } : Jvm.MethodName) ({ cls := "HedgeMessages$State", name := "isQueueFull", desc := "(I)Z" } : Jvm.MethodName)) ∈ lw_all := lw_g (lw_at lw_m7 117 rfl) rfl
theorem q1702 : (Jvm.Cond.code ({ cls := "HedgeMessages$State", name := "isQueueFull", desc := "(I)Z" } : Jvm.MethodName) prog_9_method_21_code (2 : Nat) (Option.some Jvm.ClassFile.FieldType.boolean)) ∈ lw_all := lw_g (lw_at lw_m7 118 rfl) rfl
theorem q1811 : (Jvm.Cond.instanceMethod ({ cls := "HedgeMessages$State", name := "remove", desc := "(I)V" } : Jvm.MethodName)) ∈ lw_all := lw_g (lw_at lw_m7 227 rfl) rfl
theorem q1812 : (Jvm.Cond.selects "HedgeMessages$State" ({ cls := "HedgeMessages$State", name := "remove", desc := "(I)V" } : Jvm.MethodName) ({ cls := "HedgeMessages$State", name := "remove", desc := "(I)V" } : Jvm.MethodName)) ∈ lw_all := lw_g (lw_at lw_m7 228 rfl) rfl
theorem q1813 : (Jvm.Cond.code ({ cls := "HedgeMessages$State", name := "remove", desc := "(I)V" } : Jvm.MethodName) prog_9_method_18_code (2 : Nat) (Option.none : Option Jvm.ClassFile.FieldType)) ∈ lw_all := lw_g (lw_at lw_m7 229 rfl) rfl
theorem q1891 : (Jvm.Cond.instanceMethod ({ cls := "HedgeMessages$State", name := "delivered", desc := "()I" } : Jvm.MethodName)) ∈ lw_all := lw_g (lw_at lw_m8 67 rfl) rfl
theorem q1892 : (Jvm.Cond.selects "HedgeMessages$State" ({ cls := "HedgeMessages$State", name := "delivered", desc := "()I" } : Jvm.MethodName) ({ cls := "HedgeMessages$State", name := "delivered", desc := "()I" } : Jvm.MethodName)) ∈ lw_all := lw_g (lw_at lw_m8 68 rfl) rfl
theorem q1893 : (Jvm.Cond.code ({ cls := "HedgeMessages$State", name := "delivered", desc := "()I" } : Jvm.MethodName) prog_9_method_32_code (1 : Nat) (Option.some Jvm.ClassFile.FieldType.int)) ∈ lw_all := lw_g (lw_at lw_m8 69 rfl) rfl
theorem q1894 : (Jvm.Cond.methodLink "HedgeMessages$State" (276 : Nat) ({ cls := "HedgeMessages$Counters", name := "delivered", desc := "()I" } : Jvm.MethodName)) ∈ lw_all := lw_g (lw_at lw_m8 70 rfl) rfl
theorem q1896 : (Jvm.Cond.instanceMethod ({ cls := "HedgeMessages$State", name := "after", desc := "(I)LHedgeMessages$State;" } : Jvm.MethodName)) ∈ lw_all := lw_g (lw_at lw_m8 72 rfl) rfl
theorem q1897 : (Jvm.Cond.selects "HedgeMessages$State" ({ cls := "HedgeMessages$State", name := "after", desc := "(I)LHedgeMessages$State;" } : Jvm.MethodName) ({ cls := "HedgeMessages$State", name := "after", desc := "(I)LHedgeMessages$State;" } : Jvm.MethodName)) ∈ lw_all := lw_g (lw_at lw_m8 73 rfl) rfl
theorem q1898 : (Jvm.Cond.code ({ cls := "HedgeMessages$State", name := "after", desc := "(I)LHedgeMessages$State;" } : Jvm.MethodName) prog_9_method_31_code (3 : Nat) (Option.some (Jvm.ClassFile.FieldType.object "HedgeMessages$State"))) ∈ lw_all := lw_g (lw_at lw_m8 74 rfl) rfl
theorem q1899 : (Jvm.Cond.methodLink "HedgeMessages$State" (273 : Nat) ({ cls := "HedgeMessages$State", name := "endDay", desc := "()V" } : Jvm.MethodName)) ∈ lw_all := lw_g (lw_at lw_m8 75 rfl) rfl
theorem q1900 : (Jvm.Cond.instanceMethod ({ cls := "HedgeMessages$State", name := "endDay", desc := "()V" } : Jvm.MethodName)) ∈ lw_all := lw_g (lw_at lw_m8 76 rfl) rfl
theorem q1901 : (Jvm.Cond.selects "HedgeMessages$State" ({ cls := "HedgeMessages$State", name := "endDay", desc := "()V" } : Jvm.MethodName) ({ cls := "HedgeMessages$State", name := "endDay", desc := "()V" } : Jvm.MethodName)) ∈ lw_all := lw_g (lw_at lw_m8 77 rfl) rfl
theorem q1902 : (Jvm.Cond.code ({ cls := "HedgeMessages$State", name := "endDay", desc := "()V" } : Jvm.MethodName) prog_9_method_30_code (1 : Nat) (Option.none : Option Jvm.ClassFile.FieldType)) ∈ lw_all := lw_g (lw_at lw_m8 78 rfl) rfl
theorem q1903 : (Jvm.Cond.methodLink "HedgeMessages$State" (259 : Nat) ({ cls := "HedgeMessages$State", name := "active", desc := "()I" } : Jvm.MethodName)) ∈ lw_all := lw_g (lw_at lw_m8 79 rfl) rfl
theorem q1904 : (Jvm.Cond.methodLink "HedgeMessages$State" (262 : Nat) ({ cls := "HedgeMessages$State", name := "deliver", desc := "(I)V" } : Jvm.MethodName)) ∈ lw_all := lw_g (lw_at lw_m8 80 rfl) rfl
theorem q1905 : (Jvm.Cond.privateMethod ({ cls := "HedgeMessages$State", name := "deliver", desc := "(I)V" } : Jvm.MethodName)) ∈ lw_tbl := lw_at lw_m8 81 rfl
theorem q1906 : (Jvm.Cond.instanceMethod ({ cls := "HedgeMessages$State", name := "deliver", desc := "(I)V" } : Jvm.MethodName)) ∈ lw_all := lw_g (lw_at lw_m8 82 rfl) rfl
theorem q1907 : (Jvm.Cond.code ({ cls := "HedgeMessages$State", name := "deliver", desc := "(I)V" } : Jvm.MethodName) prog_9_method_22_code (5 : Nat) (Option.none : Option Jvm.ClassFile.FieldType)) ∈ lw_all := lw_g (lw_at lw_m8 83 rfl) rfl
theorem q1908 : (Jvm.Cond.interfaceEntry "HedgeMessages$State" (183 : Nat)) ∈ lw_tbl := lw_at lw_m8 84 rfl
theorem q1909 : (Jvm.Cond.methodLink "HedgeMessages$State" (183 : Nat) ({ cls := "java/util/List", name := "remove", desc := "(I)Ljava/lang/Object;" } : Jvm.MethodName)) ∈ lw_all := lw_g (lw_at lw_m8 85 rfl) rfl
theorem q1910 : (Jvm.Cond.methodLink "HedgeMessages$State" (185 : Nat) ({ cls := "HedgeMessages$State", name := "removeMessage", desc := "(LHedgeMessages$Message;)V" } : Jvm.MethodName)) ∈ lw_all := lw_g (lw_at lw_m8 86 rfl) rfl
theorem q1911 : (Jvm.Cond.privateMethod ({ cls := "HedgeMessages$State", name := "removeMessage", desc := "(LHedgeMessages$Message;)V" } : Jvm.MethodName)) ∈ lw_tbl := lw_at lw_m8 87 rfl
theorem q1912 : (Jvm.Cond.instanceMethod ({ cls := "HedgeMessages$State", name := "removeMessage", desc := "(LHedgeMessages$Message;)V" } : Jvm.MethodName)) ∈ lw_all := lw_g (lw_at lw_m8 88 rfl) rfl
theorem q1913 : (Jvm.Cond.code ({ cls := "HedgeMessages$State", name := "removeMessage", desc := "(LHedgeMessages$Message;)V" } : Jvm.MethodName) prog_9_method_19_code (3 : Nat) (Option.none : Option Jvm.ClassFile.FieldType)) ∈ lw_all := lw_g (lw_at lw_m8 89 rfl) rfl
theorem q1914 : (Jvm.Cond.methodLink "HedgeMessages$State" (176 : Nat) ({ cls := "HedgeMessages$State", name := "remove", desc := "(I)V" } : Jvm.MethodName)) ∈ lw_all := lw_g (lw_at lw_m8 90 rfl) rfl
theorem q1915 : (Jvm.Cond.methodLink "HedgeMessages$State" (189 : Nat) ({ cls := "HedgeMessages$Counters", name := "deliver", desc := "()LHedgeMessages$Counters;" } : Jvm.MethodName)) ∈ lw_all := lw_g (lw_at lw_m8 91 rfl) rfl
theorem q1919 : (Jvm.Cond.methodLink "HedgeMessages$State" (264 : Nat) ({ cls := "HedgeMessages$State", name := "write", desc := "(I)V" } : Jvm.MethodName)) ∈ lw_all := lw_g (lw_at lw_m8 95 rfl) rfl
theorem q1920 : (Jvm.Cond.privateMethod ({ cls := "HedgeMessages$State", name := "write", desc := "(I)V" } : Jvm.MethodName)) ∈ lw_tbl := lw_at lw_m8 96 rfl
theorem q1921 : (Jvm.Cond.instanceMethod ({ cls := "HedgeMessages$State", name := "write", desc := "(I)V" } : Jvm.MethodName)) ∈ lw_all := lw_g (lw_at lw_m8 97 rfl) rfl
theorem q1922 : (Jvm.Cond.code ({ cls := "HedgeMessages$State", name := "write", desc := "(I)V" } : Jvm.MethodName) prog_9_method_24_code (3 : Nat) (Option.none : Option Jvm.ClassFile.FieldType)) ∈ lw_all := lw_g (lw_at lw_m8 98 rfl) rfl
theorem q1923 : (Jvm.Cond.methodLink "HedgeMessages$State" (201 : Nat) ({ cls := "HedgeMessages$State", name := "start", desc := "(I)Z" } : Jvm.MethodName)) ∈ lw_all := lw_g (lw_at lw_m8 99 rfl) rfl
theorem q1924 : (Jvm.Cond.privateMethod ({ cls := "HedgeMessages$State", name := "start", desc := "(I)Z" } : Jvm.MethodName)) ∈ lw_tbl := lw_at lw_m8 100 rfl
theorem q1925 : (Jvm.Cond.instanceMethod ({ cls := "HedgeMessages$State", name := "start", desc := "(I)Z" } : Jvm.MethodName)) ∈ lw_all := lw_g (lw_at lw_m8 101 rfl) rfl
theorem q1926 : (Jvm.Cond.code ({ cls := "HedgeMessages$State", name := "start", desc := "(I)Z" } : Jvm.MethodName) prog_9_method_23_code (4 : Nat) (Option.some Jvm.ClassFile.FieldType.boolean)) ∈ lw_all := lw_g (lw_at lw_m8 102 rfl) rfl
theorem q1927 : (Jvm.Cond.interfaceEntry "HedgeMessages$State" (192 : Nat)) ∈ lw_tbl := lw_at lw_m8 103 rfl
theorem q1928 : (Jvm.Cond.methodLink "HedgeMessages$State" (192 : Nat) ({ cls := "java/util/List", name := "isEmpty", desc := "()Z" } : Jvm.MethodName)) ∈ lw_all := lw_g (lw_at lw_m8 104 rfl) rfl
theorem q1936 : (Jvm.Cond.methodLink "HedgeMessages$State" (195 : Nat) ({ cls := "HedgeMessages$Message", name := "length", desc := "()I" } : Jvm.MethodName)) ∈ lw_all := lw_g (lw_at lw_m8 112 rfl) rfl
theorem q1937 : (Jvm.Cond.methodLink "HedgeMessages$State" (198 : Nat) ({ cls := "HedgeMessages$State", name := "startSlot", desc := "(I)I" } : Jvm.MethodName)) ∈ lw_all := lw_g (lw_at lw_m8 113 rfl) rfl
theorem q1938 : (Jvm.Cond.instanceMethod ({ cls := "HedgeMessages$State", name := "startSlot", desc := "(I)I" } : Jvm.MethodName)) ∈ lw_all := lw_g (lw_at lw_m8 114 rfl) rfl
theorem q1939 : (Jvm.Cond.selects "HedgeMessages$State" ({ cls := "HedgeMessages$State", name := "startSlot", desc := "(I)I" } : Jvm.MethodName) ({ cls := "HedgeMessages$State", name := "startSlot", desc := "(I)I" } : Jvm.MethodName)) ∈ lw_all := lw_g (lw_at lw_m8 115 rfl) rfl
theorem q1940 : (Jvm.Cond.code ({ cls := "HedgeMessages$State", name := "startSlot", desc := "(I)I" } : Jvm.MethodName) prog_9_method_14_code (3 : Nat) (Option.some Jvm.ClassFile.FieldType.int)) ∈ lw_all := lw_g (lw_at lw_m8 116 rfl) rfl
theorem q1941 : (Jvm.Cond.methodLink "HedgeMessages$State" (157 : Nat) ({ cls := "HedgeMessages$State", name := "isBorder", desc := "(I)Z" } : Jvm.MethodName)) ∈ lw_all := lw_g (lw_at lw_m8 117 rfl) rfl
theorem q1942 : (Jvm.Cond.privateMethod ({ cls := "HedgeMessages$State", name := "isBorder", desc := "(I)Z" } : Jvm.MethodName)) ∈ lw_tbl := lw_at lw_m8 118 rfl
theorem q1943 : (Jvm.Cond.instanceMethod ({ cls := "HedgeMessages$State", name := "isBorder", desc := "(I)Z" } : Jvm.MethodName)) ∈ lw_all := lw_g (lw_at lw_m8 119 rfl) rfl
theorem q1944 : (Jvm.Cond.code ({ cls := "HedgeMessages$State", name := "isBorder", desc := "(I)Z" } : Jvm.MethodName) prog_9_method_13_code (2 : Nat) (Option.some Jvm.ClassFile.FieldType.boolean)) ∈ lw_all := lw_g (lw_at lw_m8 120 rfl) rfl
theorem q1945 : (Jvm.Cond.methodLink "HedgeMessages$State" (154 : Nat) ({ cls := "HedgeMessages$State", name := "isSlot", desc := "(I)Z" } : Jvm.MethodName)) ∈ lw_all := lw_g (lw_at lw_m8 121 rfl) rfl
theorem q1946 : (Jvm.Cond.methodLink "HedgeMessages$State" (160 : Nat) ({ cls := "HedgeMessages$State", name := "freeRun", desc := "(I)I" } : Jvm.MethodName)) ∈ lw_all := lw_g (lw_at lw_m8 122 rfl) rfl
theorem q1947 : (Jvm.Cond.methodLink "HedgeMessages$State" (207 : Nat) ({ cls := "java/lang/String", name := "charAt", desc := "(I)C" } : Jvm.MethodName)) ∈ lw_all := lw_g (lw_at lw_m8 123 rfl) rfl
theorem q1948 : (Jvm.Cond.methodLink "HedgeMessages$State" (213 : Nat) ({ cls := "HedgeMessages$Twig", name := "<init>", desc := "(CIIZ)V" } : Jvm.MethodName)) ∈ lw_all := lw_g (lw_at lw_m8 124 rfl) rfl
theorem q1949 : (Jvm.Cond.methodLink "HedgeMessages$State" (216 : Nat) ({ cls := "HedgeMessages$State", name := "plant", desc := "(ILHedgeMessages$Twig;)V" } : Jvm.MethodName)) ∈ lw_all := lw_g (lw_at lw_m8 125 rfl) rfl
theorem q1950 : (Jvm.Cond.methodLink "HedgeMessages$State" (220 : Nat) ({ cls := "HedgeMessages$Message", name := "isComplete", desc := "()Z" } : Jvm.MethodName)) ∈ lw_all := lw_g (lw_at lw_m8 126 rfl) rfl
theorem q1954 : (Jvm.Cond.methodLink "HedgeMessages$State" (267 : Nat) ({ cls := "HedgeMessages$State", name := "grow", desc := "()V" } : Jvm.MethodName)) ∈ lw_all := lw_g (lw_at lw_m8 130 rfl) rfl
theorem q1955 : (Jvm.Cond.privateMethod ({ cls := "HedgeMessages$State", name := "grow", desc := "()V" } : Jvm.MethodName)) ∈ lw_tbl := lw_at lw_m8 131 rfl
theorem q1956 : (Jvm.Cond.instanceMethod ({ cls := "HedgeMessages$State", name := "grow", desc := "()V" } : Jvm.MethodName)) ∈ lw_all := lw_g (lw_at lw_m8 132 rfl) rfl
theorem q1957 : (Jvm.Cond.code ({ cls := "HedgeMessages$State", name := "grow", desc := "()V" } : Jvm.MethodName) prog_9_method_25_code (3 : Nat) (Option.none : Option Jvm.ClassFile.FieldType)) ∈ lw_all := lw_g (lw_at lw_m8 133 rfl) rfl
theorem q1958 : (Jvm.Cond.methodLink "HedgeMessages$State" (223 : Nat) ({ cls := "HedgeMessages$State", name := "occupied", desc := "()Ljava/lang/Iterable;" } : Jvm.MethodName)) ∈ lw_all := lw_g (lw_at lw_m8 134 rfl) rfl
theorem q1959 : (Jvm.Cond.interfaceEntry "HedgeMessages$State" (227 : Nat)) ∈ lw_tbl := lw_at lw_m8 135 rfl
theorem q1960 : (Jvm.Cond.methodLink "HedgeMessages$State" (227 : Nat) ({ cls := "java/lang/Iterable", name := "iterator", desc := "()Ljava/util/Iterator;" } : Jvm.MethodName)) ∈ lw_all := lw_g (lw_at lw_m8 136 rfl) rfl
theorem q1961 : (Jvm.Cond.classLink "HedgeMessages$State" (230 : Nat) "java/lang/Integer") ∈ lw_all := lw_g (lw_at lw_m8 137 rfl) rfl
theorem q1962 : (Jvm.Cond.methodLink "HedgeMessages$State" (232 : Nat) ({ cls := "java/lang/Integer", name := "intValue", desc := "()I" } : Jvm.MethodName)) ∈ lw_all := lw_g (lw_at lw_m8 138 rfl) rfl
theorem q1963 : (Jvm.Cond.methodLink "HedgeMessages$State" (270 : Nat) ({ cls := "HedgeMessages$State", name := "inspect", desc := "()V" } : Jvm.MethodName)) ∈ lw_all := lw_g (lw_at lw_m8 139 rfl) rfl
theorem q1964 : (Jvm.Cond.privateMethod ({ cls := "HedgeMessages$State", name := "inspect", desc := "()V" } : Jvm.MethodName)) ∈ lw_tbl := lw_at lw_m8 140 rfl
theorem q1965 : (Jvm.Cond.instanceMethod ({ cls := "HedgeMessages$State", name := "inspect", desc := "()V" } : Jvm.MethodName)) ∈ lw_all := lw_g (lw_at lw_m8 141 rfl) rfl
theorem q1966 : (Jvm.Cond.code ({ cls := "HedgeMessages$State", name := "inspect", desc := "()V" } : Jvm.MethodName) prog_9_method_29_code (3 : Nat) (Option.none : Option Jvm.ClassFile.FieldType)) ∈ lw_all := lw_g (lw_at lw_m8 142 rfl) rfl
theorem q1967 : (Jvm.Cond.methodLink "HedgeMessages$State" (250 : Nat) ({ cls := "HedgeMessages$State", name := "isIllegal", desc := "(I)Z" } : Jvm.MethodName)) ∈ lw_all := lw_g (lw_at lw_m8 143 rfl) rfl
theorem q1968 : (Jvm.Cond.methodLink "HedgeMessages$State" (253 : Nat) ({ cls := "HedgeMessages$State", name := "lostTwig", desc := "(LHedgeMessages$Message;)Z" } : Jvm.MethodName)) ∈ lw_all := lw_g (lw_at lw_m8 144 rfl) rfl
theorem q1969 : (Jvm.Cond.privateMethod ({ cls := "HedgeMessages$State", name := "lostTwig", desc := "(LHedgeMessages$Message;)Z" } : Jvm.MethodName)) ∈ lw_tbl := lw_at lw_m8 145 rfl
theorem q1970 : (Jvm.Cond.instanceMethod ({ cls := "HedgeMessages$State", name := "lostTwig", desc := "(LHedgeMessages$Message;)Z" } : Jvm.MethodName)) ∈ lw_all := lw_g (lw_at lw_m8 146 rfl) rfl
theorem q1971 : (Jvm.Cond.code ({ cls := "HedgeMessages$State", name := "lostTwig", desc := "(LHedgeMessages$Message;)Z" } : Jvm.MethodName) prog_9_method_27_code (3 : Nat) (Option.some Jvm.ClassFile.FieldType.boolean)) ∈ lw_all := lw_g (lw_at lw_m8 147 rfl) rfl
theorem q1972 : (Jvm.Cond.methodLink "HedgeMessages$State" (257 : Nat) ({ cls := "HedgeMessages$State", name := "fail", desc := "(LHedgeMessages$Message;)V" } : Jvm.MethodName)) ∈ lw_all := lw_g (lw_at lw_m8 148 rfl) rfl
theorem q1973 : (Jvm.Cond.privateMethod ({ cls := "HedgeMessages$State", name := "fail", desc := "(LHedgeMessages$Message;)V" } : Jvm.MethodName)) ∈ lw_tbl := lw_at lw_m8 149 rfl
theorem q1974 : (Jvm.Cond.instanceMethod ({ cls := "HedgeMessages$State", name := "fail", desc := "(LHedgeMessages$Message;)V" } : Jvm.MethodName)) ∈ lw_all := lw_g (lw_at lw_m8 150 rfl) rfl
theorem q1975 : (Jvm.Cond.code ({ cls := "HedgeMessages$State", name := "fail", desc := "(LHedgeMessages$Message;)V" } : Jvm.MethodName) prog_9_method_28_code (3 : Nat) (Option.none : Option Jvm.ClassFile.FieldType)) ∈ lw_all := lw_g (lw_at lw_m8 151 rfl) rfl
theorem q1976 : (Jvm.Cond.methodLink "HedgeMessages$State" (240 : Nat) ({ cls := "HedgeMessages$Message", name := "reset", desc := "()V" } : Jvm.MethodName)) ∈ lw_all := lw_g (lw_at lw_m8 152 rfl) rfl
theorem q1980 : (Jvm.Cond.methodLink "HedgeMessages$State" (243 : Nat) ({ cls := "HedgeMessages$State", name := "isQueueFull", desc := "(I)Z" } : Jvm.MethodName)) ∈ lw_all := lw_g (lw_at lw_m8 156 rfl) rfl
theorem q1981 : (Jvm.Cond.methodLink "HedgeMessages$State" (246 : Nat) ({ cls := "HedgeMessages$Counters", name := "fail", desc := "(Z)LHedgeMessages$Counters;" } : Jvm.MethodName)) ∈ lw_all := lw_g (lw_at lw_m8 157 rfl) rfl
theorem q3133 : (Jvm.Cond.castable "HedgeMessages$State" "java/lang/Object") ∈ lw_tbl := lw_at lw_m13 109 rfl
theorem in_X2 : ∀ w ∈ wsX20, w ∈ lw_all := lw_in wsX20 [687, 689, 691, 693, 695, 697, 699, 701, 703, 705, 707, 709, 711, 713, 715, 717] (by decide +kernel) (by decide +kernel)

/-! HedgeMessages$Counters -/
set_option maxRecDepth 100000
def RX3 : String := "HedgeMessages$Counters"
def TX3 : u_T := fun k => match k with
  | 0 => ("HedgeMessages$Counters", "queued", "I", true)
  | 1 => ("HedgeMessages$Counters", "delivered", "I", true)
  | 2 => ("HedgeMessages$Counters", "failed", "I", true)
  | _ => ("HedgeMessages$Counters", "dropped", "I", true)
def tyX3 : Nat → FieldType := fun k => match k with
  | 0 => .int
  | 1 => .int
  | 2 => .int
  | _ => .int
abbrev wsX30 : List Cond := u_ws RX3 TX3 4
theorem nmX3 : ∀ a, a < 4 → ∀ b, b < 4 → a ≠ b → (TX3 a).2.1 ≠ (TX3 b).2.1 := by decide +kernel
theorem tyX3_ok : ∀ k, k < 4 → parseFieldDescriptor (TX3 k).2.2.1 = some (tyX3 k) := by decide +kernel
abbrev cX3_init : ByteArray := prog_3_method_1_code
def yX3_init : MethodName := ⟨RX3, "<init>", "()V"⟩
def dkwX3_init_0 : List UInt8 := [42, 3, 3, 3, 3, 183, 0, 22, 177]
abbrev dktX3_init_0 : List UInt8 := dkwX3_init_0 ++ []
theorem dksX3_init_0 : cX3_init.data.toList.drop 0 = dktX3_init_0 := by decide +kernel
theorem dX3_init_0 : decode cX3_init 0 = .ok (.aload_n 0, 1) := dk_42 (dk_at dksX3_init_0 0 rfl rfl)
theorem dX3_init_1 : decode cX3_init 1 = .ok (.iconst 0, 1) := dk_3 (dk_at dksX3_init_0 1 rfl rfl)
theorem dX3_init_2 : decode cX3_init 2 = .ok (.iconst 0, 1) := dk_3 (dk_at dksX3_init_0 2 rfl rfl)
theorem dX3_init_3 : decode cX3_init 3 = .ok (.iconst 0, 1) := dk_3 (dk_at dksX3_init_0 3 rfl rfl)
theorem dX3_init_4 : decode cX3_init 4 = .ok (.iconst 0, 1) := dk_3 (dk_at dksX3_init_0 4 rfl rfl)
theorem dX3_init_5 : decode cX3_init 5 = .ok (.invokespecial 22, 3) := dk_183 0 22 (dk_at dksX3_init_0 5 rfl rfl)
theorem dX3_init_8 : decode cX3_init 8 = .ok (.return_, 1) := dk_177 (dk_at dksX3_init_0 8 rfl rfl)
abbrev cX3_init_2 : ByteArray := prog_3_method_2_code
def yX3_init_2 : MethodName := ⟨RX3, "<init>", "(IIII)V"⟩
def dkwX3_init_2_1 : List UInt8 := [181, 0, 19, 177]
abbrev dktX3_init_2_1 : List UInt8 := dkwX3_init_2_1 ++ []
def dkwX3_init_2_0 : List UInt8 := [42, 183, 0, 1, 42, 27, 181, 0, 7, 42, 28, 181, 0, 13, 42, 29, 181, 0, 16, 42, 21, 4]
abbrev dktX3_init_2_0 : List UInt8 := dkwX3_init_2_0 ++ dktX3_init_2_1
theorem dksX3_init_2_0 : cX3_init_2.data.toList.drop 0 = dktX3_init_2_0 := by decide +kernel
theorem dksX3_init_2_1 : cX3_init_2.data.toList.drop 22 = dktX3_init_2_1 := dk_seg dksX3_init_2_0 22 rfl rfl
theorem dX3_init_2_0 : decode cX3_init_2 0 = .ok (.aload_n 0, 1) := dk_42 (dk_at dksX3_init_2_0 0 rfl rfl)
theorem dX3_init_2_1 : decode cX3_init_2 1 = .ok (.invokespecial 1, 3) := dk_183 0 1 (dk_at dksX3_init_2_0 1 rfl rfl)
theorem dX3_init_2_4 : decode cX3_init_2 4 = .ok (.aload_n 0, 1) := dk_42 (dk_at dksX3_init_2_0 4 rfl rfl)
theorem dX3_init_2_5 : decode cX3_init_2 5 = .ok (.iload_n 1, 1) := dk_27 (dk_at dksX3_init_2_0 5 rfl rfl)
theorem dX3_init_2_6 : decode cX3_init_2 6 = .ok (.putfield 7, 3) := dk_181 0 7 (dk_at dksX3_init_2_0 6 rfl rfl)
theorem dX3_init_2_9 : decode cX3_init_2 9 = .ok (.aload_n 0, 1) := dk_42 (dk_at dksX3_init_2_0 9 rfl rfl)
theorem dX3_init_2_10 : decode cX3_init_2 10 = .ok (.iload_n 2, 1) := dk_28 (dk_at dksX3_init_2_0 10 rfl rfl)
theorem dX3_init_2_11 : decode cX3_init_2 11 = .ok (.putfield 13, 3) := dk_181 0 13 (dk_at dksX3_init_2_0 11 rfl rfl)
theorem dX3_init_2_14 : decode cX3_init_2 14 = .ok (.aload_n 0, 1) := dk_42 (dk_at dksX3_init_2_0 14 rfl rfl)
theorem dX3_init_2_15 : decode cX3_init_2 15 = .ok (.iload_n 3, 1) := dk_29 (dk_at dksX3_init_2_0 15 rfl rfl)
theorem dX3_init_2_16 : decode cX3_init_2 16 = .ok (.putfield 16, 3) := dk_181 0 16 (dk_at dksX3_init_2_0 16 rfl rfl)
theorem dX3_init_2_19 : decode cX3_init_2 19 = .ok (.aload_n 0, 1) := dk_42 (dk_at dksX3_init_2_0 19 rfl rfl)
theorem dX3_init_2_20 : decode cX3_init_2 20 = .ok (.iload 4, 2) := dk_21 4 (dk_at dksX3_init_2_0 20 rfl rfl)
theorem dX3_init_2_22 : decode cX3_init_2 22 = .ok (.putfield 19, 3) := dk_181 0 19 (dk_at dksX3_init_2_1 0 rfl rfl)
theorem dX3_init_2_25 : decode cX3_init_2 25 = .ok (.return_, 1) := dk_177 (dk_at dksX3_init_2_1 3 rfl rfl)
abbrev cX3_queue : ByteArray := prog_3_method_3_code
def yX3_queue : MethodName := ⟨RX3, "queue", "()LHedgeMessages$Counters;"⟩
def dkwX3_queue_1 : List UInt8 := [183, 0, 22, 176]
abbrev dktX3_queue_1 : List UInt8 := dkwX3_queue_1 ++ []
def dkwX3_queue_0 : List UInt8 := [187, 0, 8, 89, 42, 180, 0, 7, 4, 96, 42, 180, 0, 13, 42, 180, 0, 16, 42, 180, 0, 19]
abbrev dktX3_queue_0 : List UInt8 := dkwX3_queue_0 ++ dktX3_queue_1
theorem dksX3_queue_0 : cX3_queue.data.toList.drop 0 = dktX3_queue_0 := by decide +kernel
theorem dksX3_queue_1 : cX3_queue.data.toList.drop 22 = dktX3_queue_1 := dk_seg dksX3_queue_0 22 rfl rfl
theorem dX3_queue_0 : decode cX3_queue 0 = .ok (.new 8, 3) := dk_187 0 8 (dk_at dksX3_queue_0 0 rfl rfl)
theorem dX3_queue_3 : decode cX3_queue 3 = .ok (.dup, 1) := dk_89 (dk_at dksX3_queue_0 3 rfl rfl)
theorem dX3_queue_4 : decode cX3_queue 4 = .ok (.aload_n 0, 1) := dk_42 (dk_at dksX3_queue_0 4 rfl rfl)
theorem dX3_queue_5 : decode cX3_queue 5 = .ok (.getfield 7, 3) := dk_180 0 7 (dk_at dksX3_queue_0 5 rfl rfl)
theorem dX3_queue_8 : decode cX3_queue 8 = .ok (.iconst 1, 1) := dk_4 (dk_at dksX3_queue_0 8 rfl rfl)
theorem dX3_queue_9 : decode cX3_queue 9 = .ok (.iadd, 1) := dk_96 (dk_at dksX3_queue_0 9 rfl rfl)
theorem dX3_queue_10 : decode cX3_queue 10 = .ok (.aload_n 0, 1) := dk_42 (dk_at dksX3_queue_0 10 rfl rfl)
theorem dX3_queue_11 : decode cX3_queue 11 = .ok (.getfield 13, 3) := dk_180 0 13 (dk_at dksX3_queue_0 11 rfl rfl)
theorem dX3_queue_14 : decode cX3_queue 14 = .ok (.aload_n 0, 1) := dk_42 (dk_at dksX3_queue_0 14 rfl rfl)
theorem dX3_queue_15 : decode cX3_queue 15 = .ok (.getfield 16, 3) := dk_180 0 16 (dk_at dksX3_queue_0 15 rfl rfl)
theorem dX3_queue_18 : decode cX3_queue 18 = .ok (.aload_n 0, 1) := dk_42 (dk_at dksX3_queue_0 18 rfl rfl)
theorem dX3_queue_19 : decode cX3_queue 19 = .ok (.getfield 19, 3) := dk_180 0 19 (dk_at dksX3_queue_0 19 rfl rfl)
theorem dX3_queue_22 : decode cX3_queue 22 = .ok (.invokespecial 22, 3) := dk_183 0 22 (dk_at dksX3_queue_1 0 rfl rfl)
theorem dX3_queue_25 : decode cX3_queue 25 = .ok (.areturn, 1) := dk_176 (dk_at dksX3_queue_1 3 rfl rfl)
abbrev cX3_queued : ByteArray := prog_3_method_10_code
def yX3_queued : MethodName := ⟨RX3, "queued", "()I"⟩
theorem dX3_queued_0 : decode cX3_queued 0 = .ok (.aload_n 0, 1) := by decide +kernel
theorem dX3_queued_1 : decode cX3_queued 1 = .ok (.getfield 7, 3) := by decide +kernel
theorem dX3_queued_4 : decode cX3_queued 4 = .ok (.ireturn, 1) := by decide +kernel
abbrev cX3_delivered : ByteArray := prog_3_method_11_code
def yX3_delivered : MethodName := ⟨RX3, "delivered", "()I"⟩
theorem dX3_delivered_0 : decode cX3_delivered 0 = .ok (.aload_n 0, 1) := by decide +kernel
theorem dX3_delivered_1 : decode cX3_delivered 1 = .ok (.getfield 13, 3) := by decide +kernel
theorem dX3_delivered_4 : decode cX3_delivered 4 = .ok (.ireturn, 1) := by decide +kernel
abbrev cX3_dropped : ByteArray := prog_3_method_13_code
def yX3_dropped : MethodName := ⟨RX3, "dropped", "()I"⟩
theorem dX3_dropped_0 : decode cX3_dropped 0 = .ok (.aload_n 0, 1) := by decide +kernel
theorem dX3_dropped_1 : decode cX3_dropped 1 = .ok (.getfield 19, 3) := by decide +kernel
theorem dX3_dropped_4 : decode cX3_dropped 4 = .ok (.ireturn, 1) := by decide +kernel
abbrev cX3_drop : ByteArray := prog_3_method_6_code
def yX3_drop : MethodName := ⟨RX3, "drop", "()LHedgeMessages$Counters;"⟩
def dkwX3_drop_1 : List UInt8 := [183, 0, 22, 176]
abbrev dktX3_drop_1 : List UInt8 := dkwX3_drop_1 ++ []
def dkwX3_drop_0 : List UInt8 := [187, 0, 8, 89, 42, 180, 0, 7, 42, 180, 0, 13, 42, 180, 0, 16, 42, 180, 0, 19, 4, 96]
abbrev dktX3_drop_0 : List UInt8 := dkwX3_drop_0 ++ dktX3_drop_1
theorem dksX3_drop_0 : cX3_drop.data.toList.drop 0 = dktX3_drop_0 := by decide +kernel
theorem dksX3_drop_1 : cX3_drop.data.toList.drop 22 = dktX3_drop_1 := dk_seg dksX3_drop_0 22 rfl rfl
theorem dX3_drop_0 : decode cX3_drop 0 = .ok (.new 8, 3) := dk_187 0 8 (dk_at dksX3_drop_0 0 rfl rfl)
theorem dX3_drop_3 : decode cX3_drop 3 = .ok (.dup, 1) := dk_89 (dk_at dksX3_drop_0 3 rfl rfl)
theorem dX3_drop_4 : decode cX3_drop 4 = .ok (.aload_n 0, 1) := dk_42 (dk_at dksX3_drop_0 4 rfl rfl)
theorem dX3_drop_5 : decode cX3_drop 5 = .ok (.getfield 7, 3) := dk_180 0 7 (dk_at dksX3_drop_0 5 rfl rfl)
theorem dX3_drop_8 : decode cX3_drop 8 = .ok (.aload_n 0, 1) := dk_42 (dk_at dksX3_drop_0 8 rfl rfl)
theorem dX3_drop_9 : decode cX3_drop 9 = .ok (.getfield 13, 3) := dk_180 0 13 (dk_at dksX3_drop_0 9 rfl rfl)
theorem dX3_drop_12 : decode cX3_drop 12 = .ok (.aload_n 0, 1) := dk_42 (dk_at dksX3_drop_0 12 rfl rfl)
theorem dX3_drop_13 : decode cX3_drop 13 = .ok (.getfield 16, 3) := dk_180 0 16 (dk_at dksX3_drop_0 13 rfl rfl)
theorem dX3_drop_16 : decode cX3_drop 16 = .ok (.aload_n 0, 1) := dk_42 (dk_at dksX3_drop_0 16 rfl rfl)
theorem dX3_drop_17 : decode cX3_drop 17 = .ok (.getfield 19, 3) := dk_180 0 19 (dk_at dksX3_drop_0 17 rfl rfl)
theorem dX3_drop_20 : decode cX3_drop 20 = .ok (.iconst 1, 1) := dk_4 (dk_at dksX3_drop_0 20 rfl rfl)
theorem dX3_drop_21 : decode cX3_drop 21 = .ok (.iadd, 1) := dk_96 (dk_at dksX3_drop_0 21 rfl rfl)
theorem dX3_drop_22 : decode cX3_drop 22 = .ok (.invokespecial 22, 3) := dk_183 0 22 (dk_at dksX3_drop_1 0 rfl rfl)
theorem dX3_drop_25 : decode cX3_drop 25 = .ok (.areturn, 1) := dk_176 (dk_at dksX3_drop_1 3 rfl rfl)
abbrev cX3_deliver : ByteArray := prog_3_method_4_code
def yX3_deliver : MethodName := ⟨RX3, "deliver", "()LHedgeMessages$Counters;"⟩
def dkwX3_deliver_1 : List UInt8 := [183, 0, 22, 176]
abbrev dktX3_deliver_1 : List UInt8 := dkwX3_deliver_1 ++ []
def dkwX3_deliver_0 : List UInt8 := [187, 0, 8, 89, 42, 180, 0, 7, 42, 180, 0, 13, 4, 96, 42, 180, 0, 16, 42, 180, 0, 19]
abbrev dktX3_deliver_0 : List UInt8 := dkwX3_deliver_0 ++ dktX3_deliver_1
theorem dksX3_deliver_0 : cX3_deliver.data.toList.drop 0 = dktX3_deliver_0 := by decide +kernel
theorem dksX3_deliver_1 : cX3_deliver.data.toList.drop 22 = dktX3_deliver_1 := dk_seg dksX3_deliver_0 22 rfl rfl
theorem dX3_deliver_0 : decode cX3_deliver 0 = .ok (.new 8, 3) := dk_187 0 8 (dk_at dksX3_deliver_0 0 rfl rfl)
theorem dX3_deliver_3 : decode cX3_deliver 3 = .ok (.dup, 1) := dk_89 (dk_at dksX3_deliver_0 3 rfl rfl)
theorem dX3_deliver_4 : decode cX3_deliver 4 = .ok (.aload_n 0, 1) := dk_42 (dk_at dksX3_deliver_0 4 rfl rfl)
theorem dX3_deliver_5 : decode cX3_deliver 5 = .ok (.getfield 7, 3) := dk_180 0 7 (dk_at dksX3_deliver_0 5 rfl rfl)
theorem dX3_deliver_8 : decode cX3_deliver 8 = .ok (.aload_n 0, 1) := dk_42 (dk_at dksX3_deliver_0 8 rfl rfl)
theorem dX3_deliver_9 : decode cX3_deliver 9 = .ok (.getfield 13, 3) := dk_180 0 13 (dk_at dksX3_deliver_0 9 rfl rfl)
theorem dX3_deliver_12 : decode cX3_deliver 12 = .ok (.iconst 1, 1) := dk_4 (dk_at dksX3_deliver_0 12 rfl rfl)
theorem dX3_deliver_13 : decode cX3_deliver 13 = .ok (.iadd, 1) := dk_96 (dk_at dksX3_deliver_0 13 rfl rfl)
theorem dX3_deliver_14 : decode cX3_deliver 14 = .ok (.aload_n 0, 1) := dk_42 (dk_at dksX3_deliver_0 14 rfl rfl)
theorem dX3_deliver_15 : decode cX3_deliver 15 = .ok (.getfield 16, 3) := dk_180 0 16 (dk_at dksX3_deliver_0 15 rfl rfl)
theorem dX3_deliver_18 : decode cX3_deliver 18 = .ok (.aload_n 0, 1) := dk_42 (dk_at dksX3_deliver_0 18 rfl rfl)
theorem dX3_deliver_19 : decode cX3_deliver 19 = .ok (.getfield 19, 3) := dk_180 0 19 (dk_at dksX3_deliver_0 19 rfl rfl)
theorem dX3_deliver_22 : decode cX3_deliver 22 = .ok (.invokespecial 22, 3) := dk_183 0 22 (dk_at dksX3_deliver_1 0 rfl rfl)
theorem dX3_deliver_25 : decode cX3_deliver 25 = .ok (.areturn, 1) := dk_176 (dk_at dksX3_deliver_1 3 rfl rfl)
abbrev cX3_fail : ByteArray := prog_3_method_5_code
def yX3_fail : MethodName := ⟨RX3, "fail", "(Z)LHedgeMessages$Counters;"⟩
def dkwX3_fail_1 : List UInt8 := [153, 0, 7, 4, 167, 0, 4, 3, 96, 183, 0, 22, 176]
abbrev dktX3_fail_1 : List UInt8 := dkwX3_fail_1 ++ []
def dkwX3_fail_0 : List UInt8 := [187, 0, 8, 89, 42, 180, 0, 7, 42, 180, 0, 13, 42, 180, 0, 16, 4, 96, 42, 180, 0, 19, 27]
abbrev dktX3_fail_0 : List UInt8 := dkwX3_fail_0 ++ dktX3_fail_1
theorem dksX3_fail_0 : cX3_fail.data.toList.drop 0 = dktX3_fail_0 := by decide +kernel
theorem dksX3_fail_1 : cX3_fail.data.toList.drop 23 = dktX3_fail_1 := dk_seg dksX3_fail_0 23 rfl rfl
theorem dX3_fail_0 : decode cX3_fail 0 = .ok (.new 8, 3) := dk_187 0 8 (dk_at dksX3_fail_0 0 rfl rfl)
theorem dX3_fail_3 : decode cX3_fail 3 = .ok (.dup, 1) := dk_89 (dk_at dksX3_fail_0 3 rfl rfl)
theorem dX3_fail_4 : decode cX3_fail 4 = .ok (.aload_n 0, 1) := dk_42 (dk_at dksX3_fail_0 4 rfl rfl)
theorem dX3_fail_5 : decode cX3_fail 5 = .ok (.getfield 7, 3) := dk_180 0 7 (dk_at dksX3_fail_0 5 rfl rfl)
theorem dX3_fail_8 : decode cX3_fail 8 = .ok (.aload_n 0, 1) := dk_42 (dk_at dksX3_fail_0 8 rfl rfl)
theorem dX3_fail_9 : decode cX3_fail 9 = .ok (.getfield 13, 3) := dk_180 0 13 (dk_at dksX3_fail_0 9 rfl rfl)
theorem dX3_fail_12 : decode cX3_fail 12 = .ok (.aload_n 0, 1) := dk_42 (dk_at dksX3_fail_0 12 rfl rfl)
theorem dX3_fail_13 : decode cX3_fail 13 = .ok (.getfield 16, 3) := dk_180 0 16 (dk_at dksX3_fail_0 13 rfl rfl)
theorem dX3_fail_16 : decode cX3_fail 16 = .ok (.iconst 1, 1) := dk_4 (dk_at dksX3_fail_0 16 rfl rfl)
theorem dX3_fail_17 : decode cX3_fail 17 = .ok (.iadd, 1) := dk_96 (dk_at dksX3_fail_0 17 rfl rfl)
theorem dX3_fail_18 : decode cX3_fail 18 = .ok (.aload_n 0, 1) := dk_42 (dk_at dksX3_fail_0 18 rfl rfl)
theorem dX3_fail_19 : decode cX3_fail 19 = .ok (.getfield 19, 3) := dk_180 0 19 (dk_at dksX3_fail_0 19 rfl rfl)
theorem dX3_fail_22 : decode cX3_fail 22 = .ok (.iload_n 1, 1) := dk_27 (dk_at dksX3_fail_0 22 rfl rfl)
theorem dX3_fail_23 : decode cX3_fail 23 = .ok (.ifCond .eq 7, 3) := dk_153 0 7 (dk_at dksX3_fail_1 0 rfl rfl)
theorem dX3_fail_26 : decode cX3_fail 26 = .ok (.iconst 1, 1) := dk_4 (dk_at dksX3_fail_1 3 rfl rfl)
theorem dX3_fail_27 : decode cX3_fail 27 = .ok (.goto 4, 3) := dk_167 0 4 (dk_at dksX3_fail_1 4 rfl rfl)
theorem dX3_fail_30 : decode cX3_fail 30 = .ok (.iconst 0, 1) := dk_3 (dk_at dksX3_fail_1 7 rfl rfl)
theorem dX3_fail_31 : decode cX3_fail 31 = .ok (.iadd, 1) := dk_96 (dk_at dksX3_fail_1 8 rfl rfl)
theorem dX3_fail_32 : decode cX3_fail 32 = .ok (.invokespecial 22, 3) := dk_183 0 22 (dk_at dksX3_fail_1 9 rfl rfl)
theorem dX3_fail_35 : decode cX3_fail 35 = .ok (.areturn, 1) := dk_176 (dk_at dksX3_fail_1 12 rfl rfl)
abbrev cX3_failed : ByteArray := prog_3_method_12_code
def yX3_failed : MethodName := ⟨RX3, "failed", "()I"⟩
theorem dX3_failed_0 : decode cX3_failed 0 = .ok (.aload_n 0, 1) := by decide +kernel
theorem dX3_failed_1 : decode cX3_failed 1 = .ok (.getfield 16, 3) := by decide +kernel
theorem dX3_failed_4 : decode cX3_failed 4 = .ok (.ireturn, 1) := by decide +kernel
theorem q148 : (Jvm.Cond.initialized "HedgeMessages$Counters") ∈ lw_all := lw_g (lw_at lw_m1 4 rfl) rfl
theorem q207 : (Jvm.Cond.instantiable "HedgeMessages$Counters" (4 : Nat)) ∈ lw_all := lw_g (lw_at lw_m1 63 rfl) rfl
theorem q209 : (Jvm.Cond.instanceMethod ({ cls := "HedgeMessages$Counters", name := "<init>", desc := "()V" } : Jvm.MethodName)) ∈ lw_all := lw_g (lw_at lw_m1 65 rfl) rfl
theorem q210 : (Jvm.Cond.code ({ cls := "HedgeMessages$Counters", name := "<init>", desc := "()V" } : Jvm.MethodName) prog_3_method_1_code (1 : Nat) (Option.none : Option Jvm.ClassFile.FieldType)) ∈ lw_all := lw_g (lw_at lw_m1 66 rfl) rfl
theorem q211 : (Jvm.Cond.methodLink "HedgeMessages$Counters" (22 : Nat) ({ cls := "HedgeMessages$Counters", name := "<init>", desc := "(IIII)V" } : Jvm.MethodName)) ∈ lw_all := lw_g (lw_at lw_m1 67 rfl) rfl
theorem q212 : (Jvm.Cond.instanceMethod ({ cls := "HedgeMessages$Counters", name := "<init>", desc := "(IIII)V" } : Jvm.MethodName)) ∈ lw_all := lw_g (lw_at lw_m1 68 rfl) rfl
theorem q213 : (Jvm.Cond.code ({ cls := "HedgeMessages$Counters", name := "<init>", desc := "(IIII)V" } : Jvm.MethodName) prog_3_method_2_code (5 : Nat) (Option.none : Option Jvm.ClassFile.FieldType)) ∈ lw_all := lw_g (lw_at lw_m1 69 rfl) rfl
theorem q214 : (Jvm.Cond.methodLink "HedgeMessages$Counters" (1 : Nat) ({ cls := "java/lang/Record", name := "<init>", desc := "()V" } : Jvm.MethodName)) ∈ lw_all := lw_g (lw_at lw_m1 70 rfl) rfl
theorem q218 : (Jvm.Cond.fieldLink "HedgeMessages$Counters" (7 : Nat) "HedgeMessages$Counters" "queued" "I") ∈ lw_all := lw_g (lw_at lw_m1 74 rfl) rfl
theorem q219 : (Jvm.Cond.fieldLink "HedgeMessages$Counters" (13 : Nat) "HedgeMessages$Counters" "delivered" "I") ∈ lw_all := lw_g (lw_at lw_m1 75 rfl) rfl
theorem q220 : (Jvm.Cond.fieldLink "HedgeMessages$Counters" (16 : Nat) "HedgeMessages$Counters" "failed" "I") ∈ lw_all := lw_g (lw_at lw_m1 76 rfl) rfl
theorem q221 : (Jvm.Cond.fieldLink "HedgeMessages$Counters" (19 : Nat) "HedgeMessages$Counters" "dropped" "I") ∈ lw_all := lw_g (lw_at lw_m1 77 rfl) rfl
theorem q222 : (Jvm.Cond.laysFinal "HedgeMessages$Counters" "HedgeMessages$Counters" "queued" "I") ∈ lw_all := lw_g (lw_at lw_m1 78 rfl) rfl
theorem q223 : (Jvm.Cond.soleField "HedgeMessages$Counters" "queued") ∈ lw_all := lw_g (lw_at lw_m1 79 rfl) rfl
theorem q224 : (Jvm.Cond.laysFinal "HedgeMessages$Counters" "HedgeMessages$Counters" "delivered" "I") ∈ lw_all := lw_g (lw_at lw_m1 80 rfl) rfl
theorem q225 : (Jvm.Cond.soleField "HedgeMessages$Counters" "delivered") ∈ lw_all := lw_g (lw_at lw_m1 81 rfl) rfl
theorem q226 : (Jvm.Cond.laysFinal "HedgeMessages$Counters" "HedgeMessages$Counters" "failed" "I") ∈ lw_all := lw_g (lw_at lw_m1 82 rfl) rfl
theorem q227 : (Jvm.Cond.soleField "HedgeMessages$Counters" "failed") ∈ lw_all := lw_g (lw_at lw_m1 83 rfl) rfl
theorem q228 : (Jvm.Cond.laysFinal "HedgeMessages$Counters" "HedgeMessages$Counters" "dropped" "I") ∈ lw_all := lw_g (lw_at lw_m1 84 rfl) rfl
theorem q229 : (Jvm.Cond.soleField "HedgeMessages$Counters" "dropped") ∈ lw_all := lw_g (lw_at lw_m1 85 rfl) rfl
theorem q230 : (Jvm.Cond.superclass "HedgeMessages$Counters" "java/lang/Record") ∈ lw_all := lw_g (lw_at lw_m1 86 rfl) rfl
theorem q623 : (Jvm.Cond.selects "HedgeMessages$Counters" ({ cls := "java/lang/Object", name := "getClass", desc := "()Ljava/lang/Class;" } : Jvm.MethodName) ({ cls := "java/lang/Object", name := "getClass", desc := "()Ljava/lang/Class;" } : Jvm.MethodName)) ∈ lw_all := lw_g (lw_at lw_m2 239 rfl) rfl
theorem q804 : (Jvm.Cond.instanceMethod ({ cls := "HedgeMessages$Counters", name := "queue", desc := "()LHedgeMessages$Counters;" } : Jvm.MethodName)) ∈ lw_all := lw_g (lw_at lw_m3 180 rfl) rfl
theorem q805 : (Jvm.Cond.selects "HedgeMessages$Counters" ({ cls := "HedgeMessages$Counters", name := "queue", desc := "()LHedgeMessages$Counters;" } : Jvm.MethodName) ({ cls := "HedgeMessages$Counters", name := "queue", desc := "()LHedgeMessages$Counters;" } : Jvm.MethodName)) ∈ lw_all := lw_g (lw_at lw_m3 181 rfl) rfl
theorem q806 : (Jvm.Cond.code ({ cls := "HedgeMessages$Counters", name := "queue", desc := "()LHedgeMessages$Counters;" } : Jvm.MethodName) prog_3_method_3_code (1 : Nat) (Option.some (Jvm.ClassFile.FieldType.object "HedgeMessages$Counters"))) ∈ lw_all := lw_g (lw_at lw_m3 182 rfl) rfl
theorem q807 : (Jvm.Cond.classLink "HedgeMessages$Counters" (8 : Nat) "HedgeMessages$Counters") ∈ lw_all := lw_g (lw_at lw_m3 183 rfl) rfl
theorem q1199 : (Jvm.Cond.instanceMethod ({ cls := "HedgeMessages$Counters", name := "queued", desc := "()I" } : Jvm.MethodName)) ∈ lw_all := lw_g (lw_at lw_m5 95 rfl) rfl
theorem q1200 : (Jvm.Cond.selects "HedgeMessages$Counters" ({ cls := "HedgeMessages$Counters", name := "queued", desc := "()I" } : Jvm.MethodName) ({ cls := "HedgeMessages$Counters", name := "queued", desc := "()I" } : Jvm.MethodName)) ∈ lw_all := lw_g (lw_at lw_m5 96 rfl) rfl
theorem q1201 : (Jvm.Cond.code ({ cls := "HedgeMessages$Counters", name := "queued", desc := "()I" } : Jvm.MethodName) prog_3_method_10_code (1 : Nat) (Option.some Jvm.ClassFile.FieldType.int)) ∈ lw_all := lw_g (lw_at lw_m5 97 rfl) rfl
theorem q1203 : (Jvm.Cond.instanceMethod ({ cls := "HedgeMessages$Counters", name := "delivered", desc := "()I" } : Jvm.MethodName)) ∈ lw_all := lw_g (lw_at lw_m5 99 rfl) rfl
theorem q1204 : (Jvm.Cond.selects "HedgeMessages$Counters" ({ cls := "HedgeMessages$Counters", name := "delivered", desc := "()I" } : Jvm.MethodName) ({ cls := "HedgeMessages$Counters", name := "delivered", desc := "()I" } : Jvm.MethodName)) ∈ lw_all := lw_g (lw_at lw_m5 100 rfl) rfl
theorem q1205 : (Jvm.Cond.code ({ cls := "HedgeMessages$Counters", name := "delivered", desc := "()I" } : Jvm.MethodName) prog_3_method_11_code (1 : Nat) (Option.some Jvm.ClassFile.FieldType.int)) ∈ lw_all := lw_g (lw_at lw_m5 101 rfl) rfl
theorem q1207 : (Jvm.Cond.instanceMethod ({ cls := "HedgeMessages$Counters", name := "dropped", desc := "()I" } : Jvm.MethodName)) ∈ lw_all := lw_g (lw_at lw_m5 103 rfl) rfl
theorem q1208 : (Jvm.Cond.selects "HedgeMessages$Counters" ({ cls := "HedgeMessages$Counters", name := "dropped", desc := "()I" } : Jvm.MethodName) ({ cls := "HedgeMessages$Counters", name := "dropped", desc := "()I" } : Jvm.MethodName)) ∈ lw_all := lw_g (lw_at lw_m5 104 rfl) rfl
theorem q1209 : (Jvm.Cond.code ({ cls := "HedgeMessages$Counters", name := "dropped", desc := "()I" } : Jvm.MethodName) prog_3_method_13_code (1 : Nat) (Option.some Jvm.ClassFile.FieldType.int)) ∈ lw_all := lw_g (lw_at lw_m5 105 rfl) rfl
theorem q1868 : (Jvm.Cond.instanceMethod ({ cls := "HedgeMessages$Counters", name := "drop", desc := "()LHedgeMessages$Counters;" } : Jvm.MethodName)) ∈ lw_all := lw_g (lw_at lw_m8 44 rfl) rfl
theorem q1869 : (Jvm.Cond.selects "HedgeMessages$Counters" ({ cls := "HedgeMessages$Counters", name := "drop", desc := "()LHedgeMessages$Counters;" } : Jvm.MethodName) ({ cls := "HedgeMessages$Counters", name := "drop", desc := "()LHedgeMessages$Counters;" } : Jvm.MethodName)) ∈ lw_all := lw_g (lw_at lw_m8 45 rfl) rfl
theorem q1870 : (Jvm.Cond.code ({ cls := "HedgeMessages$Counters", name := "drop", desc := "()LHedgeMessages$Counters;" } : Jvm.MethodName) prog_3_method_6_code (1 : Nat) (Option.some (Jvm.ClassFile.FieldType.object "HedgeMessages$Counters"))) ∈ lw_all := lw_g (lw_at lw_m8 46 rfl) rfl
theorem q1916 : (Jvm.Cond.instanceMethod ({ cls := "HedgeMessages$Counters", name := "deliver", desc := "()LHedgeMessages$Counters;" } : Jvm.MethodName)) ∈ lw_all := lw_g (lw_at lw_m8 92 rfl) rfl
theorem q1917 : (Jvm.Cond.selects "HedgeMessages$Counters" ({ cls := "HedgeMessages$Counters", name := "deliver", desc := "()LHedgeMessages$Counters;" } : Jvm.MethodName) ({ cls := "HedgeMessages$Counters", name := "deliver", desc := "()LHedgeMessages$Counters;" } : Jvm.MethodName)) ∈ lw_all := lw_g (lw_at lw_m8 93 rfl) rfl
theorem q1918 : (Jvm.Cond.code ({ cls := "HedgeMessages$Counters", name := "deliver", desc := "()LHedgeMessages$Counters;" } : Jvm.MethodName) prog_3_method_4_code (1 : Nat) (Option.some (Jvm.ClassFile.FieldType.object "HedgeMessages$Counters"))) ∈ lw_all := lw_g (lw_at lw_m8 94 rfl) rfl
theorem q1982 : (Jvm.Cond.instanceMethod ({ cls := "HedgeMessages$Counters", name := "fail", desc := "(Z)LHedgeMessages$Counters;" } : Jvm.MethodName)) ∈ lw_all := lw_g (lw_at lw_m8 158 rfl) rfl
theorem q1983 : (Jvm.Cond.selects "HedgeMessages$Counters" ({ cls := "HedgeMessages$Counters", name := "fail", desc := "(Z)LHedgeMessages$Counters;" } : Jvm.MethodName) ({ cls := "HedgeMessages$Counters", name := "fail", desc := "(Z)LHedgeMessages$Counters;" } : Jvm.MethodName)) ∈ lw_all := lw_g (lw_at lw_m8 159 rfl) rfl
theorem q1984 : (Jvm.Cond.code ({ cls := "HedgeMessages$Counters", name := "fail", desc := "(Z)LHedgeMessages$Counters;" } : Jvm.MethodName) prog_3_method_5_code (2 : Nat) (Option.some (Jvm.ClassFile.FieldType.object "HedgeMessages$Counters"))) ∈ lw_all := lw_g (lw_at lw_m8 160 rfl) rfl
theorem q2234 : (Jvm.Cond.instanceMethod ({ cls := "HedgeMessages$Counters", name := "failed", desc := "()I" } : Jvm.MethodName)) ∈ lw_all := lw_g (lw_at lw_m9 170 rfl) rfl
theorem q2235 : (Jvm.Cond.selects "HedgeMessages$Counters" ({ cls := "HedgeMessages$Counters", name := "failed", desc := "()I" } : Jvm.MethodName) ({ cls := "HedgeMessages$Counters", name := "failed", desc := "()I" } : Jvm.MethodName)) ∈ lw_all := lw_g (lw_at lw_m9 171 rfl) rfl
theorem q2236 : (Jvm.Cond.code ({ cls := "HedgeMessages$Counters", name := "failed", desc := "()I" } : Jvm.MethodName) prog_3_method_12_code (1 : Nat) (Option.some Jvm.ClassFile.FieldType.int)) ∈ lw_all := lw_g (lw_at lw_m9 172 rfl) rfl
theorem q3129 : (Jvm.Cond.castable "HedgeMessages$Counters" "java/lang/Object") ∈ lw_tbl := lw_at lw_m13 105 rfl
theorem in_X3 : ∀ w ∈ wsX30, w ∈ lw_all := lw_in wsX30 [222, 224, 226, 228] (by decide +kernel) (by decide +kernel)

/-! HedgeMessages$Twig -/
set_option maxRecDepth 100000
def RX4 : String := "HedgeMessages$Twig"
def TX4 : u_T := fun k => match k with
  | 0 => ("HedgeMessages$Twig", "letter", "C", true)
  | 1 => ("HedgeMessages$Twig", "owner", "I", true)
  | 2 => ("HedgeMessages$Twig", "ofMessage", "Z", true)
  | _ => ("HedgeMessages$Twig", "length", "I", false)
def tyX4 : Nat → FieldType := fun k => match k with
  | 0 => .char
  | 1 => .int
  | 2 => .boolean
  | _ => .int
abbrev wsX40 : List Cond := u_ws RX4 TX4 4
theorem nmX4 : ∀ a, a < 4 → ∀ b, b < 4 → a ≠ b → (TX4 a).2.1 ≠ (TX4 b).2.1 := by decide +kernel
theorem tyX4_ok : ∀ k, k < 4 → parseFieldDescriptor (TX4 k).2.2.1 = some (tyX4 k) := by decide +kernel
abbrev cX4_init : ByteArray := prog_12_method_1_code
def yX4_init : MethodName := ⟨RX4, "<init>", "(CII)V"⟩
def dkwX4_init_0 : List UInt8 := [42, 27, 28, 29, 3, 183, 0, 1, 177]
abbrev dktX4_init_0 : List UInt8 := dkwX4_init_0 ++ []
theorem dksX4_init_0 : cX4_init.data.toList.drop 0 = dktX4_init_0 := by decide +kernel
theorem dX4_init_0 : decode cX4_init 0 = .ok (.aload_n 0, 1) := dk_42 (dk_at dksX4_init_0 0 rfl rfl)
theorem dX4_init_1 : decode cX4_init 1 = .ok (.iload_n 1, 1) := dk_27 (dk_at dksX4_init_0 1 rfl rfl)
theorem dX4_init_2 : decode cX4_init 2 = .ok (.iload_n 2, 1) := dk_28 (dk_at dksX4_init_0 2 rfl rfl)
theorem dX4_init_3 : decode cX4_init 3 = .ok (.iload_n 3, 1) := dk_29 (dk_at dksX4_init_0 3 rfl rfl)
theorem dX4_init_4 : decode cX4_init 4 = .ok (.iconst 0, 1) := dk_3 (dk_at dksX4_init_0 4 rfl rfl)
theorem dX4_init_5 : decode cX4_init 5 = .ok (.invokespecial 1, 3) := dk_183 0 1 (dk_at dksX4_init_0 5 rfl rfl)
theorem dX4_init_8 : decode cX4_init 8 = .ok (.return_, 1) := dk_177 (dk_at dksX4_init_0 8 rfl rfl)
abbrev cX4_init_2 : ByteArray := prog_12_method_2_code
def yX4_init_2 : MethodName := ⟨RX4, "<init>", "(CIIZ)V"⟩
def dkwX4_init_2_1 : List UInt8 := [181, 0, 23, 177]
abbrev dktX4_init_2_1 : List UInt8 := dkwX4_init_2_1 ++ []
def dkwX4_init_2_0 : List UInt8 := [42, 183, 0, 7, 42, 27, 181, 0, 12, 42, 28, 181, 0, 16, 42, 29, 181, 0, 20, 42, 21, 4]
abbrev dktX4_init_2_0 : List UInt8 := dkwX4_init_2_0 ++ dktX4_init_2_1
theorem dksX4_init_2_0 : cX4_init_2.data.toList.drop 0 = dktX4_init_2_0 := by decide +kernel
theorem dksX4_init_2_1 : cX4_init_2.data.toList.drop 22 = dktX4_init_2_1 := dk_seg dksX4_init_2_0 22 rfl rfl
theorem dX4_init_2_0 : decode cX4_init_2 0 = .ok (.aload_n 0, 1) := dk_42 (dk_at dksX4_init_2_0 0 rfl rfl)
theorem dX4_init_2_1 : decode cX4_init_2 1 = .ok (.invokespecial 7, 3) := dk_183 0 7 (dk_at dksX4_init_2_0 1 rfl rfl)
theorem dX4_init_2_4 : decode cX4_init_2 4 = .ok (.aload_n 0, 1) := dk_42 (dk_at dksX4_init_2_0 4 rfl rfl)
theorem dX4_init_2_5 : decode cX4_init_2 5 = .ok (.iload_n 1, 1) := dk_27 (dk_at dksX4_init_2_0 5 rfl rfl)
theorem dX4_init_2_6 : decode cX4_init_2 6 = .ok (.putfield 12, 3) := dk_181 0 12 (dk_at dksX4_init_2_0 6 rfl rfl)
theorem dX4_init_2_9 : decode cX4_init_2 9 = .ok (.aload_n 0, 1) := dk_42 (dk_at dksX4_init_2_0 9 rfl rfl)
theorem dX4_init_2_10 : decode cX4_init_2 10 = .ok (.iload_n 2, 1) := dk_28 (dk_at dksX4_init_2_0 10 rfl rfl)
theorem dX4_init_2_11 : decode cX4_init_2 11 = .ok (.putfield 16, 3) := dk_181 0 16 (dk_at dksX4_init_2_0 11 rfl rfl)
theorem dX4_init_2_14 : decode cX4_init_2 14 = .ok (.aload_n 0, 1) := dk_42 (dk_at dksX4_init_2_0 14 rfl rfl)
theorem dX4_init_2_15 : decode cX4_init_2 15 = .ok (.iload_n 3, 1) := dk_29 (dk_at dksX4_init_2_0 15 rfl rfl)
theorem dX4_init_2_16 : decode cX4_init_2 16 = .ok (.putfield 20, 3) := dk_181 0 20 (dk_at dksX4_init_2_0 16 rfl rfl)
theorem dX4_init_2_19 : decode cX4_init_2 19 = .ok (.aload_n 0, 1) := dk_42 (dk_at dksX4_init_2_0 19 rfl rfl)
theorem dX4_init_2_20 : decode cX4_init_2 20 = .ok (.iload 4, 2) := dk_21 4 (dk_at dksX4_init_2_0 20 rfl rfl)
theorem dX4_init_2_22 : decode cX4_init_2 22 = .ok (.putfield 23, 3) := dk_181 0 23 (dk_at dksX4_init_2_1 0 rfl rfl)
theorem dX4_init_2_25 : decode cX4_init_2 25 = .ok (.return_, 1) := dk_177 (dk_at dksX4_init_2_1 3 rfl rfl)
abbrev cX4_copy : ByteArray := prog_12_method_3_code
def yX4_copy : MethodName := ⟨RX4, "copy", "()LHedgeMessages$Twig;"⟩
def dkwX4_copy_0 : List UInt8 := [187, 0, 2, 89, 42, 180, 0, 12, 42, 180, 0, 16, 42, 180, 0, 20, 42, 180, 0, 23, 183, 0, 1, 176]
abbrev dktX4_copy_0 : List UInt8 := dkwX4_copy_0 ++ []
theorem dksX4_copy_0 : cX4_copy.data.toList.drop 0 = dktX4_copy_0 := by decide +kernel
theorem dX4_copy_0 : decode cX4_copy 0 = .ok (.new 2, 3) := dk_187 0 2 (dk_at dksX4_copy_0 0 rfl rfl)
theorem dX4_copy_3 : decode cX4_copy 3 = .ok (.dup, 1) := dk_89 (dk_at dksX4_copy_0 3 rfl rfl)
theorem dX4_copy_4 : decode cX4_copy 4 = .ok (.aload_n 0, 1) := dk_42 (dk_at dksX4_copy_0 4 rfl rfl)
theorem dX4_copy_5 : decode cX4_copy 5 = .ok (.getfield 12, 3) := dk_180 0 12 (dk_at dksX4_copy_0 5 rfl rfl)
theorem dX4_copy_8 : decode cX4_copy 8 = .ok (.aload_n 0, 1) := dk_42 (dk_at dksX4_copy_0 8 rfl rfl)
theorem dX4_copy_9 : decode cX4_copy 9 = .ok (.getfield 16, 3) := dk_180 0 16 (dk_at dksX4_copy_0 9 rfl rfl)
theorem dX4_copy_12 : decode cX4_copy 12 = .ok (.aload_n 0, 1) := dk_42 (dk_at dksX4_copy_0 12 rfl rfl)
theorem dX4_copy_13 : decode cX4_copy 13 = .ok (.getfield 20, 3) := dk_180 0 20 (dk_at dksX4_copy_0 13 rfl rfl)
theorem dX4_copy_16 : decode cX4_copy 16 = .ok (.aload_n 0, 1) := dk_42 (dk_at dksX4_copy_0 16 rfl rfl)
theorem dX4_copy_17 : decode cX4_copy 17 = .ok (.getfield 23, 3) := dk_180 0 23 (dk_at dksX4_copy_0 17 rfl rfl)
theorem dX4_copy_20 : decode cX4_copy 20 = .ok (.invokespecial 1, 3) := dk_183 0 1 (dk_at dksX4_copy_0 20 rfl rfl)
theorem dX4_copy_23 : decode cX4_copy 23 = .ok (.areturn, 1) := dk_176 (dk_at dksX4_copy_0 23 rfl rfl)
theorem q168 : (Jvm.Cond.initialized "HedgeMessages$Twig") ∈ lw_all := lw_g (lw_at lw_m1 24 rfl) rfl
theorem q631 : (Jvm.Cond.selects "HedgeMessages$Twig" ({ cls := "java/lang/Object", name := "getClass", desc := "()Ljava/lang/Class;" } : Jvm.MethodName) ({ cls := "java/lang/Object", name := "getClass", desc := "()Ljava/lang/Class;" } : Jvm.MethodName)) ∈ lw_all := lw_g (lw_at lw_m3 7 rfl) rfl
theorem q721 : (Jvm.Cond.instantiable "HedgeMessages$Twig" (4 : Nat)) ∈ lw_all := lw_g (lw_at lw_m3 97 rfl) rfl
theorem q723 : (Jvm.Cond.instanceMethod ({ cls := "HedgeMessages$Twig", name := "<init>", desc := "(CII)V" } : Jvm.MethodName)) ∈ lw_all := lw_g (lw_at lw_m3 99 rfl) rfl
theorem q724 : (Jvm.Cond.code ({ cls := "HedgeMessages$Twig", name := "<init>", desc := "(CII)V" } : Jvm.MethodName) prog_12_method_1_code (4 : Nat) (Option.none : Option Jvm.ClassFile.FieldType)) ∈ lw_all := lw_g (lw_at lw_m3 100 rfl) rfl
theorem q725 : (Jvm.Cond.methodLink "HedgeMessages$Twig" (1 : Nat) ({ cls := "HedgeMessages$Twig", name := "<init>", desc := "(CIIZ)V" } : Jvm.MethodName)) ∈ lw_all := lw_g (lw_at lw_m3 101 rfl) rfl
theorem q726 : (Jvm.Cond.instanceMethod ({ cls := "HedgeMessages$Twig", name := "<init>", desc := "(CIIZ)V" } : Jvm.MethodName)) ∈ lw_all := lw_g (lw_at lw_m3 102 rfl) rfl
theorem q727 : (Jvm.Cond.code ({ cls := "HedgeMessages$Twig", name := "<init>", desc := "(CIIZ)V" } : Jvm.MethodName) prog_12_method_2_code (5 : Nat) (Option.none : Option Jvm.ClassFile.FieldType)) ∈ lw_all := lw_g (lw_at lw_m3 103 rfl) rfl
theorem q728 : (Jvm.Cond.methodLink "HedgeMessages$Twig" (7 : Nat) ({ cls := "java/lang/Object", name := "<init>", desc := "()V" } : Jvm.MethodName)) ∈ lw_all := lw_g (lw_at lw_m3 104 rfl) rfl
theorem q729 : (Jvm.Cond.fieldLink "HedgeMessages$Twig" (12 : Nat) "HedgeMessages$Twig" "letter" "C") ∈ lw_all := lw_g (lw_at lw_m3 105 rfl) rfl
theorem q731 : (Jvm.Cond.fieldLink "HedgeMessages$Twig" (16 : Nat) "HedgeMessages$Twig" "owner" "I") ∈ lw_all := lw_g (lw_at lw_m3 107 rfl) rfl
theorem q733 : (Jvm.Cond.fieldLink "HedgeMessages$Twig" (23 : Nat) "HedgeMessages$Twig" "ofMessage" "Z") ∈ lw_all := lw_g (lw_at lw_m3 109 rfl) rfl
theorem q735 : (Jvm.Cond.fieldLink "HedgeMessages$Twig" (20 : Nat) "HedgeMessages$Twig" "length" "I") ∈ lw_all := lw_g (lw_at lw_m3 111 rfl) rfl
theorem q738 : (Jvm.Cond.laysFinal "HedgeMessages$Twig" "HedgeMessages$Twig" "letter" "C") ∈ lw_all := lw_g (lw_at lw_m3 114 rfl) rfl
theorem q739 : (Jvm.Cond.soleField "HedgeMessages$Twig" "letter") ∈ lw_all := lw_g (lw_at lw_m3 115 rfl) rfl
theorem q740 : (Jvm.Cond.laysFinal "HedgeMessages$Twig" "HedgeMessages$Twig" "owner" "I") ∈ lw_all := lw_g (lw_at lw_m3 116 rfl) rfl
theorem q741 : (Jvm.Cond.soleField "HedgeMessages$Twig" "owner") ∈ lw_all := lw_g (lw_at lw_m3 117 rfl) rfl
theorem q742 : (Jvm.Cond.laysFinal "HedgeMessages$Twig" "HedgeMessages$Twig" "ofMessage" "Z") ∈ lw_all := lw_g (lw_at lw_m3 118 rfl) rfl
theorem q743 : (Jvm.Cond.soleField "HedgeMessages$Twig" "ofMessage") ∈ lw_all := lw_g (lw_at lw_m3 119 rfl) rfl
theorem q744 : (Jvm.Cond.lays "HedgeMessages$Twig" "HedgeMessages$Twig" "length" "I") ∈ lw_all := lw_g (lw_at lw_m3 120 rfl) rfl
theorem q745 : (Jvm.Cond.soleField "HedgeMessages$Twig" "length") ∈ lw_all := lw_g (lw_at lw_m3 121 rfl) rfl
theorem q746 : (Jvm.Cond.superclass "HedgeMessages$Twig" "java/lang/Object") ∈ lw_all := lw_g (lw_at lw_m3 122 rfl) rfl
theorem q1283 : (Jvm.Cond.instanceMethod ({ cls := "HedgeMessages$Twig", name := "copy", desc := "()LHedgeMessages$Twig;" } : Jvm.MethodName)) ∈ lw_all := lw_g (lw_at lw_m5 179 rfl) rfl
theorem q1284 : (Jvm.Cond.selects "HedgeMessages$Twig" ({ cls := "HedgeMessages$Twig", name := "copy", desc := "()LHedgeMessages$Twig;" } : Jvm.MethodName) ({ cls := "HedgeMessages$Twig", name := "copy", desc := "()LHedgeMessages$Twig;" } : Jvm.MethodName)) ∈ lw_all := lw_g (lw_at lw_m5 180 rfl) rfl
theorem q1285 : (Jvm.Cond.code ({ cls := "HedgeMessages$Twig", name := "copy", desc := "()LHedgeMessages$Twig;" } : Jvm.MethodName) prog_12_method_3_code (1 : Nat) (Option.some (Jvm.ClassFile.FieldType.object "HedgeMessages$Twig"))) ∈ lw_all := lw_g (lw_at lw_m5 181 rfl) rfl
theorem q1286 : (Jvm.Cond.classLink "HedgeMessages$Twig" (2 : Nat) "HedgeMessages$Twig") ∈ lw_all := lw_g (lw_at lw_m5 182 rfl) rfl
theorem q3128 : (Jvm.Cond.castable "HedgeMessages$Twig" "java/lang/Object") ∈ lw_tbl := lw_at lw_m13 104 rfl
theorem in_X4 : ∀ w ∈ wsX40, w ∈ lw_all := lw_in wsX40 [738, 740, 742, 744] (by decide +kernel) (by decide +kernel)

/-! HedgeMessages$Message -/
set_option maxRecDepth 100000
def RX5 : String := "HedgeMessages$Message"
def TX5 : u_T := fun k => match k with
  | 0 => ("HedgeMessages$Message", "sender", "I", true)
  | 1 => ("HedgeMessages$Message", "word", "Ljava/lang/String;", true)
  | 2 => ("HedgeMessages$Message", "start", "I", false)
  | _ => ("HedgeMessages$Message", "written", "I", false)
def tyX5 : Nat → FieldType := fun k => match k with
  | 0 => .int
  | 1 => .object "java/lang/String"
  | 2 => .int
  | _ => .int
abbrev wsX50 : List Cond := u_ws RX5 TX5 4
theorem nmX5 : ∀ a, a < 4 → ∀ b, b < 4 → a ≠ b → (TX5 a).2.1 ≠ (TX5 b).2.1 := by decide +kernel
theorem tyX5_ok : ∀ k, k < 4 → parseFieldDescriptor (TX5 k).2.2.1 = some (tyX5 k) := by decide +kernel
abbrev cX5_init : ByteArray := prog_4_method_1_code
def yX5_init : MethodName := ⟨RX5, "<init>", "(ILjava/lang/String;)V"⟩
def dkwX5_init_0 : List UInt8 := [42, 183, 0, 3, 42, 2, 181, 0, 9, 42, 27, 181, 0, 15, 42, 44, 181, 0, 18, 177]
abbrev dktX5_init_0 : List UInt8 := dkwX5_init_0 ++ []
theorem dksX5_init_0 : cX5_init.data.toList.drop 0 = dktX5_init_0 := by decide +kernel
theorem dX5_init_0 : decode cX5_init 0 = .ok (.aload_n 0, 1) := dk_42 (dk_at dksX5_init_0 0 rfl rfl)
theorem dX5_init_1 : decode cX5_init 1 = .ok (.invokespecial 3, 3) := dk_183 0 3 (dk_at dksX5_init_0 1 rfl rfl)
theorem dX5_init_4 : decode cX5_init 4 = .ok (.aload_n 0, 1) := dk_42 (dk_at dksX5_init_0 4 rfl rfl)
theorem dX5_init_5 : decode cX5_init 5 = .ok (.iconst (-1), 1) := dk_2 (dk_at dksX5_init_0 5 rfl rfl)
theorem dX5_init_6 : decode cX5_init 6 = .ok (.putfield 9, 3) := dk_181 0 9 (dk_at dksX5_init_0 6 rfl rfl)
theorem dX5_init_9 : decode cX5_init 9 = .ok (.aload_n 0, 1) := dk_42 (dk_at dksX5_init_0 9 rfl rfl)
theorem dX5_init_10 : decode cX5_init 10 = .ok (.iload_n 1, 1) := dk_27 (dk_at dksX5_init_0 10 rfl rfl)
theorem dX5_init_11 : decode cX5_init 11 = .ok (.putfield 15, 3) := dk_181 0 15 (dk_at dksX5_init_0 11 rfl rfl)
theorem dX5_init_14 : decode cX5_init 14 = .ok (.aload_n 0, 1) := dk_42 (dk_at dksX5_init_0 14 rfl rfl)
theorem dX5_init_15 : decode cX5_init 15 = .ok (.aload_n 2, 1) := dk_44 (dk_at dksX5_init_0 15 rfl rfl)
theorem dX5_init_16 : decode cX5_init 16 = .ok (.putfield 18, 3) := dk_181 0 18 (dk_at dksX5_init_0 16 rfl rfl)
theorem dX5_init_19 : decode cX5_init 19 = .ok (.return_, 1) := dk_177 (dk_at dksX5_init_0 19 rfl rfl)
abbrev cX5_reserves : ByteArray := prog_4_method_4_code
def yX5_reserves : MethodName := ⟨RX5, "reserves", "(I)Z"⟩
def dkwX5_reserves_1 : List UInt8 := [4, 100, 133, 184, 0, 35, 153, 0, 7, 4, 167, 0, 4, 3, 172]
abbrev dktX5_reserves_1 : List UInt8 := dkwX5_reserves_1 ++ []
def dkwX5_reserves_0 : List UInt8 := [42, 180, 0, 9, 2, 159, 0, 32, 27, 133, 42, 180, 0, 9, 133, 42, 180, 0, 9, 42, 182, 0, 34, 96]
abbrev dktX5_reserves_0 : List UInt8 := dkwX5_reserves_0 ++ dktX5_reserves_1
theorem dksX5_reserves_0 : cX5_reserves.data.toList.drop 0 = dktX5_reserves_0 := by decide +kernel
theorem dksX5_reserves_1 : cX5_reserves.data.toList.drop 24 = dktX5_reserves_1 := dk_seg dksX5_reserves_0 24 rfl rfl
theorem dX5_reserves_0 : decode cX5_reserves 0 = .ok (.aload_n 0, 1) := dk_42 (dk_at dksX5_reserves_0 0 rfl rfl)
theorem dX5_reserves_1 : decode cX5_reserves 1 = .ok (.getfield 9, 3) := dk_180 0 9 (dk_at dksX5_reserves_0 1 rfl rfl)
theorem dX5_reserves_4 : decode cX5_reserves 4 = .ok (.iconst (-1), 1) := dk_2 (dk_at dksX5_reserves_0 4 rfl rfl)
theorem dX5_reserves_5 : decode cX5_reserves 5 = .ok (.if_icmp .eq 32, 3) := dk_159 0 32 (dk_at dksX5_reserves_0 5 rfl rfl)
theorem dX5_reserves_8 : decode cX5_reserves 8 = .ok (.iload_n 1, 1) := dk_27 (dk_at dksX5_reserves_0 8 rfl rfl)
theorem dX5_reserves_9 : decode cX5_reserves 9 = .ok (.i2l, 1) := dk_133 (dk_at dksX5_reserves_0 9 rfl rfl)
theorem dX5_reserves_10 : decode cX5_reserves 10 = .ok (.aload_n 0, 1) := dk_42 (dk_at dksX5_reserves_0 10 rfl rfl)
theorem dX5_reserves_11 : decode cX5_reserves 11 = .ok (.getfield 9, 3) := dk_180 0 9 (dk_at dksX5_reserves_0 11 rfl rfl)
theorem dX5_reserves_14 : decode cX5_reserves 14 = .ok (.i2l, 1) := dk_133 (dk_at dksX5_reserves_0 14 rfl rfl)
theorem dX5_reserves_15 : decode cX5_reserves 15 = .ok (.aload_n 0, 1) := dk_42 (dk_at dksX5_reserves_0 15 rfl rfl)
theorem dX5_reserves_16 : decode cX5_reserves 16 = .ok (.getfield 9, 3) := dk_180 0 9 (dk_at dksX5_reserves_0 16 rfl rfl)
theorem dX5_reserves_19 : decode cX5_reserves 19 = .ok (.aload_n 0, 1) := dk_42 (dk_at dksX5_reserves_0 19 rfl rfl)
theorem dX5_reserves_20 : decode cX5_reserves 20 = .ok (.invokevirtual 34, 3) := dk_182 0 34 (dk_at dksX5_reserves_0 20 rfl rfl)
theorem dX5_reserves_23 : decode cX5_reserves 23 = .ok (.iadd, 1) := dk_96 (dk_at dksX5_reserves_0 23 rfl rfl)
theorem dX5_reserves_24 : decode cX5_reserves 24 = .ok (.iconst 1, 1) := dk_4 (dk_at dksX5_reserves_1 0 rfl rfl)
theorem dX5_reserves_25 : decode cX5_reserves 25 = .ok (.isub, 1) := dk_100 (dk_at dksX5_reserves_1 1 rfl rfl)
theorem dX5_reserves_26 : decode cX5_reserves 26 = .ok (.i2l, 1) := dk_133 (dk_at dksX5_reserves_1 2 rfl rfl)
theorem dX5_reserves_27 : decode cX5_reserves 27 = .ok (.invokestatic 35, 3) := dk_184 0 35 (dk_at dksX5_reserves_1 3 rfl rfl)
theorem dX5_reserves_30 : decode cX5_reserves 30 = .ok (.ifCond .eq 7, 3) := dk_153 0 7 (dk_at dksX5_reserves_1 6 rfl rfl)
theorem dX5_reserves_33 : decode cX5_reserves 33 = .ok (.iconst 1, 1) := dk_4 (dk_at dksX5_reserves_1 9 rfl rfl)
theorem dX5_reserves_34 : decode cX5_reserves 34 = .ok (.goto 4, 3) := dk_167 0 4 (dk_at dksX5_reserves_1 10 rfl rfl)
theorem dX5_reserves_37 : decode cX5_reserves 37 = .ok (.iconst 0, 1) := dk_3 (dk_at dksX5_reserves_1 13 rfl rfl)
theorem dX5_reserves_38 : decode cX5_reserves 38 = .ok (.ireturn, 1) := dk_172 (dk_at dksX5_reserves_1 14 rfl rfl)
abbrev cX5_length : ByteArray := prog_4_method_3_code
def yX5_length : MethodName := ⟨RX5, "length", "()I"⟩
def dkwX5_length_0 : List UInt8 := [42, 180, 0, 18, 182, 0, 28, 172]
abbrev dktX5_length_0 : List UInt8 := dkwX5_length_0 ++ []
theorem dksX5_length_0 : cX5_length.data.toList.drop 0 = dktX5_length_0 := by decide +kernel
theorem dX5_length_0 : decode cX5_length 0 = .ok (.aload_n 0, 1) := dk_42 (dk_at dksX5_length_0 0 rfl rfl)
theorem dX5_length_1 : decode cX5_length 1 = .ok (.getfield 18, 3) := dk_180 0 18 (dk_at dksX5_length_0 1 rfl rfl)
theorem dX5_length_4 : decode cX5_length 4 = .ok (.invokevirtual 28, 3) := dk_182 0 28 (dk_at dksX5_length_0 4 rfl rfl)
theorem dX5_length_7 : decode cX5_length 7 = .ok (.ireturn, 1) := dk_172 (dk_at dksX5_length_0 7 rfl rfl)
abbrev cX5_copy : ByteArray := prog_4_method_2_code
def yX5_copy : MethodName := ⟨RX5, "copy", "()LHedgeMessages$Message;"⟩
def dkwX5_copy_1 : List UInt8 := [43, 42, 180, 0, 25, 181, 0, 25, 43, 176]
abbrev dktX5_copy_1 : List UInt8 := dkwX5_copy_1 ++ []
def dkwX5_copy_0 : List UInt8 := [187, 0, 10, 89, 42, 180, 0, 15, 42, 180, 0, 18, 183, 0, 22, 76, 43, 42, 180, 0, 9, 181, 0, 9]
abbrev dktX5_copy_0 : List UInt8 := dkwX5_copy_0 ++ dktX5_copy_1
theorem dksX5_copy_0 : cX5_copy.data.toList.drop 0 = dktX5_copy_0 := by decide +kernel
theorem dksX5_copy_1 : cX5_copy.data.toList.drop 24 = dktX5_copy_1 := dk_seg dksX5_copy_0 24 rfl rfl
theorem dX5_copy_0 : decode cX5_copy 0 = .ok (.new 10, 3) := dk_187 0 10 (dk_at dksX5_copy_0 0 rfl rfl)
theorem dX5_copy_3 : decode cX5_copy 3 = .ok (.dup, 1) := dk_89 (dk_at dksX5_copy_0 3 rfl rfl)
theorem dX5_copy_4 : decode cX5_copy 4 = .ok (.aload_n 0, 1) := dk_42 (dk_at dksX5_copy_0 4 rfl rfl)
theorem dX5_copy_5 : decode cX5_copy 5 = .ok (.getfield 15, 3) := dk_180 0 15 (dk_at dksX5_copy_0 5 rfl rfl)
theorem dX5_copy_8 : decode cX5_copy 8 = .ok (.aload_n 0, 1) := dk_42 (dk_at dksX5_copy_0 8 rfl rfl)
theorem dX5_copy_9 : decode cX5_copy 9 = .ok (.getfield 18, 3) := dk_180 0 18 (dk_at dksX5_copy_0 9 rfl rfl)
theorem dX5_copy_12 : decode cX5_copy 12 = .ok (.invokespecial 22, 3) := dk_183 0 22 (dk_at dksX5_copy_0 12 rfl rfl)
theorem dX5_copy_15 : decode cX5_copy 15 = .ok (.astore_n 1, 1) := dk_76 (dk_at dksX5_copy_0 15 rfl rfl)
theorem dX5_copy_16 : decode cX5_copy 16 = .ok (.aload_n 1, 1) := dk_43 (dk_at dksX5_copy_0 16 rfl rfl)
theorem dX5_copy_17 : decode cX5_copy 17 = .ok (.aload_n 0, 1) := dk_42 (dk_at dksX5_copy_0 17 rfl rfl)
theorem dX5_copy_18 : decode cX5_copy 18 = .ok (.getfield 9, 3) := dk_180 0 9 (dk_at dksX5_copy_0 18 rfl rfl)
theorem dX5_copy_21 : decode cX5_copy 21 = .ok (.putfield 9, 3) := dk_181 0 9 (dk_at dksX5_copy_0 21 rfl rfl)
theorem dX5_copy_24 : decode cX5_copy 24 = .ok (.aload_n 1, 1) := dk_43 (dk_at dksX5_copy_1 0 rfl rfl)
theorem dX5_copy_25 : decode cX5_copy 25 = .ok (.aload_n 0, 1) := dk_42 (dk_at dksX5_copy_1 1 rfl rfl)
theorem dX5_copy_26 : decode cX5_copy 26 = .ok (.getfield 25, 3) := dk_180 0 25 (dk_at dksX5_copy_1 2 rfl rfl)
theorem dX5_copy_29 : decode cX5_copy 29 = .ok (.putfield 25, 3) := dk_181 0 25 (dk_at dksX5_copy_1 5 rfl rfl)
theorem dX5_copy_32 : decode cX5_copy 32 = .ok (.aload_n 1, 1) := dk_43 (dk_at dksX5_copy_1 8 rfl rfl)
theorem dX5_copy_33 : decode cX5_copy 33 = .ok (.areturn, 1) := dk_176 (dk_at dksX5_copy_1 9 rfl rfl)
abbrev cX5_isComplete : ByteArray := prog_4_method_5_code
def yX5_isComplete : MethodName := ⟨RX5, "isComplete", "()Z"⟩
def dkwX5_isComplete_0 : List UInt8 := [42, 180, 0, 25, 42, 182, 0, 34, 160, 0, 7, 4, 167, 0, 4, 3, 172]
abbrev dktX5_isComplete_0 : List UInt8 := dkwX5_isComplete_0 ++ []
theorem dksX5_isComplete_0 : cX5_isComplete.data.toList.drop 0 = dktX5_isComplete_0 := by decide +kernel
theorem dX5_isComplete_0 : decode cX5_isComplete 0 = .ok (.aload_n 0, 1) := dk_42 (dk_at dksX5_isComplete_0 0 rfl rfl)
theorem dX5_isComplete_1 : decode cX5_isComplete 1 = .ok (.getfield 25, 3) := dk_180 0 25 (dk_at dksX5_isComplete_0 1 rfl rfl)
theorem dX5_isComplete_4 : decode cX5_isComplete 4 = .ok (.aload_n 0, 1) := dk_42 (dk_at dksX5_isComplete_0 4 rfl rfl)
theorem dX5_isComplete_5 : decode cX5_isComplete 5 = .ok (.invokevirtual 34, 3) := dk_182 0 34 (dk_at dksX5_isComplete_0 5 rfl rfl)
theorem dX5_isComplete_8 : decode cX5_isComplete 8 = .ok (.if_icmp .ne 7, 3) := dk_160 0 7 (dk_at dksX5_isComplete_0 8 rfl rfl)
theorem dX5_isComplete_11 : decode cX5_isComplete 11 = .ok (.iconst 1, 1) := dk_4 (dk_at dksX5_isComplete_0 11 rfl rfl)
theorem dX5_isComplete_12 : decode cX5_isComplete 12 = .ok (.goto 4, 3) := dk_167 0 4 (dk_at dksX5_isComplete_0 12 rfl rfl)
theorem dX5_isComplete_15 : decode cX5_isComplete 15 = .ok (.iconst 0, 1) := dk_3 (dk_at dksX5_isComplete_0 15 rfl rfl)
theorem dX5_isComplete_16 : decode cX5_isComplete 16 = .ok (.ireturn, 1) := dk_172 (dk_at dksX5_isComplete_0 16 rfl rfl)
abbrev cX5_reset : ByteArray := prog_4_method_6_code
def yX5_reset : MethodName := ⟨RX5, "reset", "()V"⟩
def dkwX5_reset_0 : List UInt8 := [42, 2, 181, 0, 9, 42, 3, 181, 0, 25, 177]
abbrev dktX5_reset_0 : List UInt8 := dkwX5_reset_0 ++ []
theorem dksX5_reset_0 : cX5_reset.data.toList.drop 0 = dktX5_reset_0 := by decide +kernel
theorem dX5_reset_0 : decode cX5_reset 0 = .ok (.aload_n 0, 1) := dk_42 (dk_at dksX5_reset_0 0 rfl rfl)
theorem dX5_reset_1 : decode cX5_reset 1 = .ok (.iconst (-1), 1) := dk_2 (dk_at dksX5_reset_0 1 rfl rfl)
theorem dX5_reset_2 : decode cX5_reset 2 = .ok (.putfield 9, 3) := dk_181 0 9 (dk_at dksX5_reset_0 2 rfl rfl)
theorem dX5_reset_5 : decode cX5_reset 5 = .ok (.aload_n 0, 1) := dk_42 (dk_at dksX5_reset_0 5 rfl rfl)
theorem dX5_reset_6 : decode cX5_reset 6 = .ok (.iconst 0, 1) := dk_3 (dk_at dksX5_reset_0 6 rfl rfl)
theorem dX5_reset_7 : decode cX5_reset 7 = .ok (.putfield 25, 3) := dk_181 0 25 (dk_at dksX5_reset_0 7 rfl rfl)
theorem dX5_reset_10 : decode cX5_reset 10 = .ok (.return_, 1) := dk_177 (dk_at dksX5_reset_0 10 rfl rfl)
theorem q169 : (Jvm.Cond.initialized "HedgeMessages$Message") ∈ lw_all := lw_g (lw_at lw_m1 25 rfl) rfl
theorem q624 : (Jvm.Cond.selects "HedgeMessages$Message" ({ cls := "java/lang/Object", name := "getClass", desc := "()Ljava/lang/Class;" } : Jvm.MethodName) ({ cls := "java/lang/Object", name := "getClass", desc := "()Ljava/lang/Class;" } : Jvm.MethodName)) ∈ lw_all := lw_g (lw_at lw_m3 0 rfl) rfl
theorem q752 : (Jvm.Cond.instantiable "HedgeMessages$Message" (4 : Nat)) ∈ lw_all := lw_g (lw_at lw_m3 128 rfl) rfl
theorem q755 : (Jvm.Cond.instanceMethod ({ cls := "HedgeMessages$Message", name := "<init>", desc := "(ILjava/lang/String;)V" } : Jvm.MethodName)) ∈ lw_all := lw_g (lw_at lw_m3 131 rfl) rfl
theorem q756 : (Jvm.Cond.code ({ cls := "HedgeMessages$Message", name := "<init>", desc := "(ILjava/lang/String;)V" } : Jvm.MethodName) prog_4_method_1_code (3 : Nat) (Option.none : Option Jvm.ClassFile.FieldType)) ∈ lw_all := lw_g (lw_at lw_m3 132 rfl) rfl
theorem q757 : (Jvm.Cond.methodLink "HedgeMessages$Message" (3 : Nat) ({ cls := "java/lang/Object", name := "<init>", desc := "()V" } : Jvm.MethodName)) ∈ lw_all := lw_g (lw_at lw_m3 133 rfl) rfl
theorem q758 : (Jvm.Cond.fieldLink "HedgeMessages$Message" (15 : Nat) "HedgeMessages$Message" "sender" "I") ∈ lw_all := lw_g (lw_at lw_m3 134 rfl) rfl
theorem q761 : (Jvm.Cond.fieldLink "HedgeMessages$Message" (18 : Nat) "HedgeMessages$Message" "word" "Ljava/lang/String;") ∈ lw_all := lw_g (lw_at lw_m3 137 rfl) rfl
theorem q764 : (Jvm.Cond.fieldLink "HedgeMessages$Message" (9 : Nat) "HedgeMessages$Message" "start" "I") ∈ lw_all := lw_g (lw_at lw_m3 140 rfl) rfl
theorem q767 : (Jvm.Cond.fieldLink "HedgeMessages$Message" (25 : Nat) "HedgeMessages$Message" "written" "I") ∈ lw_all := lw_g (lw_at lw_m3 143 rfl) rfl
theorem q770 : (Jvm.Cond.laysFinal "HedgeMessages$Message" "HedgeMessages$Message" "sender" "I") ∈ lw_all := lw_g (lw_at lw_m3 146 rfl) rfl
theorem q771 : (Jvm.Cond.soleField "HedgeMessages$Message" "sender") ∈ lw_all := lw_g (lw_at lw_m3 147 rfl) rfl
theorem q772 : (Jvm.Cond.laysFinal "HedgeMessages$Message" "HedgeMessages$Message" "word" "Ljava/lang/String;") ∈ lw_all := lw_g (lw_at lw_m3 148 rfl) rfl
theorem q773 : (Jvm.Cond.soleField "HedgeMessages$Message" "word") ∈ lw_all := lw_g (lw_at lw_m3 149 rfl) rfl
theorem q774 : (Jvm.Cond.lays "HedgeMessages$Message" "HedgeMessages$Message" "start" "I") ∈ lw_all := lw_g (lw_at lw_m3 150 rfl) rfl
theorem q775 : (Jvm.Cond.soleField "HedgeMessages$Message" "start") ∈ lw_all := lw_g (lw_at lw_m3 151 rfl) rfl
theorem q776 : (Jvm.Cond.lays "HedgeMessages$Message" "HedgeMessages$Message" "written" "I") ∈ lw_all := lw_g (lw_at lw_m3 152 rfl) rfl
theorem q777 : (Jvm.Cond.soleField "HedgeMessages$Message" "written") ∈ lw_all := lw_g (lw_at lw_m3 153 rfl) rfl
theorem q778 : (Jvm.Cond.superclass "HedgeMessages$Message" "java/lang/Object") ∈ lw_all := lw_g (lw_at lw_m3 154 rfl) rfl
theorem q930 : (Jvm.Cond.instanceMethod ({ cls := "HedgeMessages$Message", name := "reserves", desc := "(I)Z" } : Jvm.MethodName)) ∈ lw_all := lw_g (lw_at lw_m4 66 rfl) rfl
theorem q931 : (Jvm.Cond.selects "HedgeMessages$Message" ({ cls := "HedgeMessages$Message", name := "reserves", desc := "(I)Z" } : Jvm.MethodName) ({ cls := "HedgeMessages$Message", name := "reserves", desc := "(I)Z" } : Jvm.MethodName)) ∈ lw_all := lw_g (lw_at lw_m4 67 rfl) rfl
theorem q932 : (Jvm.Cond.code ({ cls := "HedgeMessages$Message", name := "reserves", desc := "(I)Z" } : Jvm.MethodName) prog_4_method_4_code (2 : Nat) (Option.some Jvm.ClassFile.FieldType.boolean)) ∈ lw_all := lw_g (lw_at lw_m4 68 rfl) rfl
theorem q933 : (Jvm.Cond.methodLink "HedgeMessages$Message" (34 : Nat) ({ cls := "HedgeMessages$Message", name := "length", desc := "()I" } : Jvm.MethodName)) ∈ lw_all := lw_g (lw_at lw_m4 69 rfl) rfl
theorem q934 : (Jvm.Cond.instanceMethod ({ cls := "HedgeMessages$Message", name := "length", desc := "()I" } : Jvm.MethodName)) ∈ lw_all := lw_g (lw_at lw_m4 70 rfl) rfl
theorem q935 : (Jvm.Cond.selects "HedgeMessages$Message" ({ cls := "HedgeMessages$Message", name := "length", desc := "()I" } : Jvm.MethodName) ({ cls := "HedgeMessages$Message", name := "length", desc := "()I" } : Jvm.MethodName)) ∈ lw_all := lw_g (lw_at lw_m4 71 rfl) rfl
theorem q936 : (Jvm.Cond.code ({ cls := "HedgeMessages$Message", name := "length", desc := "()I" } : Jvm.MethodName) prog_4_method_3_code (1 : Nat) (Option.some Jvm.ClassFile.FieldType.int)) ∈ lw_all := lw_g (lw_at lw_m4 72 rfl) rfl
theorem q937 : (Jvm.Cond.methodLink "HedgeMessages$Message" (28 : Nat) ({ cls := "java/lang/String", name := "length", desc := "()I" } : Jvm.MethodName)) ∈ lw_all := lw_g (lw_at lw_m4 73 rfl) rfl
theorem q938 : (Jvm.Cond.methodLinkNest "HedgeMessages$Message" (35 : Nat) ({ cls := "HedgeMessages", name := "inRange", desc := "(JJJ)Z" } : Jvm.MethodName) "HedgeMessages") ∈ lw_tbl := lw_at lw_m4 74 rfl
theorem q1324 : (Jvm.Cond.instanceMethod ({ cls := "HedgeMessages$Message", name := "copy", desc := "()LHedgeMessages$Message;" } : Jvm.MethodName)) ∈ lw_all := lw_g (lw_at lw_m5 220 rfl) rfl
theorem q1325 : (Jvm.Cond.selects "HedgeMessages$Message" ({ cls := "HedgeMessages$Message", name := "copy", desc := "()LHedgeMessages$Message;" } : Jvm.MethodName) ({ cls := "HedgeMessages$Message", name := "copy", desc := "()LHedgeMessages$Message;" } : Jvm.MethodName)) ∈ lw_all := lw_g (lw_at lw_m5 221 rfl) rfl
theorem q1326 : (Jvm.Cond.code ({ cls := "HedgeMessages$Message", name := "copy", desc := "()LHedgeMessages$Message;" } : Jvm.MethodName) prog_4_method_2_code (2 : Nat) (Option.some (Jvm.ClassFile.FieldType.object "HedgeMessages$Message"))) ∈ lw_all := lw_g (lw_at lw_m5 222 rfl) rfl
theorem q1327 : (Jvm.Cond.classLink "HedgeMessages$Message" (10 : Nat) "HedgeMessages$Message") ∈ lw_all := lw_g (lw_at lw_m5 223 rfl) rfl
theorem q1328 : (Jvm.Cond.methodLink "HedgeMessages$Message" (22 : Nat) ({ cls := "HedgeMessages$Message", name := "<init>", desc := "(ILjava/lang/String;)V" } : Jvm.MethodName)) ∈ lw_all := lw_g (lw_at lw_m5 224 rfl) rfl
theorem q1951 : (Jvm.Cond.instanceMethod ({ cls := "HedgeMessages$Message", name := "isComplete", desc := "()Z" } : Jvm.MethodName)) ∈ lw_all := lw_g (lw_at lw_m8 127 rfl) rfl
theorem q1952 : (Jvm.Cond.selects "HedgeMessages$Message" ({ cls := "HedgeMessages$Message", name := "isComplete", desc := "()Z" } : Jvm.MethodName) ({ cls := "HedgeMessages$Message", name := "isComplete", desc := "()Z" } : Jvm.MethodName)) ∈ lw_all := lw_g (lw_at lw_m8 128 rfl) rfl
theorem q1953 : (Jvm.Cond.code ({ cls := "HedgeMessages$Message", name := "isComplete", desc := "()Z" } : Jvm.MethodName) prog_4_method_5_code (1 : Nat) (Option.some Jvm.ClassFile.FieldType.boolean)) ∈ lw_all := lw_g (lw_at lw_m8 129 rfl) rfl
theorem q1977 : (Jvm.Cond.instanceMethod ({ cls := "HedgeMessages$Message", name := "reset", desc := "()V" } : Jvm.MethodName)) ∈ lw_all := lw_g (lw_at lw_m8 153 rfl) rfl
theorem q1978 : (Jvm.Cond.selects "HedgeMessages$Message" ({ cls := "HedgeMessages$Message", name := "reset", desc := "()V" } : Jvm.MethodName) ({ cls := "HedgeMessages$Message", name := "reset", desc := "()V" } : Jvm.MethodName)) ∈ lw_all := lw_g (lw_at lw_m8 154 rfl) rfl
theorem q1979 : (Jvm.Cond.code ({ cls := "HedgeMessages$Message", name := "reset", desc := "()V" } : Jvm.MethodName) prog_4_method_6_code (1 : Nat) (Option.none : Option Jvm.ClassFile.FieldType)) ∈ lw_all := lw_g (lw_at lw_m8 155 rfl) rfl
theorem q3130 : (Jvm.Cond.castable "HedgeMessages$Message" "java/lang/Object") ∈ lw_tbl := lw_at lw_m13 106 rfl
theorem in_X5 : ∀ w ∈ wsX50, w ∈ lw_all := lw_in wsX50 [770, 772, 774, 776] (by decide +kernel) (by decide +kernel)

/-! HedgeMessages$Parser -/
set_option maxRecDepth 100000
def RX7 : String := "HedgeMessages$Parser"
def TX7 : u_T := fun k => match k with
  | 0 => ("HedgeMessages$Parser", "end", "I", true)
  | 1 => ("HedgeMessages$Parser", "position", "I", false)
  | 2 => ("HedgeMessages$Parser", "start", "I", false)
  | 3 => ("HedgeMessages$Parser", "value", "I", false)
  | 4 => ("HedgeMessages$Parser", "word", "Ljava/lang/String;", false)
  | 5 => ("HedgeMessages$Parser", "kind", "LHedgeMessages$TokenKind;", false)
  | _ => ("HedgeMessages$Parser", "this$0", "LHedgeMessages;", true)
def tyX7 : Nat → FieldType := fun k => match k with
  | 0 => .int
  | 1 => .int
  | 2 => .int
  | 3 => .int
  | 4 => .object "java/lang/String"
  | 5 => .object "HedgeMessages$TokenKind"
  | _ => .object "HedgeMessages"
abbrev wsX70 : List Cond := u_ws RX7 TX7 7
theorem nmX7 : ∀ a, a < 7 → ∀ b, b < 7 → a ≠ b → (TX7 a).2.1 ≠ (TX7 b).2.1 := by decide +kernel
theorem tyX7_ok : ∀ k, k < 7 → parseFieldDescriptor (TX7 k).2.2.1 = some (tyX7 k) := by decide +kernel
abbrev cX7_init : ByteArray := prog_8_method_1_code
def yX7_init : MethodName := ⟨RX7, "<init>", "(LHedgeMessages;)V"⟩
def dkwX7_init_1 : List UInt8 := [181, 0, 24, 42, 182, 0, 28, 177]
abbrev dktX7_init_1 : List UInt8 := dkwX7_init_1 ++ []
def dkwX7_init_0 : List UInt8 := [42, 43, 181, 0, 3, 42, 183, 0, 9, 42, 42, 180, 0, 3, 180, 0, 15, 181, 0, 19, 42, 18, 22]
abbrev dktX7_init_0 : List UInt8 := dkwX7_init_0 ++ dktX7_init_1
theorem dksX7_init_0 : cX7_init.data.toList.drop 0 = dktX7_init_0 := by decide +kernel
theorem dksX7_init_1 : cX7_init.data.toList.drop 23 = dktX7_init_1 := dk_seg dksX7_init_0 23 rfl rfl
theorem dX7_init_0 : decode cX7_init 0 = .ok (.aload_n 0, 1) := dk_42 (dk_at dksX7_init_0 0 rfl rfl)
theorem dX7_init_1 : decode cX7_init 1 = .ok (.aload_n 1, 1) := dk_43 (dk_at dksX7_init_0 1 rfl rfl)
theorem dX7_init_2 : decode cX7_init 2 = .ok (.putfield 3, 3) := dk_181 0 3 (dk_at dksX7_init_0 2 rfl rfl)
theorem dX7_init_5 : decode cX7_init 5 = .ok (.aload_n 0, 1) := dk_42 (dk_at dksX7_init_0 5 rfl rfl)
theorem dX7_init_6 : decode cX7_init 6 = .ok (.invokespecial 9, 3) := dk_183 0 9 (dk_at dksX7_init_0 6 rfl rfl)
theorem dX7_init_9 : decode cX7_init 9 = .ok (.aload_n 0, 1) := dk_42 (dk_at dksX7_init_0 9 rfl rfl)
theorem dX7_init_10 : decode cX7_init 10 = .ok (.aload_n 0, 1) := dk_42 (dk_at dksX7_init_0 10 rfl rfl)
theorem dX7_init_11 : decode cX7_init 11 = .ok (.getfield 3, 3) := dk_180 0 3 (dk_at dksX7_init_0 11 rfl rfl)
theorem dX7_init_14 : decode cX7_init 14 = .ok (.getfield 15, 3) := dk_180 0 15 (dk_at dksX7_init_0 14 rfl rfl)
theorem dX7_init_17 : decode cX7_init 17 = .ok (.putfield 19, 3) := dk_181 0 19 (dk_at dksX7_init_0 17 rfl rfl)
theorem dX7_init_20 : decode cX7_init 20 = .ok (.aload_n 0, 1) := dk_42 (dk_at dksX7_init_0 20 rfl rfl)
theorem dX7_init_21 : decode cX7_init 21 = .ok (.ldc 22, 2) := dk_18 22 (dk_at dksX7_init_0 21 rfl rfl)
theorem dX7_init_23 : decode cX7_init 23 = .ok (.putfield 24, 3) := dk_181 0 24 (dk_at dksX7_init_1 0 rfl rfl)
theorem dX7_init_26 : decode cX7_init 26 = .ok (.aload_n 0, 1) := dk_42 (dk_at dksX7_init_1 3 rfl rfl)
theorem dX7_init_27 : decode cX7_init 27 = .ok (.invokevirtual 28, 3) := dk_182 0 28 (dk_at dksX7_init_1 4 rfl rfl)
theorem dX7_init_30 : decode cX7_init 30 = .ok (.return_, 1) := dk_177 (dk_at dksX7_init_1 7 rfl rfl)
abbrev cX7_advance : ByteArray := prog_8_method_3_code
def yX7_advance : MethodName := ⟨RX7, "advance", "()V"⟩
def dkwX7_advance_11 : List UInt8 := [178, 0, 86, 181, 0, 51, 42, 89, 180, 0, 35, 4, 96, 181, 0, 35, 177]
abbrev dktX7_advance_11 : List UInt8 := dkwX7_advance_11 ++ []
def dkwX7_advance_10 : List UInt8 := [167, 0, 7, 42, 180, 0, 83, 181, 0, 83, 42, 89, 180, 0, 35, 4, 96, 181, 0, 35, 167, 255, 182, 42]
abbrev dktX7_advance_10 : List UInt8 := dkwX7_advance_10 ++ dktX7_advance_11
def dkwX7_advance_9 : List UInt8 := [162, 0, 25, 16, 10, 42, 180, 0, 83, 104, 42, 42, 180, 0, 35, 182, 0, 38, 96, 16, 48, 100]
abbrev dktX7_advance_9 : List UInt8 := dkwX7_advance_9 ++ dktX7_advance_10
def dkwX7_advance_8 : List UInt8 := [20, 0, 76, 20, 0, 78, 184, 0, 58, 153, 0, 76, 42, 42, 180, 0, 35, 42, 180, 0, 42, 100, 6]
abbrev dktX7_advance_8 : List UInt8 := dkwX7_advance_8 ++ dktX7_advance_9
def dkwX7_advance_7 : List UInt8 := [153, 0, 92, 42, 178, 0, 80, 181, 0, 51, 42, 3, 181, 0, 83, 42, 42, 180, 0, 35, 182, 0, 38, 133]
abbrev dktX7_advance_7 : List UInt8 := dkwX7_advance_7 ++ dktX7_advance_8
def dkwX7_advance_6 : List UInt8 := [42, 44, 182, 0, 72, 181, 0, 24, 167, 0, 123, 27, 133, 20, 0, 76, 20, 0, 78, 184, 0, 58]
abbrev dktX7_advance_6 : List UInt8 := dkwX7_advance_6 ++ dktX7_advance_7
def dkwX7_advance_5 : List UInt8 := [180, 0, 35, 182, 0, 38, 146, 182, 0, 68, 87, 42, 89, 180, 0, 35, 4, 96, 181, 0, 35, 167, 255, 211]
abbrev dktX7_advance_5 : List UInt8 := dkwX7_advance_5 ++ dktX7_advance_6
def dkwX7_advance_4 : List UInt8 := [42, 42, 180, 0, 35, 182, 0, 38, 133, 20, 0, 54, 20, 0, 56, 184, 0, 58, 153, 0, 30, 44, 42, 42]
abbrev dktX7_advance_4 : List UInt8 := dkwX7_advance_4 ++ dktX7_advance_5
def dkwX7_advance_3 : List UInt8 := [20, 0, 56, 184, 0, 58, 153, 0, 77, 42, 178, 0, 62, 181, 0, 51, 187, 0, 65, 89, 183, 0, 67, 77]
abbrev dktX7_advance_3 : List UInt8 := dkwX7_advance_3 ++ dktX7_advance_4
def dkwX7_advance_2 : List UInt8 := [182, 0, 38, 60, 27, 2, 160, 0, 13, 42, 178, 0, 45, 181, 0, 51, 167, 0, 211, 27, 133, 20, 0, 54]
abbrev dktX7_advance_2 : List UInt8 := dkwX7_advance_2 ++ dktX7_advance_3
def dkwX7_advance_1 : List UInt8 := [167, 255, 233, 42, 42, 180, 0, 35, 181, 0, 42, 42, 18, 22, 181, 0, 24, 42, 42, 180, 0, 35]
abbrev dktX7_advance_1 : List UInt8 := dkwX7_advance_1 ++ dktX7_advance_2
def dkwX7_advance_0 : List UInt8 := [42, 42, 180, 0, 35, 182, 0, 38, 16, 32, 160, 0, 16, 42, 89, 180, 0, 35, 4, 96, 181, 0, 35]
abbrev dktX7_advance_0 : List UInt8 := dkwX7_advance_0 ++ dktX7_advance_1
theorem dksX7_advance_0 : cX7_advance.data.toList.drop 0 = dktX7_advance_0 := by decide +kernel
theorem dksX7_advance_1 : cX7_advance.data.toList.drop 23 = dktX7_advance_1 := dk_seg dksX7_advance_0 23 rfl rfl
theorem dksX7_advance_2 : cX7_advance.data.toList.drop 45 = dktX7_advance_2 := dk_seg dksX7_advance_1 22 rfl rfl
theorem dksX7_advance_3 : cX7_advance.data.toList.drop 69 = dktX7_advance_3 := dk_seg dksX7_advance_2 24 rfl rfl
theorem dksX7_advance_4 : cX7_advance.data.toList.drop 93 = dktX7_advance_4 := dk_seg dksX7_advance_3 24 rfl rfl
theorem dksX7_advance_5 : cX7_advance.data.toList.drop 117 = dktX7_advance_5 := dk_seg dksX7_advance_4 24 rfl rfl
theorem dksX7_advance_6 : cX7_advance.data.toList.drop 141 = dktX7_advance_6 := dk_seg dksX7_advance_5 24 rfl rfl
theorem dksX7_advance_7 : cX7_advance.data.toList.drop 163 = dktX7_advance_7 := dk_seg dksX7_advance_6 22 rfl rfl
theorem dksX7_advance_8 : cX7_advance.data.toList.drop 187 = dktX7_advance_8 := dk_seg dksX7_advance_7 24 rfl rfl
theorem dksX7_advance_9 : cX7_advance.data.toList.drop 210 = dktX7_advance_9 := dk_seg dksX7_advance_8 23 rfl rfl
theorem dksX7_advance_10 : cX7_advance.data.toList.drop 232 = dktX7_advance_10 := dk_seg dksX7_advance_9 22 rfl rfl
theorem dksX7_advance_11 : cX7_advance.data.toList.drop 256 = dktX7_advance_11 := dk_seg dksX7_advance_10 24 rfl rfl
theorem dX7_advance_0 : decode cX7_advance 0 = .ok (.aload_n 0, 1) := dk_42 (dk_at dksX7_advance_0 0 rfl rfl)
theorem dX7_advance_1 : decode cX7_advance 1 = .ok (.aload_n 0, 1) := dk_42 (dk_at dksX7_advance_0 1 rfl rfl)
theorem dX7_advance_2 : decode cX7_advance 2 = .ok (.getfield 35, 3) := dk_180 0 35 (dk_at dksX7_advance_0 2 rfl rfl)
theorem dX7_advance_5 : decode cX7_advance 5 = .ok (.invokevirtual 38, 3) := dk_182 0 38 (dk_at dksX7_advance_0 5 rfl rfl)
theorem dX7_advance_8 : decode cX7_advance 8 = .ok (.bipush 32, 2) := dk_16 32 (dk_at dksX7_advance_0 8 rfl rfl)
theorem dX7_advance_10 : decode cX7_advance 10 = .ok (.if_icmp .ne 16, 3) := dk_160 0 16 (dk_at dksX7_advance_0 10 rfl rfl)
theorem dX7_advance_13 : decode cX7_advance 13 = .ok (.aload_n 0, 1) := dk_42 (dk_at dksX7_advance_0 13 rfl rfl)
theorem dX7_advance_14 : decode cX7_advance 14 = .ok (.dup, 1) := dk_89 (dk_at dksX7_advance_0 14 rfl rfl)
theorem dX7_advance_15 : decode cX7_advance 15 = .ok (.getfield 35, 3) := dk_180 0 35 (dk_at dksX7_advance_0 15 rfl rfl)
theorem dX7_advance_18 : decode cX7_advance 18 = .ok (.iconst 1, 1) := dk_4 (dk_at dksX7_advance_0 18 rfl rfl)
theorem dX7_advance_19 : decode cX7_advance 19 = .ok (.iadd, 1) := dk_96 (dk_at dksX7_advance_0 19 rfl rfl)
theorem dX7_advance_20 : decode cX7_advance 20 = .ok (.putfield 35, 3) := dk_181 0 35 (dk_at dksX7_advance_0 20 rfl rfl)
theorem dX7_advance_23 : decode cX7_advance 23 = .ok (.goto (-23), 3) := dk_167 255 233 (dk_at dksX7_advance_1 0 rfl rfl)
theorem dX7_advance_26 : decode cX7_advance 26 = .ok (.aload_n 0, 1) := dk_42 (dk_at dksX7_advance_1 3 rfl rfl)
theorem dX7_advance_27 : decode cX7_advance 27 = .ok (.aload_n 0, 1) := dk_42 (dk_at dksX7_advance_1 4 rfl rfl)
theorem dX7_advance_28 : decode cX7_advance 28 = .ok (.getfield 35, 3) := dk_180 0 35 (dk_at dksX7_advance_1 5 rfl rfl)
theorem dX7_advance_31 : decode cX7_advance 31 = .ok (.putfield 42, 3) := dk_181 0 42 (dk_at dksX7_advance_1 8 rfl rfl)
theorem dX7_advance_34 : decode cX7_advance 34 = .ok (.aload_n 0, 1) := dk_42 (dk_at dksX7_advance_1 11 rfl rfl)
theorem dX7_advance_35 : decode cX7_advance 35 = .ok (.ldc 22, 2) := dk_18 22 (dk_at dksX7_advance_1 12 rfl rfl)
theorem dX7_advance_37 : decode cX7_advance 37 = .ok (.putfield 24, 3) := dk_181 0 24 (dk_at dksX7_advance_1 14 rfl rfl)
theorem dX7_advance_40 : decode cX7_advance 40 = .ok (.aload_n 0, 1) := dk_42 (dk_at dksX7_advance_1 17 rfl rfl)
theorem dX7_advance_41 : decode cX7_advance 41 = .ok (.aload_n 0, 1) := dk_42 (dk_at dksX7_advance_1 18 rfl rfl)
theorem dX7_advance_42 : decode cX7_advance 42 = .ok (.getfield 35, 3) := dk_180 0 35 (dk_at dksX7_advance_1 19 rfl rfl)
theorem dX7_advance_45 : decode cX7_advance 45 = .ok (.invokevirtual 38, 3) := dk_182 0 38 (dk_at dksX7_advance_2 0 rfl rfl)
theorem dX7_advance_48 : decode cX7_advance 48 = .ok (.istore_n 1, 1) := dk_60 (dk_at dksX7_advance_2 3 rfl rfl)
theorem dX7_advance_49 : decode cX7_advance 49 = .ok (.iload_n 1, 1) := dk_27 (dk_at dksX7_advance_2 4 rfl rfl)
theorem dX7_advance_50 : decode cX7_advance 50 = .ok (.iconst (-1), 1) := dk_2 (dk_at dksX7_advance_2 5 rfl rfl)
theorem dX7_advance_51 : decode cX7_advance 51 = .ok (.if_icmp .ne 13, 3) := dk_160 0 13 (dk_at dksX7_advance_2 6 rfl rfl)
theorem dX7_advance_54 : decode cX7_advance 54 = .ok (.aload_n 0, 1) := dk_42 (dk_at dksX7_advance_2 9 rfl rfl)
theorem dX7_advance_55 : decode cX7_advance 55 = .ok (.getstatic 45, 3) := dk_178 0 45 (dk_at dksX7_advance_2 10 rfl rfl)
theorem dX7_advance_58 : decode cX7_advance 58 = .ok (.putfield 51, 3) := dk_181 0 51 (dk_at dksX7_advance_2 13 rfl rfl)
theorem dX7_advance_61 : decode cX7_advance 61 = .ok (.goto 211, 3) := dk_167 0 211 (dk_at dksX7_advance_2 16 rfl rfl)
theorem dX7_advance_64 : decode cX7_advance 64 = .ok (.iload_n 1, 1) := dk_27 (dk_at dksX7_advance_2 19 rfl rfl)
theorem dX7_advance_65 : decode cX7_advance 65 = .ok (.i2l, 1) := dk_133 (dk_at dksX7_advance_2 20 rfl rfl)
theorem dX7_advance_66 : decode cX7_advance 66 = .ok (.ldc2_w 54, 3) := dk_20 0 54 (dk_at dksX7_advance_2 21 rfl rfl)
theorem dX7_advance_69 : decode cX7_advance 69 = .ok (.ldc2_w 56, 3) := dk_20 0 56 (dk_at dksX7_advance_3 0 rfl rfl)
theorem dX7_advance_72 : decode cX7_advance 72 = .ok (.invokestatic 58, 3) := dk_184 0 58 (dk_at dksX7_advance_3 3 rfl rfl)
theorem dX7_advance_75 : decode cX7_advance 75 = .ok (.ifCond .eq 77, 3) := dk_153 0 77 (dk_at dksX7_advance_3 6 rfl rfl)
theorem dX7_advance_78 : decode cX7_advance 78 = .ok (.aload_n 0, 1) := dk_42 (dk_at dksX7_advance_3 9 rfl rfl)
theorem dX7_advance_79 : decode cX7_advance 79 = .ok (.getstatic 62, 3) := dk_178 0 62 (dk_at dksX7_advance_3 10 rfl rfl)
theorem dX7_advance_82 : decode cX7_advance 82 = .ok (.putfield 51, 3) := dk_181 0 51 (dk_at dksX7_advance_3 13 rfl rfl)
theorem dX7_advance_85 : decode cX7_advance 85 = .ok (.new 65, 3) := dk_187 0 65 (dk_at dksX7_advance_3 16 rfl rfl)
theorem dX7_advance_88 : decode cX7_advance 88 = .ok (.dup, 1) := dk_89 (dk_at dksX7_advance_3 19 rfl rfl)
theorem dX7_advance_89 : decode cX7_advance 89 = .ok (.invokespecial 67, 3) := dk_183 0 67 (dk_at dksX7_advance_3 20 rfl rfl)
theorem dX7_advance_92 : decode cX7_advance 92 = .ok (.astore_n 2, 1) := dk_77 (dk_at dksX7_advance_3 23 rfl rfl)
theorem dX7_advance_93 : decode cX7_advance 93 = .ok (.aload_n 0, 1) := dk_42 (dk_at dksX7_advance_4 0 rfl rfl)
theorem dX7_advance_94 : decode cX7_advance 94 = .ok (.aload_n 0, 1) := dk_42 (dk_at dksX7_advance_4 1 rfl rfl)
theorem dX7_advance_95 : decode cX7_advance 95 = .ok (.getfield 35, 3) := dk_180 0 35 (dk_at dksX7_advance_4 2 rfl rfl)
theorem dX7_advance_98 : decode cX7_advance 98 = .ok (.invokevirtual 38, 3) := dk_182 0 38 (dk_at dksX7_advance_4 5 rfl rfl)
theorem dX7_advance_101 : decode cX7_advance 101 = .ok (.i2l, 1) := dk_133 (dk_at dksX7_advance_4 8 rfl rfl)
theorem dX7_advance_102 : decode cX7_advance 102 = .ok (.ldc2_w 54, 3) := dk_20 0 54 (dk_at dksX7_advance_4 9 rfl rfl)
theorem dX7_advance_105 : decode cX7_advance 105 = .ok (.ldc2_w 56, 3) := dk_20 0 56 (dk_at dksX7_advance_4 12 rfl rfl)
theorem dX7_advance_108 : decode cX7_advance 108 = .ok (.invokestatic 58, 3) := dk_184 0 58 (dk_at dksX7_advance_4 15 rfl rfl)
theorem dX7_advance_111 : decode cX7_advance 111 = .ok (.ifCond .eq 30, 3) := dk_153 0 30 (dk_at dksX7_advance_4 18 rfl rfl)
theorem dX7_advance_114 : decode cX7_advance 114 = .ok (.aload_n 2, 1) := dk_44 (dk_at dksX7_advance_4 21 rfl rfl)
theorem dX7_advance_115 : decode cX7_advance 115 = .ok (.aload_n 0, 1) := dk_42 (dk_at dksX7_advance_4 22 rfl rfl)
theorem dX7_advance_116 : decode cX7_advance 116 = .ok (.aload_n 0, 1) := dk_42 (dk_at dksX7_advance_4 23 rfl rfl)
theorem dX7_advance_117 : decode cX7_advance 117 = .ok (.getfield 35, 3) := dk_180 0 35 (dk_at dksX7_advance_5 0 rfl rfl)
theorem dX7_advance_120 : decode cX7_advance 120 = .ok (.invokevirtual 38, 3) := dk_182 0 38 (dk_at dksX7_advance_5 3 rfl rfl)
theorem dX7_advance_123 : decode cX7_advance 123 = .ok (.i2c, 1) := dk_146 (dk_at dksX7_advance_5 6 rfl rfl)
theorem dX7_advance_124 : decode cX7_advance 124 = .ok (.invokevirtual 68, 3) := dk_182 0 68 (dk_at dksX7_advance_5 7 rfl rfl)
theorem dX7_advance_127 : decode cX7_advance 127 = .ok (.pop, 1) := dk_87 (dk_at dksX7_advance_5 10 rfl rfl)
theorem dX7_advance_128 : decode cX7_advance 128 = .ok (.aload_n 0, 1) := dk_42 (dk_at dksX7_advance_5 11 rfl rfl)
theorem dX7_advance_129 : decode cX7_advance 129 = .ok (.dup, 1) := dk_89 (dk_at dksX7_advance_5 12 rfl rfl)
theorem dX7_advance_130 : decode cX7_advance 130 = .ok (.getfield 35, 3) := dk_180 0 35 (dk_at dksX7_advance_5 13 rfl rfl)
theorem dX7_advance_133 : decode cX7_advance 133 = .ok (.iconst 1, 1) := dk_4 (dk_at dksX7_advance_5 16 rfl rfl)
theorem dX7_advance_134 : decode cX7_advance 134 = .ok (.iadd, 1) := dk_96 (dk_at dksX7_advance_5 17 rfl rfl)
theorem dX7_advance_135 : decode cX7_advance 135 = .ok (.putfield 35, 3) := dk_181 0 35 (dk_at dksX7_advance_5 18 rfl rfl)
theorem dX7_advance_138 : decode cX7_advance 138 = .ok (.goto (-45), 3) := dk_167 255 211 (dk_at dksX7_advance_5 21 rfl rfl)
theorem dX7_advance_141 : decode cX7_advance 141 = .ok (.aload_n 0, 1) := dk_42 (dk_at dksX7_advance_6 0 rfl rfl)
theorem dX7_advance_142 : decode cX7_advance 142 = .ok (.aload_n 2, 1) := dk_44 (dk_at dksX7_advance_6 1 rfl rfl)
theorem dX7_advance_143 : decode cX7_advance 143 = .ok (.invokevirtual 72, 3) := dk_182 0 72 (dk_at dksX7_advance_6 2 rfl rfl)
theorem dX7_advance_146 : decode cX7_advance 146 = .ok (.putfield 24, 3) := dk_181 0 24 (dk_at dksX7_advance_6 5 rfl rfl)
theorem dX7_advance_149 : decode cX7_advance 149 = .ok (.goto 123, 3) := dk_167 0 123 (dk_at dksX7_advance_6 8 rfl rfl)
theorem dX7_advance_152 : decode cX7_advance 152 = .ok (.iload_n 1, 1) := dk_27 (dk_at dksX7_advance_6 11 rfl rfl)
theorem dX7_advance_153 : decode cX7_advance 153 = .ok (.i2l, 1) := dk_133 (dk_at dksX7_advance_6 12 rfl rfl)
theorem dX7_advance_154 : decode cX7_advance 154 = .ok (.ldc2_w 76, 3) := dk_20 0 76 (dk_at dksX7_advance_6 13 rfl rfl)
theorem dX7_advance_157 : decode cX7_advance 157 = .ok (.ldc2_w 78, 3) := dk_20 0 78 (dk_at dksX7_advance_6 16 rfl rfl)
theorem dX7_advance_160 : decode cX7_advance 160 = .ok (.invokestatic 58, 3) := dk_184 0 58 (dk_at dksX7_advance_6 19 rfl rfl)
theorem dX7_advance_163 : decode cX7_advance 163 = .ok (.ifCond .eq 92, 3) := dk_153 0 92 (dk_at dksX7_advance_7 0 rfl rfl)
theorem dX7_advance_166 : decode cX7_advance 166 = .ok (.aload_n 0, 1) := dk_42 (dk_at dksX7_advance_7 3 rfl rfl)
theorem dX7_advance_167 : decode cX7_advance 167 = .ok (.getstatic 80, 3) := dk_178 0 80 (dk_at dksX7_advance_7 4 rfl rfl)
theorem dX7_advance_170 : decode cX7_advance 170 = .ok (.putfield 51, 3) := dk_181 0 51 (dk_at dksX7_advance_7 7 rfl rfl)
theorem dX7_advance_173 : decode cX7_advance 173 = .ok (.aload_n 0, 1) := dk_42 (dk_at dksX7_advance_7 10 rfl rfl)
theorem dX7_advance_174 : decode cX7_advance 174 = .ok (.iconst 0, 1) := dk_3 (dk_at dksX7_advance_7 11 rfl rfl)
theorem dX7_advance_175 : decode cX7_advance 175 = .ok (.putfield 83, 3) := dk_181 0 83 (dk_at dksX7_advance_7 12 rfl rfl)
theorem dX7_advance_178 : decode cX7_advance 178 = .ok (.aload_n 0, 1) := dk_42 (dk_at dksX7_advance_7 15 rfl rfl)
theorem dX7_advance_179 : decode cX7_advance 179 = .ok (.aload_n 0, 1) := dk_42 (dk_at dksX7_advance_7 16 rfl rfl)
theorem dX7_advance_180 : decode cX7_advance 180 = .ok (.getfield 35, 3) := dk_180 0 35 (dk_at dksX7_advance_7 17 rfl rfl)
theorem dX7_advance_183 : decode cX7_advance 183 = .ok (.invokevirtual 38, 3) := dk_182 0 38 (dk_at dksX7_advance_7 20 rfl rfl)
theorem dX7_advance_186 : decode cX7_advance 186 = .ok (.i2l, 1) := dk_133 (dk_at dksX7_advance_7 23 rfl rfl)
theorem dX7_advance_187 : decode cX7_advance 187 = .ok (.ldc2_w 76, 3) := dk_20 0 76 (dk_at dksX7_advance_8 0 rfl rfl)
theorem dX7_advance_190 : decode cX7_advance 190 = .ok (.ldc2_w 78, 3) := dk_20 0 78 (dk_at dksX7_advance_8 3 rfl rfl)
theorem dX7_advance_193 : decode cX7_advance 193 = .ok (.invokestatic 58, 3) := dk_184 0 58 (dk_at dksX7_advance_8 6 rfl rfl)
theorem dX7_advance_196 : decode cX7_advance 196 = .ok (.ifCond .eq 76, 3) := dk_153 0 76 (dk_at dksX7_advance_8 9 rfl rfl)
theorem dX7_advance_199 : decode cX7_advance 199 = .ok (.aload_n 0, 1) := dk_42 (dk_at dksX7_advance_8 12 rfl rfl)
theorem dX7_advance_200 : decode cX7_advance 200 = .ok (.aload_n 0, 1) := dk_42 (dk_at dksX7_advance_8 13 rfl rfl)
theorem dX7_advance_201 : decode cX7_advance 201 = .ok (.getfield 35, 3) := dk_180 0 35 (dk_at dksX7_advance_8 14 rfl rfl)
theorem dX7_advance_204 : decode cX7_advance 204 = .ok (.aload_n 0, 1) := dk_42 (dk_at dksX7_advance_8 17 rfl rfl)
theorem dX7_advance_205 : decode cX7_advance 205 = .ok (.getfield 42, 3) := dk_180 0 42 (dk_at dksX7_advance_8 18 rfl rfl)
theorem dX7_advance_208 : decode cX7_advance 208 = .ok (.isub, 1) := dk_100 (dk_at dksX7_advance_8 21 rfl rfl)
theorem dX7_advance_209 : decode cX7_advance 209 = .ok (.iconst 3, 1) := dk_6 (dk_at dksX7_advance_8 22 rfl rfl)
theorem dX7_advance_210 : decode cX7_advance 210 = .ok (.if_icmp .ge 25, 3) := dk_162 0 25 (dk_at dksX7_advance_9 0 rfl rfl)
theorem dX7_advance_213 : decode cX7_advance 213 = .ok (.bipush 10, 2) := dk_16 10 (dk_at dksX7_advance_9 3 rfl rfl)
theorem dX7_advance_215 : decode cX7_advance 215 = .ok (.aload_n 0, 1) := dk_42 (dk_at dksX7_advance_9 5 rfl rfl)
theorem dX7_advance_216 : decode cX7_advance 216 = .ok (.getfield 83, 3) := dk_180 0 83 (dk_at dksX7_advance_9 6 rfl rfl)
theorem dX7_advance_219 : decode cX7_advance 219 = .ok (.imul, 1) := dk_104 (dk_at dksX7_advance_9 9 rfl rfl)
theorem dX7_advance_220 : decode cX7_advance 220 = .ok (.aload_n 0, 1) := dk_42 (dk_at dksX7_advance_9 10 rfl rfl)
theorem dX7_advance_221 : decode cX7_advance 221 = .ok (.aload_n 0, 1) := dk_42 (dk_at dksX7_advance_9 11 rfl rfl)
theorem dX7_advance_222 : decode cX7_advance 222 = .ok (.getfield 35, 3) := dk_180 0 35 (dk_at dksX7_advance_9 12 rfl rfl)
theorem dX7_advance_225 : decode cX7_advance 225 = .ok (.invokevirtual 38, 3) := dk_182 0 38 (dk_at dksX7_advance_9 15 rfl rfl)
theorem dX7_advance_228 : decode cX7_advance 228 = .ok (.iadd, 1) := dk_96 (dk_at dksX7_advance_9 18 rfl rfl)
theorem dX7_advance_229 : decode cX7_advance 229 = .ok (.bipush 48, 2) := dk_16 48 (dk_at dksX7_advance_9 19 rfl rfl)
theorem dX7_advance_231 : decode cX7_advance 231 = .ok (.isub, 1) := dk_100 (dk_at dksX7_advance_9 21 rfl rfl)
theorem dX7_advance_232 : decode cX7_advance 232 = .ok (.goto 7, 3) := dk_167 0 7 (dk_at dksX7_advance_10 0 rfl rfl)
theorem dX7_advance_235 : decode cX7_advance 235 = .ok (.aload_n 0, 1) := dk_42 (dk_at dksX7_advance_10 3 rfl rfl)
theorem dX7_advance_236 : decode cX7_advance 236 = .ok (.getfield 83, 3) := dk_180 0 83 (dk_at dksX7_advance_10 4 rfl rfl)
theorem dX7_advance_239 : decode cX7_advance 239 = .ok (.putfield 83, 3) := dk_181 0 83 (dk_at dksX7_advance_10 7 rfl rfl)
theorem dX7_advance_242 : decode cX7_advance 242 = .ok (.aload_n 0, 1) := dk_42 (dk_at dksX7_advance_10 10 rfl rfl)
theorem dX7_advance_243 : decode cX7_advance 243 = .ok (.dup, 1) := dk_89 (dk_at dksX7_advance_10 11 rfl rfl)
theorem dX7_advance_244 : decode cX7_advance 244 = .ok (.getfield 35, 3) := dk_180 0 35 (dk_at dksX7_advance_10 12 rfl rfl)
theorem dX7_advance_247 : decode cX7_advance 247 = .ok (.iconst 1, 1) := dk_4 (dk_at dksX7_advance_10 15 rfl rfl)
theorem dX7_advance_248 : decode cX7_advance 248 = .ok (.iadd, 1) := dk_96 (dk_at dksX7_advance_10 16 rfl rfl)
theorem dX7_advance_249 : decode cX7_advance 249 = .ok (.putfield 35, 3) := dk_181 0 35 (dk_at dksX7_advance_10 17 rfl rfl)
theorem dX7_advance_252 : decode cX7_advance 252 = .ok (.goto (-74), 3) := dk_167 255 182 (dk_at dksX7_advance_10 20 rfl rfl)
theorem dX7_advance_255 : decode cX7_advance 255 = .ok (.aload_n 0, 1) := dk_42 (dk_at dksX7_advance_10 23 rfl rfl)
theorem dX7_advance_256 : decode cX7_advance 256 = .ok (.getstatic 86, 3) := dk_178 0 86 (dk_at dksX7_advance_11 0 rfl rfl)
theorem dX7_advance_259 : decode cX7_advance 259 = .ok (.putfield 51, 3) := dk_181 0 51 (dk_at dksX7_advance_11 3 rfl rfl)
theorem dX7_advance_262 : decode cX7_advance 262 = .ok (.aload_n 0, 1) := dk_42 (dk_at dksX7_advance_11 6 rfl rfl)
theorem dX7_advance_263 : decode cX7_advance 263 = .ok (.dup, 1) := dk_89 (dk_at dksX7_advance_11 7 rfl rfl)
theorem dX7_advance_264 : decode cX7_advance 264 = .ok (.getfield 35, 3) := dk_180 0 35 (dk_at dksX7_advance_11 8 rfl rfl)
theorem dX7_advance_267 : decode cX7_advance 267 = .ok (.iconst 1, 1) := dk_4 (dk_at dksX7_advance_11 11 rfl rfl)
theorem dX7_advance_268 : decode cX7_advance 268 = .ok (.iadd, 1) := dk_96 (dk_at dksX7_advance_11 12 rfl rfl)
theorem dX7_advance_269 : decode cX7_advance 269 = .ok (.putfield 35, 3) := dk_181 0 35 (dk_at dksX7_advance_11 13 rfl rfl)
theorem dX7_advance_272 : decode cX7_advance 272 = .ok (.return_, 1) := dk_177 (dk_at dksX7_advance_11 16 rfl rfl)
abbrev cX7_byteAt : ByteArray := prog_8_method_2_code
def yX7_byteAt : MethodName := ⟨RX7, "byteAt", "(I)I"⟩
def dkwX7_byteAt_1 : List UInt8 := [2, 172]
abbrev dktX7_byteAt_1 : List UInt8 := dkwX7_byteAt_1 ++ []
def dkwX7_byteAt_0 : List UInt8 := [27, 42, 180, 0, 19, 162, 0, 19, 42, 180, 0, 3, 180, 0, 31, 27, 51, 17, 0, 255, 126, 167, 0, 4]
abbrev dktX7_byteAt_0 : List UInt8 := dkwX7_byteAt_0 ++ dktX7_byteAt_1
theorem dksX7_byteAt_0 : cX7_byteAt.data.toList.drop 0 = dktX7_byteAt_0 := by decide +kernel
theorem dksX7_byteAt_1 : cX7_byteAt.data.toList.drop 24 = dktX7_byteAt_1 := dk_seg dksX7_byteAt_0 24 rfl rfl
theorem dX7_byteAt_0 : decode cX7_byteAt 0 = .ok (.iload_n 1, 1) := dk_27 (dk_at dksX7_byteAt_0 0 rfl rfl)
theorem dX7_byteAt_1 : decode cX7_byteAt 1 = .ok (.aload_n 0, 1) := dk_42 (dk_at dksX7_byteAt_0 1 rfl rfl)
theorem dX7_byteAt_2 : decode cX7_byteAt 2 = .ok (.getfield 19, 3) := dk_180 0 19 (dk_at dksX7_byteAt_0 2 rfl rfl)
theorem dX7_byteAt_5 : decode cX7_byteAt 5 = .ok (.if_icmp .ge 19, 3) := dk_162 0 19 (dk_at dksX7_byteAt_0 5 rfl rfl)
theorem dX7_byteAt_8 : decode cX7_byteAt 8 = .ok (.aload_n 0, 1) := dk_42 (dk_at dksX7_byteAt_0 8 rfl rfl)
theorem dX7_byteAt_9 : decode cX7_byteAt 9 = .ok (.getfield 3, 3) := dk_180 0 3 (dk_at dksX7_byteAt_0 9 rfl rfl)
theorem dX7_byteAt_12 : decode cX7_byteAt 12 = .ok (.getfield 31, 3) := dk_180 0 31 (dk_at dksX7_byteAt_0 12 rfl rfl)
theorem dX7_byteAt_15 : decode cX7_byteAt 15 = .ok (.iload_n 1, 1) := dk_27 (dk_at dksX7_byteAt_0 15 rfl rfl)
theorem dX7_byteAt_16 : decode cX7_byteAt 16 = .ok (.baload, 1) := dk_51 (dk_at dksX7_byteAt_0 16 rfl rfl)
theorem dX7_byteAt_17 : decode cX7_byteAt 17 = .ok (.sipush 255, 3) := dk_17 0 255 (dk_at dksX7_byteAt_0 17 rfl rfl)
theorem dX7_byteAt_20 : decode cX7_byteAt 20 = .ok (.iand, 1) := dk_126 (dk_at dksX7_byteAt_0 20 rfl rfl)
theorem dX7_byteAt_21 : decode cX7_byteAt 21 = .ok (.goto 4, 3) := dk_167 0 4 (dk_at dksX7_byteAt_0 21 rfl rfl)
theorem dX7_byteAt_24 : decode cX7_byteAt 24 = .ok (.iconst (-1), 1) := dk_2 (dk_at dksX7_byteAt_1 0 rfl rfl)
theorem dX7_byteAt_25 : decode cX7_byteAt 25 = .ok (.ireturn, 1) := dk_172 (dk_at dksX7_byteAt_1 1 rfl rfl)
abbrev cX7_configuration : ByteArray := prog_8_method_10_code
def yX7_configuration : MethodName := ⟨RX7, "configuration", "()LHedgeMessages$State;"⟩
def dkwX7_configuration_4 : List UInt8 := [178, 0, 45, 165, 0, 12, 42, 25, 6, 182, 0, 133, 167, 255, 240, 25, 6, 176]
abbrev dktX7_configuration_4 : List UInt8 := dkwX7_configuration_4 ++ []
def dkwX7_configuration_3 : List UInt8 := [21, 5, 42, 4, 16, 40, 182, 0, 122, 183, 0, 127, 58, 6, 42, 182, 0, 130, 42, 180, 0, 51]
abbrev dktX7_configuration_3 : List UInt8 := dkwX7_configuration_3 ++ dktX7_configuration_4
def dkwX7_configuration_2 : List UInt8 := [182, 0, 122, 54, 4, 42, 4, 16, 30, 182, 0, 122, 54, 5, 187, 0, 125, 89, 27, 28, 29, 21, 4]
abbrev dktX7_configuration_2 : List UInt8 := dkwX7_configuration_2 ++ dktX7_configuration_3
def dkwX7_configuration_1 : List UInt8 := [182, 0, 122, 60, 42, 4, 16, 12, 182, 0, 122, 61, 42, 3, 16, 9, 182, 0, 122, 62, 42, 4, 16, 99]
abbrev dktX7_configuration_1 : List UInt8 := dkwX7_configuration_1 ++ dktX7_configuration_2
def dkwX7_configuration_0 : List UInt8 := [42, 42, 180, 0, 24, 18, 116, 182, 0, 118, 4, 182, 0, 94, 42, 182, 0, 28, 42, 7, 16, 40]
abbrev dktX7_configuration_0 : List UInt8 := dkwX7_configuration_0 ++ dktX7_configuration_1
theorem dksX7_configuration_0 : cX7_configuration.data.toList.drop 0 = dktX7_configuration_0 := by decide +kernel
theorem dksX7_configuration_1 : cX7_configuration.data.toList.drop 22 = dktX7_configuration_1 := dk_seg dksX7_configuration_0 22 rfl rfl
theorem dksX7_configuration_2 : cX7_configuration.data.toList.drop 46 = dktX7_configuration_2 := dk_seg dksX7_configuration_1 24 rfl rfl
theorem dksX7_configuration_3 : cX7_configuration.data.toList.drop 69 = dktX7_configuration_3 := dk_seg dksX7_configuration_2 23 rfl rfl
theorem dksX7_configuration_4 : cX7_configuration.data.toList.drop 91 = dktX7_configuration_4 := dk_seg dksX7_configuration_3 22 rfl rfl
theorem dX7_configuration_0 : decode cX7_configuration 0 = .ok (.aload_n 0, 1) := dk_42 (dk_at dksX7_configuration_0 0 rfl rfl)
theorem dX7_configuration_1 : decode cX7_configuration 1 = .ok (.aload_n 0, 1) := dk_42 (dk_at dksX7_configuration_0 1 rfl rfl)
theorem dX7_configuration_2 : decode cX7_configuration 2 = .ok (.getfield 24, 3) := dk_180 0 24 (dk_at dksX7_configuration_0 2 rfl rfl)
theorem dX7_configuration_5 : decode cX7_configuration 5 = .ok (.ldc 116, 2) := dk_18 116 (dk_at dksX7_configuration_0 5 rfl rfl)
theorem dX7_configuration_7 : decode cX7_configuration 7 = .ok (.invokevirtual 118, 3) := dk_182 0 118 (dk_at dksX7_configuration_0 7 rfl rfl)
theorem dX7_configuration_10 : decode cX7_configuration 10 = .ok (.iconst 1, 1) := dk_4 (dk_at dksX7_configuration_0 10 rfl rfl)
theorem dX7_configuration_11 : decode cX7_configuration 11 = .ok (.invokevirtual 94, 3) := dk_182 0 94 (dk_at dksX7_configuration_0 11 rfl rfl)
theorem dX7_configuration_14 : decode cX7_configuration 14 = .ok (.aload_n 0, 1) := dk_42 (dk_at dksX7_configuration_0 14 rfl rfl)
theorem dX7_configuration_15 : decode cX7_configuration 15 = .ok (.invokevirtual 28, 3) := dk_182 0 28 (dk_at dksX7_configuration_0 15 rfl rfl)
theorem dX7_configuration_18 : decode cX7_configuration 18 = .ok (.aload_n 0, 1) := dk_42 (dk_at dksX7_configuration_0 18 rfl rfl)
theorem dX7_configuration_19 : decode cX7_configuration 19 = .ok (.iconst 4, 1) := dk_7 (dk_at dksX7_configuration_0 19 rfl rfl)
theorem dX7_configuration_20 : decode cX7_configuration 20 = .ok (.bipush 40, 2) := dk_16 40 (dk_at dksX7_configuration_0 20 rfl rfl)
theorem dX7_configuration_22 : decode cX7_configuration 22 = .ok (.invokevirtual 122, 3) := dk_182 0 122 (dk_at dksX7_configuration_1 0 rfl rfl)
theorem dX7_configuration_25 : decode cX7_configuration 25 = .ok (.istore_n 1, 1) := dk_60 (dk_at dksX7_configuration_1 3 rfl rfl)
theorem dX7_configuration_26 : decode cX7_configuration 26 = .ok (.aload_n 0, 1) := dk_42 (dk_at dksX7_configuration_1 4 rfl rfl)
theorem dX7_configuration_27 : decode cX7_configuration 27 = .ok (.iconst 1, 1) := dk_4 (dk_at dksX7_configuration_1 5 rfl rfl)
theorem dX7_configuration_28 : decode cX7_configuration 28 = .ok (.bipush 12, 2) := dk_16 12 (dk_at dksX7_configuration_1 6 rfl rfl)
theorem dX7_configuration_30 : decode cX7_configuration 30 = .ok (.invokevirtual 122, 3) := dk_182 0 122 (dk_at dksX7_configuration_1 8 rfl rfl)
theorem dX7_configuration_33 : decode cX7_configuration 33 = .ok (.istore_n 2, 1) := dk_61 (dk_at dksX7_configuration_1 11 rfl rfl)
theorem dX7_configuration_34 : decode cX7_configuration 34 = .ok (.aload_n 0, 1) := dk_42 (dk_at dksX7_configuration_1 12 rfl rfl)
theorem dX7_configuration_35 : decode cX7_configuration 35 = .ok (.iconst 0, 1) := dk_3 (dk_at dksX7_configuration_1 13 rfl rfl)
theorem dX7_configuration_36 : decode cX7_configuration 36 = .ok (.bipush 9, 2) := dk_16 9 (dk_at dksX7_configuration_1 14 rfl rfl)
theorem dX7_configuration_38 : decode cX7_configuration 38 = .ok (.invokevirtual 122, 3) := dk_182 0 122 (dk_at dksX7_configuration_1 16 rfl rfl)
theorem dX7_configuration_41 : decode cX7_configuration 41 = .ok (.istore_n 3, 1) := dk_62 (dk_at dksX7_configuration_1 19 rfl rfl)
theorem dX7_configuration_42 : decode cX7_configuration 42 = .ok (.aload_n 0, 1) := dk_42 (dk_at dksX7_configuration_1 20 rfl rfl)
theorem dX7_configuration_43 : decode cX7_configuration 43 = .ok (.iconst 1, 1) := dk_4 (dk_at dksX7_configuration_1 21 rfl rfl)
theorem dX7_configuration_44 : decode cX7_configuration 44 = .ok (.bipush 99, 2) := dk_16 99 (dk_at dksX7_configuration_1 22 rfl rfl)
theorem dX7_configuration_46 : decode cX7_configuration 46 = .ok (.invokevirtual 122, 3) := dk_182 0 122 (dk_at dksX7_configuration_2 0 rfl rfl)
theorem dX7_configuration_49 : decode cX7_configuration 49 = .ok (.istore 4, 2) := dk_54 4 (dk_at dksX7_configuration_2 3 rfl rfl)
theorem dX7_configuration_51 : decode cX7_configuration 51 = .ok (.aload_n 0, 1) := dk_42 (dk_at dksX7_configuration_2 5 rfl rfl)
theorem dX7_configuration_52 : decode cX7_configuration 52 = .ok (.iconst 1, 1) := dk_4 (dk_at dksX7_configuration_2 6 rfl rfl)
theorem dX7_configuration_53 : decode cX7_configuration 53 = .ok (.bipush 30, 2) := dk_16 30 (dk_at dksX7_configuration_2 7 rfl rfl)
theorem dX7_configuration_55 : decode cX7_configuration 55 = .ok (.invokevirtual 122, 3) := dk_182 0 122 (dk_at dksX7_configuration_2 9 rfl rfl)
theorem dX7_configuration_58 : decode cX7_configuration 58 = .ok (.istore 5, 2) := dk_54 5 (dk_at dksX7_configuration_2 12 rfl rfl)
theorem dX7_configuration_60 : decode cX7_configuration 60 = .ok (.new 125, 3) := dk_187 0 125 (dk_at dksX7_configuration_2 14 rfl rfl)
theorem dX7_configuration_63 : decode cX7_configuration 63 = .ok (.dup, 1) := dk_89 (dk_at dksX7_configuration_2 17 rfl rfl)
theorem dX7_configuration_64 : decode cX7_configuration 64 = .ok (.iload_n 1, 1) := dk_27 (dk_at dksX7_configuration_2 18 rfl rfl)
theorem dX7_configuration_65 : decode cX7_configuration 65 = .ok (.iload_n 2, 1) := dk_28 (dk_at dksX7_configuration_2 19 rfl rfl)
theorem dX7_configuration_66 : decode cX7_configuration 66 = .ok (.iload_n 3, 1) := dk_29 (dk_at dksX7_configuration_2 20 rfl rfl)
theorem dX7_configuration_67 : decode cX7_configuration 67 = .ok (.iload 4, 2) := dk_21 4 (dk_at dksX7_configuration_2 21 rfl rfl)
theorem dX7_configuration_69 : decode cX7_configuration 69 = .ok (.iload 5, 2) := dk_21 5 (dk_at dksX7_configuration_3 0 rfl rfl)
theorem dX7_configuration_71 : decode cX7_configuration 71 = .ok (.aload_n 0, 1) := dk_42 (dk_at dksX7_configuration_3 2 rfl rfl)
theorem dX7_configuration_72 : decode cX7_configuration 72 = .ok (.iconst 1, 1) := dk_4 (dk_at dksX7_configuration_3 3 rfl rfl)
theorem dX7_configuration_73 : decode cX7_configuration 73 = .ok (.bipush 40, 2) := dk_16 40 (dk_at dksX7_configuration_3 4 rfl rfl)
theorem dX7_configuration_75 : decode cX7_configuration 75 = .ok (.invokevirtual 122, 3) := dk_182 0 122 (dk_at dksX7_configuration_3 6 rfl rfl)
theorem dX7_configuration_78 : decode cX7_configuration 78 = .ok (.invokespecial 127, 3) := dk_183 0 127 (dk_at dksX7_configuration_3 9 rfl rfl)
theorem dX7_configuration_81 : decode cX7_configuration 81 = .ok (.astore 6, 2) := dk_58 6 (dk_at dksX7_configuration_3 12 rfl rfl)
theorem dX7_configuration_83 : decode cX7_configuration 83 = .ok (.aload_n 0, 1) := dk_42 (dk_at dksX7_configuration_3 14 rfl rfl)
theorem dX7_configuration_84 : decode cX7_configuration 84 = .ok (.invokevirtual 130, 3) := dk_182 0 130 (dk_at dksX7_configuration_3 15 rfl rfl)
theorem dX7_configuration_87 : decode cX7_configuration 87 = .ok (.aload_n 0, 1) := dk_42 (dk_at dksX7_configuration_3 18 rfl rfl)
theorem dX7_configuration_88 : decode cX7_configuration 88 = .ok (.getfield 51, 3) := dk_180 0 51 (dk_at dksX7_configuration_3 19 rfl rfl)
theorem dX7_configuration_91 : decode cX7_configuration 91 = .ok (.getstatic 45, 3) := dk_178 0 45 (dk_at dksX7_configuration_4 0 rfl rfl)
theorem dX7_configuration_94 : decode cX7_configuration 94 = .ok (.if_acmp .eq 12, 3) := dk_165 0 12 (dk_at dksX7_configuration_4 3 rfl rfl)
theorem dX7_configuration_97 : decode cX7_configuration 97 = .ok (.aload_n 0, 1) := dk_42 (dk_at dksX7_configuration_4 6 rfl rfl)
theorem dX7_configuration_98 : decode cX7_configuration 98 = .ok (.aload 6, 2) := dk_25 6 (dk_at dksX7_configuration_4 7 rfl rfl)
theorem dX7_configuration_100 : decode cX7_configuration 100 = .ok (.invokevirtual 133, 3) := dk_182 0 133 (dk_at dksX7_configuration_4 9 rfl rfl)
theorem dX7_configuration_103 : decode cX7_configuration 103 = .ok (.goto (-16), 3) := dk_167 255 240 (dk_at dksX7_configuration_4 12 rfl rfl)
theorem dX7_configuration_106 : decode cX7_configuration 106 = .ok (.aload 6, 2) := dk_25 6 (dk_at dksX7_configuration_4 15 rfl rfl)
theorem dX7_configuration_108 : decode cX7_configuration 108 = .ok (.areturn, 1) := dk_176 (dk_at dksX7_configuration_4 17 rfl rfl)
abbrev cX7_require : ByteArray := prog_8_method_4_code
def yX7_require : MethodName := ⟨RX7, "require", "(ZI)V"⟩
def dkwX7_require_0 : List UInt8 := [27, 154, 0, 16, 187, 0, 89, 89, 28, 42, 180, 0, 42, 183, 0, 91, 191, 177]
abbrev dktX7_require_0 : List UInt8 := dkwX7_require_0 ++ []
theorem dksX7_require_0 : cX7_require.data.toList.drop 0 = dktX7_require_0 := by decide +kernel
theorem dX7_require_0 : decode cX7_require 0 = .ok (.iload_n 1, 1) := dk_27 (dk_at dksX7_require_0 0 rfl rfl)
theorem dX7_require_1 : decode cX7_require 1 = .ok (.ifCond .ne 16, 3) := dk_154 0 16 (dk_at dksX7_require_0 1 rfl rfl)
theorem dX7_require_4 : decode cX7_require 4 = .ok (.new 89, 3) := dk_187 0 89 (dk_at dksX7_require_0 4 rfl rfl)
theorem dX7_require_7 : decode cX7_require 7 = .ok (.dup, 1) := dk_89 (dk_at dksX7_require_0 7 rfl rfl)
theorem dX7_require_8 : decode cX7_require 8 = .ok (.iload_n 2, 1) := dk_28 (dk_at dksX7_require_0 8 rfl rfl)
theorem dX7_require_9 : decode cX7_require 9 = .ok (.aload_n 0, 1) := dk_42 (dk_at dksX7_require_0 9 rfl rfl)
theorem dX7_require_10 : decode cX7_require 10 = .ok (.getfield 42, 3) := dk_180 0 42 (dk_at dksX7_require_0 10 rfl rfl)
theorem dX7_require_13 : decode cX7_require 13 = .ok (.invokespecial 91, 3) := dk_183 0 91 (dk_at dksX7_require_0 13 rfl rfl)
theorem dX7_require_16 : decode cX7_require 16 = .ok (.athrow, 1) := dk_191 (dk_at dksX7_require_0 16 rfl rfl)
theorem dX7_require_17 : decode cX7_require 17 = .ok (.return_, 1) := dk_177 (dk_at dksX7_require_0 17 rfl rfl)
abbrev cX7_number : ByteArray := prog_8_method_6_code
def yX7_number : MethodName := ⟨RX7, "number", "(II)I"⟩
def dkwX7_number_0 : List UInt8 := [42, 27, 28, 182, 0, 98, 62, 42, 182, 0, 28, 29, 172]
abbrev dktX7_number_0 : List UInt8 := dkwX7_number_0 ++ []
theorem dksX7_number_0 : cX7_number.data.toList.drop 0 = dktX7_number_0 := by decide +kernel
theorem dX7_number_0 : decode cX7_number 0 = .ok (.aload_n 0, 1) := dk_42 (dk_at dksX7_number_0 0 rfl rfl)
theorem dX7_number_1 : decode cX7_number 1 = .ok (.iload_n 1, 1) := dk_27 (dk_at dksX7_number_0 1 rfl rfl)
theorem dX7_number_2 : decode cX7_number 2 = .ok (.iload_n 2, 1) := dk_28 (dk_at dksX7_number_0 2 rfl rfl)
theorem dX7_number_3 : decode cX7_number 3 = .ok (.invokevirtual 98, 3) := dk_182 0 98 (dk_at dksX7_number_0 3 rfl rfl)
theorem dX7_number_6 : decode cX7_number 6 = .ok (.istore_n 3, 1) := dk_62 (dk_at dksX7_number_0 6 rfl rfl)
theorem dX7_number_7 : decode cX7_number 7 = .ok (.aload_n 0, 1) := dk_42 (dk_at dksX7_number_0 7 rfl rfl)
theorem dX7_number_8 : decode cX7_number 8 = .ok (.invokevirtual 28, 3) := dk_182 0 28 (dk_at dksX7_number_0 8 rfl rfl)
theorem dX7_number_11 : decode cX7_number 11 = .ok (.iload_n 3, 1) := dk_29 (dk_at dksX7_number_0 11 rfl rfl)
theorem dX7_number_12 : decode cX7_number 12 = .ok (.ireturn, 1) := dk_172 (dk_at dksX7_number_0 12 rfl rfl)
abbrev cX7_peekNumber : ByteArray := prog_8_method_5_code
def yX7_peekNumber : MethodName := ⟨RX7, "peekNumber", "(II)I"⟩
def dkwX7_peekNumber_2 : List UInt8 := [182, 0, 94, 42, 180, 0, 83, 172]
abbrev dktX7_peekNumber_2 : List UInt8 := dkwX7_peekNumber_2 ++ []
def dkwX7_peekNumber_1 : List UInt8 := [4, 167, 0, 4, 3, 4, 182, 0, 94, 42, 42, 180, 0, 83, 133, 27, 133, 28, 133, 184, 0, 58, 5]
abbrev dktX7_peekNumber_1 : List UInt8 := dkwX7_peekNumber_1 ++ dktX7_peekNumber_2
def dkwX7_peekNumber_0 : List UInt8 := [42, 42, 180, 0, 51, 178, 0, 80, 166, 0, 20, 42, 180, 0, 35, 42, 180, 0, 42, 100, 6, 163, 0, 7]
abbrev dktX7_peekNumber_0 : List UInt8 := dkwX7_peekNumber_0 ++ dktX7_peekNumber_1
theorem dksX7_peekNumber_0 : cX7_peekNumber.data.toList.drop 0 = dktX7_peekNumber_0 := by decide +kernel
theorem dksX7_peekNumber_1 : cX7_peekNumber.data.toList.drop 24 = dktX7_peekNumber_1 := dk_seg dksX7_peekNumber_0 24 rfl rfl
theorem dksX7_peekNumber_2 : cX7_peekNumber.data.toList.drop 47 = dktX7_peekNumber_2 := dk_seg dksX7_peekNumber_1 23 rfl rfl
theorem dX7_peekNumber_0 : decode cX7_peekNumber 0 = .ok (.aload_n 0, 1) := dk_42 (dk_at dksX7_peekNumber_0 0 rfl rfl)
theorem dX7_peekNumber_1 : decode cX7_peekNumber 1 = .ok (.aload_n 0, 1) := dk_42 (dk_at dksX7_peekNumber_0 1 rfl rfl)
theorem dX7_peekNumber_2 : decode cX7_peekNumber 2 = .ok (.getfield 51, 3) := dk_180 0 51 (dk_at dksX7_peekNumber_0 2 rfl rfl)
theorem dX7_peekNumber_5 : decode cX7_peekNumber 5 = .ok (.getstatic 80, 3) := dk_178 0 80 (dk_at dksX7_peekNumber_0 5 rfl rfl)
theorem dX7_peekNumber_8 : decode cX7_peekNumber 8 = .ok (.if_acmp .ne 20, 3) := dk_166 0 20 (dk_at dksX7_peekNumber_0 8 rfl rfl)
theorem dX7_peekNumber_11 : decode cX7_peekNumber 11 = .ok (.aload_n 0, 1) := dk_42 (dk_at dksX7_peekNumber_0 11 rfl rfl)
theorem dX7_peekNumber_12 : decode cX7_peekNumber 12 = .ok (.getfield 35, 3) := dk_180 0 35 (dk_at dksX7_peekNumber_0 12 rfl rfl)
theorem dX7_peekNumber_15 : decode cX7_peekNumber 15 = .ok (.aload_n 0, 1) := dk_42 (dk_at dksX7_peekNumber_0 15 rfl rfl)
theorem dX7_peekNumber_16 : decode cX7_peekNumber 16 = .ok (.getfield 42, 3) := dk_180 0 42 (dk_at dksX7_peekNumber_0 16 rfl rfl)
theorem dX7_peekNumber_19 : decode cX7_peekNumber 19 = .ok (.isub, 1) := dk_100 (dk_at dksX7_peekNumber_0 19 rfl rfl)
theorem dX7_peekNumber_20 : decode cX7_peekNumber 20 = .ok (.iconst 3, 1) := dk_6 (dk_at dksX7_peekNumber_0 20 rfl rfl)
theorem dX7_peekNumber_21 : decode cX7_peekNumber 21 = .ok (.if_icmp .gt 7, 3) := dk_163 0 7 (dk_at dksX7_peekNumber_0 21 rfl rfl)
theorem dX7_peekNumber_24 : decode cX7_peekNumber 24 = .ok (.iconst 1, 1) := dk_4 (dk_at dksX7_peekNumber_1 0 rfl rfl)
theorem dX7_peekNumber_25 : decode cX7_peekNumber 25 = .ok (.goto 4, 3) := dk_167 0 4 (dk_at dksX7_peekNumber_1 1 rfl rfl)
theorem dX7_peekNumber_28 : decode cX7_peekNumber 28 = .ok (.iconst 0, 1) := dk_3 (dk_at dksX7_peekNumber_1 4 rfl rfl)
theorem dX7_peekNumber_29 : decode cX7_peekNumber 29 = .ok (.iconst 1, 1) := dk_4 (dk_at dksX7_peekNumber_1 5 rfl rfl)
theorem dX7_peekNumber_30 : decode cX7_peekNumber 30 = .ok (.invokevirtual 94, 3) := dk_182 0 94 (dk_at dksX7_peekNumber_1 6 rfl rfl)
theorem dX7_peekNumber_33 : decode cX7_peekNumber 33 = .ok (.aload_n 0, 1) := dk_42 (dk_at dksX7_peekNumber_1 9 rfl rfl)
theorem dX7_peekNumber_34 : decode cX7_peekNumber 34 = .ok (.aload_n 0, 1) := dk_42 (dk_at dksX7_peekNumber_1 10 rfl rfl)
theorem dX7_peekNumber_35 : decode cX7_peekNumber 35 = .ok (.getfield 83, 3) := dk_180 0 83 (dk_at dksX7_peekNumber_1 11 rfl rfl)
theorem dX7_peekNumber_38 : decode cX7_peekNumber 38 = .ok (.i2l, 1) := dk_133 (dk_at dksX7_peekNumber_1 14 rfl rfl)
theorem dX7_peekNumber_39 : decode cX7_peekNumber 39 = .ok (.iload_n 1, 1) := dk_27 (dk_at dksX7_peekNumber_1 15 rfl rfl)
theorem dX7_peekNumber_40 : decode cX7_peekNumber 40 = .ok (.i2l, 1) := dk_133 (dk_at dksX7_peekNumber_1 16 rfl rfl)
theorem dX7_peekNumber_41 : decode cX7_peekNumber 41 = .ok (.iload_n 2, 1) := dk_28 (dk_at dksX7_peekNumber_1 17 rfl rfl)
theorem dX7_peekNumber_42 : decode cX7_peekNumber 42 = .ok (.i2l, 1) := dk_133 (dk_at dksX7_peekNumber_1 18 rfl rfl)
theorem dX7_peekNumber_43 : decode cX7_peekNumber 43 = .ok (.invokestatic 58, 3) := dk_184 0 58 (dk_at dksX7_peekNumber_1 19 rfl rfl)
theorem dX7_peekNumber_46 : decode cX7_peekNumber 46 = .ok (.iconst 2, 1) := dk_5 (dk_at dksX7_peekNumber_1 22 rfl rfl)
theorem dX7_peekNumber_47 : decode cX7_peekNumber 47 = .ok (.invokevirtual 94, 3) := dk_182 0 94 (dk_at dksX7_peekNumber_2 0 rfl rfl)
theorem dX7_peekNumber_50 : decode cX7_peekNumber 50 = .ok (.aload_n 0, 1) := dk_42 (dk_at dksX7_peekNumber_2 3 rfl rfl)
theorem dX7_peekNumber_51 : decode cX7_peekNumber 51 = .ok (.getfield 83, 3) := dk_180 0 83 (dk_at dksX7_peekNumber_2 4 rfl rfl)
theorem dX7_peekNumber_54 : decode cX7_peekNumber 54 = .ok (.ireturn, 1) := dk_172 (dk_at dksX7_peekNumber_2 7 rfl rfl)
abbrev cX7_semicolon : ByteArray := prog_8_method_9_code
def yX7_semicolon : MethodName := ⟨RX7, "semicolon", "()V"⟩
def dkwX7_semicolon_1 : List UInt8 := [4, 167, 0, 4, 3, 4, 182, 0, 94, 42, 182, 0, 28, 177]
abbrev dktX7_semicolon_1 : List UInt8 := dkwX7_semicolon_1 ++ []
def dkwX7_semicolon_0 : List UInt8 := [42, 42, 180, 0, 51, 178, 0, 86, 166, 0, 20, 42, 42, 180, 0, 42, 182, 0, 38, 16, 59, 160, 0, 7]
abbrev dktX7_semicolon_0 : List UInt8 := dkwX7_semicolon_0 ++ dktX7_semicolon_1
theorem dksX7_semicolon_0 : cX7_semicolon.data.toList.drop 0 = dktX7_semicolon_0 := by decide +kernel
theorem dksX7_semicolon_1 : cX7_semicolon.data.toList.drop 24 = dktX7_semicolon_1 := dk_seg dksX7_semicolon_0 24 rfl rfl
theorem dX7_semicolon_0 : decode cX7_semicolon 0 = .ok (.aload_n 0, 1) := dk_42 (dk_at dksX7_semicolon_0 0 rfl rfl)
theorem dX7_semicolon_1 : decode cX7_semicolon 1 = .ok (.aload_n 0, 1) := dk_42 (dk_at dksX7_semicolon_0 1 rfl rfl)
theorem dX7_semicolon_2 : decode cX7_semicolon 2 = .ok (.getfield 51, 3) := dk_180 0 51 (dk_at dksX7_semicolon_0 2 rfl rfl)
theorem dX7_semicolon_5 : decode cX7_semicolon 5 = .ok (.getstatic 86, 3) := dk_178 0 86 (dk_at dksX7_semicolon_0 5 rfl rfl)
theorem dX7_semicolon_8 : decode cX7_semicolon 8 = .ok (.if_acmp .ne 20, 3) := dk_166 0 20 (dk_at dksX7_semicolon_0 8 rfl rfl)
theorem dX7_semicolon_11 : decode cX7_semicolon 11 = .ok (.aload_n 0, 1) := dk_42 (dk_at dksX7_semicolon_0 11 rfl rfl)
theorem dX7_semicolon_12 : decode cX7_semicolon 12 = .ok (.aload_n 0, 1) := dk_42 (dk_at dksX7_semicolon_0 12 rfl rfl)
theorem dX7_semicolon_13 : decode cX7_semicolon 13 = .ok (.getfield 42, 3) := dk_180 0 42 (dk_at dksX7_semicolon_0 13 rfl rfl)
theorem dX7_semicolon_16 : decode cX7_semicolon 16 = .ok (.invokevirtual 38, 3) := dk_182 0 38 (dk_at dksX7_semicolon_0 16 rfl rfl)
theorem dX7_semicolon_19 : decode cX7_semicolon 19 = .ok (.bipush 59, 2) := dk_16 59 (dk_at dksX7_semicolon_0 19 rfl rfl)
theorem dX7_semicolon_21 : decode cX7_semicolon 21 = .ok (.if_icmp .ne 7, 3) := dk_160 0 7 (dk_at dksX7_semicolon_0 21 rfl rfl)
theorem dX7_semicolon_24 : decode cX7_semicolon 24 = .ok (.iconst 1, 1) := dk_4 (dk_at dksX7_semicolon_1 0 rfl rfl)
theorem dX7_semicolon_25 : decode cX7_semicolon 25 = .ok (.goto 4, 3) := dk_167 0 4 (dk_at dksX7_semicolon_1 1 rfl rfl)
theorem dX7_semicolon_28 : decode cX7_semicolon 28 = .ok (.iconst 0, 1) := dk_3 (dk_at dksX7_semicolon_1 4 rfl rfl)
theorem dX7_semicolon_29 : decode cX7_semicolon 29 = .ok (.iconst 1, 1) := dk_4 (dk_at dksX7_semicolon_1 5 rfl rfl)
theorem dX7_semicolon_30 : decode cX7_semicolon 30 = .ok (.invokevirtual 94, 3) := dk_182 0 94 (dk_at dksX7_semicolon_1 6 rfl rfl)
theorem dX7_semicolon_33 : decode cX7_semicolon 33 = .ok (.aload_n 0, 1) := dk_42 (dk_at dksX7_semicolon_1 9 rfl rfl)
theorem dX7_semicolon_34 : decode cX7_semicolon 34 = .ok (.invokevirtual 28, 3) := dk_182 0 28 (dk_at dksX7_semicolon_1 10 rfl rfl)
theorem dX7_semicolon_37 : decode cX7_semicolon 37 = .ok (.return_, 1) := dk_177 (dk_at dksX7_semicolon_1 13 rfl rfl)
abbrev cX7_statement : ByteArray := prog_8_method_11_code
def yX7_statement : MethodName := ⟨RX7, "statement", "(LHedgeMessages$State;)V"⟩
def dkwX7_statement_6 : List UInt8 := [42, 3, 4, 182, 0, 94, 42, 182, 0, 130, 177]
abbrev dktX7_statement_6 : List UInt8 := dkwX7_statement_6 ++ []
def dkwX7_statement_5 : List UInt8 := [42, 43, 182, 0, 146, 167, 0, 25, 42, 43, 182, 0, 148, 167, 0, 17, 42, 43, 182, 0, 150, 167, 0, 9]
abbrev dktX7_statement_5 : List UInt8 := dkwX7_statement_5 ++ dktX7_statement_6
def dkwX7_statement_4 : List UInt8 := [170, 0, 0, 0, 0, 0, 0, 52, 0, 0, 0, 0, 0, 0, 0, 2, 0, 0, 0, 28, 0, 0, 0, 36, 0, 0, 0, 44]
abbrev dktX7_statement_4 : List UInt8 := dkwX7_statement_4 ++ dktX7_statement_5
def dkwX7_statement_3 : List UInt8 := [62, 167, 0, 14, 44, 18, 144, 182, 0, 118, 153, 0, 5, 5, 62, 29]
abbrev dktX7_statement_3 : List UInt8 := dkwX7_statement_3 ++ dktX7_statement_4
def dkwX7_statement_2 : List UInt8 := [44, 18, 140, 182, 0, 118, 153, 0, 33, 3, 62, 167, 0, 28, 44, 18, 142, 182, 0, 118, 153, 0, 19, 4]
abbrev dktX7_statement_2 : List UInt8 := dkwX7_statement_2 ++ dktX7_statement_3
def dkwX7_statement_1 : List UInt8 := [171, 0, 0, 0, 72, 0, 0, 0, 3, 0, 51, 138, 88, 0, 0, 0, 47, 0, 54, 134, 225, 0, 0, 0, 33, 56, 235, 0, 7, 0, 0, 0, 61]
abbrev dktX7_statement_1 : List UInt8 := dkwX7_statement_1 ++ dktX7_statement_2
def dkwX7_statement_0 : List UInt8 := [42, 180, 0, 24, 77, 2, 62, 44, 182, 0, 137]
abbrev dktX7_statement_0 : List UInt8 := dkwX7_statement_0 ++ dktX7_statement_1
theorem dksX7_statement_0 : cX7_statement.data.toList.drop 0 = dktX7_statement_0 := by decide +kernel
theorem dksX7_statement_1 : cX7_statement.data.toList.drop 11 = dktX7_statement_1 := dk_seg dksX7_statement_0 11 rfl rfl
theorem dksX7_statement_2 : cX7_statement.data.toList.drop 44 = dktX7_statement_2 := dk_seg dksX7_statement_1 33 rfl rfl
theorem dksX7_statement_3 : cX7_statement.data.toList.drop 68 = dktX7_statement_3 := dk_seg dksX7_statement_2 24 rfl rfl
theorem dksX7_statement_4 : cX7_statement.data.toList.drop 84 = dktX7_statement_4 := dk_seg dksX7_statement_3 16 rfl rfl
theorem dksX7_statement_5 : cX7_statement.data.toList.drop 112 = dktX7_statement_5 := dk_seg dksX7_statement_4 28 rfl rfl
theorem dksX7_statement_6 : cX7_statement.data.toList.drop 136 = dktX7_statement_6 := dk_seg dksX7_statement_5 24 rfl rfl
theorem dX7_statement_0 : decode cX7_statement 0 = .ok (.aload_n 0, 1) := dk_42 (dk_at dksX7_statement_0 0 rfl rfl)
theorem dX7_statement_1 : decode cX7_statement 1 = .ok (.getfield 24, 3) := dk_180 0 24 (dk_at dksX7_statement_0 1 rfl rfl)
theorem dX7_statement_4 : decode cX7_statement 4 = .ok (.astore_n 2, 1) := dk_77 (dk_at dksX7_statement_0 4 rfl rfl)
theorem dX7_statement_5 : decode cX7_statement 5 = .ok (.iconst (-1), 1) := dk_2 (dk_at dksX7_statement_0 5 rfl rfl)
theorem dX7_statement_6 : decode cX7_statement 6 = .ok (.istore_n 3, 1) := dk_62 (dk_at dksX7_statement_0 6 rfl rfl)
theorem dX7_statement_7 : decode cX7_statement 7 = .ok (.aload_n 2, 1) := dk_44 (dk_at dksX7_statement_0 7 rfl rfl)
theorem dX7_statement_8 : decode cX7_statement 8 = .ok (.invokevirtual 137, 3) := dk_182 0 137 (dk_at dksX7_statement_0 8 rfl rfl)
theorem dX7_statement_11 : decode cX7_statement 11 = .ok (.lookupswitch 72 #[(3377752, 47), (3573473, 33), (954925063, 61)], 33) := by decide +kernel
theorem dX7_statement_44 : decode cX7_statement 44 = .ok (.aload_n 2, 1) := dk_44 (dk_at dksX7_statement_2 0 rfl rfl)
theorem dX7_statement_45 : decode cX7_statement 45 = .ok (.ldc 140, 2) := dk_18 140 (dk_at dksX7_statement_2 1 rfl rfl)
theorem dX7_statement_47 : decode cX7_statement 47 = .ok (.invokevirtual 118, 3) := dk_182 0 118 (dk_at dksX7_statement_2 3 rfl rfl)
theorem dX7_statement_50 : decode cX7_statement 50 = .ok (.ifCond .eq 33, 3) := dk_153 0 33 (dk_at dksX7_statement_2 6 rfl rfl)
theorem dX7_statement_53 : decode cX7_statement 53 = .ok (.iconst 0, 1) := dk_3 (dk_at dksX7_statement_2 9 rfl rfl)
theorem dX7_statement_54 : decode cX7_statement 54 = .ok (.istore_n 3, 1) := dk_62 (dk_at dksX7_statement_2 10 rfl rfl)
theorem dX7_statement_55 : decode cX7_statement 55 = .ok (.goto 28, 3) := dk_167 0 28 (dk_at dksX7_statement_2 11 rfl rfl)
theorem dX7_statement_58 : decode cX7_statement 58 = .ok (.aload_n 2, 1) := dk_44 (dk_at dksX7_statement_2 14 rfl rfl)
theorem dX7_statement_59 : decode cX7_statement 59 = .ok (.ldc 142, 2) := dk_18 142 (dk_at dksX7_statement_2 15 rfl rfl)
theorem dX7_statement_61 : decode cX7_statement 61 = .ok (.invokevirtual 118, 3) := dk_182 0 118 (dk_at dksX7_statement_2 17 rfl rfl)
theorem dX7_statement_64 : decode cX7_statement 64 = .ok (.ifCond .eq 19, 3) := dk_153 0 19 (dk_at dksX7_statement_2 20 rfl rfl)
theorem dX7_statement_67 : decode cX7_statement 67 = .ok (.iconst 1, 1) := dk_4 (dk_at dksX7_statement_2 23 rfl rfl)
theorem dX7_statement_68 : decode cX7_statement 68 = .ok (.istore_n 3, 1) := dk_62 (dk_at dksX7_statement_3 0 rfl rfl)
theorem dX7_statement_69 : decode cX7_statement 69 = .ok (.goto 14, 3) := dk_167 0 14 (dk_at dksX7_statement_3 1 rfl rfl)
theorem dX7_statement_72 : decode cX7_statement 72 = .ok (.aload_n 2, 1) := dk_44 (dk_at dksX7_statement_3 4 rfl rfl)
theorem dX7_statement_73 : decode cX7_statement 73 = .ok (.ldc 144, 2) := dk_18 144 (dk_at dksX7_statement_3 5 rfl rfl)
theorem dX7_statement_75 : decode cX7_statement 75 = .ok (.invokevirtual 118, 3) := dk_182 0 118 (dk_at dksX7_statement_3 7 rfl rfl)
theorem dX7_statement_78 : decode cX7_statement 78 = .ok (.ifCond .eq 5, 3) := dk_153 0 5 (dk_at dksX7_statement_3 10 rfl rfl)
theorem dX7_statement_81 : decode cX7_statement 81 = .ok (.iconst 2, 1) := dk_5 (dk_at dksX7_statement_3 13 rfl rfl)
theorem dX7_statement_82 : decode cX7_statement 82 = .ok (.istore_n 3, 1) := dk_62 (dk_at dksX7_statement_3 14 rfl rfl)
theorem dX7_statement_83 : decode cX7_statement 83 = .ok (.iload_n 3, 1) := dk_29 (dk_at dksX7_statement_3 15 rfl rfl)
theorem dX7_statement_84 : decode cX7_statement 84 = .ok (.tableswitch 52 0 2 #[28, 36, 44], 28) := by decide +kernel
theorem dX7_statement_112 : decode cX7_statement 112 = .ok (.aload_n 0, 1) := dk_42 (dk_at dksX7_statement_5 0 rfl rfl)
theorem dX7_statement_113 : decode cX7_statement 113 = .ok (.aload_n 1, 1) := dk_43 (dk_at dksX7_statement_5 1 rfl rfl)
theorem dX7_statement_114 : decode cX7_statement 114 = .ok (.invokevirtual 146, 3) := dk_182 0 146 (dk_at dksX7_statement_5 2 rfl rfl)
theorem dX7_statement_117 : decode cX7_statement 117 = .ok (.goto 25, 3) := dk_167 0 25 (dk_at dksX7_statement_5 5 rfl rfl)
theorem dX7_statement_120 : decode cX7_statement 120 = .ok (.aload_n 0, 1) := dk_42 (dk_at dksX7_statement_5 8 rfl rfl)
theorem dX7_statement_121 : decode cX7_statement 121 = .ok (.aload_n 1, 1) := dk_43 (dk_at dksX7_statement_5 9 rfl rfl)
theorem dX7_statement_122 : decode cX7_statement 122 = .ok (.invokevirtual 148, 3) := dk_182 0 148 (dk_at dksX7_statement_5 10 rfl rfl)
theorem dX7_statement_125 : decode cX7_statement 125 = .ok (.goto 17, 3) := dk_167 0 17 (dk_at dksX7_statement_5 13 rfl rfl)
theorem dX7_statement_128 : decode cX7_statement 128 = .ok (.aload_n 0, 1) := dk_42 (dk_at dksX7_statement_5 16 rfl rfl)
theorem dX7_statement_129 : decode cX7_statement 129 = .ok (.aload_n 1, 1) := dk_43 (dk_at dksX7_statement_5 17 rfl rfl)
theorem dX7_statement_130 : decode cX7_statement 130 = .ok (.invokevirtual 150, 3) := dk_182 0 150 (dk_at dksX7_statement_5 18 rfl rfl)
theorem dX7_statement_133 : decode cX7_statement 133 = .ok (.goto 9, 3) := dk_167 0 9 (dk_at dksX7_statement_5 21 rfl rfl)
theorem dX7_statement_136 : decode cX7_statement 136 = .ok (.aload_n 0, 1) := dk_42 (dk_at dksX7_statement_6 0 rfl rfl)
theorem dX7_statement_137 : decode cX7_statement 137 = .ok (.iconst 0, 1) := dk_3 (dk_at dksX7_statement_6 1 rfl rfl)
theorem dX7_statement_138 : decode cX7_statement 138 = .ok (.iconst 1, 1) := dk_4 (dk_at dksX7_statement_6 2 rfl rfl)
theorem dX7_statement_139 : decode cX7_statement 139 = .ok (.invokevirtual 94, 3) := dk_182 0 94 (dk_at dksX7_statement_6 3 rfl rfl)
theorem dX7_statement_142 : decode cX7_statement 142 = .ok (.aload_n 0, 1) := dk_42 (dk_at dksX7_statement_6 6 rfl rfl)
theorem dX7_statement_143 : decode cX7_statement 143 = .ok (.invokevirtual 130, 3) := dk_182 0 130 (dk_at dksX7_statement_6 7 rfl rfl)
theorem dX7_statement_146 : decode cX7_statement 146 = .ok (.return_, 1) := dk_177 (dk_at dksX7_statement_6 10 rfl rfl)
abbrev cX7_twig : ByteArray := prog_8_method_12_code
def yX7_twig : MethodName := ⟨RX7, "twig", "(LHedgeMessages$State;)V"⟩
def dkwX7_twig_3 : List UInt8 := [182, 0, 168, 177]
abbrev dktX7_twig_3 : List UInt8 := dkwX7_twig_3 ++ []
def dkwX7_twig_2 : List UInt8 := [182, 0, 122, 54, 4, 43, 28, 187, 0, 163, 89, 29, 21, 4, 42, 4, 16, 99, 182, 0, 122, 183, 0, 165]
abbrev dktX7_twig_2 : List UInt8 := dkwX7_twig_2 ++ dktX7_twig_3
def dkwX7_twig_1 : List UInt8 := [199, 0, 7, 4, 167, 0, 4, 3, 6, 182, 0, 94, 42, 182, 0, 28, 42, 182, 0, 159, 62, 42, 3, 4]
abbrev dktX7_twig_1 : List UInt8 := dkwX7_twig_1 ++ dktX7_twig_2
def dkwX7_twig_0 : List UInt8 := [42, 182, 0, 28, 42, 3, 43, 182, 0, 152, 4, 100, 182, 0, 98, 61, 42, 43, 180, 0, 155, 28, 50]
abbrev dktX7_twig_0 : List UInt8 := dkwX7_twig_0 ++ dktX7_twig_1
theorem dksX7_twig_0 : cX7_twig.data.toList.drop 0 = dktX7_twig_0 := by decide +kernel
theorem dksX7_twig_1 : cX7_twig.data.toList.drop 23 = dktX7_twig_1 := dk_seg dksX7_twig_0 23 rfl rfl
theorem dksX7_twig_2 : cX7_twig.data.toList.drop 47 = dktX7_twig_2 := dk_seg dksX7_twig_1 24 rfl rfl
theorem dksX7_twig_3 : cX7_twig.data.toList.drop 71 = dktX7_twig_3 := dk_seg dksX7_twig_2 24 rfl rfl
theorem dX7_twig_0 : decode cX7_twig 0 = .ok (.aload_n 0, 1) := dk_42 (dk_at dksX7_twig_0 0 rfl rfl)
theorem dX7_twig_1 : decode cX7_twig 1 = .ok (.invokevirtual 28, 3) := dk_182 0 28 (dk_at dksX7_twig_0 1 rfl rfl)
theorem dX7_twig_4 : decode cX7_twig 4 = .ok (.aload_n 0, 1) := dk_42 (dk_at dksX7_twig_0 4 rfl rfl)
theorem dX7_twig_5 : decode cX7_twig 5 = .ok (.iconst 0, 1) := dk_3 (dk_at dksX7_twig_0 5 rfl rfl)
theorem dX7_twig_6 : decode cX7_twig 6 = .ok (.aload_n 1, 1) := dk_43 (dk_at dksX7_twig_0 6 rfl rfl)
theorem dX7_twig_7 : decode cX7_twig 7 = .ok (.invokevirtual 152, 3) := dk_182 0 152 (dk_at dksX7_twig_0 7 rfl rfl)
theorem dX7_twig_10 : decode cX7_twig 10 = .ok (.iconst 1, 1) := dk_4 (dk_at dksX7_twig_0 10 rfl rfl)
theorem dX7_twig_11 : decode cX7_twig 11 = .ok (.isub, 1) := dk_100 (dk_at dksX7_twig_0 11 rfl rfl)
theorem dX7_twig_12 : decode cX7_twig 12 = .ok (.invokevirtual 98, 3) := dk_182 0 98 (dk_at dksX7_twig_0 12 rfl rfl)
theorem dX7_twig_15 : decode cX7_twig 15 = .ok (.istore_n 2, 1) := dk_61 (dk_at dksX7_twig_0 15 rfl rfl)
theorem dX7_twig_16 : decode cX7_twig 16 = .ok (.aload_n 0, 1) := dk_42 (dk_at dksX7_twig_0 16 rfl rfl)
theorem dX7_twig_17 : decode cX7_twig 17 = .ok (.aload_n 1, 1) := dk_43 (dk_at dksX7_twig_0 17 rfl rfl)
theorem dX7_twig_18 : decode cX7_twig 18 = .ok (.getfield 155, 3) := dk_180 0 155 (dk_at dksX7_twig_0 18 rfl rfl)
theorem dX7_twig_21 : decode cX7_twig 21 = .ok (.iload_n 2, 1) := dk_28 (dk_at dksX7_twig_0 21 rfl rfl)
theorem dX7_twig_22 : decode cX7_twig 22 = .ok (.aaload, 1) := dk_50 (dk_at dksX7_twig_0 22 rfl rfl)
theorem dX7_twig_23 : decode cX7_twig 23 = .ok (.ifnonnull 7, 3) := dk_199 0 7 (dk_at dksX7_twig_1 0 rfl rfl)
theorem dX7_twig_26 : decode cX7_twig 26 = .ok (.iconst 1, 1) := dk_4 (dk_at dksX7_twig_1 3 rfl rfl)
theorem dX7_twig_27 : decode cX7_twig 27 = .ok (.goto 4, 3) := dk_167 0 4 (dk_at dksX7_twig_1 4 rfl rfl)
theorem dX7_twig_30 : decode cX7_twig 30 = .ok (.iconst 0, 1) := dk_3 (dk_at dksX7_twig_1 7 rfl rfl)
theorem dX7_twig_31 : decode cX7_twig 31 = .ok (.iconst 3, 1) := dk_6 (dk_at dksX7_twig_1 8 rfl rfl)
theorem dX7_twig_32 : decode cX7_twig 32 = .ok (.invokevirtual 94, 3) := dk_182 0 94 (dk_at dksX7_twig_1 9 rfl rfl)
theorem dX7_twig_35 : decode cX7_twig 35 = .ok (.aload_n 0, 1) := dk_42 (dk_at dksX7_twig_1 12 rfl rfl)
theorem dX7_twig_36 : decode cX7_twig 36 = .ok (.invokevirtual 28, 3) := dk_182 0 28 (dk_at dksX7_twig_1 13 rfl rfl)
theorem dX7_twig_39 : decode cX7_twig 39 = .ok (.aload_n 0, 1) := dk_42 (dk_at dksX7_twig_1 16 rfl rfl)
theorem dX7_twig_40 : decode cX7_twig 40 = .ok (.invokevirtual 159, 3) := dk_182 0 159 (dk_at dksX7_twig_1 17 rfl rfl)
theorem dX7_twig_43 : decode cX7_twig 43 = .ok (.istore_n 3, 1) := dk_62 (dk_at dksX7_twig_1 20 rfl rfl)
theorem dX7_twig_44 : decode cX7_twig 44 = .ok (.aload_n 0, 1) := dk_42 (dk_at dksX7_twig_1 21 rfl rfl)
theorem dX7_twig_45 : decode cX7_twig 45 = .ok (.iconst 0, 1) := dk_3 (dk_at dksX7_twig_1 22 rfl rfl)
theorem dX7_twig_46 : decode cX7_twig 46 = .ok (.iconst 1, 1) := dk_4 (dk_at dksX7_twig_1 23 rfl rfl)
theorem dX7_twig_47 : decode cX7_twig 47 = .ok (.invokevirtual 122, 3) := dk_182 0 122 (dk_at dksX7_twig_2 0 rfl rfl)
theorem dX7_twig_50 : decode cX7_twig 50 = .ok (.istore 4, 2) := dk_54 4 (dk_at dksX7_twig_2 3 rfl rfl)
theorem dX7_twig_52 : decode cX7_twig 52 = .ok (.aload_n 1, 1) := dk_43 (dk_at dksX7_twig_2 5 rfl rfl)
theorem dX7_twig_53 : decode cX7_twig 53 = .ok (.iload_n 2, 1) := dk_28 (dk_at dksX7_twig_2 6 rfl rfl)
theorem dX7_twig_54 : decode cX7_twig 54 = .ok (.new 163, 3) := dk_187 0 163 (dk_at dksX7_twig_2 7 rfl rfl)
theorem dX7_twig_57 : decode cX7_twig 57 = .ok (.dup, 1) := dk_89 (dk_at dksX7_twig_2 10 rfl rfl)
theorem dX7_twig_58 : decode cX7_twig 58 = .ok (.iload_n 3, 1) := dk_29 (dk_at dksX7_twig_2 11 rfl rfl)
theorem dX7_twig_59 : decode cX7_twig 59 = .ok (.iload 4, 2) := dk_21 4 (dk_at dksX7_twig_2 12 rfl rfl)
theorem dX7_twig_61 : decode cX7_twig 61 = .ok (.aload_n 0, 1) := dk_42 (dk_at dksX7_twig_2 14 rfl rfl)
theorem dX7_twig_62 : decode cX7_twig 62 = .ok (.iconst 1, 1) := dk_4 (dk_at dksX7_twig_2 15 rfl rfl)
theorem dX7_twig_63 : decode cX7_twig 63 = .ok (.bipush 99, 2) := dk_16 99 (dk_at dksX7_twig_2 16 rfl rfl)
theorem dX7_twig_65 : decode cX7_twig 65 = .ok (.invokevirtual 122, 3) := dk_182 0 122 (dk_at dksX7_twig_2 18 rfl rfl)
theorem dX7_twig_68 : decode cX7_twig 68 = .ok (.invokespecial 165, 3) := dk_183 0 165 (dk_at dksX7_twig_2 21 rfl rfl)
theorem dX7_twig_71 : decode cX7_twig 71 = .ok (.invokevirtual 168, 3) := dk_182 0 168 (dk_at dksX7_twig_3 0 rfl rfl)
theorem dX7_twig_74 : decode cX7_twig 74 = .ok (.return_, 1) := dk_177 (dk_at dksX7_twig_3 3 rfl rfl)
abbrev cX7_letter : ByteArray := prog_8_method_8_code
def yX7_letter : MethodName := ⟨RX7, "letter", "()C"⟩
def dkwX7_letter_0 : List UInt8 := [42, 4, 182, 0, 108, 3, 182, 0, 112, 60, 42, 182, 0, 28, 27, 172]
abbrev dktX7_letter_0 : List UInt8 := dkwX7_letter_0 ++ []
theorem dksX7_letter_0 : cX7_letter.data.toList.drop 0 = dktX7_letter_0 := by decide +kernel
theorem dX7_letter_0 : decode cX7_letter 0 = .ok (.aload_n 0, 1) := dk_42 (dk_at dksX7_letter_0 0 rfl rfl)
theorem dX7_letter_1 : decode cX7_letter 1 = .ok (.iconst 1, 1) := dk_4 (dk_at dksX7_letter_0 1 rfl rfl)
theorem dX7_letter_2 : decode cX7_letter 2 = .ok (.invokevirtual 108, 3) := dk_182 0 108 (dk_at dksX7_letter_0 2 rfl rfl)
theorem dX7_letter_5 : decode cX7_letter 5 = .ok (.iconst 0, 1) := dk_3 (dk_at dksX7_letter_0 5 rfl rfl)
theorem dX7_letter_6 : decode cX7_letter 6 = .ok (.invokevirtual 112, 3) := dk_182 0 112 (dk_at dksX7_letter_0 6 rfl rfl)
theorem dX7_letter_9 : decode cX7_letter 9 = .ok (.istore_n 1, 1) := dk_60 (dk_at dksX7_letter_0 9 rfl rfl)
theorem dX7_letter_10 : decode cX7_letter 10 = .ok (.aload_n 0, 1) := dk_42 (dk_at dksX7_letter_0 10 rfl rfl)
theorem dX7_letter_11 : decode cX7_letter 11 = .ok (.invokevirtual 28, 3) := dk_182 0 28 (dk_at dksX7_letter_0 11 rfl rfl)
theorem dX7_letter_14 : decode cX7_letter 14 = .ok (.iload_n 1, 1) := dk_27 (dk_at dksX7_letter_0 14 rfl rfl)
theorem dX7_letter_15 : decode cX7_letter 15 = .ok (.ireturn, 1) := dk_172 (dk_at dksX7_letter_0 15 rfl rfl)
abbrev cX7_peekWord : ByteArray := prog_8_method_7_code
def yX7_peekWord : MethodName := ⟨RX7, "peekWord", "(I)Ljava/lang/String;"⟩
def dkwX7_peekWord_1 : List UInt8 := [167, 0, 4, 3, 4, 182, 0, 94, 42, 180, 0, 24, 176]
abbrev dktX7_peekWord_1 : List UInt8 := dkwX7_peekWord_1 ++ []
def dkwX7_peekWord_0 : List UInt8 := [42, 42, 180, 0, 51, 178, 0, 62, 166, 0, 18, 42, 180, 0, 24, 182, 0, 102, 27, 163, 0, 7, 4]
abbrev dktX7_peekWord_0 : List UInt8 := dkwX7_peekWord_0 ++ dktX7_peekWord_1
theorem dksX7_peekWord_0 : cX7_peekWord.data.toList.drop 0 = dktX7_peekWord_0 := by decide +kernel
theorem dksX7_peekWord_1 : cX7_peekWord.data.toList.drop 23 = dktX7_peekWord_1 := dk_seg dksX7_peekWord_0 23 rfl rfl
theorem dX7_peekWord_0 : decode cX7_peekWord 0 = .ok (.aload_n 0, 1) := dk_42 (dk_at dksX7_peekWord_0 0 rfl rfl)
theorem dX7_peekWord_1 : decode cX7_peekWord 1 = .ok (.aload_n 0, 1) := dk_42 (dk_at dksX7_peekWord_0 1 rfl rfl)
theorem dX7_peekWord_2 : decode cX7_peekWord 2 = .ok (.getfield 51, 3) := dk_180 0 51 (dk_at dksX7_peekWord_0 2 rfl rfl)
theorem dX7_peekWord_5 : decode cX7_peekWord 5 = .ok (.getstatic 62, 3) := dk_178 0 62 (dk_at dksX7_peekWord_0 5 rfl rfl)
theorem dX7_peekWord_8 : decode cX7_peekWord 8 = .ok (.if_acmp .ne 18, 3) := dk_166 0 18 (dk_at dksX7_peekWord_0 8 rfl rfl)
theorem dX7_peekWord_11 : decode cX7_peekWord 11 = .ok (.aload_n 0, 1) := dk_42 (dk_at dksX7_peekWord_0 11 rfl rfl)
theorem dX7_peekWord_12 : decode cX7_peekWord 12 = .ok (.getfield 24, 3) := dk_180 0 24 (dk_at dksX7_peekWord_0 12 rfl rfl)
theorem dX7_peekWord_15 : decode cX7_peekWord 15 = .ok (.invokevirtual 102, 3) := dk_182 0 102 (dk_at dksX7_peekWord_0 15 rfl rfl)
theorem dX7_peekWord_18 : decode cX7_peekWord 18 = .ok (.iload_n 1, 1) := dk_27 (dk_at dksX7_peekWord_0 18 rfl rfl)
theorem dX7_peekWord_19 : decode cX7_peekWord 19 = .ok (.if_icmp .gt 7, 3) := dk_163 0 7 (dk_at dksX7_peekWord_0 19 rfl rfl)
theorem dX7_peekWord_22 : decode cX7_peekWord 22 = .ok (.iconst 1, 1) := dk_4 (dk_at dksX7_peekWord_0 22 rfl rfl)
theorem dX7_peekWord_23 : decode cX7_peekWord 23 = .ok (.goto 4, 3) := dk_167 0 4 (dk_at dksX7_peekWord_1 0 rfl rfl)
theorem dX7_peekWord_26 : decode cX7_peekWord 26 = .ok (.iconst 0, 1) := dk_3 (dk_at dksX7_peekWord_1 3 rfl rfl)
theorem dX7_peekWord_27 : decode cX7_peekWord 27 = .ok (.iconst 1, 1) := dk_4 (dk_at dksX7_peekWord_1 4 rfl rfl)
theorem dX7_peekWord_28 : decode cX7_peekWord 28 = .ok (.invokevirtual 94, 3) := dk_182 0 94 (dk_at dksX7_peekWord_1 5 rfl rfl)
theorem dX7_peekWord_31 : decode cX7_peekWord 31 = .ok (.aload_n 0, 1) := dk_42 (dk_at dksX7_peekWord_1 8 rfl rfl)
theorem dX7_peekWord_32 : decode cX7_peekWord 32 = .ok (.getfield 24, 3) := dk_180 0 24 (dk_at dksX7_peekWord_1 9 rfl rfl)
theorem dX7_peekWord_35 : decode cX7_peekWord 35 = .ok (.areturn, 1) := dk_176 (dk_at dksX7_peekWord_1 12 rfl rfl)
abbrev cX7_nest : ByteArray := prog_8_method_13_code
def yX7_nest : MethodName := ⟨RX7, "nest", "(LHedgeMessages$State;)V"⟩
def dkwX7_nest_3 : List UInt8 := [79, 177]
abbrev dktX7_nest_3 : List UInt8 := dkwX7_nest_3 ++ []
def dkwX7_nest_2 : List UInt8 := [167, 0, 4, 3, 7, 182, 0, 94, 42, 182, 0, 28, 43, 180, 0, 172, 28, 42, 4, 16, 30, 182, 0, 122]
abbrev dktX7_nest_2 : List UInt8 := dkwX7_nest_2 ++ dktX7_nest_3
def dkwX7_nest_1 : List UInt8 := [154, 0, 7, 4, 167, 0, 4, 3, 6, 182, 0, 94, 42, 43, 182, 0, 176, 16, 6, 162, 0, 7, 4]
abbrev dktX7_nest_1 : List UInt8 := dkwX7_nest_1 ++ dktX7_nest_2
def dkwX7_nest_0 : List UInt8 := [42, 182, 0, 28, 42, 3, 43, 182, 0, 152, 4, 100, 182, 0, 98, 61, 42, 43, 180, 0, 172, 28, 46]
abbrev dktX7_nest_0 : List UInt8 := dkwX7_nest_0 ++ dktX7_nest_1
theorem dksX7_nest_0 : cX7_nest.data.toList.drop 0 = dktX7_nest_0 := by decide +kernel
theorem dksX7_nest_1 : cX7_nest.data.toList.drop 23 = dktX7_nest_1 := dk_seg dksX7_nest_0 23 rfl rfl
theorem dksX7_nest_2 : cX7_nest.data.toList.drop 46 = dktX7_nest_2 := dk_seg dksX7_nest_1 23 rfl rfl
theorem dksX7_nest_3 : cX7_nest.data.toList.drop 70 = dktX7_nest_3 := dk_seg dksX7_nest_2 24 rfl rfl
theorem dX7_nest_0 : decode cX7_nest 0 = .ok (.aload_n 0, 1) := dk_42 (dk_at dksX7_nest_0 0 rfl rfl)
theorem dX7_nest_1 : decode cX7_nest 1 = .ok (.invokevirtual 28, 3) := dk_182 0 28 (dk_at dksX7_nest_0 1 rfl rfl)
theorem dX7_nest_4 : decode cX7_nest 4 = .ok (.aload_n 0, 1) := dk_42 (dk_at dksX7_nest_0 4 rfl rfl)
theorem dX7_nest_5 : decode cX7_nest 5 = .ok (.iconst 0, 1) := dk_3 (dk_at dksX7_nest_0 5 rfl rfl)
theorem dX7_nest_6 : decode cX7_nest 6 = .ok (.aload_n 1, 1) := dk_43 (dk_at dksX7_nest_0 6 rfl rfl)
theorem dX7_nest_7 : decode cX7_nest 7 = .ok (.invokevirtual 152, 3) := dk_182 0 152 (dk_at dksX7_nest_0 7 rfl rfl)
theorem dX7_nest_10 : decode cX7_nest 10 = .ok (.iconst 1, 1) := dk_4 (dk_at dksX7_nest_0 10 rfl rfl)
theorem dX7_nest_11 : decode cX7_nest 11 = .ok (.isub, 1) := dk_100 (dk_at dksX7_nest_0 11 rfl rfl)
theorem dX7_nest_12 : decode cX7_nest 12 = .ok (.invokevirtual 98, 3) := dk_182 0 98 (dk_at dksX7_nest_0 12 rfl rfl)
theorem dX7_nest_15 : decode cX7_nest 15 = .ok (.istore_n 2, 1) := dk_61 (dk_at dksX7_nest_0 15 rfl rfl)
theorem dX7_nest_16 : decode cX7_nest 16 = .ok (.aload_n 0, 1) := dk_42 (dk_at dksX7_nest_0 16 rfl rfl)
theorem dX7_nest_17 : decode cX7_nest 17 = .ok (.aload_n 1, 1) := dk_43 (dk_at dksX7_nest_0 17 rfl rfl)
theorem dX7_nest_18 : decode cX7_nest 18 = .ok (.getfield 172, 3) := dk_180 0 172 (dk_at dksX7_nest_0 18 rfl rfl)
theorem dX7_nest_21 : decode cX7_nest 21 = .ok (.iload_n 2, 1) := dk_28 (dk_at dksX7_nest_0 21 rfl rfl)
theorem dX7_nest_22 : decode cX7_nest 22 = .ok (.iaload, 1) := dk_46 (dk_at dksX7_nest_0 22 rfl rfl)
theorem dX7_nest_23 : decode cX7_nest 23 = .ok (.ifCond .ne 7, 3) := dk_154 0 7 (dk_at dksX7_nest_1 0 rfl rfl)
theorem dX7_nest_26 : decode cX7_nest 26 = .ok (.iconst 1, 1) := dk_4 (dk_at dksX7_nest_1 3 rfl rfl)
theorem dX7_nest_27 : decode cX7_nest 27 = .ok (.goto 4, 3) := dk_167 0 4 (dk_at dksX7_nest_1 4 rfl rfl)
theorem dX7_nest_30 : decode cX7_nest 30 = .ok (.iconst 0, 1) := dk_3 (dk_at dksX7_nest_1 7 rfl rfl)
theorem dX7_nest_31 : decode cX7_nest 31 = .ok (.iconst 3, 1) := dk_6 (dk_at dksX7_nest_1 8 rfl rfl)
theorem dX7_nest_32 : decode cX7_nest 32 = .ok (.invokevirtual 94, 3) := dk_182 0 94 (dk_at dksX7_nest_1 9 rfl rfl)
theorem dX7_nest_35 : decode cX7_nest 35 = .ok (.aload_n 0, 1) := dk_42 (dk_at dksX7_nest_1 12 rfl rfl)
theorem dX7_nest_36 : decode cX7_nest 36 = .ok (.aload_n 1, 1) := dk_43 (dk_at dksX7_nest_1 13 rfl rfl)
theorem dX7_nest_37 : decode cX7_nest 37 = .ok (.invokevirtual 176, 3) := dk_182 0 176 (dk_at dksX7_nest_1 14 rfl rfl)
theorem dX7_nest_40 : decode cX7_nest 40 = .ok (.bipush 6, 2) := dk_16 6 (dk_at dksX7_nest_1 17 rfl rfl)
theorem dX7_nest_42 : decode cX7_nest 42 = .ok (.if_icmp .ge 7, 3) := dk_162 0 7 (dk_at dksX7_nest_1 19 rfl rfl)
theorem dX7_nest_45 : decode cX7_nest 45 = .ok (.iconst 1, 1) := dk_4 (dk_at dksX7_nest_1 22 rfl rfl)
theorem dX7_nest_46 : decode cX7_nest 46 = .ok (.goto 4, 3) := dk_167 0 4 (dk_at dksX7_nest_2 0 rfl rfl)
theorem dX7_nest_49 : decode cX7_nest 49 = .ok (.iconst 0, 1) := dk_3 (dk_at dksX7_nest_2 3 rfl rfl)
theorem dX7_nest_50 : decode cX7_nest 50 = .ok (.iconst 4, 1) := dk_7 (dk_at dksX7_nest_2 4 rfl rfl)
theorem dX7_nest_51 : decode cX7_nest 51 = .ok (.invokevirtual 94, 3) := dk_182 0 94 (dk_at dksX7_nest_2 5 rfl rfl)
theorem dX7_nest_54 : decode cX7_nest 54 = .ok (.aload_n 0, 1) := dk_42 (dk_at dksX7_nest_2 8 rfl rfl)
theorem dX7_nest_55 : decode cX7_nest 55 = .ok (.invokevirtual 28, 3) := dk_182 0 28 (dk_at dksX7_nest_2 9 rfl rfl)
theorem dX7_nest_58 : decode cX7_nest 58 = .ok (.aload_n 1, 1) := dk_43 (dk_at dksX7_nest_2 12 rfl rfl)
theorem dX7_nest_59 : decode cX7_nest 59 = .ok (.getfield 172, 3) := dk_180 0 172 (dk_at dksX7_nest_2 13 rfl rfl)
theorem dX7_nest_62 : decode cX7_nest 62 = .ok (.iload_n 2, 1) := dk_28 (dk_at dksX7_nest_2 16 rfl rfl)
theorem dX7_nest_63 : decode cX7_nest 63 = .ok (.aload_n 0, 1) := dk_42 (dk_at dksX7_nest_2 17 rfl rfl)
theorem dX7_nest_64 : decode cX7_nest 64 = .ok (.iconst 1, 1) := dk_4 (dk_at dksX7_nest_2 18 rfl rfl)
theorem dX7_nest_65 : decode cX7_nest 65 = .ok (.bipush 30, 2) := dk_16 30 (dk_at dksX7_nest_2 19 rfl rfl)
theorem dX7_nest_67 : decode cX7_nest 67 = .ok (.invokevirtual 122, 3) := dk_182 0 122 (dk_at dksX7_nest_2 21 rfl rfl)
theorem dX7_nest_70 : decode cX7_nest 70 = .ok (.iastore, 1) := dk_79 (dk_at dksX7_nest_3 0 rfl rfl)
theorem dX7_nest_71 : decode cX7_nest 71 = .ok (.return_, 1) := dk_177 (dk_at dksX7_nest_3 1 rfl rfl)
abbrev cX7_message : ByteArray := prog_8_method_14_code
def yX7_message : MethodName := ⟨RX7, "message", "(LHedgeMessages$State;)V"⟩
def dkwX7_message_2 : List UInt8 := [183, 0, 185, 182, 0, 188, 177]
abbrev dktX7_message_2 : List UInt8 := dkwX7_message_2 ++ []
def dkwX7_message_1 : List UInt8 := [154, 0, 7, 4, 167, 0, 4, 3, 7, 182, 0, 94, 42, 182, 0, 28, 43, 187, 0, 183, 89, 28, 45]
abbrev dktX7_message_1 : List UInt8 := dkwX7_message_1 ++ dktX7_message_2
def dkwX7_message_0 : List UInt8 := [42, 182, 0, 28, 42, 3, 4, 182, 0, 122, 61, 42, 16, 12, 182, 0, 108, 78, 42, 43, 28, 182, 0, 179]
abbrev dktX7_message_0 : List UInt8 := dkwX7_message_0 ++ dktX7_message_1
theorem dksX7_message_0 : cX7_message.data.toList.drop 0 = dktX7_message_0 := by decide +kernel
theorem dksX7_message_1 : cX7_message.data.toList.drop 24 = dktX7_message_1 := dk_seg dksX7_message_0 24 rfl rfl
theorem dksX7_message_2 : cX7_message.data.toList.drop 47 = dktX7_message_2 := dk_seg dksX7_message_1 23 rfl rfl
theorem dX7_message_0 : decode cX7_message 0 = .ok (.aload_n 0, 1) := dk_42 (dk_at dksX7_message_0 0 rfl rfl)
theorem dX7_message_1 : decode cX7_message 1 = .ok (.invokevirtual 28, 3) := dk_182 0 28 (dk_at dksX7_message_0 1 rfl rfl)
theorem dX7_message_4 : decode cX7_message 4 = .ok (.aload_n 0, 1) := dk_42 (dk_at dksX7_message_0 4 rfl rfl)
theorem dX7_message_5 : decode cX7_message 5 = .ok (.iconst 0, 1) := dk_3 (dk_at dksX7_message_0 5 rfl rfl)
theorem dX7_message_6 : decode cX7_message 6 = .ok (.iconst 1, 1) := dk_4 (dk_at dksX7_message_0 6 rfl rfl)
theorem dX7_message_7 : decode cX7_message 7 = .ok (.invokevirtual 122, 3) := dk_182 0 122 (dk_at dksX7_message_0 7 rfl rfl)
theorem dX7_message_10 : decode cX7_message 10 = .ok (.istore_n 2, 1) := dk_61 (dk_at dksX7_message_0 10 rfl rfl)
theorem dX7_message_11 : decode cX7_message 11 = .ok (.aload_n 0, 1) := dk_42 (dk_at dksX7_message_0 11 rfl rfl)
theorem dX7_message_12 : decode cX7_message 12 = .ok (.bipush 12, 2) := dk_16 12 (dk_at dksX7_message_0 12 rfl rfl)
theorem dX7_message_14 : decode cX7_message 14 = .ok (.invokevirtual 108, 3) := dk_182 0 108 (dk_at dksX7_message_0 14 rfl rfl)
theorem dX7_message_17 : decode cX7_message 17 = .ok (.astore_n 3, 1) := dk_78 (dk_at dksX7_message_0 17 rfl rfl)
theorem dX7_message_18 : decode cX7_message 18 = .ok (.aload_n 0, 1) := dk_42 (dk_at dksX7_message_0 18 rfl rfl)
theorem dX7_message_19 : decode cX7_message 19 = .ok (.aload_n 1, 1) := dk_43 (dk_at dksX7_message_0 19 rfl rfl)
theorem dX7_message_20 : decode cX7_message 20 = .ok (.iload_n 2, 1) := dk_28 (dk_at dksX7_message_0 20 rfl rfl)
theorem dX7_message_21 : decode cX7_message 21 = .ok (.invokevirtual 179, 3) := dk_182 0 179 (dk_at dksX7_message_0 21 rfl rfl)
theorem dX7_message_24 : decode cX7_message 24 = .ok (.ifCond .ne 7, 3) := dk_154 0 7 (dk_at dksX7_message_1 0 rfl rfl)
theorem dX7_message_27 : decode cX7_message 27 = .ok (.iconst 1, 1) := dk_4 (dk_at dksX7_message_1 3 rfl rfl)
theorem dX7_message_28 : decode cX7_message 28 = .ok (.goto 4, 3) := dk_167 0 4 (dk_at dksX7_message_1 4 rfl rfl)
theorem dX7_message_31 : decode cX7_message 31 = .ok (.iconst 0, 1) := dk_3 (dk_at dksX7_message_1 7 rfl rfl)
theorem dX7_message_32 : decode cX7_message 32 = .ok (.iconst 4, 1) := dk_7 (dk_at dksX7_message_1 8 rfl rfl)
theorem dX7_message_33 : decode cX7_message 33 = .ok (.invokevirtual 94, 3) := dk_182 0 94 (dk_at dksX7_message_1 9 rfl rfl)
theorem dX7_message_36 : decode cX7_message 36 = .ok (.aload_n 0, 1) := dk_42 (dk_at dksX7_message_1 12 rfl rfl)
theorem dX7_message_37 : decode cX7_message 37 = .ok (.invokevirtual 28, 3) := dk_182 0 28 (dk_at dksX7_message_1 13 rfl rfl)
theorem dX7_message_40 : decode cX7_message 40 = .ok (.aload_n 1, 1) := dk_43 (dk_at dksX7_message_1 16 rfl rfl)
theorem dX7_message_41 : decode cX7_message 41 = .ok (.new 183, 3) := dk_187 0 183 (dk_at dksX7_message_1 17 rfl rfl)
theorem dX7_message_44 : decode cX7_message 44 = .ok (.dup, 1) := dk_89 (dk_at dksX7_message_1 20 rfl rfl)
theorem dX7_message_45 : decode cX7_message 45 = .ok (.iload_n 2, 1) := dk_28 (dk_at dksX7_message_1 21 rfl rfl)
theorem dX7_message_46 : decode cX7_message 46 = .ok (.aload_n 3, 1) := dk_45 (dk_at dksX7_message_1 22 rfl rfl)
theorem dX7_message_47 : decode cX7_message 47 = .ok (.invokespecial 185, 3) := dk_183 0 185 (dk_at dksX7_message_2 0 rfl rfl)
theorem dX7_message_50 : decode cX7_message 50 = .ok (.invokevirtual 188, 3) := dk_182 0 188 (dk_at dksX7_message_2 3 rfl rfl)
theorem dX7_message_53 : decode cX7_message 53 = .ok (.return_, 1) := dk_177 (dk_at dksX7_message_2 6 rfl rfl)
abbrev cX7_commands : ByteArray := prog_8_method_15_code
def yX7_commands : MethodName := ⟨RX7, "commands", "()[LHedgeMessages$Operation;"⟩
def dkwX7_commands_2 : List UInt8 := [28, 42, 182, 0, 198, 83, 42, 182, 0, 130, 132, 2, 1, 167, 255, 204, 43, 176]
abbrev dktX7_commands_2 : List UInt8 := dkwX7_commands_2 ++ []
def dkwX7_commands_1 : List UInt8 := [184, 0, 194, 4, 182, 0, 94, 42, 28, 16, 30, 162, 0, 7, 4, 167, 0, 4, 3, 7, 182, 0, 94, 43]
abbrev dktX7_commands_1 : List UInt8 := dkwX7_commands_1 ++ dktX7_commands_2
def dkwX7_commands_0 : List UInt8 := [16, 31, 189, 0, 192, 76, 3, 61, 42, 180, 0, 51, 178, 0, 45, 165, 0, 48, 42, 42, 180, 0, 24]
abbrev dktX7_commands_0 : List UInt8 := dkwX7_commands_0 ++ dktX7_commands_1
theorem dksX7_commands_0 : cX7_commands.data.toList.drop 0 = dktX7_commands_0 := by decide +kernel
theorem dksX7_commands_1 : cX7_commands.data.toList.drop 23 = dktX7_commands_1 := dk_seg dksX7_commands_0 23 rfl rfl
theorem dksX7_commands_2 : cX7_commands.data.toList.drop 47 = dktX7_commands_2 := dk_seg dksX7_commands_1 24 rfl rfl
theorem dX7_commands_0 : decode cX7_commands 0 = .ok (.bipush 31, 2) := dk_16 31 (dk_at dksX7_commands_0 0 rfl rfl)
theorem dX7_commands_2 : decode cX7_commands 2 = .ok (.anewarray 192, 3) := dk_189 0 192 (dk_at dksX7_commands_0 2 rfl rfl)
theorem dX7_commands_5 : decode cX7_commands 5 = .ok (.astore_n 1, 1) := dk_76 (dk_at dksX7_commands_0 5 rfl rfl)
theorem dX7_commands_6 : decode cX7_commands 6 = .ok (.iconst 0, 1) := dk_3 (dk_at dksX7_commands_0 6 rfl rfl)
theorem dX7_commands_7 : decode cX7_commands 7 = .ok (.istore_n 2, 1) := dk_61 (dk_at dksX7_commands_0 7 rfl rfl)
theorem dX7_commands_8 : decode cX7_commands 8 = .ok (.aload_n 0, 1) := dk_42 (dk_at dksX7_commands_0 8 rfl rfl)
theorem dX7_commands_9 : decode cX7_commands 9 = .ok (.getfield 51, 3) := dk_180 0 51 (dk_at dksX7_commands_0 9 rfl rfl)
theorem dX7_commands_12 : decode cX7_commands 12 = .ok (.getstatic 45, 3) := dk_178 0 45 (dk_at dksX7_commands_0 12 rfl rfl)
theorem dX7_commands_15 : decode cX7_commands 15 = .ok (.if_acmp .eq 48, 3) := dk_165 0 48 (dk_at dksX7_commands_0 15 rfl rfl)
theorem dX7_commands_18 : decode cX7_commands 18 = .ok (.aload_n 0, 1) := dk_42 (dk_at dksX7_commands_0 18 rfl rfl)
theorem dX7_commands_19 : decode cX7_commands 19 = .ok (.aload_n 0, 1) := dk_42 (dk_at dksX7_commands_0 19 rfl rfl)
theorem dX7_commands_20 : decode cX7_commands 20 = .ok (.getfield 24, 3) := dk_180 0 24 (dk_at dksX7_commands_0 20 rfl rfl)
theorem dX7_commands_23 : decode cX7_commands 23 = .ok (.invokestatic 194, 3) := dk_184 0 194 (dk_at dksX7_commands_1 0 rfl rfl)
theorem dX7_commands_26 : decode cX7_commands 26 = .ok (.iconst 1, 1) := dk_4 (dk_at dksX7_commands_1 3 rfl rfl)
theorem dX7_commands_27 : decode cX7_commands 27 = .ok (.invokevirtual 94, 3) := dk_182 0 94 (dk_at dksX7_commands_1 4 rfl rfl)
theorem dX7_commands_30 : decode cX7_commands 30 = .ok (.aload_n 0, 1) := dk_42 (dk_at dksX7_commands_1 7 rfl rfl)
theorem dX7_commands_31 : decode cX7_commands 31 = .ok (.iload_n 2, 1) := dk_28 (dk_at dksX7_commands_1 8 rfl rfl)
theorem dX7_commands_32 : decode cX7_commands 32 = .ok (.bipush 30, 2) := dk_16 30 (dk_at dksX7_commands_1 9 rfl rfl)
theorem dX7_commands_34 : decode cX7_commands 34 = .ok (.if_icmp .ge 7, 3) := dk_162 0 7 (dk_at dksX7_commands_1 11 rfl rfl)
theorem dX7_commands_37 : decode cX7_commands 37 = .ok (.iconst 1, 1) := dk_4 (dk_at dksX7_commands_1 14 rfl rfl)
theorem dX7_commands_38 : decode cX7_commands 38 = .ok (.goto 4, 3) := dk_167 0 4 (dk_at dksX7_commands_1 15 rfl rfl)
theorem dX7_commands_41 : decode cX7_commands 41 = .ok (.iconst 0, 1) := dk_3 (dk_at dksX7_commands_1 18 rfl rfl)
theorem dX7_commands_42 : decode cX7_commands 42 = .ok (.iconst 4, 1) := dk_7 (dk_at dksX7_commands_1 19 rfl rfl)
theorem dX7_commands_43 : decode cX7_commands 43 = .ok (.invokevirtual 94, 3) := dk_182 0 94 (dk_at dksX7_commands_1 20 rfl rfl)
theorem dX7_commands_46 : decode cX7_commands 46 = .ok (.aload_n 1, 1) := dk_43 (dk_at dksX7_commands_1 23 rfl rfl)
theorem dX7_commands_47 : decode cX7_commands 47 = .ok (.iload_n 2, 1) := dk_28 (dk_at dksX7_commands_2 0 rfl rfl)
theorem dX7_commands_48 : decode cX7_commands 48 = .ok (.aload_n 0, 1) := dk_42 (dk_at dksX7_commands_2 1 rfl rfl)
theorem dX7_commands_49 : decode cX7_commands 49 = .ok (.invokevirtual 198, 3) := dk_182 0 198 (dk_at dksX7_commands_2 2 rfl rfl)
theorem dX7_commands_52 : decode cX7_commands 52 = .ok (.aastore, 1) := dk_83 (dk_at dksX7_commands_2 5 rfl rfl)
theorem dX7_commands_53 : decode cX7_commands 53 = .ok (.aload_n 0, 1) := dk_42 (dk_at dksX7_commands_2 6 rfl rfl)
theorem dX7_commands_54 : decode cX7_commands 54 = .ok (.invokevirtual 130, 3) := dk_182 0 130 (dk_at dksX7_commands_2 7 rfl rfl)
theorem dX7_commands_57 : decode cX7_commands 57 = .ok (.iinc 2 1, 3) := dk_132 2 1 (dk_at dksX7_commands_2 10 rfl rfl)
theorem dX7_commands_60 : decode cX7_commands 60 = .ok (.goto (-52), 3) := dk_167 255 204 (dk_at dksX7_commands_2 13 rfl rfl)
theorem dX7_commands_63 : decode cX7_commands 63 = .ok (.aload_n 1, 1) := dk_43 (dk_at dksX7_commands_2 16 rfl rfl)
theorem dX7_commands_64 : decode cX7_commands 64 = .ok (.areturn, 1) := dk_176 (dk_at dksX7_commands_2 17 rfl rfl)
abbrev cX7_command : ByteArray := prog_8_method_16_code
def yX7_command : MethodName := ⟨RX7, "command", "()LHedgeMessages$Operation;"⟩
def dkwX7_command_11 : List UInt8 := [4, 16, 12, 182, 0, 122, 182, 0, 233, 167, 0, 14, 42, 42, 4, 16, 60, 182, 0, 122, 182, 0, 236, 176]
abbrev dktX7_command_11 : List UInt8 := dkwX7_command_11 ++ []
def dkwX7_command_10 : List UInt8 := [182, 0, 122, 182, 0, 227, 167, 0, 41, 42, 42, 3, 4, 182, 0, 122, 182, 0, 230, 167, 0, 28, 42, 42]
abbrev dktX7_command_10 : List UInt8 := dkwX7_command_10 ++ dktX7_command_11
def dkwX7_command_9 : List UInt8 := [182, 0, 211, 182, 0, 221, 167, 0, 65, 42, 42, 182, 0, 211, 182, 0, 224, 167, 0, 54, 42, 42, 3, 4]
abbrev dktX7_command_9 : List UInt8 := dkwX7_command_9 ++ dktX7_command_10
def dkwX7_command_8 : List UInt8 := [42, 42, 182, 0, 211, 182, 0, 214, 167, 0, 87, 42, 42, 182, 0, 211, 182, 0, 218, 167, 0, 76, 42, 42]
abbrev dktX7_command_8 : List UInt8 := dkwX7_command_8 ++ dktX7_command_9
def dkwX7_command_7 : List UInt8 := [170, 0, 0, 0, 0, 0, 127, 0, 0, 0, 0, 0, 0, 0, 6, 0, 0, 0, 43, 0, 0, 0, 54, 0, 0, 0, 65, 0, 0, 0, 76, 0, 0, 0, 87, 0, 0, 0, 100, 0, 0, 0, 113]
abbrev dktX7_command_7 : List UInt8 := dkwX7_command_7 ++ dktX7_command_8
def dkwX7_command_6 : List UInt8 := [62, 29]
abbrev dktX7_command_6 : List UInt8 := dkwX7_command_6 ++ dktX7_command_7
def dkwX7_command_5 : List UInt8 := [18, 207, 182, 0, 118, 153, 0, 20, 8, 62, 167, 0, 15, 44, 18, 209, 182, 0, 118, 153, 0, 6, 16, 6]
abbrev dktX7_command_5 : List UInt8 := dkwX7_command_5 ++ dktX7_command_6
def dkwX7_command_4 : List UInt8 := [153, 0, 48, 6, 62, 167, 0, 43, 44, 18, 144, 182, 0, 118, 153, 0, 34, 7, 62, 167, 0, 29, 44]
abbrev dktX7_command_4 : List UInt8 := dkwX7_command_4 ++ dktX7_command_5
def dkwX7_command_3 : List UInt8 := [62, 167, 0, 71, 44, 18, 205, 182, 0, 118, 153, 0, 62, 5, 62, 167, 0, 57, 44, 18, 142, 182, 0, 118]
abbrev dktX7_command_3 : List UInt8 := dkwX7_command_3 ++ dktX7_command_4
def dkwX7_command_2 : List UInt8 := [44, 18, 202, 182, 0, 118, 153, 0, 90, 3, 62, 167, 0, 85, 44, 18, 203, 182, 0, 118, 153, 0, 76, 4]
abbrev dktX7_command_2 : List UInt8 := dkwX7_command_2 ++ dktX7_command_3
def dkwX7_command_1 : List UInt8 := [171, 0, 0, 0, 0, 0, 163, 0, 0, 0, 7, 174, 122, 46, 122, 0, 0, 0, 137, 200, 74, 248, 132, 0, 0, 0, 81, 0, 51, 138, 88, 0, 0, 0, 109, 0, 54, 116, 34, 0, 0, 0, 95, 0, 55, 199, 17, 0, 0, 0, 151, 6, 92, 218, 107, 0, 0, 0, 67, 56, 235, 0, 7, 0, 0, 0, 123]
abbrev dktX7_command_1 : List UInt8 := dkwX7_command_1 ++ dktX7_command_2
def dkwX7_command_0 : List UInt8 := [42, 180, 0, 24, 76, 42, 182, 0, 28, 43, 77, 2, 62, 44, 182, 0, 137]
abbrev dktX7_command_0 : List UInt8 := dkwX7_command_0 ++ dktX7_command_1
theorem dksX7_command_0 : cX7_command.data.toList.drop 0 = dktX7_command_0 := by decide +kernel
theorem dksX7_command_1 : cX7_command.data.toList.drop 17 = dktX7_command_1 := dk_seg dksX7_command_0 17 rfl rfl
theorem dksX7_command_2 : cX7_command.data.toList.drop 84 = dktX7_command_2 := dk_seg dksX7_command_1 67 rfl rfl
theorem dksX7_command_3 : cX7_command.data.toList.drop 108 = dktX7_command_3 := dk_seg dksX7_command_2 24 rfl rfl
theorem dksX7_command_4 : cX7_command.data.toList.drop 132 = dktX7_command_4 := dk_seg dksX7_command_3 24 rfl rfl
theorem dksX7_command_5 : cX7_command.data.toList.drop 155 = dktX7_command_5 := dk_seg dksX7_command_4 23 rfl rfl
theorem dksX7_command_6 : cX7_command.data.toList.drop 179 = dktX7_command_6 := dk_seg dksX7_command_5 24 rfl rfl
theorem dksX7_command_7 : cX7_command.data.toList.drop 181 = dktX7_command_7 := dk_seg dksX7_command_6 2 rfl rfl
theorem dksX7_command_8 : cX7_command.data.toList.drop 224 = dktX7_command_8 := dk_seg dksX7_command_7 43 rfl rfl
theorem dksX7_command_9 : cX7_command.data.toList.drop 248 = dktX7_command_9 := dk_seg dksX7_command_8 24 rfl rfl
theorem dksX7_command_10 : cX7_command.data.toList.drop 272 = dktX7_command_10 := dk_seg dksX7_command_9 24 rfl rfl
theorem dksX7_command_11 : cX7_command.data.toList.drop 296 = dktX7_command_11 := dk_seg dksX7_command_10 24 rfl rfl
theorem dX7_command_0 : decode cX7_command 0 = .ok (.aload_n 0, 1) := dk_42 (dk_at dksX7_command_0 0 rfl rfl)
theorem dX7_command_1 : decode cX7_command 1 = .ok (.getfield 24, 3) := dk_180 0 24 (dk_at dksX7_command_0 1 rfl rfl)
theorem dX7_command_4 : decode cX7_command 4 = .ok (.astore_n 1, 1) := dk_76 (dk_at dksX7_command_0 4 rfl rfl)
theorem dX7_command_5 : decode cX7_command 5 = .ok (.aload_n 0, 1) := dk_42 (dk_at dksX7_command_0 5 rfl rfl)
theorem dX7_command_6 : decode cX7_command 6 = .ok (.invokevirtual 28, 3) := dk_182 0 28 (dk_at dksX7_command_0 6 rfl rfl)
theorem dX7_command_9 : decode cX7_command 9 = .ok (.aload_n 1, 1) := dk_43 (dk_at dksX7_command_0 9 rfl rfl)
theorem dX7_command_10 : decode cX7_command 10 = .ok (.astore_n 2, 1) := dk_77 (dk_at dksX7_command_0 10 rfl rfl)
theorem dX7_command_11 : decode cX7_command 11 = .ok (.iconst (-1), 1) := dk_2 (dk_at dksX7_command_0 11 rfl rfl)
theorem dX7_command_12 : decode cX7_command 12 = .ok (.istore_n 3, 1) := dk_62 (dk_at dksX7_command_0 12 rfl rfl)
theorem dX7_command_13 : decode cX7_command 13 = .ok (.aload_n 2, 1) := dk_44 (dk_at dksX7_command_0 13 rfl rfl)
theorem dX7_command_14 : decode cX7_command 14 = .ok (.invokevirtual 137, 3) := dk_182 0 137 (dk_at dksX7_command_0 14 rfl rfl)
theorem dX7_command_17 : decode cX7_command 17 = .ok (.lookupswitch 163 #[(-1367724422, 137), (-934610812, 81), (3377752, 109), (3568674, 95), (3655441, 151), (106748523, 67), (954925063, 123)], 67) := by decide +kernel
theorem dX7_command_84 : decode cX7_command 84 = .ok (.aload_n 2, 1) := dk_44 (dk_at dksX7_command_2 0 rfl rfl)
theorem dX7_command_85 : decode cX7_command 85 = .ok (.ldc 202, 2) := dk_18 202 (dk_at dksX7_command_2 1 rfl rfl)
theorem dX7_command_87 : decode cX7_command 87 = .ok (.invokevirtual 118, 3) := dk_182 0 118 (dk_at dksX7_command_2 3 rfl rfl)
theorem dX7_command_90 : decode cX7_command 90 = .ok (.ifCond .eq 90, 3) := dk_153 0 90 (dk_at dksX7_command_2 6 rfl rfl)
theorem dX7_command_93 : decode cX7_command 93 = .ok (.iconst 0, 1) := dk_3 (dk_at dksX7_command_2 9 rfl rfl)
theorem dX7_command_94 : decode cX7_command 94 = .ok (.istore_n 3, 1) := dk_62 (dk_at dksX7_command_2 10 rfl rfl)
theorem dX7_command_95 : decode cX7_command 95 = .ok (.goto 85, 3) := dk_167 0 85 (dk_at dksX7_command_2 11 rfl rfl)
theorem dX7_command_98 : decode cX7_command 98 = .ok (.aload_n 2, 1) := dk_44 (dk_at dksX7_command_2 14 rfl rfl)
theorem dX7_command_99 : decode cX7_command 99 = .ok (.ldc 203, 2) := dk_18 203 (dk_at dksX7_command_2 15 rfl rfl)
theorem dX7_command_101 : decode cX7_command 101 = .ok (.invokevirtual 118, 3) := dk_182 0 118 (dk_at dksX7_command_2 17 rfl rfl)
theorem dX7_command_104 : decode cX7_command 104 = .ok (.ifCond .eq 76, 3) := dk_153 0 76 (dk_at dksX7_command_2 20 rfl rfl)
theorem dX7_command_107 : decode cX7_command 107 = .ok (.iconst 1, 1) := dk_4 (dk_at dksX7_command_2 23 rfl rfl)
theorem dX7_command_108 : decode cX7_command 108 = .ok (.istore_n 3, 1) := dk_62 (dk_at dksX7_command_3 0 rfl rfl)
theorem dX7_command_109 : decode cX7_command 109 = .ok (.goto 71, 3) := dk_167 0 71 (dk_at dksX7_command_3 1 rfl rfl)
theorem dX7_command_112 : decode cX7_command 112 = .ok (.aload_n 2, 1) := dk_44 (dk_at dksX7_command_3 4 rfl rfl)
theorem dX7_command_113 : decode cX7_command 113 = .ok (.ldc 205, 2) := dk_18 205 (dk_at dksX7_command_3 5 rfl rfl)
theorem dX7_command_115 : decode cX7_command 115 = .ok (.invokevirtual 118, 3) := dk_182 0 118 (dk_at dksX7_command_3 7 rfl rfl)
theorem dX7_command_118 : decode cX7_command 118 = .ok (.ifCond .eq 62, 3) := dk_153 0 62 (dk_at dksX7_command_3 10 rfl rfl)
theorem dX7_command_121 : decode cX7_command 121 = .ok (.iconst 2, 1) := dk_5 (dk_at dksX7_command_3 13 rfl rfl)
theorem dX7_command_122 : decode cX7_command 122 = .ok (.istore_n 3, 1) := dk_62 (dk_at dksX7_command_3 14 rfl rfl)
theorem dX7_command_123 : decode cX7_command 123 = .ok (.goto 57, 3) := dk_167 0 57 (dk_at dksX7_command_3 15 rfl rfl)
theorem dX7_command_126 : decode cX7_command 126 = .ok (.aload_n 2, 1) := dk_44 (dk_at dksX7_command_3 18 rfl rfl)
theorem dX7_command_127 : decode cX7_command 127 = .ok (.ldc 142, 2) := dk_18 142 (dk_at dksX7_command_3 19 rfl rfl)
theorem dX7_command_129 : decode cX7_command 129 = .ok (.invokevirtual 118, 3) := dk_182 0 118 (dk_at dksX7_command_3 21 rfl rfl)
theorem dX7_command_132 : decode cX7_command 132 = .ok (.ifCond .eq 48, 3) := dk_153 0 48 (dk_at dksX7_command_4 0 rfl rfl)
theorem dX7_command_135 : decode cX7_command 135 = .ok (.iconst 3, 1) := dk_6 (dk_at dksX7_command_4 3 rfl rfl)
theorem dX7_command_136 : decode cX7_command 136 = .ok (.istore_n 3, 1) := dk_62 (dk_at dksX7_command_4 4 rfl rfl)
theorem dX7_command_137 : decode cX7_command 137 = .ok (.goto 43, 3) := dk_167 0 43 (dk_at dksX7_command_4 5 rfl rfl)
theorem dX7_command_140 : decode cX7_command 140 = .ok (.aload_n 2, 1) := dk_44 (dk_at dksX7_command_4 8 rfl rfl)
theorem dX7_command_141 : decode cX7_command 141 = .ok (.ldc 144, 2) := dk_18 144 (dk_at dksX7_command_4 9 rfl rfl)
theorem dX7_command_143 : decode cX7_command 143 = .ok (.invokevirtual 118, 3) := dk_182 0 118 (dk_at dksX7_command_4 11 rfl rfl)
theorem dX7_command_146 : decode cX7_command 146 = .ok (.ifCond .eq 34, 3) := dk_153 0 34 (dk_at dksX7_command_4 14 rfl rfl)
theorem dX7_command_149 : decode cX7_command 149 = .ok (.iconst 4, 1) := dk_7 (dk_at dksX7_command_4 17 rfl rfl)
theorem dX7_command_150 : decode cX7_command 150 = .ok (.istore_n 3, 1) := dk_62 (dk_at dksX7_command_4 18 rfl rfl)
theorem dX7_command_151 : decode cX7_command 151 = .ok (.goto 29, 3) := dk_167 0 29 (dk_at dksX7_command_4 19 rfl rfl)
theorem dX7_command_154 : decode cX7_command 154 = .ok (.aload_n 2, 1) := dk_44 (dk_at dksX7_command_4 22 rfl rfl)
theorem dX7_command_155 : decode cX7_command 155 = .ok (.ldc 207, 2) := dk_18 207 (dk_at dksX7_command_5 0 rfl rfl)
theorem dX7_command_157 : decode cX7_command 157 = .ok (.invokevirtual 118, 3) := dk_182 0 118 (dk_at dksX7_command_5 2 rfl rfl)
theorem dX7_command_160 : decode cX7_command 160 = .ok (.ifCond .eq 20, 3) := dk_153 0 20 (dk_at dksX7_command_5 5 rfl rfl)
theorem dX7_command_163 : decode cX7_command 163 = .ok (.iconst 5, 1) := dk_8 (dk_at dksX7_command_5 8 rfl rfl)
theorem dX7_command_164 : decode cX7_command 164 = .ok (.istore_n 3, 1) := dk_62 (dk_at dksX7_command_5 9 rfl rfl)
theorem dX7_command_165 : decode cX7_command 165 = .ok (.goto 15, 3) := dk_167 0 15 (dk_at dksX7_command_5 10 rfl rfl)
theorem dX7_command_168 : decode cX7_command 168 = .ok (.aload_n 2, 1) := dk_44 (dk_at dksX7_command_5 13 rfl rfl)
theorem dX7_command_169 : decode cX7_command 169 = .ok (.ldc 209, 2) := dk_18 209 (dk_at dksX7_command_5 14 rfl rfl)
theorem dX7_command_171 : decode cX7_command 171 = .ok (.invokevirtual 118, 3) := dk_182 0 118 (dk_at dksX7_command_5 16 rfl rfl)
theorem dX7_command_174 : decode cX7_command 174 = .ok (.ifCond .eq 6, 3) := dk_153 0 6 (dk_at dksX7_command_5 19 rfl rfl)
theorem dX7_command_177 : decode cX7_command 177 = .ok (.bipush 6, 2) := dk_16 6 (dk_at dksX7_command_5 22 rfl rfl)
theorem dX7_command_179 : decode cX7_command 179 = .ok (.istore_n 3, 1) := dk_62 (dk_at dksX7_command_6 0 rfl rfl)
theorem dX7_command_180 : decode cX7_command 180 = .ok (.iload_n 3, 1) := dk_29 (dk_at dksX7_command_6 1 rfl rfl)
theorem dX7_command_181 : decode cX7_command 181 = .ok (.tableswitch 127 0 6 #[43, 54, 65, 76, 87, 100, 113], 43) := by decide +kernel
theorem dX7_command_224 : decode cX7_command 224 = .ok (.aload_n 0, 1) := dk_42 (dk_at dksX7_command_8 0 rfl rfl)
theorem dX7_command_225 : decode cX7_command 225 = .ok (.aload_n 0, 1) := dk_42 (dk_at dksX7_command_8 1 rfl rfl)
theorem dX7_command_226 : decode cX7_command 226 = .ok (.invokevirtual 211, 3) := dk_182 0 211 (dk_at dksX7_command_8 2 rfl rfl)
theorem dX7_command_229 : decode cX7_command 229 = .ok (.invokevirtual 214, 3) := dk_182 0 214 (dk_at dksX7_command_8 5 rfl rfl)
theorem dX7_command_232 : decode cX7_command 232 = .ok (.goto 87, 3) := dk_167 0 87 (dk_at dksX7_command_8 8 rfl rfl)
theorem dX7_command_235 : decode cX7_command 235 = .ok (.aload_n 0, 1) := dk_42 (dk_at dksX7_command_8 11 rfl rfl)
theorem dX7_command_236 : decode cX7_command 236 = .ok (.aload_n 0, 1) := dk_42 (dk_at dksX7_command_8 12 rfl rfl)
theorem dX7_command_237 : decode cX7_command 237 = .ok (.invokevirtual 211, 3) := dk_182 0 211 (dk_at dksX7_command_8 13 rfl rfl)
theorem dX7_command_240 : decode cX7_command 240 = .ok (.invokevirtual 218, 3) := dk_182 0 218 (dk_at dksX7_command_8 16 rfl rfl)
theorem dX7_command_243 : decode cX7_command 243 = .ok (.goto 76, 3) := dk_167 0 76 (dk_at dksX7_command_8 19 rfl rfl)
theorem dX7_command_246 : decode cX7_command 246 = .ok (.aload_n 0, 1) := dk_42 (dk_at dksX7_command_8 22 rfl rfl)
theorem dX7_command_247 : decode cX7_command 247 = .ok (.aload_n 0, 1) := dk_42 (dk_at dksX7_command_8 23 rfl rfl)
theorem dX7_command_248 : decode cX7_command 248 = .ok (.invokevirtual 211, 3) := dk_182 0 211 (dk_at dksX7_command_9 0 rfl rfl)
theorem dX7_command_251 : decode cX7_command 251 = .ok (.invokevirtual 221, 3) := dk_182 0 221 (dk_at dksX7_command_9 3 rfl rfl)
theorem dX7_command_254 : decode cX7_command 254 = .ok (.goto 65, 3) := dk_167 0 65 (dk_at dksX7_command_9 6 rfl rfl)
theorem dX7_command_257 : decode cX7_command 257 = .ok (.aload_n 0, 1) := dk_42 (dk_at dksX7_command_9 9 rfl rfl)
theorem dX7_command_258 : decode cX7_command 258 = .ok (.aload_n 0, 1) := dk_42 (dk_at dksX7_command_9 10 rfl rfl)
theorem dX7_command_259 : decode cX7_command 259 = .ok (.invokevirtual 211, 3) := dk_182 0 211 (dk_at dksX7_command_9 11 rfl rfl)
theorem dX7_command_262 : decode cX7_command 262 = .ok (.invokevirtual 224, 3) := dk_182 0 224 (dk_at dksX7_command_9 14 rfl rfl)
theorem dX7_command_265 : decode cX7_command 265 = .ok (.goto 54, 3) := dk_167 0 54 (dk_at dksX7_command_9 17 rfl rfl)
theorem dX7_command_268 : decode cX7_command 268 = .ok (.aload_n 0, 1) := dk_42 (dk_at dksX7_command_9 20 rfl rfl)
theorem dX7_command_269 : decode cX7_command 269 = .ok (.aload_n 0, 1) := dk_42 (dk_at dksX7_command_9 21 rfl rfl)
theorem dX7_command_270 : decode cX7_command 270 = .ok (.iconst 0, 1) := dk_3 (dk_at dksX7_command_9 22 rfl rfl)
theorem dX7_command_271 : decode cX7_command 271 = .ok (.iconst 1, 1) := dk_4 (dk_at dksX7_command_9 23 rfl rfl)
theorem dX7_command_272 : decode cX7_command 272 = .ok (.invokevirtual 122, 3) := dk_182 0 122 (dk_at dksX7_command_10 0 rfl rfl)
theorem dX7_command_275 : decode cX7_command 275 = .ok (.invokevirtual 227, 3) := dk_182 0 227 (dk_at dksX7_command_10 3 rfl rfl)
theorem dX7_command_278 : decode cX7_command 278 = .ok (.goto 41, 3) := dk_167 0 41 (dk_at dksX7_command_10 6 rfl rfl)
theorem dX7_command_281 : decode cX7_command 281 = .ok (.aload_n 0, 1) := dk_42 (dk_at dksX7_command_10 9 rfl rfl)
theorem dX7_command_282 : decode cX7_command 282 = .ok (.aload_n 0, 1) := dk_42 (dk_at dksX7_command_10 10 rfl rfl)
theorem dX7_command_283 : decode cX7_command 283 = .ok (.iconst 0, 1) := dk_3 (dk_at dksX7_command_10 11 rfl rfl)
theorem dX7_command_284 : decode cX7_command 284 = .ok (.iconst 1, 1) := dk_4 (dk_at dksX7_command_10 12 rfl rfl)
theorem dX7_command_285 : decode cX7_command 285 = .ok (.invokevirtual 122, 3) := dk_182 0 122 (dk_at dksX7_command_10 13 rfl rfl)
theorem dX7_command_288 : decode cX7_command 288 = .ok (.invokevirtual 230, 3) := dk_182 0 230 (dk_at dksX7_command_10 16 rfl rfl)
theorem dX7_command_291 : decode cX7_command 291 = .ok (.goto 28, 3) := dk_167 0 28 (dk_at dksX7_command_10 19 rfl rfl)
theorem dX7_command_294 : decode cX7_command 294 = .ok (.aload_n 0, 1) := dk_42 (dk_at dksX7_command_10 22 rfl rfl)
theorem dX7_command_295 : decode cX7_command 295 = .ok (.aload_n 0, 1) := dk_42 (dk_at dksX7_command_10 23 rfl rfl)
theorem dX7_command_296 : decode cX7_command 296 = .ok (.iconst 1, 1) := dk_4 (dk_at dksX7_command_11 0 rfl rfl)
theorem dX7_command_297 : decode cX7_command 297 = .ok (.bipush 12, 2) := dk_16 12 (dk_at dksX7_command_11 1 rfl rfl)
theorem dX7_command_299 : decode cX7_command 299 = .ok (.invokevirtual 122, 3) := dk_182 0 122 (dk_at dksX7_command_11 3 rfl rfl)
theorem dX7_command_302 : decode cX7_command 302 = .ok (.invokevirtual 233, 3) := dk_182 0 233 (dk_at dksX7_command_11 6 rfl rfl)
theorem dX7_command_305 : decode cX7_command 305 = .ok (.goto 14, 3) := dk_167 0 14 (dk_at dksX7_command_11 9 rfl rfl)
theorem dX7_command_308 : decode cX7_command 308 = .ok (.aload_n 0, 1) := dk_42 (dk_at dksX7_command_11 12 rfl rfl)
theorem dX7_command_309 : decode cX7_command 309 = .ok (.aload_n 0, 1) := dk_42 (dk_at dksX7_command_11 13 rfl rfl)
theorem dX7_command_310 : decode cX7_command 310 = .ok (.iconst 1, 1) := dk_4 (dk_at dksX7_command_11 14 rfl rfl)
theorem dX7_command_311 : decode cX7_command 311 = .ok (.bipush 60, 2) := dk_16 60 (dk_at dksX7_command_11 15 rfl rfl)
theorem dX7_command_313 : decode cX7_command 313 = .ok (.invokevirtual 122, 3) := dk_182 0 122 (dk_at dksX7_command_11 17 rfl rfl)
theorem dX7_command_316 : decode cX7_command 316 = .ok (.invokevirtual 236, 3) := dk_182 0 236 (dk_at dksX7_command_11 20 rfl rfl)
theorem dX7_command_319 : decode cX7_command 319 = .ok (.areturn, 1) := dk_176 (dk_at dksX7_command_11 23 rfl rfl)
abbrev cX7_slot : ByteArray := prog_8_method_17_code
def yX7_slot : MethodName := ⟨RX7, "slot", "()I"⟩
def dkwX7_slot_0 : List UInt8 := [42, 3, 16, 39, 182, 0, 122, 172]
abbrev dktX7_slot_0 : List UInt8 := dkwX7_slot_0 ++ []
theorem dksX7_slot_0 : cX7_slot.data.toList.drop 0 = dktX7_slot_0 := by decide +kernel
theorem dX7_slot_0 : decode cX7_slot 0 = .ok (.aload_n 0, 1) := dk_42 (dk_at dksX7_slot_0 0 rfl rfl)
theorem dX7_slot_1 : decode cX7_slot 1 = .ok (.iconst 0, 1) := dk_3 (dk_at dksX7_slot_0 1 rfl rfl)
theorem dX7_slot_2 : decode cX7_slot 2 = .ok (.bipush 39, 2) := dk_16 39 (dk_at dksX7_slot_0 2 rfl rfl)
theorem dX7_slot_4 : decode cX7_slot 4 = .ok (.invokevirtual 122, 3) := dk_182 0 122 (dk_at dksX7_slot_0 4 rfl rfl)
theorem dX7_slot_7 : decode cX7_slot 7 = .ok (.ireturn, 1) := dk_172 (dk_at dksX7_slot_0 7 rfl rfl)
abbrev cX7_plantCommand : ByteArray := prog_8_method_18_code
def yX7_plantCommand : MethodName := ⟨RX7, "plantCommand", "(I)LHedgeMessages$Operation;"⟩
def dkwX7_plantCommand_0 : List UInt8 := [42, 182, 0, 159, 61, 27, 28, 186, 0, 239, 0, 0, 176]
abbrev dktX7_plantCommand_0 : List UInt8 := dkwX7_plantCommand_0 ++ []
theorem dksX7_plantCommand_0 : cX7_plantCommand.data.toList.drop 0 = dktX7_plantCommand_0 := by decide +kernel
theorem dX7_plantCommand_0 : decode cX7_plantCommand 0 = .ok (.aload_n 0, 1) := dk_42 (dk_at dksX7_plantCommand_0 0 rfl rfl)
theorem dX7_plantCommand_1 : decode cX7_plantCommand 1 = .ok (.invokevirtual 159, 3) := dk_182 0 159 (dk_at dksX7_plantCommand_0 1 rfl rfl)
theorem dX7_plantCommand_4 : decode cX7_plantCommand 4 = .ok (.istore_n 2, 1) := dk_61 (dk_at dksX7_plantCommand_0 4 rfl rfl)
theorem dX7_plantCommand_5 : decode cX7_plantCommand 5 = .ok (.iload_n 1, 1) := dk_27 (dk_at dksX7_plantCommand_0 5 rfl rfl)
theorem dX7_plantCommand_6 : decode cX7_plantCommand 6 = .ok (.iload_n 2, 1) := dk_28 (dk_at dksX7_plantCommand_0 6 rfl rfl)
theorem dX7_plantCommand_7 : decode cX7_plantCommand 7 = .ok (.invokedynamic 239, 5) := by decide +kernel
theorem dX7_plantCommand_12 : decode cX7_plantCommand 12 = .ok (.areturn, 1) := dk_176 (dk_at dksX7_plantCommand_0 12 rfl rfl)
abbrev cX7_lambda_plantCommand_0 : ByteArray := prog_8_method_33_code
def yX7_lambda_plantCommand_0 : MethodName := ⟨RX7, "lambda$plantCommand$0", "(ICLHedgeMessages$State;)I"⟩
def dkwX7_lambda_plantCommand_0_0 : List UInt8 := [44, 26, 27, 184, 1, 23, 172]
abbrev dktX7_lambda_plantCommand_0_0 : List UInt8 := dkwX7_lambda_plantCommand_0_0 ++ []
theorem dksX7_lambda_plantCommand_0_0 : cX7_lambda_plantCommand_0.data.toList.drop 0 = dktX7_lambda_plantCommand_0_0 := by decide +kernel
theorem dX7_lambda_plantCommand_0_0 : decode cX7_lambda_plantCommand_0 0 = .ok (.aload_n 2, 1) := dk_44 (dk_at dksX7_lambda_plantCommand_0_0 0 rfl rfl)
theorem dX7_lambda_plantCommand_0_1 : decode cX7_lambda_plantCommand_0 1 = .ok (.iload_n 0, 1) := dk_26 (dk_at dksX7_lambda_plantCommand_0_0 1 rfl rfl)
theorem dX7_lambda_plantCommand_0_2 : decode cX7_lambda_plantCommand_0 2 = .ok (.iload_n 1, 1) := dk_27 (dk_at dksX7_lambda_plantCommand_0_0 2 rfl rfl)
theorem dX7_lambda_plantCommand_0_3 : decode cX7_lambda_plantCommand_0 3 = .ok (.invokestatic 279, 3) := dk_184 1 23 (dk_at dksX7_lambda_plantCommand_0_0 3 rfl rfl)
theorem dX7_lambda_plantCommand_0_6 : decode cX7_lambda_plantCommand_0 6 = .ok (.ireturn, 1) := dk_172 (dk_at dksX7_lambda_plantCommand_0_0 6 rfl rfl)
abbrev cX7_removeCommand : ByteArray := prog_8_method_19_code
def yX7_removeCommand : MethodName := ⟨RX7, "removeCommand", "(I)LHedgeMessages$Operation;"⟩
theorem dX7_removeCommand_0 : decode cX7_removeCommand 0 = .ok (.iload_n 1, 1) := by decide +kernel
theorem dX7_removeCommand_1 : decode cX7_removeCommand 1 = .ok (.invokedynamic 243, 5) := by decide +kernel
theorem dX7_removeCommand_6 : decode cX7_removeCommand 6 = .ok (.areturn, 1) := by decide +kernel
abbrev cX7_lambda_removeCommand_1 : ByteArray := prog_8_method_32_code
def yX7_lambda_removeCommand_1 : MethodName := ⟨RX7, "lambda$removeCommand$1", "(ILHedgeMessages$State;)I"⟩
def dkwX7_lambda_removeCommand_1_0 : List UInt8 := [43, 26, 184, 1, 20, 172]
abbrev dktX7_lambda_removeCommand_1_0 : List UInt8 := dkwX7_lambda_removeCommand_1_0 ++ []
theorem dksX7_lambda_removeCommand_1_0 : cX7_lambda_removeCommand_1.data.toList.drop 0 = dktX7_lambda_removeCommand_1_0 := by decide +kernel
theorem dX7_lambda_removeCommand_1_0 : decode cX7_lambda_removeCommand_1 0 = .ok (.aload_n 1, 1) := dk_43 (dk_at dksX7_lambda_removeCommand_1_0 0 rfl rfl)
theorem dX7_lambda_removeCommand_1_1 : decode cX7_lambda_removeCommand_1 1 = .ok (.iload_n 0, 1) := dk_26 (dk_at dksX7_lambda_removeCommand_1_0 1 rfl rfl)
theorem dX7_lambda_removeCommand_1_2 : decode cX7_lambda_removeCommand_1 2 = .ok (.invokestatic 276, 3) := dk_184 1 20 (dk_at dksX7_lambda_removeCommand_1_0 2 rfl rfl)
theorem dX7_lambda_removeCommand_1_5 : decode cX7_lambda_removeCommand_1 5 = .ok (.ireturn, 1) := dk_172 (dk_at dksX7_lambda_removeCommand_1_0 5 rfl rfl)
abbrev cX7_trimCommand : ByteArray := prog_8_method_20_code
def yX7_trimCommand : MethodName := ⟨RX7, "trimCommand", "(I)LHedgeMessages$Operation;"⟩
def dkwX7_trimCommand_0 : List UInt8 := [42, 4, 16, 99, 182, 0, 122, 61, 27, 28, 186, 0, 245, 0, 0, 176]
abbrev dktX7_trimCommand_0 : List UInt8 := dkwX7_trimCommand_0 ++ []
theorem dksX7_trimCommand_0 : cX7_trimCommand.data.toList.drop 0 = dktX7_trimCommand_0 := by decide +kernel
theorem dX7_trimCommand_0 : decode cX7_trimCommand 0 = .ok (.aload_n 0, 1) := dk_42 (dk_at dksX7_trimCommand_0 0 rfl rfl)
theorem dX7_trimCommand_1 : decode cX7_trimCommand 1 = .ok (.iconst 1, 1) := dk_4 (dk_at dksX7_trimCommand_0 1 rfl rfl)
theorem dX7_trimCommand_2 : decode cX7_trimCommand 2 = .ok (.bipush 99, 2) := dk_16 99 (dk_at dksX7_trimCommand_0 2 rfl rfl)
theorem dX7_trimCommand_4 : decode cX7_trimCommand 4 = .ok (.invokevirtual 122, 3) := dk_182 0 122 (dk_at dksX7_trimCommand_0 4 rfl rfl)
theorem dX7_trimCommand_7 : decode cX7_trimCommand 7 = .ok (.istore_n 2, 1) := dk_61 (dk_at dksX7_trimCommand_0 7 rfl rfl)
theorem dX7_trimCommand_8 : decode cX7_trimCommand 8 = .ok (.iload_n 1, 1) := dk_27 (dk_at dksX7_trimCommand_0 8 rfl rfl)
theorem dX7_trimCommand_9 : decode cX7_trimCommand 9 = .ok (.iload_n 2, 1) := dk_28 (dk_at dksX7_trimCommand_0 9 rfl rfl)
theorem dX7_trimCommand_10 : decode cX7_trimCommand 10 = .ok (.invokedynamic 245, 5) := by decide +kernel
theorem dX7_trimCommand_15 : decode cX7_trimCommand 15 = .ok (.areturn, 1) := dk_176 (dk_at dksX7_trimCommand_0 15 rfl rfl)
abbrev cX7_lambda_trimCommand_2 : ByteArray := prog_8_method_31_code
def yX7_lambda_trimCommand_2 : MethodName := ⟨RX7, "lambda$trimCommand$2", "(IILHedgeMessages$State;)I"⟩
def dkwX7_lambda_trimCommand_2_0 : List UInt8 := [44, 26, 27, 184, 1, 17, 172]
abbrev dktX7_lambda_trimCommand_2_0 : List UInt8 := dkwX7_lambda_trimCommand_2_0 ++ []
theorem dksX7_lambda_trimCommand_2_0 : cX7_lambda_trimCommand_2.data.toList.drop 0 = dktX7_lambda_trimCommand_2_0 := by decide +kernel
theorem dX7_lambda_trimCommand_2_0 : decode cX7_lambda_trimCommand_2 0 = .ok (.aload_n 2, 1) := dk_44 (dk_at dksX7_lambda_trimCommand_2_0 0 rfl rfl)
theorem dX7_lambda_trimCommand_2_1 : decode cX7_lambda_trimCommand_2 1 = .ok (.iload_n 0, 1) := dk_26 (dk_at dksX7_lambda_trimCommand_2_0 1 rfl rfl)
theorem dX7_lambda_trimCommand_2_2 : decode cX7_lambda_trimCommand_2 2 = .ok (.iload_n 1, 1) := dk_27 (dk_at dksX7_lambda_trimCommand_2_0 2 rfl rfl)
theorem dX7_lambda_trimCommand_2_3 : decode cX7_lambda_trimCommand_2 3 = .ok (.invokestatic 273, 3) := dk_184 1 17 (dk_at dksX7_lambda_trimCommand_2_0 3 rfl rfl)
theorem dX7_lambda_trimCommand_2_6 : decode cX7_lambda_trimCommand_2 6 = .ok (.ireturn, 1) := dk_172 (dk_at dksX7_lambda_trimCommand_2_0 6 rfl rfl)
abbrev cX7_nestCommand : ByteArray := prog_8_method_21_code
def yX7_nestCommand : MethodName := ⟨RX7, "nestCommand", "(I)LHedgeMessages$Operation;"⟩
def dkwX7_nestCommand_0 : List UInt8 := [42, 4, 16, 30, 182, 0, 122, 61, 27, 28, 186, 0, 248, 0, 0, 176]
abbrev dktX7_nestCommand_0 : List UInt8 := dkwX7_nestCommand_0 ++ []
theorem dksX7_nestCommand_0 : cX7_nestCommand.data.toList.drop 0 = dktX7_nestCommand_0 := by decide +kernel
theorem dX7_nestCommand_0 : decode cX7_nestCommand 0 = .ok (.aload_n 0, 1) := dk_42 (dk_at dksX7_nestCommand_0 0 rfl rfl)
theorem dX7_nestCommand_1 : decode cX7_nestCommand 1 = .ok (.iconst 1, 1) := dk_4 (dk_at dksX7_nestCommand_0 1 rfl rfl)
theorem dX7_nestCommand_2 : decode cX7_nestCommand 2 = .ok (.bipush 30, 2) := dk_16 30 (dk_at dksX7_nestCommand_0 2 rfl rfl)
theorem dX7_nestCommand_4 : decode cX7_nestCommand 4 = .ok (.invokevirtual 122, 3) := dk_182 0 122 (dk_at dksX7_nestCommand_0 4 rfl rfl)
theorem dX7_nestCommand_7 : decode cX7_nestCommand 7 = .ok (.istore_n 2, 1) := dk_61 (dk_at dksX7_nestCommand_0 7 rfl rfl)
theorem dX7_nestCommand_8 : decode cX7_nestCommand 8 = .ok (.iload_n 1, 1) := dk_27 (dk_at dksX7_nestCommand_0 8 rfl rfl)
theorem dX7_nestCommand_9 : decode cX7_nestCommand 9 = .ok (.iload_n 2, 1) := dk_28 (dk_at dksX7_nestCommand_0 9 rfl rfl)
theorem dX7_nestCommand_10 : decode cX7_nestCommand 10 = .ok (.invokedynamic 248, 5) := by decide +kernel
theorem dX7_nestCommand_15 : decode cX7_nestCommand 15 = .ok (.areturn, 1) := dk_176 (dk_at dksX7_nestCommand_0 15 rfl rfl)
abbrev cX7_lambda_nestCommand_3 : ByteArray := prog_8_method_30_code
def yX7_lambda_nestCommand_3 : MethodName := ⟨RX7, "lambda$nestCommand$3", "(IILHedgeMessages$State;)I"⟩
def dkwX7_lambda_nestCommand_3_0 : List UInt8 := [44, 26, 27, 184, 1, 14, 172]
abbrev dktX7_lambda_nestCommand_3_0 : List UInt8 := dkwX7_lambda_nestCommand_3_0 ++ []
theorem dksX7_lambda_nestCommand_3_0 : cX7_lambda_nestCommand_3.data.toList.drop 0 = dktX7_lambda_nestCommand_3_0 := by decide +kernel
theorem dX7_lambda_nestCommand_3_0 : decode cX7_lambda_nestCommand_3 0 = .ok (.aload_n 2, 1) := dk_44 (dk_at dksX7_lambda_nestCommand_3_0 0 rfl rfl)
theorem dX7_lambda_nestCommand_3_1 : decode cX7_lambda_nestCommand_3 1 = .ok (.iload_n 0, 1) := dk_26 (dk_at dksX7_lambda_nestCommand_3_0 1 rfl rfl)
theorem dX7_lambda_nestCommand_3_2 : decode cX7_lambda_nestCommand_3 2 = .ok (.iload_n 1, 1) := dk_27 (dk_at dksX7_lambda_nestCommand_3_0 2 rfl rfl)
theorem dX7_lambda_nestCommand_3_3 : decode cX7_lambda_nestCommand_3 3 = .ok (.invokestatic 270, 3) := dk_184 1 14 (dk_at dksX7_lambda_nestCommand_3_0 3 rfl rfl)
theorem dX7_lambda_nestCommand_3_6 : decode cX7_lambda_nestCommand_3 6 = .ok (.ireturn, 1) := dk_172 (dk_at dksX7_lambda_nestCommand_3_0 6 rfl rfl)
abbrev cX7_messageCommand : ByteArray := prog_8_method_22_code
def yX7_messageCommand : MethodName := ⟨RX7, "messageCommand", "(I)LHedgeMessages$Operation;"⟩
def dkwX7_messageCommand_0 : List UInt8 := [42, 16, 12, 182, 0, 108, 77, 42, 182, 0, 28, 27, 44, 186, 0, 249, 0, 0, 176]
abbrev dktX7_messageCommand_0 : List UInt8 := dkwX7_messageCommand_0 ++ []
theorem dksX7_messageCommand_0 : cX7_messageCommand.data.toList.drop 0 = dktX7_messageCommand_0 := by decide +kernel
theorem dX7_messageCommand_0 : decode cX7_messageCommand 0 = .ok (.aload_n 0, 1) := dk_42 (dk_at dksX7_messageCommand_0 0 rfl rfl)
theorem dX7_messageCommand_1 : decode cX7_messageCommand 1 = .ok (.bipush 12, 2) := dk_16 12 (dk_at dksX7_messageCommand_0 1 rfl rfl)
theorem dX7_messageCommand_3 : decode cX7_messageCommand 3 = .ok (.invokevirtual 108, 3) := dk_182 0 108 (dk_at dksX7_messageCommand_0 3 rfl rfl)
theorem dX7_messageCommand_6 : decode cX7_messageCommand 6 = .ok (.astore_n 2, 1) := dk_77 (dk_at dksX7_messageCommand_0 6 rfl rfl)
theorem dX7_messageCommand_7 : decode cX7_messageCommand 7 = .ok (.aload_n 0, 1) := dk_42 (dk_at dksX7_messageCommand_0 7 rfl rfl)
theorem dX7_messageCommand_8 : decode cX7_messageCommand 8 = .ok (.invokevirtual 28, 3) := dk_182 0 28 (dk_at dksX7_messageCommand_0 8 rfl rfl)
theorem dX7_messageCommand_11 : decode cX7_messageCommand 11 = .ok (.iload_n 1, 1) := dk_27 (dk_at dksX7_messageCommand_0 11 rfl rfl)
theorem dX7_messageCommand_12 : decode cX7_messageCommand 12 = .ok (.aload_n 2, 1) := dk_44 (dk_at dksX7_messageCommand_0 12 rfl rfl)
theorem dX7_messageCommand_13 : decode cX7_messageCommand 13 = .ok (.invokedynamic 249, 5) := by decide +kernel
theorem dX7_messageCommand_18 : decode cX7_messageCommand 18 = .ok (.areturn, 1) := dk_176 (dk_at dksX7_messageCommand_0 18 rfl rfl)
abbrev cX7_lambda_messageCommand_4 : ByteArray := prog_8_method_29_code
def yX7_lambda_messageCommand_4 : MethodName := ⟨RX7, "lambda$messageCommand$4", "(ILjava/lang/String;LHedgeMessages$State;)I"⟩
def dkwX7_lambda_messageCommand_4_0 : List UInt8 := [44, 26, 43, 184, 1, 10, 172]
abbrev dktX7_lambda_messageCommand_4_0 : List UInt8 := dkwX7_lambda_messageCommand_4_0 ++ []
theorem dksX7_lambda_messageCommand_4_0 : cX7_lambda_messageCommand_4.data.toList.drop 0 = dktX7_lambda_messageCommand_4_0 := by decide +kernel
theorem dX7_lambda_messageCommand_4_0 : decode cX7_lambda_messageCommand_4 0 = .ok (.aload_n 2, 1) := dk_44 (dk_at dksX7_lambda_messageCommand_4_0 0 rfl rfl)
theorem dX7_lambda_messageCommand_4_1 : decode cX7_lambda_messageCommand_4 1 = .ok (.iload_n 0, 1) := dk_26 (dk_at dksX7_lambda_messageCommand_4_0 1 rfl rfl)
theorem dX7_lambda_messageCommand_4_2 : decode cX7_lambda_messageCommand_4 2 = .ok (.aload_n 1, 1) := dk_43 (dk_at dksX7_lambda_messageCommand_4_0 2 rfl rfl)
theorem dX7_lambda_messageCommand_4_3 : decode cX7_lambda_messageCommand_4 3 = .ok (.invokestatic 266, 3) := dk_184 1 10 (dk_at dksX7_lambda_messageCommand_4_0 3 rfl rfl)
theorem dX7_lambda_messageCommand_4_6 : decode cX7_lambda_messageCommand_4 6 = .ok (.ireturn, 1) := dk_172 (dk_at dksX7_lambda_messageCommand_4_0 6 rfl rfl)
abbrev cX7_cancelCommand : ByteArray := prog_8_method_23_code
def yX7_cancelCommand : MethodName := ⟨RX7, "cancelCommand", "(I)LHedgeMessages$Operation;"⟩
def dkwX7_cancelCommand_0 : List UInt8 := [42, 3, 16, 7, 182, 0, 122, 61, 27, 28, 186, 0, 252, 0, 0, 176]
abbrev dktX7_cancelCommand_0 : List UInt8 := dkwX7_cancelCommand_0 ++ []
theorem dksX7_cancelCommand_0 : cX7_cancelCommand.data.toList.drop 0 = dktX7_cancelCommand_0 := by decide +kernel
theorem dX7_cancelCommand_0 : decode cX7_cancelCommand 0 = .ok (.aload_n 0, 1) := dk_42 (dk_at dksX7_cancelCommand_0 0 rfl rfl)
theorem dX7_cancelCommand_1 : decode cX7_cancelCommand 1 = .ok (.iconst 0, 1) := dk_3 (dk_at dksX7_cancelCommand_0 1 rfl rfl)
theorem dX7_cancelCommand_2 : decode cX7_cancelCommand 2 = .ok (.bipush 7, 2) := dk_16 7 (dk_at dksX7_cancelCommand_0 2 rfl rfl)
theorem dX7_cancelCommand_4 : decode cX7_cancelCommand 4 = .ok (.invokevirtual 122, 3) := dk_182 0 122 (dk_at dksX7_cancelCommand_0 4 rfl rfl)
theorem dX7_cancelCommand_7 : decode cX7_cancelCommand 7 = .ok (.istore_n 2, 1) := dk_61 (dk_at dksX7_cancelCommand_0 7 rfl rfl)
theorem dX7_cancelCommand_8 : decode cX7_cancelCommand 8 = .ok (.iload_n 1, 1) := dk_27 (dk_at dksX7_cancelCommand_0 8 rfl rfl)
theorem dX7_cancelCommand_9 : decode cX7_cancelCommand 9 = .ok (.iload_n 2, 1) := dk_28 (dk_at dksX7_cancelCommand_0 9 rfl rfl)
theorem dX7_cancelCommand_10 : decode cX7_cancelCommand 10 = .ok (.invokedynamic 252, 5) := by decide +kernel
theorem dX7_cancelCommand_15 : decode cX7_cancelCommand 15 = .ok (.areturn, 1) := dk_176 (dk_at dksX7_cancelCommand_0 15 rfl rfl)
abbrev cX7_lambda_cancelCommand_5 : ByteArray := prog_8_method_28_code
def yX7_lambda_cancelCommand_5 : MethodName := ⟨RX7, "lambda$cancelCommand$5", "(IILHedgeMessages$State;)I"⟩
def dkwX7_lambda_cancelCommand_5_0 : List UInt8 := [44, 26, 27, 184, 1, 6, 172]
abbrev dktX7_lambda_cancelCommand_5_0 : List UInt8 := dkwX7_lambda_cancelCommand_5_0 ++ []
theorem dksX7_lambda_cancelCommand_5_0 : cX7_lambda_cancelCommand_5.data.toList.drop 0 = dktX7_lambda_cancelCommand_5_0 := by decide +kernel
theorem dX7_lambda_cancelCommand_5_0 : decode cX7_lambda_cancelCommand_5 0 = .ok (.aload_n 2, 1) := dk_44 (dk_at dksX7_lambda_cancelCommand_5_0 0 rfl rfl)
theorem dX7_lambda_cancelCommand_5_1 : decode cX7_lambda_cancelCommand_5 1 = .ok (.iload_n 0, 1) := dk_26 (dk_at dksX7_lambda_cancelCommand_5_0 1 rfl rfl)
theorem dX7_lambda_cancelCommand_5_2 : decode cX7_lambda_cancelCommand_5 2 = .ok (.iload_n 1, 1) := dk_27 (dk_at dksX7_lambda_cancelCommand_5_0 2 rfl rfl)
theorem dX7_lambda_cancelCommand_5_3 : decode cX7_lambda_cancelCommand_5 3 = .ok (.invokestatic 262, 3) := dk_184 1 6 (dk_at dksX7_lambda_cancelCommand_5_0 3 rfl rfl)
theorem dX7_lambda_cancelCommand_5_6 : decode cX7_lambda_cancelCommand_5 6 = .ok (.ireturn, 1) := dk_172 (dk_at dksX7_lambda_cancelCommand_5_0 6 rfl rfl)
abbrev cX7_workCommand : ByteArray := prog_8_method_24_code
def yX7_workCommand : MethodName := ⟨RX7, "workCommand", "(I)LHedgeMessages$Operation;"⟩
theorem dX7_workCommand_0 : decode cX7_workCommand 0 = .ok (.iload_n 1, 1) := by decide +kernel
theorem dX7_workCommand_1 : decode cX7_workCommand 1 = .ok (.invokedynamic 253, 5) := by decide +kernel
theorem dX7_workCommand_6 : decode cX7_workCommand 6 = .ok (.areturn, 1) := by decide +kernel
abbrev cX7_lambda_workCommand_6 : ByteArray := prog_8_method_27_code
def yX7_lambda_workCommand_6 : MethodName := ⟨RX7, "lambda$workCommand$6", "(ILHedgeMessages$State;)I"⟩
def dkwX7_lambda_workCommand_6_0 : List UInt8 := [43, 26, 184, 1, 3, 172]
abbrev dktX7_lambda_workCommand_6_0 : List UInt8 := dkwX7_lambda_workCommand_6_0 ++ []
theorem dksX7_lambda_workCommand_6_0 : cX7_lambda_workCommand_6.data.toList.drop 0 = dktX7_lambda_workCommand_6_0 := by decide +kernel
theorem dX7_lambda_workCommand_6_0 : decode cX7_lambda_workCommand_6 0 = .ok (.aload_n 1, 1) := dk_43 (dk_at dksX7_lambda_workCommand_6_0 0 rfl rfl)
theorem dX7_lambda_workCommand_6_1 : decode cX7_lambda_workCommand_6 1 = .ok (.iload_n 0, 1) := dk_26 (dk_at dksX7_lambda_workCommand_6_0 1 rfl rfl)
theorem dX7_lambda_workCommand_6_2 : decode cX7_lambda_workCommand_6 2 = .ok (.invokestatic 259, 3) := dk_184 1 3 (dk_at dksX7_lambda_workCommand_6_0 2 rfl rfl)
theorem dX7_lambda_workCommand_6_5 : decode cX7_lambda_workCommand_6 5 = .ok (.ireturn, 1) := dk_172 (dk_at dksX7_lambda_workCommand_6_0 5 rfl rfl)
abbrev cX7_endCommand : ByteArray := prog_8_method_25_code
def yX7_endCommand : MethodName := ⟨RX7, "endCommand", "(I)LHedgeMessages$Operation;"⟩
theorem dX7_endCommand_0 : decode cX7_endCommand 0 = .ok (.iload_n 1, 1) := by decide +kernel
theorem dX7_endCommand_1 : decode cX7_endCommand 1 = .ok (.invokedynamic 254, 5) := by decide +kernel
theorem dX7_endCommand_6 : decode cX7_endCommand 6 = .ok (.areturn, 1) := by decide +kernel
abbrev cX7_lambda_endCommand_7 : ByteArray := prog_8_method_26_code
def yX7_lambda_endCommand_7 : MethodName := ⟨RX7, "lambda$endCommand$7", "(ILHedgeMessages$State;)I"⟩
def dkwX7_lambda_endCommand_7_0 : List UInt8 := [43, 26, 184, 0, 255, 172]
abbrev dktX7_lambda_endCommand_7_0 : List UInt8 := dkwX7_lambda_endCommand_7_0 ++ []
theorem dksX7_lambda_endCommand_7_0 : cX7_lambda_endCommand_7.data.toList.drop 0 = dktX7_lambda_endCommand_7_0 := by decide +kernel
theorem dX7_lambda_endCommand_7_0 : decode cX7_lambda_endCommand_7 0 = .ok (.aload_n 1, 1) := dk_43 (dk_at dksX7_lambda_endCommand_7_0 0 rfl rfl)
theorem dX7_lambda_endCommand_7_1 : decode cX7_lambda_endCommand_7 1 = .ok (.iload_n 0, 1) := dk_26 (dk_at dksX7_lambda_endCommand_7_0 1 rfl rfl)
theorem dX7_lambda_endCommand_7_2 : decode cX7_lambda_endCommand_7 2 = .ok (.invokestatic 255, 3) := dk_184 0 255 (dk_at dksX7_lambda_endCommand_7_0 2 rfl rfl)
theorem dX7_lambda_endCommand_7_5 : decode cX7_lambda_endCommand_7 5 = .ok (.ireturn, 1) := dk_172 (dk_at dksX7_lambda_endCommand_7_0 5 rfl rfl)
theorem q174 : (Jvm.Cond.initialized "HedgeMessages$Parser") ∈ lw_all := lw_g (lw_at lw_m1 30 rfl) rfl
theorem q627 : (Jvm.Cond.selects "HedgeMessages$Parser" ({ cls := "java/lang/Object", name := "getClass", desc := "()Ljava/lang/Class;" } : Jvm.MethodName) ({ cls := "java/lang/Object", name := "getClass", desc := "()Ljava/lang/Class;" } : Jvm.MethodName)) ∈ lw_all := lw_g (lw_at lw_m3 3 rfl) rfl
theorem q662 : (Jvm.Cond.fieldLinkNest "HedgeMessages$Parser" (155 : Nat) "HedgeMessages$State" "twigs" "[LHedgeMessages$Twig;" "HedgeMessages") ∈ lw_tbl := lw_at lw_m3 38 rfl
theorem q666 : (Jvm.Cond.fieldLinkNest "HedgeMessages$Parser" (172 : Nat) "HedgeMessages$State" "nests" "[I" "HedgeMessages") ∈ lw_tbl := lw_at lw_m3 42 rfl
theorem q836 : (Jvm.Cond.fieldLinkNest "HedgeMessages$Parser" (31 : Nat) "HedgeMessages" "buffer" "[B" "HedgeMessages") ∈ lw_tbl := lw_at lw_m3 212 rfl
theorem q838 : (Jvm.Cond.fieldLinkNest "HedgeMessages$Parser" (15 : Nat) "HedgeMessages" "bufferLength" "I" "HedgeMessages") ∈ lw_tbl := lw_at lw_m3 214 rfl
theorem q1496 : (Jvm.Cond.instantiable "HedgeMessages$Parser" (7 : Nat)) ∈ lw_all := lw_g (lw_at lw_m6 152 rfl) rfl
theorem q1498 : (Jvm.Cond.instanceMethod ({ cls := "HedgeMessages$Parser", name := "<init>", desc := "(LHedgeMessages;)V" } : Jvm.MethodName)) ∈ lw_all := lw_g (lw_at lw_m6 154 rfl) rfl
theorem q1499 : (Jvm.Cond.code ({ cls := "HedgeMessages$Parser", name := "<init>", desc := "(LHedgeMessages;)V" } : Jvm.MethodName) prog_8_method_1_code (2 : Nat) (Option.none : Option Jvm.ClassFile.FieldType)) ∈ lw_all := lw_g (lw_at lw_m6 155 rfl) rfl
theorem q1500 : (Jvm.Cond.methodLink "HedgeMessages$Parser" (9 : Nat) ({ cls := "java/lang/Object", name := "<init>", desc := "()V" } : Jvm.MethodName)) ∈ lw_all := lw_g (lw_at lw_m6 156 rfl) rfl
theorem q1501 : (Jvm.Cond.stringRef "HedgeMessages$Parser" (22 : Nat) "") ∈ lw_tbl := lw_at lw_m6 157 rfl
theorem q1502 : (Jvm.Cond.methodLink "HedgeMessages$Parser" (28 : Nat) ({ cls := "HedgeMessages$Parser", name := "advance", desc := "()V" } : Jvm.MethodName)) ∈ lw_all := lw_g (lw_at lw_m6 158 rfl) rfl
theorem q1503 : (Jvm.Cond.instanceMethod ({ cls := "HedgeMessages$Parser", name := "advance", desc := "()V" } : Jvm.MethodName)) ∈ lw_all := lw_g (lw_at lw_m6 159 rfl) rfl
theorem q1504 : (Jvm.Cond.selects "HedgeMessages$Parser" ({ cls := "HedgeMessages$Parser", name := "advance", desc := "()V" } : Jvm.MethodName) ({ cls := "HedgeMessages$Parser", name := "advance", desc := "()V" } : Jvm.MethodName)) ∈ lw_all := lw_g (lw_at lw_m6 160 rfl) rfl
theorem q1505 : (Jvm.Cond.code ({ cls := "HedgeMessages$Parser", name := "advance", desc := "()V" } : Jvm.MethodName) prog_8_method_3_code (3 : Nat) (Option.none : Option Jvm.ClassFile.FieldType)) ∈ lw_all := lw_g (lw_at lw_m6 161 rfl) rfl
theorem q1506 : (Jvm.Cond.methodLink "HedgeMessages$Parser" (38 : Nat) ({ cls := "HedgeMessages$Parser", name := "byteAt", desc := "(I)I" } : Jvm.MethodName)) ∈ lw_all := lw_g (lw_at lw_m6 162 rfl) rfl
theorem q1507 : (Jvm.Cond.privateMethod ({ cls := "HedgeMessages$Parser", name := "byteAt", desc := "(I)I" } : Jvm.MethodName)) ∈ lw_tbl := lw_at lw_m6 163 rfl
theorem q1508 : (Jvm.Cond.instanceMethod ({ cls := "HedgeMessages$Parser", name := "byteAt", desc := "(I)I" } : Jvm.MethodName)) ∈ lw_all := lw_g (lw_at lw_m6 164 rfl) rfl
theorem q1509 : (Jvm.Cond.code ({ cls := "HedgeMessages$Parser", name := "byteAt", desc := "(I)I" } : Jvm.MethodName) prog_8_method_2_code (2 : Nat) (Option.some Jvm.ClassFile.FieldType.int)) ∈ lw_all := lw_g (lw_at lw_m6 165 rfl) rfl
theorem q1510 : (Jvm.Cond.fieldLink "HedgeMessages$Parser" (45 : Nat) "HedgeMessages$TokenKind" "END" "LHedgeMessages$TokenKind;") ∈ lw_all := lw_g (lw_at lw_m6 166 rfl) rfl
theorem q1512 : (Jvm.Cond.constantLong "HedgeMessages$Parser" (54 : Nat) (97 : Int64)) ∈ lw_all := lw_g (lw_at lw_m6 168 rfl) rfl
theorem q1513 : (Jvm.Cond.constantLong "HedgeMessages$Parser" (56 : Nat) (122 : Int64)) ∈ lw_all := lw_g (lw_at lw_m6 169 rfl) rfl
theorem q1514 : (Jvm.Cond.methodLinkNest "HedgeMessages$Parser" (58 : Nat) ({ cls := "HedgeMessages", name := "inRange", desc := "(JJJ)Z" } : Jvm.MethodName) "HedgeMessages") ∈ lw_tbl := lw_at lw_m6 170 rfl
theorem q1515 : (Jvm.Cond.fieldLink "HedgeMessages$Parser" (62 : Nat) "HedgeMessages$TokenKind" "WORD" "LHedgeMessages$TokenKind;") ∈ lw_all := lw_g (lw_at lw_m6 171 rfl) rfl
theorem q1517 : (Jvm.Cond.classLink "HedgeMessages$Parser" (65 : Nat) "java/lang/StringBuilder") ∈ lw_all := lw_g (lw_at lw_m6 173 rfl) rfl
theorem q1518 : (Jvm.Cond.methodLink "HedgeMessages$Parser" (67 : Nat) ({ cls := "java/lang/StringBuilder", name := "<init>", desc := "()V" } : Jvm.MethodName)) ∈ lw_all := lw_g (lw_at lw_m6 174 rfl) rfl
theorem q1519 : (Jvm.Cond.methodLink "HedgeMessages$Parser" (68 : Nat) ({ cls := "java/lang/StringBuilder", name := "append", desc := "(C)Ljava/lang/StringBuilder;" } : Jvm.MethodName)) ∈ lw_all := lw_g (lw_at lw_m6 175 rfl) rfl
theorem q1520 : (Jvm.Cond.methodLink "HedgeMessages$Parser" (72 : Nat) ({ cls := "java/lang/StringBuilder", name := "toString", desc := "()Ljava/lang/String;" } : Jvm.MethodName)) ∈ lw_all := lw_g (lw_at lw_m6 176 rfl) rfl
theorem q1521 : (Jvm.Cond.constantLong "HedgeMessages$Parser" (76 : Nat) (48 : Int64)) ∈ lw_all := lw_g (lw_at lw_m6 177 rfl) rfl
theorem q1522 : (Jvm.Cond.constantLong "HedgeMessages$Parser" (78 : Nat) (57 : Int64)) ∈ lw_all := lw_g (lw_at lw_m6 178 rfl) rfl
theorem q1523 : (Jvm.Cond.fieldLink "HedgeMessages$Parser" (80 : Nat) "HedgeMessages$TokenKind" "NUMBER" "LHedgeMessages$TokenKind;") ∈ lw_all := lw_g (lw_at lw_m6 179 rfl) rfl
theorem q1525 : (Jvm.Cond.fieldLink "HedgeMessages$Parser" (86 : Nat) "HedgeMessages$TokenKind" "OTHER" "LHedgeMessages$TokenKind;") ∈ lw_all := lw_g (lw_at lw_m6 181 rfl) rfl
theorem q1527 : (Jvm.Cond.fieldLink "HedgeMessages$Parser" (19 : Nat) "HedgeMessages$Parser" "end" "I") ∈ lw_all := lw_g (lw_at lw_m6 183 rfl) rfl
theorem q1528 : (Jvm.Cond.fieldLink "HedgeMessages$Parser" (35 : Nat) "HedgeMessages$Parser" "position" "I") ∈ lw_all := lw_g (lw_at lw_m6 184 rfl) rfl
theorem q1529 : (Jvm.Cond.fieldLink "HedgeMessages$Parser" (42 : Nat) "HedgeMessages$Parser" "start" "I") ∈ lw_all := lw_g (lw_at lw_m6 185 rfl) rfl
theorem q1530 : (Jvm.Cond.fieldLink "HedgeMessages$Parser" (83 : Nat) "HedgeMessages$Parser" "value" "I") ∈ lw_all := lw_g (lw_at lw_m6 186 rfl) rfl
theorem q1531 : (Jvm.Cond.fieldLink "HedgeMessages$Parser" (24 : Nat) "HedgeMessages$Parser" "word" "Ljava/lang/String;") ∈ lw_all := lw_g (lw_at lw_m6 187 rfl) rfl
theorem q1532 : (Jvm.Cond.fieldLink "HedgeMessages$Parser" (51 : Nat) "HedgeMessages$Parser" "kind" "LHedgeMessages$TokenKind;") ∈ lw_all := lw_g (lw_at lw_m6 188 rfl) rfl
theorem q1533 : (Jvm.Cond.fieldLink "HedgeMessages$Parser" (3 : Nat) "HedgeMessages$Parser" "this$0" "LHedgeMessages;") ∈ lw_all := lw_g (lw_at lw_m6 189 rfl) rfl
theorem q1534 : (Jvm.Cond.laysFinal "HedgeMessages$Parser" "HedgeMessages$Parser" "end" "I") ∈ lw_all := lw_g (lw_at lw_m6 190 rfl) rfl
theorem q1535 : (Jvm.Cond.soleField "HedgeMessages$Parser" "end") ∈ lw_all := lw_g (lw_at lw_m6 191 rfl) rfl
theorem q1536 : (Jvm.Cond.lays "HedgeMessages$Parser" "HedgeMessages$Parser" "position" "I") ∈ lw_all := lw_g (lw_at lw_m6 192 rfl) rfl
theorem q1537 : (Jvm.Cond.soleField "HedgeMessages$Parser" "position") ∈ lw_all := lw_g (lw_at lw_m6 193 rfl) rfl
theorem q1538 : (Jvm.Cond.lays "HedgeMessages$Parser" "HedgeMessages$Parser" "start" "I") ∈ lw_all := lw_g (lw_at lw_m6 194 rfl) rfl
theorem q1539 : (Jvm.Cond.soleField "HedgeMessages$Parser" "start") ∈ lw_all := lw_g (lw_at lw_m6 195 rfl) rfl
theorem q1540 : (Jvm.Cond.lays "HedgeMessages$Parser" "HedgeMessages$Parser" "value" "I") ∈ lw_all := lw_g (lw_at lw_m6 196 rfl) rfl
theorem q1541 : (Jvm.Cond.soleField "HedgeMessages$Parser" "value") ∈ lw_all := lw_g (lw_at lw_m6 197 rfl) rfl
theorem q1542 : (Jvm.Cond.lays "HedgeMessages$Parser" "HedgeMessages$Parser" "word" "Ljava/lang/String;") ∈ lw_all := lw_g (lw_at lw_m6 198 rfl) rfl
theorem q1543 : (Jvm.Cond.soleField "HedgeMessages$Parser" "word") ∈ lw_all := lw_g (lw_at lw_m6 199 rfl) rfl
theorem q1544 : (Jvm.Cond.lays "HedgeMessages$Parser" "HedgeMessages$Parser" "kind" "LHedgeMessages$TokenKind;") ∈ lw_all := lw_g (lw_at lw_m6 200 rfl) rfl
theorem q1545 : (Jvm.Cond.soleField "HedgeMessages$Parser" "kind") ∈ lw_all := lw_g (lw_at lw_m6 201 rfl) rfl
theorem q1546 : (Jvm.Cond.laysFinal "HedgeMessages$Parser" "HedgeMessages$Parser" "this$0" "LHedgeMessages;") ∈ lw_all := lw_g (lw_at lw_m6 202 rfl) rfl
theorem q1547 : (Jvm.Cond.soleField "HedgeMessages$Parser" "this$0") ∈ lw_all := lw_g (lw_at lw_m6 203 rfl) rfl
theorem q1548 : (Jvm.Cond.superclass "HedgeMessages$Parser" "java/lang/Object") ∈ lw_all := lw_g (lw_at lw_m6 204 rfl) rfl
theorem q1550 : (Jvm.Cond.instanceMethod ({ cls := "HedgeMessages$Parser", name := "configuration", desc := "()LHedgeMessages$State;" } : Jvm.MethodName)) ∈ lw_all := lw_g (lw_at lw_m6 206 rfl) rfl
theorem q1551 : (Jvm.Cond.selects "HedgeMessages$Parser" ({ cls := "HedgeMessages$Parser", name := "configuration", desc := "()LHedgeMessages$State;" } : Jvm.MethodName) ({ cls := "HedgeMessages$Parser", name := "configuration", desc := "()LHedgeMessages$State;" } : Jvm.MethodName)) ∈ lw_all := lw_g (lw_at lw_m6 207 rfl) rfl
theorem q1552 : (Jvm.Cond.code ({ cls := "HedgeMessages$Parser", name := "configuration", desc := "()LHedgeMessages$State;" } : Jvm.MethodName) prog_8_method_10_code (7 : Nat) (Option.some (Jvm.ClassFile.FieldType.object "HedgeMessages$State"))) ∈ lw_all := lw_g (lw_at lw_m6 208 rfl) rfl
theorem q1553 : (Jvm.Cond.stringRef "HedgeMessages$Parser" (116 : Nat) "hedge") ∈ lw_tbl := lw_at lw_m6 209 rfl
theorem q1554 : (Jvm.Cond.methodLink "HedgeMessages$Parser" (118 : Nat) ({ cls := "java/lang/String", name := "equals", desc := "(Ljava/lang/Object;)Z" } : Jvm.MethodName)) ∈ lw_all := lw_g (lw_at lw_m6 210 rfl) rfl
theorem q1562 : (Jvm.Cond.methodLink "HedgeMessages$Parser" (94 : Nat) ({ cls := "HedgeMessages$Parser", name := "require", desc := "(ZI)V" } : Jvm.MethodName)) ∈ lw_all := lw_g (lw_at lw_m6 218 rfl) rfl
theorem q1563 : (Jvm.Cond.privateMethod ({ cls := "HedgeMessages$Parser", name := "require", desc := "(ZI)V" } : Jvm.MethodName)) ∈ lw_tbl := lw_at lw_m6 219 rfl
theorem q1564 : (Jvm.Cond.instanceMethod ({ cls := "HedgeMessages$Parser", name := "require", desc := "(ZI)V" } : Jvm.MethodName)) ∈ lw_all := lw_g (lw_at lw_m6 220 rfl) rfl
theorem q1565 : (Jvm.Cond.code ({ cls := "HedgeMessages$Parser", name := "require", desc := "(ZI)V" } : Jvm.MethodName) prog_8_method_4_code (3 : Nat) (Option.none : Option Jvm.ClassFile.FieldType)) ∈ lw_all := lw_g (lw_at lw_m6 221 rfl) rfl
theorem q1566 : (Jvm.Cond.classLink "HedgeMessages$Parser" (89 : Nat) "HedgeMessages$ParseError") ∈ lw_all := lw_g (lw_at lw_m6 222 rfl) rfl
theorem q1575 : (Jvm.Cond.methodLink "HedgeMessages$Parser" (91 : Nat) ({ cls := "HedgeMessages$ParseError", name := "<init>", desc := "(II)V" } : Jvm.MethodName)) ∈ lw_all := lw_g (lw_at lw_m6 231 rfl) rfl
theorem q1594 : (Jvm.Cond.methodLink "HedgeMessages$Parser" (122 : Nat) ({ cls := "HedgeMessages$Parser", name := "number", desc := "(II)I" } : Jvm.MethodName)) ∈ lw_all := lw_g (lw_at lw_m7 10 rfl) rfl
theorem q1595 : (Jvm.Cond.privateMethod ({ cls := "HedgeMessages$Parser", name := "number", desc := "(II)I" } : Jvm.MethodName)) ∈ lw_tbl := lw_at lw_m7 11 rfl
theorem q1596 : (Jvm.Cond.instanceMethod ({ cls := "HedgeMessages$Parser", name := "number", desc := "(II)I" } : Jvm.MethodName)) ∈ lw_all := lw_g (lw_at lw_m7 12 rfl) rfl
theorem q1597 : (Jvm.Cond.code ({ cls := "HedgeMessages$Parser", name := "number", desc := "(II)I" } : Jvm.MethodName) prog_8_method_6_code (4 : Nat) (Option.some Jvm.ClassFile.FieldType.int)) ∈ lw_all := lw_g (lw_at lw_m7 13 rfl) rfl
theorem q1598 : (Jvm.Cond.methodLink "HedgeMessages$Parser" (98 : Nat) ({ cls := "HedgeMessages$Parser", name := "peekNumber", desc := "(II)I" } : Jvm.MethodName)) ∈ lw_all := lw_g (lw_at lw_m7 14 rfl) rfl
theorem q1599 : (Jvm.Cond.privateMethod ({ cls := "HedgeMessages$Parser", name := "peekNumber", desc := "(II)I" } : Jvm.MethodName)) ∈ lw_tbl := lw_at lw_m7 15 rfl
theorem q1600 : (Jvm.Cond.instanceMethod ({ cls := "HedgeMessages$Parser", name := "peekNumber", desc := "(II)I" } : Jvm.MethodName)) ∈ lw_all := lw_g (lw_at lw_m7 16 rfl) rfl
theorem q1601 : (Jvm.Cond.code ({ cls := "HedgeMessages$Parser", name := "peekNumber", desc := "(II)I" } : Jvm.MethodName) prog_8_method_5_code (3 : Nat) (Option.some Jvm.ClassFile.FieldType.int)) ∈ lw_all := lw_g (lw_at lw_m7 17 rfl) rfl
theorem q1602 : (Jvm.Cond.classLink "HedgeMessages$Parser" (125 : Nat) "HedgeMessages$State") ∈ lw_all := lw_g (lw_at lw_m7 18 rfl) rfl
theorem q1603 : (Jvm.Cond.methodLink "HedgeMessages$Parser" (127 : Nat) ({ cls := "HedgeMessages$State", name := "<init>", desc := "(IIIIII)V" } : Jvm.MethodName)) ∈ lw_all := lw_g (lw_at lw_m7 19 rfl) rfl
theorem q1604 : (Jvm.Cond.methodLink "HedgeMessages$Parser" (130 : Nat) ({ cls := "HedgeMessages$Parser", name := "semicolon", desc := "()V" } : Jvm.MethodName)) ∈ lw_all := lw_g (lw_at lw_m7 20 rfl) rfl
theorem q1605 : (Jvm.Cond.privateMethod ({ cls := "HedgeMessages$Parser", name := "semicolon", desc := "()V" } : Jvm.MethodName)) ∈ lw_tbl := lw_at lw_m7 21 rfl
theorem q1606 : (Jvm.Cond.instanceMethod ({ cls := "HedgeMessages$Parser", name := "semicolon", desc := "()V" } : Jvm.MethodName)) ∈ lw_all := lw_g (lw_at lw_m7 22 rfl) rfl
theorem q1607 : (Jvm.Cond.code ({ cls := "HedgeMessages$Parser", name := "semicolon", desc := "()V" } : Jvm.MethodName) prog_8_method_9_code (1 : Nat) (Option.none : Option Jvm.ClassFile.FieldType)) ∈ lw_all := lw_g (lw_at lw_m7 23 rfl) rfl
theorem q1608 : (Jvm.Cond.methodLink "HedgeMessages$Parser" (133 : Nat) ({ cls := "HedgeMessages$Parser", name := "statement", desc := "(LHedgeMessages$State;)V" } : Jvm.MethodName)) ∈ lw_all := lw_g (lw_at lw_m7 24 rfl) rfl
theorem q1609 : (Jvm.Cond.privateMethod ({ cls := "HedgeMessages$Parser", name := "statement", desc := "(LHedgeMessages$State;)V" } : Jvm.MethodName)) ∈ lw_tbl := lw_at lw_m7 25 rfl
theorem q1610 : (Jvm.Cond.instanceMethod ({ cls := "HedgeMessages$Parser", name := "statement", desc := "(LHedgeMessages$State;)V" } : Jvm.MethodName)) ∈ lw_all := lw_g (lw_at lw_m7 26 rfl) rfl
theorem q1611 : (Jvm.Cond.code ({ cls := "HedgeMessages$Parser", name := "statement", desc := "(LHedgeMessages$State;)V" } : Jvm.MethodName) prog_8_method_11_code (4 : Nat) (Option.none : Option Jvm.ClassFile.FieldType)) ∈ lw_all := lw_g (lw_at lw_m7 27 rfl) rfl
theorem q1612 : (Jvm.Cond.methodLink "HedgeMessages$Parser" (137 : Nat) ({ cls := "java/lang/String", name := "hashCode", desc := "()I" } : Jvm.MethodName)) ∈ lw_all := lw_g (lw_at lw_m7 28 rfl) rfl
theorem q1669 : (Jvm.Cond.stringRef "HedgeMessages$Parser" (140 : Nat) "twig") ∈ lw_tbl := lw_at lw_m7 85 rfl
theorem q1670 : (Jvm.Cond.stringRef "HedgeMessages$Parser" (142 : Nat) "nest") ∈ lw_tbl := lw_at lw_m7 86 rfl
theorem q1671 : (Jvm.Cond.stringRef "HedgeMessages$Parser" (144 : Nat) "message") ∈ lw_tbl := lw_at lw_m7 87 rfl
theorem q1672 : (Jvm.Cond.methodLink "HedgeMessages$Parser" (146 : Nat) ({ cls := "HedgeMessages$Parser", name := "twig", desc := "(LHedgeMessages$State;)V" } : Jvm.MethodName)) ∈ lw_all := lw_g (lw_at lw_m7 88 rfl) rfl
theorem q1673 : (Jvm.Cond.privateMethod ({ cls := "HedgeMessages$Parser", name := "twig", desc := "(LHedgeMessages$State;)V" } : Jvm.MethodName)) ∈ lw_tbl := lw_at lw_m7 89 rfl
theorem q1674 : (Jvm.Cond.instanceMethod ({ cls := "HedgeMessages$Parser", name := "twig", desc := "(LHedgeMessages$State;)V" } : Jvm.MethodName)) ∈ lw_all := lw_g (lw_at lw_m7 90 rfl) rfl
theorem q1675 : (Jvm.Cond.code ({ cls := "HedgeMessages$Parser", name := "twig", desc := "(LHedgeMessages$State;)V" } : Jvm.MethodName) prog_8_method_12_code (5 : Nat) (Option.none : Option Jvm.ClassFile.FieldType)) ∈ lw_all := lw_g (lw_at lw_m7 91 rfl) rfl
theorem q1676 : (Jvm.Cond.methodLink "HedgeMessages$Parser" (152 : Nat) ({ cls := "HedgeMessages$State", name := "slots", desc := "()I" } : Jvm.MethodName)) ∈ lw_all := lw_g (lw_at lw_m7 92 rfl) rfl
theorem q1677 : (Jvm.Cond.methodLink "HedgeMessages$Parser" (159 : Nat) ({ cls := "HedgeMessages$Parser", name := "letter", desc := "()C" } : Jvm.MethodName)) ∈ lw_all := lw_g (lw_at lw_m7 93 rfl) rfl
theorem q1678 : (Jvm.Cond.privateMethod ({ cls := "HedgeMessages$Parser", name := "letter", desc := "()C" } : Jvm.MethodName)) ∈ lw_tbl := lw_at lw_m7 94 rfl
theorem q1679 : (Jvm.Cond.instanceMethod ({ cls := "HedgeMessages$Parser", name := "letter", desc := "()C" } : Jvm.MethodName)) ∈ lw_all := lw_g (lw_at lw_m7 95 rfl) rfl
theorem q1680 : (Jvm.Cond.code ({ cls := "HedgeMessages$Parser", name := "letter", desc := "()C" } : Jvm.MethodName) prog_8_method_8_code (2 : Nat) (Option.some Jvm.ClassFile.FieldType.char)) ∈ lw_all := lw_g (lw_at lw_m7 96 rfl) rfl
theorem q1681 : (Jvm.Cond.methodLink "HedgeMessages$Parser" (108 : Nat) ({ cls := "HedgeMessages$Parser", name := "peekWord", desc := "(I)Ljava/lang/String;" } : Jvm.MethodName)) ∈ lw_all := lw_g (lw_at lw_m7 97 rfl) rfl
theorem q1682 : (Jvm.Cond.privateMethod ({ cls := "HedgeMessages$Parser", name := "peekWord", desc := "(I)Ljava/lang/String;" } : Jvm.MethodName)) ∈ lw_tbl := lw_at lw_m7 98 rfl
theorem q1683 : (Jvm.Cond.instanceMethod ({ cls := "HedgeMessages$Parser", name := "peekWord", desc := "(I)Ljava/lang/String;" } : Jvm.MethodName)) ∈ lw_all := lw_g (lw_at lw_m7 99 rfl) rfl
theorem q1684 : (Jvm.Cond.code ({ cls := "HedgeMessages$Parser", name := "peekWord", desc := "(I)Ljava/lang/String;" } : Jvm.MethodName) prog_8_method_7_code (2 : Nat) (Option.some (Jvm.ClassFile.FieldType.object "java/lang/String"))) ∈ lw_all := lw_g (lw_at lw_m7 100 rfl) rfl
theorem q1685 : (Jvm.Cond.methodLink "HedgeMessages$Parser" (102 : Nat) ({ cls := "java/lang/String", name := "length", desc := "()I" } : Jvm.MethodName)) ∈ lw_all := lw_g (lw_at lw_m7 101 rfl) rfl
theorem q1686 : (Jvm.Cond.methodLink "HedgeMessages$Parser" (112 : Nat) ({ cls := "java/lang/String", name := "charAt", desc := "(I)C" } : Jvm.MethodName)) ∈ lw_all := lw_g (lw_at lw_m7 102 rfl) rfl
theorem q1687 : (Jvm.Cond.classLink "HedgeMessages$Parser" (163 : Nat) "HedgeMessages$Twig") ∈ lw_all := lw_g (lw_at lw_m7 103 rfl) rfl
theorem q1688 : (Jvm.Cond.methodLink "HedgeMessages$Parser" (165 : Nat) ({ cls := "HedgeMessages$Twig", name := "<init>", desc := "(CII)V" } : Jvm.MethodName)) ∈ lw_all := lw_g (lw_at lw_m7 104 rfl) rfl
theorem q1689 : (Jvm.Cond.methodLink "HedgeMessages$Parser" (168 : Nat) ({ cls := "HedgeMessages$State", name := "plant", desc := "(ILHedgeMessages$Twig;)V" } : Jvm.MethodName)) ∈ lw_all := lw_g (lw_at lw_m7 105 rfl) rfl
theorem q1690 : (Jvm.Cond.methodLink "HedgeMessages$Parser" (148 : Nat) ({ cls := "HedgeMessages$Parser", name := "nest", desc := "(LHedgeMessages$State;)V" } : Jvm.MethodName)) ∈ lw_all := lw_g (lw_at lw_m7 106 rfl) rfl
theorem q1691 : (Jvm.Cond.privateMethod ({ cls := "HedgeMessages$Parser", name := "nest", desc := "(LHedgeMessages$State;)V" } : Jvm.MethodName)) ∈ lw_tbl := lw_at lw_m7 107 rfl
theorem q1692 : (Jvm.Cond.instanceMethod ({ cls := "HedgeMessages$Parser", name := "nest", desc := "(LHedgeMessages$State;)V" } : Jvm.MethodName)) ∈ lw_all := lw_g (lw_at lw_m7 108 rfl) rfl
theorem q1693 : (Jvm.Cond.code ({ cls := "HedgeMessages$Parser", name := "nest", desc := "(LHedgeMessages$State;)V" } : Jvm.MethodName) prog_8_method_13_code (3 : Nat) (Option.none : Option Jvm.ClassFile.FieldType)) ∈ lw_all := lw_g (lw_at lw_m7 109 rfl) rfl
theorem q1694 : (Jvm.Cond.methodLink "HedgeMessages$Parser" (176 : Nat) ({ cls := "HedgeMessages$State", name := "nestCount", desc := "()I" } : Jvm.MethodName)) ∈ lw_all := lw_g (lw_at lw_m7 110 rfl) rfl
theorem q1695 : (Jvm.Cond.methodLink "HedgeMessages$Parser" (150 : Nat) ({ cls := "HedgeMessages$Parser", name := "message", desc := "(LHedgeMessages$State;)V" } : Jvm.MethodName)) ∈ lw_all := lw_g (lw_at lw_m7 111 rfl) rfl
theorem q1696 : (Jvm.Cond.privateMethod ({ cls := "HedgeMessages$Parser", name := "message", desc := "(LHedgeMessages$State;)V" } : Jvm.MethodName)) ∈ lw_tbl := lw_at lw_m7 112 rfl
theorem q1697 : (Jvm.Cond.instanceMethod ({ cls := "HedgeMessages$Parser", name := "message", desc := "(LHedgeMessages$State;)V" } : Jvm.MethodName)) ∈ lw_all := lw_g (lw_at lw_m7 113 rfl) rfl
theorem q1698 : (Jvm.Cond.code ({ cls := "HedgeMessages$Parser", name := "message", desc := "(LHedgeMessages$State;)V" } : Jvm.MethodName) prog_8_method_14_code (4 : Nat) (Option.none : Option Jvm.ClassFile.FieldType)) ∈ lw_all := lw_g (lw_at lw_m7 114 rfl) rfl
theorem q1699 : (Jvm.Cond.methodLink "HedgeMessages$Parser" (179 : Nat) ({ cls := "HedgeMessages$State", name := "isQueueFull", desc := "(I)Z" } : Jvm.MethodName)) ∈ lw_all := lw_g (lw_at lw_m7 115 rfl) rfl
theorem q1703 : (Jvm.Cond.classLink "HedgeMessages$Parser" (183 : Nat) "HedgeMessages$Message") ∈ lw_all := lw_g (lw_at lw_m7 119 rfl) rfl
theorem q1704 : (Jvm.Cond.methodLink "HedgeMessages$Parser" (185 : Nat) ({ cls := "HedgeMessages$Message", name := "<init>", desc := "(ILjava/lang/String;)V" } : Jvm.MethodName)) ∈ lw_all := lw_g (lw_at lw_m7 120 rfl) rfl
theorem q1705 : (Jvm.Cond.methodLink "HedgeMessages$Parser" (188 : Nat) ({ cls := "HedgeMessages$State", name := "queue", desc := "(LHedgeMessages$Message;)V" } : Jvm.MethodName)) ∈ lw_all := lw_g (lw_at lw_m7 121 rfl) rfl
theorem q1729 : (Jvm.Cond.instanceMethod ({ cls := "HedgeMessages$Parser", name := "commands", desc := "()[LHedgeMessages$Operation;" } : Jvm.MethodName)) ∈ lw_all := lw_g (lw_at lw_m7 145 rfl) rfl
theorem q1730 : (Jvm.Cond.selects "HedgeMessages$Parser" ({ cls := "HedgeMessages$Parser", name := "commands", desc := "()[LHedgeMessages$Operation;" } : Jvm.MethodName) ({ cls := "HedgeMessages$Parser", name := "commands", desc := "()[LHedgeMessages$Operation;" } : Jvm.MethodName)) ∈ lw_all := lw_g (lw_at lw_m7 146 rfl) rfl
theorem q1731 : (Jvm.Cond.code ({ cls := "HedgeMessages$Parser", name := "commands", desc := "()[LHedgeMessages$Operation;" } : Jvm.MethodName) prog_8_method_15_code (3 : Nat) (Option.some (Jvm.ClassFile.FieldType.array (Jvm.ClassFile.FieldType.object "HedgeMessages$Operation")))) ∈ lw_all := lw_g (lw_at lw_m7 147 rfl) rfl
theorem q1732 : (Jvm.Cond.classLink "HedgeMessages$Parser" (192 : Nat) "HedgeMessages$Operation") ∈ lw_all := lw_g (lw_at lw_m7 148 rfl) rfl
theorem q1734 : (Jvm.Cond.methodLinkNest "HedgeMessages$Parser" (194 : Nat) ({ cls := "HedgeMessages", name := "isCommand", desc := "(Ljava/lang/String;)Z" } : Jvm.MethodName) "HedgeMessages") ∈ lw_tbl := lw_at lw_m7 150 rfl
theorem q1747 : (Jvm.Cond.methodLink "HedgeMessages$Parser" (198 : Nat) ({ cls := "HedgeMessages$Parser", name := "command", desc := "()LHedgeMessages$Operation;" } : Jvm.MethodName)) ∈ lw_all := lw_g (lw_at lw_m7 163 rfl) rfl
theorem q1748 : (Jvm.Cond.privateMethod ({ cls := "HedgeMessages$Parser", name := "command", desc := "()LHedgeMessages$Operation;" } : Jvm.MethodName)) ∈ lw_tbl := lw_at lw_m7 164 rfl
theorem q1749 : (Jvm.Cond.instanceMethod ({ cls := "HedgeMessages$Parser", name := "command", desc := "()LHedgeMessages$Operation;" } : Jvm.MethodName)) ∈ lw_all := lw_g (lw_at lw_m7 165 rfl) rfl
theorem q1750 : (Jvm.Cond.code ({ cls := "HedgeMessages$Parser", name := "command", desc := "()LHedgeMessages$Operation;" } : Jvm.MethodName) prog_8_method_16_code (4 : Nat) (Option.some (Jvm.ClassFile.FieldType.object "HedgeMessages$Operation"))) ∈ lw_all := lw_g (lw_at lw_m7 166 rfl) rfl
theorem q1751 : (Jvm.Cond.stringRef "HedgeMessages$Parser" (202 : Nat) "plant") ∈ lw_tbl := lw_at lw_m7 167 rfl
theorem q1752 : (Jvm.Cond.stringRef "HedgeMessages$Parser" (203 : Nat) "remove") ∈ lw_tbl := lw_at lw_m7 168 rfl
theorem q1753 : (Jvm.Cond.stringRef "HedgeMessages$Parser" (205 : Nat) "trim") ∈ lw_tbl := lw_at lw_m7 169 rfl
theorem q1754 : (Jvm.Cond.stringRef "HedgeMessages$Parser" (207 : Nat) "cancel") ∈ lw_tbl := lw_at lw_m7 170 rfl
theorem q1755 : (Jvm.Cond.stringRef "HedgeMessages$Parser" (209 : Nat) "work") ∈ lw_tbl := lw_at lw_m7 171 rfl
theorem q1756 : (Jvm.Cond.methodLink "HedgeMessages$Parser" (211 : Nat) ({ cls := "HedgeMessages$Parser", name := "slot", desc := "()I" } : Jvm.MethodName)) ∈ lw_all := lw_g (lw_at lw_m7 172 rfl) rfl
theorem q1757 : (Jvm.Cond.privateMethod ({ cls := "HedgeMessages$Parser", name := "slot", desc := "()I" } : Jvm.MethodName)) ∈ lw_tbl := lw_at lw_m7 173 rfl
theorem q1758 : (Jvm.Cond.instanceMethod ({ cls := "HedgeMessages$Parser", name := "slot", desc := "()I" } : Jvm.MethodName)) ∈ lw_all := lw_g (lw_at lw_m7 174 rfl) rfl
theorem q1759 : (Jvm.Cond.code ({ cls := "HedgeMessages$Parser", name := "slot", desc := "()I" } : Jvm.MethodName) prog_8_method_17_code (1 : Nat) (Option.some Jvm.ClassFile.FieldType.int)) ∈ lw_all := lw_g (lw_at lw_m7 175 rfl) rfl
theorem q1760 : (Jvm.Cond.methodLink "HedgeMessages$Parser" (214 : Nat) ({ cls := "HedgeMessages$Parser", name := "plantCommand", desc := "(I)LHedgeMessages$Operation;" } : Jvm.MethodName)) ∈ lw_all := lw_g (lw_at lw_m7 176 rfl) rfl
theorem q1761 : (Jvm.Cond.privateMethod ({ cls := "HedgeMessages$Parser", name := "plantCommand", desc := "(I)LHedgeMessages$Operation;" } : Jvm.MethodName)) ∈ lw_tbl := lw_at lw_m7 177 rfl
theorem q1762 : (Jvm.Cond.instanceMethod ({ cls := "HedgeMessages$Parser", name := "plantCommand", desc := "(I)LHedgeMessages$Operation;" } : Jvm.MethodName)) ∈ lw_all := lw_g (lw_at lw_m7 178 rfl) rfl
theorem q1763 : (Jvm.Cond.code ({ cls := "HedgeMessages$Parser", name := "plantCommand", desc := "(I)LHedgeMessages$Operation;" } : Jvm.MethodName) prog_8_method_18_code (3 : Nat) (Option.some (Jvm.ClassFile.FieldType.object "HedgeMessages$Operation"))) ∈ lw_all := lw_g (lw_at lw_m7 179 rfl) rfl
theorem q1764 : (Jvm.Cond.static ({ cls := "HedgeMessages$Parser", name := "lambda$plantCommand$0", desc := "(ICLHedgeMessages$State;)I" } : Jvm.MethodName)) ∈ lw_all := lw_g (lw_at lw_m7 180 rfl) rfl
theorem q1765 : (Jvm.Cond.code ({ cls := "HedgeMessages$Parser", name := "lambda$plantCommand$0", desc := "(ICLHedgeMessages$State;)I" } : Jvm.MethodName) prog_8_method_33_code (3 : Nat) (Option.some Jvm.ClassFile.FieldType.int)) ∈ lw_all := lw_g (lw_at lw_m7 181 rfl) rfl
theorem q1766 : (Jvm.Cond.methodLinkNest "HedgeMessages$Parser" (279 : Nat) ({ cls := "HedgeMessages", name := "applyPlant", desc := "(LHedgeMessages$State;IC)I" } : Jvm.MethodName) "HedgeMessages") ∈ lw_tbl := lw_at lw_m7 182 rfl
theorem q1794 : (Jvm.Cond.methodLink "HedgeMessages$Parser" (218 : Nat) ({ cls := "HedgeMessages$Parser", name := "removeCommand", desc := "(I)LHedgeMessages$Operation;" } : Jvm.MethodName)) ∈ lw_all := lw_g (lw_at lw_m7 210 rfl) rfl
theorem q1795 : (Jvm.Cond.privateMethod ({ cls := "HedgeMessages$Parser", name := "removeCommand", desc := "(I)LHedgeMessages$Operation;" } : Jvm.MethodName)) ∈ lw_tbl := lw_at lw_m7 211 rfl
theorem q1796 : (Jvm.Cond.instanceMethod ({ cls := "HedgeMessages$Parser", name := "removeCommand", desc := "(I)LHedgeMessages$Operation;" } : Jvm.MethodName)) ∈ lw_all := lw_g (lw_at lw_m7 212 rfl) rfl
theorem q1797 : (Jvm.Cond.code ({ cls := "HedgeMessages$Parser", name := "removeCommand", desc := "(I)LHedgeMessages$Operation;" } : Jvm.MethodName) prog_8_method_19_code (2 : Nat) (Option.some (Jvm.ClassFile.FieldType.object "HedgeMessages$Operation"))) ∈ lw_all := lw_g (lw_at lw_m7 213 rfl) rfl
theorem q1798 : (Jvm.Cond.static ({ cls := "HedgeMessages$Parser", name := "lambda$removeCommand$1", desc := "(ILHedgeMessages$State;)I" } : Jvm.MethodName)) ∈ lw_all := lw_g (lw_at lw_m7 214 rfl) rfl
theorem q1799 : (Jvm.Cond.code ({ cls := "HedgeMessages$Parser", name := "lambda$removeCommand$1", desc := "(ILHedgeMessages$State;)I" } : Jvm.MethodName) prog_8_method_32_code (2 : Nat) (Option.some Jvm.ClassFile.FieldType.int)) ∈ lw_all := lw_g (lw_at lw_m7 215 rfl) rfl
theorem q1800 : (Jvm.Cond.methodLinkNest "HedgeMessages$Parser" (276 : Nat) ({ cls := "HedgeMessages", name := "applyRemove", desc := "(LHedgeMessages$State;I)I" } : Jvm.MethodName) "HedgeMessages") ∈ lw_tbl := lw_at lw_m7 216 rfl
theorem q1814 : (Jvm.Cond.methodLink "HedgeMessages$Parser" (221 : Nat) ({ cls := "HedgeMessages$Parser", name := "trimCommand", desc := "(I)LHedgeMessages$Operation;" } : Jvm.MethodName)) ∈ lw_all := lw_g (lw_at lw_m7 230 rfl) rfl
theorem q1815 : (Jvm.Cond.privateMethod ({ cls := "HedgeMessages$Parser", name := "trimCommand", desc := "(I)LHedgeMessages$Operation;" } : Jvm.MethodName)) ∈ lw_tbl := lw_at lw_m7 231 rfl
theorem q1816 : (Jvm.Cond.instanceMethod ({ cls := "HedgeMessages$Parser", name := "trimCommand", desc := "(I)LHedgeMessages$Operation;" } : Jvm.MethodName)) ∈ lw_all := lw_g (lw_at lw_m7 232 rfl) rfl
theorem q1817 : (Jvm.Cond.code ({ cls := "HedgeMessages$Parser", name := "trimCommand", desc := "(I)LHedgeMessages$Operation;" } : Jvm.MethodName) prog_8_method_20_code (3 : Nat) (Option.some (Jvm.ClassFile.FieldType.object "HedgeMessages$Operation"))) ∈ lw_all := lw_g (lw_at lw_m7 233 rfl) rfl
theorem q1818 : (Jvm.Cond.static ({ cls := "HedgeMessages$Parser", name := "lambda$trimCommand$2", desc := "(IILHedgeMessages$State;)I" } : Jvm.MethodName)) ∈ lw_all := lw_g (lw_at lw_m7 234 rfl) rfl
theorem q1819 : (Jvm.Cond.code ({ cls := "HedgeMessages$Parser", name := "lambda$trimCommand$2", desc := "(IILHedgeMessages$State;)I" } : Jvm.MethodName) prog_8_method_31_code (3 : Nat) (Option.some Jvm.ClassFile.FieldType.int)) ∈ lw_all := lw_g (lw_at lw_m7 235 rfl) rfl
theorem q1820 : (Jvm.Cond.methodLinkNest "HedgeMessages$Parser" (273 : Nat) ({ cls := "HedgeMessages", name := "applyTrim", desc := "(LHedgeMessages$State;II)I" } : Jvm.MethodName) "HedgeMessages") ∈ lw_tbl := lw_at lw_m7 236 rfl
theorem q1826 : (Jvm.Cond.methodLink "HedgeMessages$Parser" (224 : Nat) ({ cls := "HedgeMessages$Parser", name := "nestCommand", desc := "(I)LHedgeMessages$Operation;" } : Jvm.MethodName)) ∈ lw_all := lw_g (lw_at lw_m8 2 rfl) rfl
theorem q1827 : (Jvm.Cond.privateMethod ({ cls := "HedgeMessages$Parser", name := "nestCommand", desc := "(I)LHedgeMessages$Operation;" } : Jvm.MethodName)) ∈ lw_tbl := lw_at lw_m8 3 rfl
theorem q1828 : (Jvm.Cond.instanceMethod ({ cls := "HedgeMessages$Parser", name := "nestCommand", desc := "(I)LHedgeMessages$Operation;" } : Jvm.MethodName)) ∈ lw_all := lw_g (lw_at lw_m8 4 rfl) rfl
theorem q1829 : (Jvm.Cond.code ({ cls := "HedgeMessages$Parser", name := "nestCommand", desc := "(I)LHedgeMessages$Operation;" } : Jvm.MethodName) prog_8_method_21_code (3 : Nat) (Option.some (Jvm.ClassFile.FieldType.object "HedgeMessages$Operation"))) ∈ lw_all := lw_g (lw_at lw_m8 5 rfl) rfl
theorem q1830 : (Jvm.Cond.static ({ cls := "HedgeMessages$Parser", name := "lambda$nestCommand$3", desc := "(IILHedgeMessages$State;)I" } : Jvm.MethodName)) ∈ lw_all := lw_g (lw_at lw_m8 6 rfl) rfl
theorem q1831 : (Jvm.Cond.code ({ cls := "HedgeMessages$Parser", name := "lambda$nestCommand$3", desc := "(IILHedgeMessages$State;)I" } : Jvm.MethodName) prog_8_method_30_code (3 : Nat) (Option.some Jvm.ClassFile.FieldType.int)) ∈ lw_all := lw_g (lw_at lw_m8 7 rfl) rfl
theorem q1832 : (Jvm.Cond.methodLinkNest "HedgeMessages$Parser" (270 : Nat) ({ cls := "HedgeMessages", name := "applyNest", desc := "(LHedgeMessages$State;II)I" } : Jvm.MethodName) "HedgeMessages") ∈ lw_tbl := lw_at lw_m8 8 rfl
theorem q1835 : (Jvm.Cond.methodLink "HedgeMessages$Parser" (227 : Nat) ({ cls := "HedgeMessages$Parser", name := "messageCommand", desc := "(I)LHedgeMessages$Operation;" } : Jvm.MethodName)) ∈ lw_all := lw_g (lw_at lw_m8 11 rfl) rfl
theorem q1836 : (Jvm.Cond.privateMethod ({ cls := "HedgeMessages$Parser", name := "messageCommand", desc := "(I)LHedgeMessages$Operation;" } : Jvm.MethodName)) ∈ lw_tbl := lw_at lw_m8 12 rfl
theorem q1837 : (Jvm.Cond.instanceMethod ({ cls := "HedgeMessages$Parser", name := "messageCommand", desc := "(I)LHedgeMessages$Operation;" } : Jvm.MethodName)) ∈ lw_all := lw_g (lw_at lw_m8 13 rfl) rfl
theorem q1838 : (Jvm.Cond.code ({ cls := "HedgeMessages$Parser", name := "messageCommand", desc := "(I)LHedgeMessages$Operation;" } : Jvm.MethodName) prog_8_method_22_code (3 : Nat) (Option.some (Jvm.ClassFile.FieldType.object "HedgeMessages$Operation"))) ∈ lw_all := lw_g (lw_at lw_m8 14 rfl) rfl
theorem q1839 : (Jvm.Cond.static ({ cls := "HedgeMessages$Parser", name := "lambda$messageCommand$4", desc := "(ILjava/lang/String;LHedgeMessages$State;)I" } : Jvm.MethodName)) ∈ lw_all := lw_g (lw_at lw_m8 15 rfl) rfl
theorem q1840 : (Jvm.Cond.code ({ cls := "HedgeMessages$Parser", name := "lambda$messageCommand$4", desc := "(ILjava/lang/String;LHedgeMessages$State;)I" } : Jvm.MethodName) prog_8_method_29_code (3 : Nat) (Option.some Jvm.ClassFile.FieldType.int)) ∈ lw_all := lw_g (lw_at lw_m8 16 rfl) rfl
theorem q1841 : (Jvm.Cond.methodLinkNest "HedgeMessages$Parser" (266 : Nat) ({ cls := "HedgeMessages", name := "applyQueue", desc := "(LHedgeMessages$State;ILjava/lang/String;)I" } : Jvm.MethodName) "HedgeMessages") ∈ lw_tbl := lw_at lw_m8 17 rfl
theorem q1845 : (Jvm.Cond.methodLink "HedgeMessages$Parser" (230 : Nat) ({ cls := "HedgeMessages$Parser", name := "cancelCommand", desc := "(I)LHedgeMessages$Operation;" } : Jvm.MethodName)) ∈ lw_all := lw_g (lw_at lw_m8 21 rfl) rfl
theorem q1846 : (Jvm.Cond.privateMethod ({ cls := "HedgeMessages$Parser", name := "cancelCommand", desc := "(I)LHedgeMessages$Operation;" } : Jvm.MethodName)) ∈ lw_tbl := lw_at lw_m8 22 rfl
theorem q1847 : (Jvm.Cond.instanceMethod ({ cls := "HedgeMessages$Parser", name := "cancelCommand", desc := "(I)LHedgeMessages$Operation;" } : Jvm.MethodName)) ∈ lw_all := lw_g (lw_at lw_m8 23 rfl) rfl
theorem q1848 : (Jvm.Cond.code ({ cls := "HedgeMessages$Parser", name := "cancelCommand", desc := "(I)LHedgeMessages$Operation;" } : Jvm.MethodName) prog_8_method_23_code (3 : Nat) (Option.some (Jvm.ClassFile.FieldType.object "HedgeMessages$Operation"))) ∈ lw_all := lw_g (lw_at lw_m8 24 rfl) rfl
theorem q1849 : (Jvm.Cond.static ({ cls := "HedgeMessages$Parser", name := "lambda$cancelCommand$5", desc := "(IILHedgeMessages$State;)I" } : Jvm.MethodName)) ∈ lw_all := lw_g (lw_at lw_m8 25 rfl) rfl
theorem q1850 : (Jvm.Cond.code ({ cls := "HedgeMessages$Parser", name := "lambda$cancelCommand$5", desc := "(IILHedgeMessages$State;)I" } : Jvm.MethodName) prog_8_method_28_code (3 : Nat) (Option.some Jvm.ClassFile.FieldType.int)) ∈ lw_all := lw_g (lw_at lw_m8 26 rfl) rfl
theorem q1851 : (Jvm.Cond.methodLinkNest "HedgeMessages$Parser" (262 : Nat) ({ cls := "HedgeMessages", name := "applyCancel", desc := "(LHedgeMessages$State;II)I" } : Jvm.MethodName) "HedgeMessages") ∈ lw_tbl := lw_at lw_m8 27 rfl
theorem q1872 : (Jvm.Cond.methodLink "HedgeMessages$Parser" (233 : Nat) ({ cls := "HedgeMessages$Parser", name := "workCommand", desc := "(I)LHedgeMessages$Operation;" } : Jvm.MethodName)) ∈ lw_all := lw_g (lw_at lw_m8 48 rfl) rfl
theorem q1873 : (Jvm.Cond.privateMethod ({ cls := "HedgeMessages$Parser", name := "workCommand", desc := "(I)LHedgeMessages$Operation;" } : Jvm.MethodName)) ∈ lw_tbl := lw_at lw_m8 49 rfl
theorem q1874 : (Jvm.Cond.instanceMethod ({ cls := "HedgeMessages$Parser", name := "workCommand", desc := "(I)LHedgeMessages$Operation;" } : Jvm.MethodName)) ∈ lw_all := lw_g (lw_at lw_m8 50 rfl) rfl
theorem q1875 : (Jvm.Cond.code ({ cls := "HedgeMessages$Parser", name := "workCommand", desc := "(I)LHedgeMessages$Operation;" } : Jvm.MethodName) prog_8_method_24_code (2 : Nat) (Option.some (Jvm.ClassFile.FieldType.object "HedgeMessages$Operation"))) ∈ lw_all := lw_g (lw_at lw_m8 51 rfl) rfl
theorem q1876 : (Jvm.Cond.static ({ cls := "HedgeMessages$Parser", name := "lambda$workCommand$6", desc := "(ILHedgeMessages$State;)I" } : Jvm.MethodName)) ∈ lw_all := lw_g (lw_at lw_m8 52 rfl) rfl
theorem q1877 : (Jvm.Cond.code ({ cls := "HedgeMessages$Parser", name := "lambda$workCommand$6", desc := "(ILHedgeMessages$State;)I" } : Jvm.MethodName) prog_8_method_27_code (2 : Nat) (Option.some Jvm.ClassFile.FieldType.int)) ∈ lw_all := lw_g (lw_at lw_m8 53 rfl) rfl
theorem q1878 : (Jvm.Cond.methodLinkNest "HedgeMessages$Parser" (259 : Nat) ({ cls := "HedgeMessages", name := "applyWorkLimit", desc := "(LHedgeMessages$State;I)I" } : Jvm.MethodName) "HedgeMessages") ∈ lw_tbl := lw_at lw_m8 54 rfl
theorem q1881 : (Jvm.Cond.methodLink "HedgeMessages$Parser" (236 : Nat) ({ cls := "HedgeMessages$Parser", name := "endCommand", desc := "(I)LHedgeMessages$Operation;" } : Jvm.MethodName)) ∈ lw_all := lw_g (lw_at lw_m8 57 rfl) rfl
theorem q1882 : (Jvm.Cond.privateMethod ({ cls := "HedgeMessages$Parser", name := "endCommand", desc := "(I)LHedgeMessages$Operation;" } : Jvm.MethodName)) ∈ lw_tbl := lw_at lw_m8 58 rfl
theorem q1883 : (Jvm.Cond.instanceMethod ({ cls := "HedgeMessages$Parser", name := "endCommand", desc := "(I)LHedgeMessages$Operation;" } : Jvm.MethodName)) ∈ lw_all := lw_g (lw_at lw_m8 59 rfl) rfl
theorem q1884 : (Jvm.Cond.code ({ cls := "HedgeMessages$Parser", name := "endCommand", desc := "(I)LHedgeMessages$Operation;" } : Jvm.MethodName) prog_8_method_25_code (2 : Nat) (Option.some (Jvm.ClassFile.FieldType.object "HedgeMessages$Operation"))) ∈ lw_all := lw_g (lw_at lw_m8 60 rfl) rfl
theorem q1885 : (Jvm.Cond.static ({ cls := "HedgeMessages$Parser", name := "lambda$endCommand$7", desc := "(ILHedgeMessages$State;)I" } : Jvm.MethodName)) ∈ lw_all := lw_g (lw_at lw_m8 61 rfl) rfl
theorem q1886 : (Jvm.Cond.code ({ cls := "HedgeMessages$Parser", name := "lambda$endCommand$7", desc := "(ILHedgeMessages$State;)I" } : Jvm.MethodName) prog_8_method_26_code (2 : Nat) (Option.some Jvm.ClassFile.FieldType.int)) ∈ lw_all := lw_g (lw_at lw_m8 62 rfl) rfl
theorem q1887 : (Jvm.Cond.methodLinkNest "HedgeMessages$Parser" (255 : Nat) ({ cls := "HedgeMessages", name := "applyEndDays", desc := "(LHedgeMessages$State;I)I" } : Jvm.MethodName) "HedgeMessages") ∈ lw_tbl := lw_at lw_m8 63 rfl
theorem q3141 : (Jvm.Cond.castable "HedgeMessages$Parser" "java/lang/Object") ∈ lw_tbl := lw_at lw_m13 117 rfl
theorem in_X7 : ∀ w ∈ wsX70, w ∈ lw_all := lw_in wsX70 [1534, 1536, 1538, 1540, 1542, 1544, 1546] (by decide +kernel) (by decide +kernel)

/-! HedgeMessages$ParseError -/
set_option maxRecDepth 100000
def RX8 : String := "HedgeMessages$ParseError"
def TX8 : u_T := fun k => match k with
  | 0 => ("java/lang/Throwable", "cause", "Ljava/lang/Throwable;", false)
  | 1 => ("java/lang/Throwable", "stackTrace", "[Ljava/lang/StackTraceElement;", false)
  | 2 => ("java/lang/Throwable", "suppressedExceptions", "Ljava/util/List;", false)
  | 3 => ("java/lang/Throwable", "detailMessage", "Ljava/lang/String;", false)
  | 4 => ("java/lang/Throwable", "backtrace", "Ljava/lang/Object;", false)
  | 5 => ("java/lang/Throwable", "depth", "I", false)
  | 6 => ("HedgeMessages$ParseError", "code", "I", true)
  | _ => ("HedgeMessages$ParseError", "position", "I", true)
def tyX8 : Nat → FieldType := fun k => match k with
  | 0 => .object "java/lang/Throwable"
  | 1 => .array (.object "java/lang/StackTraceElement")
  | 2 => .object "java/util/List"
  | 3 => .object "java/lang/String"
  | 4 => .object "java/lang/Object"
  | 5 => .int
  | 6 => .int
  | _ => .int
abbrev wsX80 : List Cond := u_ws RX8 TX8 8
theorem nmX8 : ∀ a, a < 8 → ∀ b, b < 8 → a ≠ b → (TX8 a).2.1 ≠ (TX8 b).2.1 := by decide +kernel
theorem tyX8_ok : ∀ k, k < 8 → parseFieldDescriptor (TX8 k).2.2.1 = some (tyX8 k) := by decide +kernel
abbrev cX8_init : ByteArray := prog_7_method_1_code
def yX8_init : MethodName := ⟨RX8, "<init>", "(II)V"⟩
def dkwX8_init_0 : List UInt8 := [42, 1, 1, 3, 3, 183, 0, 1, 42, 27, 181, 0, 7, 42, 28, 181, 0, 13, 177]
abbrev dktX8_init_0 : List UInt8 := dkwX8_init_0 ++ []
theorem dksX8_init_0 : cX8_init.data.toList.drop 0 = dktX8_init_0 := by decide +kernel
theorem dX8_init_0 : decode cX8_init 0 = .ok (.aload_n 0, 1) := dk_42 (dk_at dksX8_init_0 0 rfl rfl)
theorem dX8_init_1 : decode cX8_init 1 = .ok (.aconst_null, 1) := dk_1 (dk_at dksX8_init_0 1 rfl rfl)
theorem dX8_init_2 : decode cX8_init 2 = .ok (.aconst_null, 1) := dk_1 (dk_at dksX8_init_0 2 rfl rfl)
theorem dX8_init_3 : decode cX8_init 3 = .ok (.iconst 0, 1) := dk_3 (dk_at dksX8_init_0 3 rfl rfl)
theorem dX8_init_4 : decode cX8_init 4 = .ok (.iconst 0, 1) := dk_3 (dk_at dksX8_init_0 4 rfl rfl)
theorem dX8_init_5 : decode cX8_init 5 = .ok (.invokespecial 1, 3) := dk_183 0 1 (dk_at dksX8_init_0 5 rfl rfl)
theorem dX8_init_8 : decode cX8_init 8 = .ok (.aload_n 0, 1) := dk_42 (dk_at dksX8_init_0 8 rfl rfl)
theorem dX8_init_9 : decode cX8_init 9 = .ok (.iload_n 1, 1) := dk_27 (dk_at dksX8_init_0 9 rfl rfl)
theorem dX8_init_10 : decode cX8_init 10 = .ok (.putfield 7, 3) := dk_181 0 7 (dk_at dksX8_init_0 10 rfl rfl)
theorem dX8_init_13 : decode cX8_init 13 = .ok (.aload_n 0, 1) := dk_42 (dk_at dksX8_init_0 13 rfl rfl)
theorem dX8_init_14 : decode cX8_init 14 = .ok (.iload_n 2, 1) := dk_28 (dk_at dksX8_init_0 14 rfl rfl)
theorem dX8_init_15 : decode cX8_init 15 = .ok (.putfield 13, 3) := dk_181 0 13 (dk_at dksX8_init_0 15 rfl rfl)
theorem dX8_init_18 : decode cX8_init 18 = .ok (.return_, 1) := dk_177 (dk_at dksX8_init_0 18 rfl rfl)
theorem q177 : (Jvm.Cond.initialized "HedgeMessages$ParseError") ∈ lw_all := lw_g (lw_at lw_m1 33 rfl) rfl
theorem q285 : (Jvm.Cond.selects "HedgeMessages$ParseError" ({ cls := "java/lang/Throwable", name := "fillInStackTrace", desc := "()Ljava/lang/Throwable;" } : Jvm.MethodName) ({ cls := "java/lang/Throwable", name := "fillInStackTrace", desc := "()Ljava/lang/Throwable;" } : Jvm.MethodName)) ∈ lw_all := lw_g (lw_at lw_m1 141 rfl) rfl
theorem q626 : (Jvm.Cond.selects "HedgeMessages$ParseError" ({ cls := "java/lang/Object", name := "getClass", desc := "()Ljava/lang/Class;" } : Jvm.MethodName) ({ cls := "java/lang/Object", name := "getClass", desc := "()Ljava/lang/Class;" } : Jvm.MethodName)) ∈ lw_all := lw_g (lw_at lw_m3 2 rfl) rfl
theorem q1567 : (Jvm.Cond.instantiable "HedgeMessages$ParseError" (8 : Nat)) ∈ lw_all := lw_g (lw_at lw_m6 223 rfl) rfl
theorem q1568 : (Jvm.Cond.castable "HedgeMessages$ParseError" "HedgeMessages$ParseError") ∈ lw_tbl := lw_at lw_m6 224 rfl
theorem q1569 : (Jvm.Cond.selects "HedgeMessages$ParseError" ({ cls := "java/lang/Throwable", name := "fillInStackTrace", desc := "(I)Ljava/lang/Throwable;" } : Jvm.MethodName) ({ cls := "java/lang/Throwable", name := "fillInStackTrace", desc := "(I)Ljava/lang/Throwable;" } : Jvm.MethodName)) ∈ lw_all := lw_g (lw_at lw_m6 225 rfl) rfl
theorem q1570 : (Jvm.Cond.lays "HedgeMessages$ParseError" "java/lang/Throwable" "cause" "Ljava/lang/Throwable;") ∈ lw_all := lw_g (lw_at lw_m6 226 rfl) rfl
theorem q1571 : (Jvm.Cond.lays "HedgeMessages$ParseError" "java/lang/Throwable" "stackTrace" "[Ljava/lang/StackTraceElement;") ∈ lw_all := lw_g (lw_at lw_m6 227 rfl) rfl
theorem q1572 : (Jvm.Cond.lays "HedgeMessages$ParseError" "java/lang/Throwable" "suppressedExceptions" "Ljava/util/List;") ∈ lw_all := lw_g (lw_at lw_m6 228 rfl) rfl
theorem q1573 : (Jvm.Cond.lays "HedgeMessages$ParseError" "java/lang/Throwable" "detailMessage" "Ljava/lang/String;") ∈ lw_all := lw_g (lw_at lw_m6 229 rfl) rfl
theorem q1574 : (Jvm.Cond.lays "HedgeMessages$ParseError" "java/lang/Throwable" "backtrace" "Ljava/lang/Object;") ∈ lw_all := lw_g (lw_at lw_m6 230 rfl) rfl
theorem q1576 : (Jvm.Cond.instanceMethod ({ cls := "HedgeMessages$ParseError", name := "<init>", desc := "(II)V" } : Jvm.MethodName)) ∈ lw_all := lw_g (lw_at lw_m6 232 rfl) rfl
theorem q1577 : (Jvm.Cond.code ({ cls := "HedgeMessages$ParseError", name := "<init>", desc := "(II)V" } : Jvm.MethodName) prog_7_method_1_code (3 : Nat) (Option.none : Option Jvm.ClassFile.FieldType)) ∈ lw_all := lw_g (lw_at lw_m6 233 rfl) rfl
theorem q1578 : (Jvm.Cond.methodLink "HedgeMessages$ParseError" (1 : Nat) ({ cls := "java/lang/Exception", name := "<init>", desc := "(Ljava/lang/String;Ljava/lang/Throwable;ZZ)V" } : Jvm.MethodName)) ∈ lw_all := lw_g (lw_at lw_m6 234 rfl) rfl
theorem q1584 : (Jvm.Cond.fieldLink "HedgeMessages$ParseError" (7 : Nat) "HedgeMessages$ParseError" "code" "I") ∈ lw_all := lw_g (lw_at lw_m7 0 rfl) rfl
theorem q1586 : (Jvm.Cond.fieldLink "HedgeMessages$ParseError" (13 : Nat) "HedgeMessages$ParseError" "position" "I") ∈ lw_all := lw_g (lw_at lw_m7 2 rfl) rfl
theorem q1588 : (Jvm.Cond.laysFinal "HedgeMessages$ParseError" "HedgeMessages$ParseError" "code" "I") ∈ lw_all := lw_g (lw_at lw_m7 4 rfl) rfl
theorem q1589 : (Jvm.Cond.soleField "HedgeMessages$ParseError" "code") ∈ lw_all := lw_g (lw_at lw_m7 5 rfl) rfl
theorem q1590 : (Jvm.Cond.laysFinal "HedgeMessages$ParseError" "HedgeMessages$ParseError" "position" "I") ∈ lw_all := lw_g (lw_at lw_m7 6 rfl) rfl
theorem q1591 : (Jvm.Cond.soleField "HedgeMessages$ParseError" "position") ∈ lw_all := lw_g (lw_at lw_m7 7 rfl) rfl
theorem q1592 : (Jvm.Cond.lays "HedgeMessages$ParseError" "java/lang/Throwable" "depth" "I") ∈ lw_all := lw_g (lw_at lw_m7 8 rfl) rfl
theorem q1593 : (Jvm.Cond.superclass "HedgeMessages$ParseError" "java/lang/Exception") ∈ lw_all := lw_g (lw_at lw_m7 9 rfl) rfl
theorem q3143 : (Jvm.Cond.castable "HedgeMessages$ParseError" "java/lang/Object") ∈ lw_tbl := lw_at lw_m13 119 rfl
theorem in_X8 : ∀ w ∈ wsX80, w ∈ lw_all := lw_in wsX80 [1570, 1571, 1572, 1573, 1574, 1592, 1588, 1590] (by decide +kernel) (by decide +kernel)

/-! HedgeMessages$State$1 -/
set_option maxRecDepth 100000
def RX9 : String := "HedgeMessages$State$1"
def TX9 : u_T := fun k => match k with
  | _ => ("HedgeMessages$State$1", "this$0", "LHedgeMessages$State;", true)
def tyX9 : Nat → FieldType := fun k => match k with
  | _ => .object "HedgeMessages$State"
abbrev wsX90 : List Cond := u_ws RX9 TX9 1
theorem nmX9 : ∀ a, a < 1 → ∀ b, b < 1 → a ≠ b → (TX9 a).2.1 ≠ (TX9 b).2.1 := by decide +kernel
theorem tyX9_ok : ∀ k, k < 1 → parseFieldDescriptor (TX9 k).2.2.1 = some (tyX9 k) := by decide +kernel
abbrev cX9_init : ByteArray := prog_10_method_1_code
def yX9_init : MethodName := ⟨RX9, "<init>", "(LHedgeMessages$State;)V"⟩
def dkwX9_init_0 : List UInt8 := [42, 43, 181, 0, 1, 42, 183, 0, 7, 177]
abbrev dktX9_init_0 : List UInt8 := dkwX9_init_0 ++ []
theorem dksX9_init_0 : cX9_init.data.toList.drop 0 = dktX9_init_0 := by decide +kernel
theorem dX9_init_0 : decode cX9_init 0 = .ok (.aload_n 0, 1) := dk_42 (dk_at dksX9_init_0 0 rfl rfl)
theorem dX9_init_1 : decode cX9_init 1 = .ok (.aload_n 1, 1) := dk_43 (dk_at dksX9_init_0 1 rfl rfl)
theorem dX9_init_2 : decode cX9_init 2 = .ok (.putfield 1, 3) := dk_181 0 1 (dk_at dksX9_init_0 2 rfl rfl)
theorem dX9_init_5 : decode cX9_init 5 = .ok (.aload_n 0, 1) := dk_42 (dk_at dksX9_init_0 5 rfl rfl)
theorem dX9_init_6 : decode cX9_init 6 = .ok (.invokespecial 7, 3) := dk_183 0 7 (dk_at dksX9_init_0 6 rfl rfl)
theorem dX9_init_9 : decode cX9_init 9 = .ok (.return_, 1) := dk_177 (dk_at dksX9_init_0 9 rfl rfl)
abbrev cX9_iterator : ByteArray := prog_10_method_2_code
def yX9_iterator : MethodName := ⟨RX9, "iterator", "()Ljava/util/Iterator;"⟩
def dkwX9_iterator_0 : List UInt8 := [187, 0, 13, 89, 42, 180, 0, 1, 180, 0, 15, 183, 0, 21, 176]
abbrev dktX9_iterator_0 : List UInt8 := dkwX9_iterator_0 ++ []
theorem dksX9_iterator_0 : cX9_iterator.data.toList.drop 0 = dktX9_iterator_0 := by decide +kernel
theorem dX9_iterator_0 : decode cX9_iterator 0 = .ok (.new 13, 3) := dk_187 0 13 (dk_at dksX9_iterator_0 0 rfl rfl)
theorem dX9_iterator_3 : decode cX9_iterator 3 = .ok (.dup, 1) := dk_89 (dk_at dksX9_iterator_0 3 rfl rfl)
theorem dX9_iterator_4 : decode cX9_iterator 4 = .ok (.aload_n 0, 1) := dk_42 (dk_at dksX9_iterator_0 4 rfl rfl)
theorem dX9_iterator_5 : decode cX9_iterator 5 = .ok (.getfield 1, 3) := dk_180 0 1 (dk_at dksX9_iterator_0 5 rfl rfl)
theorem dX9_iterator_8 : decode cX9_iterator 8 = .ok (.getfield 15, 3) := dk_180 0 15 (dk_at dksX9_iterator_0 8 rfl rfl)
theorem dX9_iterator_11 : decode cX9_iterator 11 = .ok (.invokespecial 21, 3) := dk_183 0 21 (dk_at dksX9_iterator_0 11 rfl rfl)
theorem dX9_iterator_14 : decode cX9_iterator 14 = .ok (.areturn, 1) := dk_176 (dk_at dksX9_iterator_0 14 rfl rfl)
theorem q179 : (Jvm.Cond.initialized "HedgeMessages$State$1") ∈ lw_all := lw_g (lw_at lw_m1 35 rfl) rfl
theorem q629 : (Jvm.Cond.selects "HedgeMessages$State$1" ({ cls := "java/lang/Object", name := "getClass", desc := "()Ljava/lang/Class;" } : Jvm.MethodName) ({ cls := "java/lang/Object", name := "getClass", desc := "()Ljava/lang/Class;" } : Jvm.MethodName)) ∈ lw_all := lw_g (lw_at lw_m3 5 rfl) rfl
theorem q660 : (Jvm.Cond.fieldLinkNest "HedgeMessages$State$1" (15 : Nat) "HedgeMessages$State" "twigs" "[LHedgeMessages$Twig;" "HedgeMessages") ∈ lw_tbl := lw_at lw_m3 36 rfl
theorem q960 : (Jvm.Cond.instantiable "HedgeMessages$State$1" (1 : Nat)) ∈ lw_all := lw_g (lw_at lw_m4 96 rfl) rfl
theorem q962 : (Jvm.Cond.instanceMethod ({ cls := "HedgeMessages$State$1", name := "<init>", desc := "(LHedgeMessages$State;)V" } : Jvm.MethodName)) ∈ lw_all := lw_g (lw_at lw_m4 98 rfl) rfl
theorem q963 : (Jvm.Cond.code ({ cls := "HedgeMessages$State$1", name := "<init>", desc := "(LHedgeMessages$State;)V" } : Jvm.MethodName) prog_10_method_1_code (2 : Nat) (Option.none : Option Jvm.ClassFile.FieldType)) ∈ lw_all := lw_g (lw_at lw_m4 99 rfl) rfl
theorem q964 : (Jvm.Cond.methodLink "HedgeMessages$State$1" (7 : Nat) ({ cls := "java/lang/Object", name := "<init>", desc := "()V" } : Jvm.MethodName)) ∈ lw_all := lw_g (lw_at lw_m4 100 rfl) rfl
theorem q965 : (Jvm.Cond.fieldLink "HedgeMessages$State$1" (1 : Nat) "HedgeMessages$State$1" "this$0" "LHedgeMessages$State;") ∈ lw_all := lw_g (lw_at lw_m4 101 rfl) rfl
theorem q966 : (Jvm.Cond.laysFinal "HedgeMessages$State$1" "HedgeMessages$State$1" "this$0" "LHedgeMessages$State;") ∈ lw_all := lw_g (lw_at lw_m4 102 rfl) rfl
theorem q967 : (Jvm.Cond.soleField "HedgeMessages$State$1" "this$0") ∈ lw_all := lw_g (lw_at lw_m4 103 rfl) rfl
theorem q968 : (Jvm.Cond.superclass "HedgeMessages$State$1" "java/lang/Object") ∈ lw_all := lw_g (lw_at lw_m4 104 rfl) rfl
theorem q973 : (Jvm.Cond.castable "HedgeMessages$State$1" "java/lang/Iterable") ∈ lw_tbl := lw_at lw_m4 109 rfl
theorem q974 : (Jvm.Cond.selects "HedgeMessages$State$1" ({ cls := "java/lang/Iterable", name := "iterator", desc := "()Ljava/util/Iterator;" } : Jvm.MethodName) ({ cls := "HedgeMessages$State$1", name := "iterator", desc := "()Ljava/util/Iterator;" } : Jvm.MethodName)) ∈ lw_all := lw_g (lw_at lw_m4 110 rfl) rfl
theorem q975 : (Jvm.Cond.unhidden "HedgeMessages$State$1" "iterator" "()Ljava/util/Iterator;") ∈ lw_tbl := lw_at lw_m4 111 rfl
theorem q976 : (Jvm.Cond.instanceMethod ({ cls := "HedgeMessages$State$1", name := "iterator", desc := "()Ljava/util/Iterator;" } : Jvm.MethodName)) ∈ lw_all := lw_g (lw_at lw_m4 112 rfl) rfl
theorem q977 : (Jvm.Cond.publicMethod ({ cls := "HedgeMessages$State$1", name := "iterator", desc := "()Ljava/util/Iterator;" } : Jvm.MethodName)) ∈ lw_tbl := lw_at lw_m4 113 rfl
theorem q978 : (Jvm.Cond.code ({ cls := "HedgeMessages$State$1", name := "iterator", desc := "()Ljava/util/Iterator;" } : Jvm.MethodName) prog_10_method_2_code (1 : Nat) (Option.some (Jvm.ClassFile.FieldType.object "java/util/Iterator"))) ∈ lw_all := lw_g (lw_at lw_m4 114 rfl) rfl
theorem q979 : (Jvm.Cond.classLink "HedgeMessages$State$1" (13 : Nat) "HedgeMessages$OccupiedSlots") ∈ lw_all := lw_g (lw_at lw_m4 115 rfl) rfl
theorem q981 : (Jvm.Cond.methodLink "HedgeMessages$State$1" (21 : Nat) ({ cls := "HedgeMessages$OccupiedSlots", name := "<init>", desc := "([LHedgeMessages$Twig;)V" } : Jvm.MethodName)) ∈ lw_all := lw_g (lw_at lw_m4 117 rfl) rfl
theorem q3146 : (Jvm.Cond.castable "HedgeMessages$State$1" "java/lang/Object") ∈ lw_tbl := lw_at lw_m13 122 rfl
theorem in_X9 : ∀ w ∈ wsX90, w ∈ lw_all := lw_in wsX90 [966] (by decide +kernel) (by decide +kernel)

/-! HedgeMessages$OccupiedSlots -/
set_option maxRecDepth 100000
def RX10 : String := "HedgeMessages$OccupiedSlots"
def TX10 : u_T := fun k => match k with
  | 0 => ("HedgeMessages$OccupiedSlots", "twigs", "[LHedgeMessages$Twig;", true)
  | _ => ("HedgeMessages$OccupiedSlots", "next", "I", false)
def tyX10 : Nat → FieldType := fun k => match k with
  | 0 => .array (.object "HedgeMessages$Twig")
  | _ => .int
abbrev wsX100 : List Cond := u_ws RX10 TX10 2
theorem nmX10 : ∀ a, a < 2 → ∀ b, b < 2 → a ≠ b → (TX10 a).2.1 ≠ (TX10 b).2.1 := by decide +kernel
theorem tyX10_ok : ∀ k, k < 2 → parseFieldDescriptor (TX10 k).2.2.1 = some (tyX10 k) := by decide +kernel
abbrev cX10_init : ByteArray := prog_5_method_1_code
def yX10_init : MethodName := ⟨RX10, "<init>", "([LHedgeMessages$Twig;)V"⟩
def dkwX10_init_0 : List UInt8 := [42, 183, 0, 1, 42, 43, 181, 0, 7, 42, 182, 0, 13, 177]
abbrev dktX10_init_0 : List UInt8 := dkwX10_init_0 ++ []
theorem dksX10_init_0 : cX10_init.data.toList.drop 0 = dktX10_init_0 := by decide +kernel
theorem dX10_init_0 : decode cX10_init 0 = .ok (.aload_n 0, 1) := dk_42 (dk_at dksX10_init_0 0 rfl rfl)
theorem dX10_init_1 : decode cX10_init 1 = .ok (.invokespecial 1, 3) := dk_183 0 1 (dk_at dksX10_init_0 1 rfl rfl)
theorem dX10_init_4 : decode cX10_init 4 = .ok (.aload_n 0, 1) := dk_42 (dk_at dksX10_init_0 4 rfl rfl)
theorem dX10_init_5 : decode cX10_init 5 = .ok (.aload_n 1, 1) := dk_43 (dk_at dksX10_init_0 5 rfl rfl)
theorem dX10_init_6 : decode cX10_init 6 = .ok (.putfield 7, 3) := dk_181 0 7 (dk_at dksX10_init_0 6 rfl rfl)
theorem dX10_init_9 : decode cX10_init 9 = .ok (.aload_n 0, 1) := dk_42 (dk_at dksX10_init_0 9 rfl rfl)
theorem dX10_init_10 : decode cX10_init 10 = .ok (.invokevirtual 13, 3) := dk_182 0 13 (dk_at dksX10_init_0 10 rfl rfl)
theorem dX10_init_13 : decode cX10_init 13 = .ok (.return_, 1) := dk_177 (dk_at dksX10_init_0 13 rfl rfl)
abbrev cX10_skip : ByteArray := prog_5_method_2_code
def yX10_skip : MethodName := ⟨RX10, "skip", "()V"⟩
def dkwX10_skip_1 : List UInt8 := [42, 89, 180, 0, 16, 4, 96, 181, 0, 16, 167, 255, 222, 177]
abbrev dktX10_skip_1 : List UInt8 := dkwX10_skip_1 ++ []
def dkwX10_skip_0 : List UInt8 := [42, 180, 0, 16, 42, 180, 0, 7, 190, 162, 0, 28, 42, 180, 0, 7, 42, 180, 0, 16, 50, 199, 0, 16]
abbrev dktX10_skip_0 : List UInt8 := dkwX10_skip_0 ++ dktX10_skip_1
theorem dksX10_skip_0 : cX10_skip.data.toList.drop 0 = dktX10_skip_0 := by decide +kernel
theorem dksX10_skip_1 : cX10_skip.data.toList.drop 24 = dktX10_skip_1 := dk_seg dksX10_skip_0 24 rfl rfl
theorem dX10_skip_0 : decode cX10_skip 0 = .ok (.aload_n 0, 1) := dk_42 (dk_at dksX10_skip_0 0 rfl rfl)
theorem dX10_skip_1 : decode cX10_skip 1 = .ok (.getfield 16, 3) := dk_180 0 16 (dk_at dksX10_skip_0 1 rfl rfl)
theorem dX10_skip_4 : decode cX10_skip 4 = .ok (.aload_n 0, 1) := dk_42 (dk_at dksX10_skip_0 4 rfl rfl)
theorem dX10_skip_5 : decode cX10_skip 5 = .ok (.getfield 7, 3) := dk_180 0 7 (dk_at dksX10_skip_0 5 rfl rfl)
theorem dX10_skip_8 : decode cX10_skip 8 = .ok (.arraylength, 1) := dk_190 (dk_at dksX10_skip_0 8 rfl rfl)
theorem dX10_skip_9 : decode cX10_skip 9 = .ok (.if_icmp .ge 28, 3) := dk_162 0 28 (dk_at dksX10_skip_0 9 rfl rfl)
theorem dX10_skip_12 : decode cX10_skip 12 = .ok (.aload_n 0, 1) := dk_42 (dk_at dksX10_skip_0 12 rfl rfl)
theorem dX10_skip_13 : decode cX10_skip 13 = .ok (.getfield 7, 3) := dk_180 0 7 (dk_at dksX10_skip_0 13 rfl rfl)
theorem dX10_skip_16 : decode cX10_skip 16 = .ok (.aload_n 0, 1) := dk_42 (dk_at dksX10_skip_0 16 rfl rfl)
theorem dX10_skip_17 : decode cX10_skip 17 = .ok (.getfield 16, 3) := dk_180 0 16 (dk_at dksX10_skip_0 17 rfl rfl)
theorem dX10_skip_20 : decode cX10_skip 20 = .ok (.aaload, 1) := dk_50 (dk_at dksX10_skip_0 20 rfl rfl)
theorem dX10_skip_21 : decode cX10_skip 21 = .ok (.ifnonnull 16, 3) := dk_199 0 16 (dk_at dksX10_skip_0 21 rfl rfl)
theorem dX10_skip_24 : decode cX10_skip 24 = .ok (.aload_n 0, 1) := dk_42 (dk_at dksX10_skip_1 0 rfl rfl)
theorem dX10_skip_25 : decode cX10_skip 25 = .ok (.dup, 1) := dk_89 (dk_at dksX10_skip_1 1 rfl rfl)
theorem dX10_skip_26 : decode cX10_skip 26 = .ok (.getfield 16, 3) := dk_180 0 16 (dk_at dksX10_skip_1 2 rfl rfl)
theorem dX10_skip_29 : decode cX10_skip 29 = .ok (.iconst 1, 1) := dk_4 (dk_at dksX10_skip_1 5 rfl rfl)
theorem dX10_skip_30 : decode cX10_skip 30 = .ok (.iadd, 1) := dk_96 (dk_at dksX10_skip_1 6 rfl rfl)
theorem dX10_skip_31 : decode cX10_skip 31 = .ok (.putfield 16, 3) := dk_181 0 16 (dk_at dksX10_skip_1 7 rfl rfl)
theorem dX10_skip_34 : decode cX10_skip 34 = .ok (.goto (-34), 3) := dk_167 255 222 (dk_at dksX10_skip_1 10 rfl rfl)
theorem dX10_skip_37 : decode cX10_skip 37 = .ok (.return_, 1) := dk_177 (dk_at dksX10_skip_1 13 rfl rfl)
abbrev cX10_hasNext : ByteArray := prog_5_method_3_code
def yX10_hasNext : MethodName := ⟨RX10, "hasNext", "()Z"⟩
def dkwX10_hasNext_0 : List UInt8 := [42, 180, 0, 16, 42, 180, 0, 7, 190, 162, 0, 7, 4, 167, 0, 4, 3, 172]
abbrev dktX10_hasNext_0 : List UInt8 := dkwX10_hasNext_0 ++ []
theorem dksX10_hasNext_0 : cX10_hasNext.data.toList.drop 0 = dktX10_hasNext_0 := by decide +kernel
theorem dX10_hasNext_0 : decode cX10_hasNext 0 = .ok (.aload_n 0, 1) := dk_42 (dk_at dksX10_hasNext_0 0 rfl rfl)
theorem dX10_hasNext_1 : decode cX10_hasNext 1 = .ok (.getfield 16, 3) := dk_180 0 16 (dk_at dksX10_hasNext_0 1 rfl rfl)
theorem dX10_hasNext_4 : decode cX10_hasNext 4 = .ok (.aload_n 0, 1) := dk_42 (dk_at dksX10_hasNext_0 4 rfl rfl)
theorem dX10_hasNext_5 : decode cX10_hasNext 5 = .ok (.getfield 7, 3) := dk_180 0 7 (dk_at dksX10_hasNext_0 5 rfl rfl)
theorem dX10_hasNext_8 : decode cX10_hasNext 8 = .ok (.arraylength, 1) := dk_190 (dk_at dksX10_hasNext_0 8 rfl rfl)
theorem dX10_hasNext_9 : decode cX10_hasNext 9 = .ok (.if_icmp .ge 7, 3) := dk_162 0 7 (dk_at dksX10_hasNext_0 9 rfl rfl)
theorem dX10_hasNext_12 : decode cX10_hasNext 12 = .ok (.iconst 1, 1) := dk_4 (dk_at dksX10_hasNext_0 12 rfl rfl)
theorem dX10_hasNext_13 : decode cX10_hasNext 13 = .ok (.goto 4, 3) := dk_167 0 4 (dk_at dksX10_hasNext_0 13 rfl rfl)
theorem dX10_hasNext_16 : decode cX10_hasNext 16 = .ok (.iconst 0, 1) := dk_3 (dk_at dksX10_hasNext_0 16 rfl rfl)
theorem dX10_hasNext_17 : decode cX10_hasNext 17 = .ok (.ireturn, 1) := dk_172 (dk_at dksX10_hasNext_0 17 rfl rfl)
abbrev cX10_next : ByteArray := prog_5_method_5_code
def yX10_next : MethodName := ⟨RX10, "next", "()Ljava/lang/Object;"⟩
theorem dX10_next_0 : decode cX10_next 0 = .ok (.aload_n 0, 1) := by decide +kernel
theorem dX10_next_1 : decode cX10_next 1 = .ok (.invokevirtual 26, 3) := by decide +kernel
theorem dX10_next_4 : decode cX10_next 4 = .ok (.areturn, 1) := by decide +kernel
abbrev cX10_next_2 : ByteArray := prog_5_method_4_code
def yX10_next_2 : MethodName := ⟨RX10, "next", "()Ljava/lang/Integer;"⟩
def dkwX10_next_2_0 : List UInt8 := [42, 180, 0, 16, 60, 42, 89, 180, 0, 16, 4, 96, 181, 0, 16, 42, 182, 0, 13, 27, 184, 0, 20, 176]
abbrev dktX10_next_2_0 : List UInt8 := dkwX10_next_2_0 ++ []
theorem dksX10_next_2_0 : cX10_next_2.data.toList.drop 0 = dktX10_next_2_0 := by decide +kernel
theorem dX10_next_2_0 : decode cX10_next_2 0 = .ok (.aload_n 0, 1) := dk_42 (dk_at dksX10_next_2_0 0 rfl rfl)
theorem dX10_next_2_1 : decode cX10_next_2 1 = .ok (.getfield 16, 3) := dk_180 0 16 (dk_at dksX10_next_2_0 1 rfl rfl)
theorem dX10_next_2_4 : decode cX10_next_2 4 = .ok (.istore_n 1, 1) := dk_60 (dk_at dksX10_next_2_0 4 rfl rfl)
theorem dX10_next_2_5 : decode cX10_next_2 5 = .ok (.aload_n 0, 1) := dk_42 (dk_at dksX10_next_2_0 5 rfl rfl)
theorem dX10_next_2_6 : decode cX10_next_2 6 = .ok (.dup, 1) := dk_89 (dk_at dksX10_next_2_0 6 rfl rfl)
theorem dX10_next_2_7 : decode cX10_next_2 7 = .ok (.getfield 16, 3) := dk_180 0 16 (dk_at dksX10_next_2_0 7 rfl rfl)
theorem dX10_next_2_10 : decode cX10_next_2 10 = .ok (.iconst 1, 1) := dk_4 (dk_at dksX10_next_2_0 10 rfl rfl)
theorem dX10_next_2_11 : decode cX10_next_2 11 = .ok (.iadd, 1) := dk_96 (dk_at dksX10_next_2_0 11 rfl rfl)
theorem dX10_next_2_12 : decode cX10_next_2 12 = .ok (.putfield 16, 3) := dk_181 0 16 (dk_at dksX10_next_2_0 12 rfl rfl)
theorem dX10_next_2_15 : decode cX10_next_2 15 = .ok (.aload_n 0, 1) := dk_42 (dk_at dksX10_next_2_0 15 rfl rfl)
theorem dX10_next_2_16 : decode cX10_next_2 16 = .ok (.invokevirtual 13, 3) := dk_182 0 13 (dk_at dksX10_next_2_0 16 rfl rfl)
theorem dX10_next_2_19 : decode cX10_next_2 19 = .ok (.iload_n 1, 1) := dk_27 (dk_at dksX10_next_2_0 19 rfl rfl)
theorem dX10_next_2_20 : decode cX10_next_2 20 = .ok (.invokestatic 20, 3) := dk_184 0 20 (dk_at dksX10_next_2_0 20 rfl rfl)
theorem dX10_next_2_23 : decode cX10_next_2 23 = .ok (.areturn, 1) := dk_176 (dk_at dksX10_next_2_0 23 rfl rfl)
theorem q180 : (Jvm.Cond.initialized "HedgeMessages$OccupiedSlots") ∈ lw_all := lw_g (lw_at lw_m1 36 rfl) rfl
theorem q625 : (Jvm.Cond.selects "HedgeMessages$OccupiedSlots" ({ cls := "java/lang/Object", name := "getClass", desc := "()Ljava/lang/Class;" } : Jvm.MethodName) ({ cls := "java/lang/Object", name := "getClass", desc := "()Ljava/lang/Class;" } : Jvm.MethodName)) ∈ lw_all := lw_g (lw_at lw_m3 1 rfl) rfl
theorem q980 : (Jvm.Cond.instantiable "HedgeMessages$OccupiedSlots" (2 : Nat)) ∈ lw_all := lw_g (lw_at lw_m4 116 rfl) rfl
theorem q982 : (Jvm.Cond.instanceMethod ({ cls := "HedgeMessages$OccupiedSlots", name := "<init>", desc := "([LHedgeMessages$Twig;)V" } : Jvm.MethodName)) ∈ lw_all := lw_g (lw_at lw_m4 118 rfl) rfl
theorem q983 : (Jvm.Cond.code ({ cls := "HedgeMessages$OccupiedSlots", name := "<init>", desc := "([LHedgeMessages$Twig;)V" } : Jvm.MethodName) prog_5_method_1_code (2 : Nat) (Option.none : Option Jvm.ClassFile.FieldType)) ∈ lw_all := lw_g (lw_at lw_m4 119 rfl) rfl
theorem q984 : (Jvm.Cond.methodLink "HedgeMessages$OccupiedSlots" (1 : Nat) ({ cls := "java/lang/Object", name := "<init>", desc := "()V" } : Jvm.MethodName)) ∈ lw_all := lw_g (lw_at lw_m4 120 rfl) rfl
theorem q985 : (Jvm.Cond.methodLink "HedgeMessages$OccupiedSlots" (13 : Nat) ({ cls := "HedgeMessages$OccupiedSlots", name := "skip", desc := "()V" } : Jvm.MethodName)) ∈ lw_all := lw_g (lw_at lw_m4 121 rfl) rfl
theorem q986 : (Jvm.Cond.privateMethod ({ cls := "HedgeMessages$OccupiedSlots", name := "skip", desc := "()V" } : Jvm.MethodName)) ∈ lw_tbl := lw_at lw_m4 122 rfl
theorem q987 : (Jvm.Cond.instanceMethod ({ cls := "HedgeMessages$OccupiedSlots", name := "skip", desc := "()V" } : Jvm.MethodName)) ∈ lw_all := lw_g (lw_at lw_m4 123 rfl) rfl
theorem q988 : (Jvm.Cond.code ({ cls := "HedgeMessages$OccupiedSlots", name := "skip", desc := "()V" } : Jvm.MethodName) prog_5_method_2_code (1 : Nat) (Option.none : Option Jvm.ClassFile.FieldType)) ∈ lw_all := lw_g (lw_at lw_m4 124 rfl) rfl
theorem q989 : (Jvm.Cond.fieldLink "HedgeMessages$OccupiedSlots" (7 : Nat) "HedgeMessages$OccupiedSlots" "twigs" "[LHedgeMessages$Twig;") ∈ lw_all := lw_g (lw_at lw_m4 125 rfl) rfl
theorem q990 : (Jvm.Cond.fieldLink "HedgeMessages$OccupiedSlots" (16 : Nat) "HedgeMessages$OccupiedSlots" "next" "I") ∈ lw_all := lw_g (lw_at lw_m4 126 rfl) rfl
theorem q991 : (Jvm.Cond.laysFinal "HedgeMessages$OccupiedSlots" "HedgeMessages$OccupiedSlots" "twigs" "[LHedgeMessages$Twig;") ∈ lw_all := lw_g (lw_at lw_m4 127 rfl) rfl
theorem q992 : (Jvm.Cond.soleField "HedgeMessages$OccupiedSlots" "twigs") ∈ lw_all := lw_g (lw_at lw_m4 128 rfl) rfl
theorem q993 : (Jvm.Cond.lays "HedgeMessages$OccupiedSlots" "HedgeMessages$OccupiedSlots" "next" "I") ∈ lw_all := lw_g (lw_at lw_m4 129 rfl) rfl
theorem q994 : (Jvm.Cond.soleField "HedgeMessages$OccupiedSlots" "next") ∈ lw_all := lw_g (lw_at lw_m4 130 rfl) rfl
theorem q995 : (Jvm.Cond.superclass "HedgeMessages$OccupiedSlots" "java/lang/Object") ∈ lw_all := lw_g (lw_at lw_m4 131 rfl) rfl
theorem q1057 : (Jvm.Cond.castable "HedgeMessages$OccupiedSlots" "java/util/Iterator") ∈ lw_tbl := lw_at lw_m4 193 rfl
theorem q1058 : (Jvm.Cond.selects "HedgeMessages$OccupiedSlots" ({ cls := "java/util/Iterator", name := "hasNext", desc := "()Z" } : Jvm.MethodName) ({ cls := "HedgeMessages$OccupiedSlots", name := "hasNext", desc := "()Z" } : Jvm.MethodName)) ∈ lw_all := lw_g (lw_at lw_m4 194 rfl) rfl
theorem q1059 : (Jvm.Cond.unhidden "HedgeMessages$OccupiedSlots" "hasNext" "()Z") ∈ lw_tbl := lw_at lw_m4 195 rfl
theorem q1060 : (Jvm.Cond.instanceMethod ({ cls := "HedgeMessages$OccupiedSlots", name := "hasNext", desc := "()Z" } : Jvm.MethodName)) ∈ lw_all := lw_g (lw_at lw_m4 196 rfl) rfl
theorem q1061 : (Jvm.Cond.publicMethod ({ cls := "HedgeMessages$OccupiedSlots", name := "hasNext", desc := "()Z" } : Jvm.MethodName)) ∈ lw_tbl := lw_at lw_m4 197 rfl
theorem q1062 : (Jvm.Cond.code ({ cls := "HedgeMessages$OccupiedSlots", name := "hasNext", desc := "()Z" } : Jvm.MethodName) prog_5_method_3_code (1 : Nat) (Option.some Jvm.ClassFile.FieldType.boolean)) ∈ lw_all := lw_g (lw_at lw_m4 198 rfl) rfl
theorem q1079 : (Jvm.Cond.selects "HedgeMessages$OccupiedSlots" ({ cls := "java/util/Iterator", name := "next", desc := "()Ljava/lang/Object;" } : Jvm.MethodName) ({ cls := "HedgeMessages$OccupiedSlots", name := "next", desc := "()Ljava/lang/Object;" } : Jvm.MethodName)) ∈ lw_all := lw_g (lw_at lw_m4 215 rfl) rfl
theorem q1080 : (Jvm.Cond.unhidden "HedgeMessages$OccupiedSlots" "next" "()Ljava/lang/Object;") ∈ lw_tbl := lw_at lw_m4 216 rfl
theorem q1081 : (Jvm.Cond.instanceMethod ({ cls := "HedgeMessages$OccupiedSlots", name := "next", desc := "()Ljava/lang/Object;" } : Jvm.MethodName)) ∈ lw_all := lw_g (lw_at lw_m4 217 rfl) rfl
theorem q1082 : (Jvm.Cond.publicMethod ({ cls := "HedgeMessages$OccupiedSlots", name := "next", desc := "()Ljava/lang/Object;" } : Jvm.MethodName)) ∈ lw_tbl := lw_at lw_m4 218 rfl
theorem q1083 : (Jvm.Cond.code ({ cls := "HedgeMessages$OccupiedSlots", name := "next", desc := "()Ljava/lang/Object;" } : Jvm.MethodName) prog_5_method_5_code (1 : Nat) (Option.some (Jvm.ClassFile.FieldType.object "java/lang/Object"))) ∈ lw_all := lw_g (lw_at lw_m4 219 rfl) rfl
theorem q1084 : (Jvm.Cond.methodLink "HedgeMessages$OccupiedSlots" (26 : Nat) ({ cls := "HedgeMessages$OccupiedSlots", name := "next", desc := "()Ljava/lang/Integer;" } : Jvm.MethodName)) ∈ lw_all := lw_g (lw_at lw_m4 220 rfl) rfl
theorem q1085 : (Jvm.Cond.instanceMethod ({ cls := "HedgeMessages$OccupiedSlots", name := "next", desc := "()Ljava/lang/Integer;" } : Jvm.MethodName)) ∈ lw_all := lw_g (lw_at lw_m4 221 rfl) rfl
theorem q1086 : (Jvm.Cond.selects "HedgeMessages$OccupiedSlots" ({ cls := "HedgeMessages$OccupiedSlots", name := "next", desc := "()Ljava/lang/Integer;" } : Jvm.MethodName) ({ cls := "HedgeMessages$OccupiedSlots", name := "next", desc := "()Ljava/lang/Integer;" } : Jvm.MethodName)) ∈ lw_all := lw_g (lw_at lw_m4 222 rfl) rfl
theorem q1087 : (Jvm.Cond.code ({ cls := "HedgeMessages$OccupiedSlots", name := "next", desc := "()Ljava/lang/Integer;" } : Jvm.MethodName) prog_5_method_4_code (2 : Nat) (Option.some (Jvm.ClassFile.FieldType.object "java/lang/Integer"))) ∈ lw_all := lw_g (lw_at lw_m4 223 rfl) rfl
theorem q1088 : (Jvm.Cond.methodLink "HedgeMessages$OccupiedSlots" (20 : Nat) ({ cls := "java/lang/Integer", name := "valueOf", desc := "(I)Ljava/lang/Integer;" } : Jvm.MethodName)) ∈ lw_all := lw_g (lw_at lw_m4 224 rfl) rfl
theorem q3147 : (Jvm.Cond.castable "HedgeMessages$OccupiedSlots" "java/lang/Object") ∈ lw_tbl := lw_at lw_m13 123 rfl
theorem in_X10 : ∀ w ∈ wsX100, w ∈ lw_all := lw_in wsX100 [991, 993] (by decide +kernel) (by decide +kernel)

/-! HedgeMessages$1Neighbourhood -/
set_option maxRecDepth 100000
def RX11 : String := "HedgeMessages$1Neighbourhood"
def TX11 : u_T := fun k => match k with
  | 0 => ("HedgeMessages$1Neighbourhood", "count", "I", false)
  | _ => ("HedgeMessages$1Neighbourhood", "this$0", "LHedgeMessages;", true)
def tyX11 : Nat → FieldType := fun k => match k with
  | 0 => .int
  | _ => .object "HedgeMessages"
abbrev wsX110 : List Cond := u_ws RX11 TX11 2
theorem nmX11 : ∀ a, a < 2 → ∀ b, b < 2 → a ≠ b → (TX11 a).2.1 ≠ (TX11 b).2.1 := by decide +kernel
theorem tyX11_ok : ∀ k, k < 2 → parseFieldDescriptor (TX11 k).2.2.1 = some (tyX11 k) := by decide +kernel
abbrev cX11_init : ByteArray := prog_2_method_1_code
def yX11_init : MethodName := ⟨RX11, "<init>", "(LHedgeMessages;)V"⟩
def dkwX11_init_0 : List UInt8 := [42, 43, 181, 0, 1, 42, 183, 0, 7, 177]
abbrev dktX11_init_0 : List UInt8 := dkwX11_init_0 ++ []
theorem dksX11_init_0 : cX11_init.data.toList.drop 0 = dktX11_init_0 := by decide +kernel
theorem dX11_init_0 : decode cX11_init 0 = .ok (.aload_n 0, 1) := dk_42 (dk_at dksX11_init_0 0 rfl rfl)
theorem dX11_init_1 : decode cX11_init 1 = .ok (.aload_n 1, 1) := dk_43 (dk_at dksX11_init_0 1 rfl rfl)
theorem dX11_init_2 : decode cX11_init 2 = .ok (.putfield 1, 3) := dk_181 0 1 (dk_at dksX11_init_0 2 rfl rfl)
theorem dX11_init_5 : decode cX11_init 5 = .ok (.aload_n 0, 1) := dk_42 (dk_at dksX11_init_0 5 rfl rfl)
theorem dX11_init_6 : decode cX11_init 6 = .ok (.invokespecial 7, 3) := dk_183 0 7 (dk_at dksX11_init_0 6 rfl rfl)
theorem dX11_init_9 : decode cX11_init 9 = .ok (.return_, 1) := dk_177 (dk_at dksX11_init_0 9 rfl rfl)
abbrev cX11_add : ByteArray := prog_2_method_2_code
def yX11_add : MethodName := ⟨RX11, "add", "(I)V"⟩
def dkwX11_add_1 : List UInt8 := [182, 0, 25, 153, 0, 13, 42, 89, 180, 0, 28, 4, 96, 181, 0, 28, 177]
abbrev dktX11_add_1 : List UInt8 := dkwX11_add_1 ++ []
def dkwX11_add_0 : List UInt8 := [42, 180, 0, 1, 180, 0, 13, 27, 182, 0, 19, 153, 0, 27, 42, 180, 0, 1, 180, 0, 13, 27]
abbrev dktX11_add_0 : List UInt8 := dkwX11_add_0 ++ dktX11_add_1
theorem dksX11_add_0 : cX11_add.data.toList.drop 0 = dktX11_add_0 := by decide +kernel
theorem dksX11_add_1 : cX11_add.data.toList.drop 22 = dktX11_add_1 := dk_seg dksX11_add_0 22 rfl rfl
theorem dX11_add_0 : decode cX11_add 0 = .ok (.aload_n 0, 1) := dk_42 (dk_at dksX11_add_0 0 rfl rfl)
theorem dX11_add_1 : decode cX11_add 1 = .ok (.getfield 1, 3) := dk_180 0 1 (dk_at dksX11_add_0 1 rfl rfl)
theorem dX11_add_4 : decode cX11_add 4 = .ok (.getfield 13, 3) := dk_180 0 13 (dk_at dksX11_add_0 4 rfl rfl)
theorem dX11_add_7 : decode cX11_add 7 = .ok (.iload_n 1, 1) := dk_27 (dk_at dksX11_add_0 7 rfl rfl)
theorem dX11_add_8 : decode cX11_add 8 = .ok (.invokevirtual 19, 3) := dk_182 0 19 (dk_at dksX11_add_0 8 rfl rfl)
theorem dX11_add_11 : decode cX11_add 11 = .ok (.ifCond .eq 27, 3) := dk_153 0 27 (dk_at dksX11_add_0 11 rfl rfl)
theorem dX11_add_14 : decode cX11_add 14 = .ok (.aload_n 0, 1) := dk_42 (dk_at dksX11_add_0 14 rfl rfl)
theorem dX11_add_15 : decode cX11_add 15 = .ok (.getfield 1, 3) := dk_180 0 1 (dk_at dksX11_add_0 15 rfl rfl)
theorem dX11_add_18 : decode cX11_add 18 = .ok (.getfield 13, 3) := dk_180 0 13 (dk_at dksX11_add_0 18 rfl rfl)
theorem dX11_add_21 : decode cX11_add 21 = .ok (.iload_n 1, 1) := dk_27 (dk_at dksX11_add_0 21 rfl rfl)
theorem dX11_add_22 : decode cX11_add 22 = .ok (.invokevirtual 25, 3) := dk_182 0 25 (dk_at dksX11_add_1 0 rfl rfl)
theorem dX11_add_25 : decode cX11_add 25 = .ok (.ifCond .eq 13, 3) := dk_153 0 13 (dk_at dksX11_add_1 3 rfl rfl)
theorem dX11_add_28 : decode cX11_add 28 = .ok (.aload_n 0, 1) := dk_42 (dk_at dksX11_add_1 6 rfl rfl)
theorem dX11_add_29 : decode cX11_add 29 = .ok (.dup, 1) := dk_89 (dk_at dksX11_add_1 7 rfl rfl)
theorem dX11_add_30 : decode cX11_add 30 = .ok (.getfield 28, 3) := dk_180 0 28 (dk_at dksX11_add_1 8 rfl rfl)
theorem dX11_add_33 : decode cX11_add 33 = .ok (.iconst 1, 1) := dk_4 (dk_at dksX11_add_1 11 rfl rfl)
theorem dX11_add_34 : decode cX11_add 34 = .ok (.iadd, 1) := dk_96 (dk_at dksX11_add_1 12 rfl rfl)
theorem dX11_add_35 : decode cX11_add 35 = .ok (.putfield 28, 3) := dk_181 0 28 (dk_at dksX11_add_1 13 rfl rfl)
theorem dX11_add_38 : decode cX11_add 38 = .ok (.return_, 1) := dk_177 (dk_at dksX11_add_1 16 rfl rfl)
theorem q185 : (Jvm.Cond.initialized "HedgeMessages$1Neighbourhood") ∈ lw_all := lw_g (lw_at lw_m1 41 rfl) rfl
theorem q622 : (Jvm.Cond.selects "HedgeMessages$1Neighbourhood" ({ cls := "java/lang/Object", name := "getClass", desc := "()Ljava/lang/Class;" } : Jvm.MethodName) ({ cls := "java/lang/Object", name := "getClass", desc := "()Ljava/lang/Class;" } : Jvm.MethodName)) ∈ lw_all := lw_g (lw_at lw_m2 238 rfl) rfl
theorem q832 : (Jvm.Cond.fieldLinkNest "HedgeMessages$1Neighbourhood" (13 : Nat) "HedgeMessages" "state" "LHedgeMessages$State;" "HedgeMessages") ∈ lw_tbl := lw_at lw_m3 208 rfl
theorem q1146 : (Jvm.Cond.instantiable "HedgeMessages$1Neighbourhood" (2 : Nat)) ∈ lw_all := lw_g (lw_at lw_m5 42 rfl) rfl
theorem q1148 : (Jvm.Cond.instanceMethod ({ cls := "HedgeMessages$1Neighbourhood", name := "<init>", desc := "(LHedgeMessages;)V" } : Jvm.MethodName)) ∈ lw_all := lw_g (lw_at lw_m5 44 rfl) rfl
theorem q1149 : (Jvm.Cond.code ({ cls := "HedgeMessages$1Neighbourhood", name := "<init>", desc := "(LHedgeMessages;)V" } : Jvm.MethodName) prog_2_method_1_code (2 : Nat) (Option.none : Option Jvm.ClassFile.FieldType)) ∈ lw_all := lw_g (lw_at lw_m5 45 rfl) rfl
theorem q1150 : (Jvm.Cond.methodLink "HedgeMessages$1Neighbourhood" (7 : Nat) ({ cls := "java/lang/Object", name := "<init>", desc := "()V" } : Jvm.MethodName)) ∈ lw_all := lw_g (lw_at lw_m5 46 rfl) rfl
theorem q1151 : (Jvm.Cond.fieldLink "HedgeMessages$1Neighbourhood" (28 : Nat) "HedgeMessages$1Neighbourhood" "count" "I") ∈ lw_all := lw_g (lw_at lw_m5 47 rfl) rfl
theorem q1153 : (Jvm.Cond.fieldLink "HedgeMessages$1Neighbourhood" (1 : Nat) "HedgeMessages$1Neighbourhood" "this$0" "LHedgeMessages;") ∈ lw_all := lw_g (lw_at lw_m5 49 rfl) rfl
theorem q1154 : (Jvm.Cond.lays "HedgeMessages$1Neighbourhood" "HedgeMessages$1Neighbourhood" "count" "I") ∈ lw_all := lw_g (lw_at lw_m5 50 rfl) rfl
theorem q1155 : (Jvm.Cond.soleField "HedgeMessages$1Neighbourhood" "count") ∈ lw_all := lw_g (lw_at lw_m5 51 rfl) rfl
theorem q1156 : (Jvm.Cond.laysFinal "HedgeMessages$1Neighbourhood" "HedgeMessages$1Neighbourhood" "this$0" "LHedgeMessages;") ∈ lw_all := lw_g (lw_at lw_m5 52 rfl) rfl
theorem q1157 : (Jvm.Cond.soleField "HedgeMessages$1Neighbourhood" "this$0") ∈ lw_all := lw_g (lw_at lw_m5 53 rfl) rfl
theorem q1158 : (Jvm.Cond.superclass "HedgeMessages$1Neighbourhood" "java/lang/Object") ∈ lw_all := lw_g (lw_at lw_m5 54 rfl) rfl
theorem q1160 : (Jvm.Cond.instanceMethod ({ cls := "HedgeMessages$1Neighbourhood", name := "add", desc := "(I)V" } : Jvm.MethodName)) ∈ lw_all := lw_g (lw_at lw_m5 56 rfl) rfl
theorem q1161 : (Jvm.Cond.selects "HedgeMessages$1Neighbourhood" ({ cls := "HedgeMessages$1Neighbourhood", name := "add", desc := "(I)V" } : Jvm.MethodName) ({ cls := "HedgeMessages$1Neighbourhood", name := "add", desc := "(I)V" } : Jvm.MethodName)) ∈ lw_all := lw_g (lw_at lw_m5 57 rfl) rfl
theorem q1162 : (Jvm.Cond.code ({ cls := "HedgeMessages$1Neighbourhood", name := "add", desc := "(I)V" } : Jvm.MethodName) prog_2_method_2_code (2 : Nat) (Option.none : Option Jvm.ClassFile.FieldType)) ∈ lw_all := lw_g (lw_at lw_m5 58 rfl) rfl
theorem q1163 : (Jvm.Cond.methodLink "HedgeMessages$1Neighbourhood" (19 : Nat) ({ cls := "HedgeMessages$State", name := "isSlot", desc := "(I)Z" } : Jvm.MethodName)) ∈ lw_all := lw_g (lw_at lw_m5 59 rfl) rfl
theorem q1168 : (Jvm.Cond.methodLink "HedgeMessages$1Neighbourhood" (25 : Nat) ({ cls := "HedgeMessages$State", name := "isIllegal", desc := "(I)Z" } : Jvm.MethodName)) ∈ lw_all := lw_g (lw_at lw_m5 64 rfl) rfl
theorem q3152 : (Jvm.Cond.castable "HedgeMessages$1Neighbourhood" "java/lang/Object") ∈ lw_tbl := lw_at lw_m13 128 rfl
theorem in_X11 : ∀ w ∈ wsX110, w ∈ lw_all := lw_in wsX110 [1154, 1156] (by decide +kernel) (by decide +kernel)

