abbrev cJ3_toArray : ByteArray := prog_48_method_16_code
def yJ3_toArray : MethodName := ⟨RJ3, "toArray", "()[Ljava/lang/Object;"⟩
def dkwJ3_toArray_0 : List UInt8 := [42, 180, 0, 9, 42, 180, 0, 48, 184, 0, 66, 176]
abbrev dktJ3_toArray_0 : List UInt8 := dkwJ3_toArray_0 ++ []
theorem dksJ3_toArray_0 : cJ3_toArray.data.toList.drop 0 = dktJ3_toArray_0 := by decide +kernel
theorem dJ3_toArray_0 : decode cJ3_toArray 0 = .ok (.aload_n 0, 1) := dk_42 (dk_at dksJ3_toArray_0 0 rfl rfl)
theorem dJ3_toArray_1 : decode cJ3_toArray 1 = .ok (.getfield 9, 3) := dk_180 0 9 (dk_at dksJ3_toArray_0 1 rfl rfl)
theorem dJ3_toArray_4 : decode cJ3_toArray 4 = .ok (.aload_n 0, 1) := dk_42 (dk_at dksJ3_toArray_0 4 rfl rfl)
theorem dJ3_toArray_5 : decode cJ3_toArray 5 = .ok (.getfield 48, 3) := dk_180 0 48 (dk_at dksJ3_toArray_0 5 rfl rfl)
theorem dJ3_toArray_8 : decode cJ3_toArray 8 = .ok (.invokestatic 66, 3) := dk_184 0 66 (dk_at dksJ3_toArray_0 8 rfl rfl)
theorem dJ3_toArray_11 : decode cJ3_toArray 11 = .ok (.areturn, 1) := dk_176 (dk_at dksJ3_toArray_0 11 rfl rfl)
